/-! THE PROGRAM, resolved: printed by gen_prog.py out of the class files in the Statement. cd_z: the code of method z by blocks. -/
-- 0: ConeForms.<init>()V
def B_0_0 : List Instr := [.aload 0, .swap, .aload 0, .new 0, .dup, .multianewarray 0 1, .putfield 8448, .aload 0, .new 1, .dup, .aload 0, .getfield 8448, .multianewarray 1 2, .putfield 8449, .aload 0, .new 2, .dup, .multianewarray 2 1, .putfield 8452, .aload 0, .iconst 20, .anewarray 7, .putfield 8453, .aload 0, .new 2, .dup, .multianewarray 2 1, .putfield 8459, .aload 0, .new 3, .dup, .iconst 36, .multianewarray 3 2, .putfield 8460, .aload 0, .new 3, .dup, .iconst 112, .multianewarray 3 2, .putfield 8461, .return_]
def cd_0 (b : Int) : List Instr := ([B_0_0] : List (List Instr)).getD b.toNat []
theorem kk_0 : cd_0 0 = B_0_0 := rfl
-- 1: java/lang/StringBuilder.<init>()V
def B_1_0 : List Instr := [.aload 0, .iconst 16, .multianewarray 4 2, .return_]
def cd_1 (b : Int) : List Instr := ([B_1_0] : List (List Instr)).getD b.toNat []
theorem kk_1 : cd_1 0 = B_1_0 := rfl
-- 2: java/lang/AbstractStringBuilder.<init>(I)V
def B_2_0 : List Instr := [.aload 0, .swap, .iconst 1, .ifCond .eq 1, .aload 0, .iload 1, .anewarray 4, .putfield 8192, .aload 0, .iconst 0, .putfield 12289, .goto 2]
def B_2_1 : List Instr := [.aload 0, .iload 1, .nop]
def B_2_2 : List Instr := [.return_]
def cd_2 (b : Int) : List Instr := ([B_2_0, B_2_1, B_2_2] : List (List Instr)).getD b.toNat []
theorem kk_2 : cd_2 0 = B_2_0 ∧ cd_2 1 = B_2_1 ∧ cd_2 2 = B_2_2 := ⟨rfl, rfl, rfl⟩
-- 3: ConeForms$Scanner.<init>(Ljava/lang/StringBuilder;)V
def B_3_0 : List Instr := [.aload 0, .swap, .aload 0, .iconst 20, .anewarray 6, .putfield 8260, .aload 0, .iconst 20, .anewarray 0, .putfield 8261, .aload 0, .iconst 20, .anewarray 3, .putfield 8262, .aload 0, .iconst 20, .anewarray 0, .putfield 8263, .aload 0, .aload 1, .putfield 8256, .return_]
def cd_3 (b : Int) : List Instr := ([B_3_0] : List (List Instr)).getD b.toNat []
theorem kk_3 : cd_3 0 = B_3_0 := rfl
-- 4: java/util/ArrayList.<init>()V
def B_4_0 : List Instr := [.aload 0, .multianewarray 5 1, .aload 0, .getstatic 12, .putfield 8320, .return_]
def cd_4 (b : Int) : List Instr := ([B_4_0] : List (List Instr)).getD b.toNat []
theorem kk_4 : cd_4 0 = B_4_0 := rfl
-- 5: java/util/AbstractList.<init>()V
def B_5_0 : List Instr := [.aload 0, .multianewarray 6 1, .aload 0, .iconst 0, .putfield 130, .return_]
def cd_5 (b : Int) : List Instr := ([B_5_0] : List (List Instr)).getD b.toNat []
theorem kk_5 : cd_5 0 = B_5_0 := rfl
-- 6: java/util/AbstractCollection.<init>()V
def B_6_0 : List Instr := [.aload 0, .swap, .return_]
def cd_6 (b : Int) : List Instr := ([B_6_0] : List (List Instr)).getD b.toNat []
theorem kk_6 : cd_6 0 = B_6_0 := rfl
-- 7: ConeForms$Table.<init>(I)V
def B_7_0 : List Instr := [.aload 0, .swap, .aload 0, .iload 1, .iconst 36, .imul, .anewarray 0, .putfield 8384, .aload 0, .iload 1, .anewarray 0, .putfield 8385, .return_]
def cd_7 (b : Int) : List Instr := ([B_7_0] : List (List Instr)).getD b.toNat []
theorem kk_7 : cd_7 0 = B_7_0 := rfl
-- 8: ConeForms.type(C)Z
def B_8_0 : List Instr := [.iload 1, .iconst 33, .if_icmp .lt 1, .iload 1, .iconst 126, .if_icmp .gt 1, .aload 0, .getfield 8448, .multianewarray 7 1, .iconst 20, .if_icmp .lt 2, .goto_w 1]
def B_8_1 : List Instr := [.iconst 0, .ret 1]
def B_8_2 : List Instr := [.aload 0, .getfield 8448, .iload 1, .multianewarray 8 2, .pop, .aload 0, .iconst 0, .putfield 4354, .iconst 1, .ret 1]
def cd_8 (b : Int) : List Instr := ([B_8_0, B_8_1, B_8_2] : List (List Instr)).getD b.toNat []
theorem kk_8 : cd_8 0 = B_8_0 ∧ cd_8 1 = B_8_1 ∧ cd_8 2 = B_8_2 := ⟨rfl, rfl, rfl⟩
-- 9: java/lang/StringBuilder.length()I
def B_9_0 : List Instr := [.aload 0, .multianewarray 9 1, .ret 0]
def cd_9 (b : Int) : List Instr := ([B_9_0] : List (List Instr)).getD b.toNat []
theorem kk_9 : cd_9 0 = B_9_0 := rfl
-- 10: java/lang/AbstractStringBuilder.length()I
def B_10_0 : List Instr := [.aload 0, .getfield 3, .ret 0]
def cd_10 (b : Int) : List Instr := ([B_10_0] : List (List Instr)).getD b.toNat []
theorem kk_10 : cd_10 0 = B_10_0 := rfl
-- 11: java/lang/StringBuilder.append(C)Ljava/lang/StringBuilder;
def B_11_0 : List Instr := [.aload 0, .iload 1, .multianewarray 10 2, .pop, .aload 0, .ret 2]
def cd_11 (b : Int) : List Instr := ([B_11_0] : List (List Instr)).getD b.toNat []
theorem kk_11 : cd_11 0 = B_11_0 := rfl
-- 12: java/lang/AbstractStringBuilder.append(C)Ljava/lang/AbstractStringBuilder;
def B_12_0 : List Instr := [.aload 0, .aload 0, .getfield 3, .iconst 1, .iadd, .multianewarray 11 2, .aload 0, .multianewarray 12 1, .ifCond .eq 1, .iload 1, .invokeinterface 20 1, .ifCond .eq 1, .aload 0, .getfield 8192, .aload 0, .dup, .getfield 3, .dup_x1, .iconst 1, .iadd, .putfield 3, .iload 1, .i2b, .bastore, .goto 3]
def B_12_1 : List Instr := [.aload 0, .multianewarray 12 1, .ifCond .eq 2, .aload 0, .nop]
def B_12_2 : List Instr := [.aload 0, .getfield 8192, .aload 0, .dup, .getfield 3, .dup_x1, .iconst 1, .iadd, .putfield 3, .iload 1, .nop]
def B_12_3 : List Instr := [.aload 0, .ret 2]
def cd_12 (b : Int) : List Instr := ([B_12_0, B_12_1, B_12_2, B_12_3] : List (List Instr)).getD b.toNat []
theorem kk_12 : cd_12 0 = B_12_0 ∧ cd_12 1 = B_12_1 ∧ cd_12 2 = B_12_2 ∧ cd_12 3 = B_12_3 := ⟨rfl, rfl, rfl, rfl⟩
-- 13: java/lang/AbstractStringBuilder.ensureCapacityInternal(I)V
def B_13_0 : List Instr := [.aload 0, .getfield 8192, .arraylength, .aload 0, .getfield 12289, .ishr, .istore 2, .iload 1, .iload 2, .isub, .ifCond .le 1, .aload 0, .aload 0, .getfield 8192, .aload 0, .iload 1, .multianewarray 14 2, .aload 0, .getfield 12289, .ishl, .invokeinterface 17 2, .putfield 8192, .goto_w 1]
def B_13_1 : List Instr := [.return_]
def cd_13 (b : Int) : List Instr := ([B_13_0, B_13_1] : List (List Instr)).getD b.toNat []
theorem kk_13 : cd_13 0 = B_13_0 ∧ cd_13 1 = B_13_1 := ⟨rfl, rfl⟩
-- 14: java/lang/AbstractStringBuilder.newCapacity(I)I
def B_14_0 : List Instr := [.aload 0, .getfield 8192, .arraylength, .istore 2, .iload 1, .aload 0, .getfield 12289, .ishl, .istore 3, .iload 3, .iload 2, .isub, .istore 4, .iload 2, .iload 4, .iload 2, .iconst 2, .aload 0, .getfield 12289, .ishl, .iadd, .invokeinterface 15 3, .istore 5, .iload 5, .iconst 2147483647, .if_icmp .ne 1, .nop]
def B_14_1 : List Instr := [.iload 5, .aload 0, .getfield 12289, .ishr, .ret 0]
def cd_14 (b : Int) : List Instr := ([B_14_0, B_14_1] : List (List Instr)).getD b.toNat []
theorem kk_14 : cd_14 0 = B_14_0 ∧ cd_14 1 = B_14_1 := ⟨rfl, rfl⟩
-- 15: jdk/internal/util/ArraysSupport.newLength(III)I
def B_15_0 : List Instr := [.iload 0, .iload 1, .iload 2, .invokeinterface 16 2, .iadd, .istore 3, .iconst 0, .iload 3, .if_icmp .ge 1, .iload 3, .iconst 2147483639, .if_icmp .gt 1, .iload 3, .ret 0]
def B_15_1 : List Instr := [.iload 0, .iload 1, .nop]
def cd_15 (b : Int) : List Instr := ([B_15_0, B_15_1] : List (List Instr)).getD b.toNat []
theorem kk_15 : cd_15 0 = B_15_0 ∧ cd_15 1 = B_15_1 := ⟨rfl, rfl⟩
-- 16: java/lang/Math.max(II)I
def B_16_0 : List Instr := [.iload 0, .iload 1, .if_icmp .lt 1, .iload 0, .goto 2]
def B_16_1 : List Instr := [.iload 1, .goto_w 2]
def B_16_2 : List Instr := [.ret 0]
def cd_16 (b : Int) : List Instr := ([B_16_0, B_16_1, B_16_2] : List (List Instr)).getD b.toNat []
theorem kk_16 : cd_16 0 = B_16_0 ∧ cd_16 1 = B_16_1 ∧ cd_16 2 = B_16_2 := ⟨rfl, rfl, rfl⟩
-- 17: java/util/Arrays.copyOf([BI)[B
def B_17_0 : List Instr := [.iload 1, .aload 0, .arraylength, .if_icmp .ne 1, .aload 0, .nop]
def B_17_1 : List Instr := [.iload 1, .anewarray 4, .astore 2, .aload 0, .iconst 0, .aload 2, .iconst 0, .aload 0, .arraylength, .iload 1, .invokeinterface 18 2, .monitorenter, .aload 2, .ret 2]
def cd_17 (b : Int) : List Instr := ([B_17_0, B_17_1] : List (List Instr)).getD b.toNat []
theorem kk_17 : cd_17 0 = B_17_0 ∧ cd_17 1 = B_17_1 := ⟨rfl, rfl⟩
-- 18: java/lang/Math.min(II)I
def B_18_0 : List Instr := [.iload 0, .iload 1, .if_icmp .gt 1, .iload 0, .goto 2]
def B_18_1 : List Instr := [.iload 1, .goto_w 2]
def B_18_2 : List Instr := [.ret 0]
def cd_18 (b : Int) : List Instr := ([B_18_0, B_18_1, B_18_2] : List (List Instr)).getD b.toNat []
theorem kk_18 : cd_18 0 = B_18_0 ∧ cd_18 1 = B_18_1 ∧ cd_18 2 = B_18_2 := ⟨rfl, rfl, rfl⟩
-- 19: java/lang/AbstractStringBuilder.isLatin1()Z
def B_19_0 : List Instr := [.iconst 1, .ifCond .eq 1, .aload 0, .getfield 12289, .ifCond .ne 1, .iconst 1, .goto 2]
def B_19_1 : List Instr := [.iconst 0, .goto_w 2]
def B_19_2 : List Instr := [.ret 1]
def cd_19 (b : Int) : List Instr := ([B_19_0, B_19_1, B_19_2] : List (List Instr)).getD b.toNat []
theorem kk_19 : cd_19 0 = B_19_0 ∧ cd_19 1 = B_19_1 ∧ cd_19 2 = B_19_2 := ⟨rfl, rfl, rfl⟩
-- 20: java/lang/StringLatin1.canEncode(C)Z
def B_20_0 : List Instr := [.iload 0, .iconst 255, .if_icmp .gt 1, .iconst 1, .goto 2]
def B_20_1 : List Instr := [.iconst 0, .goto_w 2]
def B_20_2 : List Instr := [.ret 1]
def cd_20 (b : Int) : List Instr := ([B_20_0, B_20_1, B_20_2] : List (List Instr)).getD b.toNat []
theorem kk_20 : cd_20 0 = B_20_0 ∧ cd_20 1 = B_20_1 ∧ cd_20 2 = B_20_2 := ⟨rfl, rfl, rfl⟩
-- 21: java/lang/String.checkIndex(II)V
def B_21_0 : List Instr := [.iload 0, .iload 1, .getstatic 14, .invokeinterface 22 3, .pop, .return_]
def cd_21 (b : Int) : List Instr := ([B_21_0] : List (List Instr)).getD b.toNat []
theorem kk_21 : cd_21 0 = B_21_0 := rfl
-- 22: jdk/internal/util/Preconditions.checkIndex(IILjava/util/function/BiFunction;)I
def B_22_0 : List Instr := [.iload 0, .ifCond .lt 1, .iload 0, .iload 1, .if_icmp .lt 2, .goto_w 1]
def B_22_1 : List Instr := [.aload 2, .iload 0, .iload 1, .nop]
def B_22_2 : List Instr := [.iload 0, .ret 0]
def cd_22 (b : Int) : List Instr := ([B_22_0, B_22_1, B_22_2] : List (List Instr)).getD b.toNat []
theorem kk_22 : cd_22 0 = B_22_0 ∧ cd_22 1 = B_22_1 ∧ cd_22 2 = B_22_2 := ⟨rfl, rfl, rfl⟩
-- 23: ConeForms.wipe()V
def B_23_0 : List Instr := [.aload 0, .getfield 8448, .iconst 0, .multianewarray 15 2, .aload 0, .iconst 0, .putfield 4354, .return_]
def cd_23 (b : Int) : List Instr := ([B_23_0] : List (List Instr)).getD b.toNat []
theorem kk_23 : cd_23 0 = B_23_0 := rfl
-- 24: java/lang/StringBuilder.setLength(I)V
def B_24_0 : List Instr := [.aload 0, .iload 1, .multianewarray 16 2, .return_]
def cd_24 (b : Int) : List Instr := ([B_24_0] : List (List Instr)).getD b.toNat []
theorem kk_24 : cd_24 0 = B_24_0 := rfl
-- 25: java/lang/AbstractStringBuilder.setLength(I)V
def B_25_0 : List Instr := [.iload 1, .ifCond .ge 1, .nop]
def B_25_1 : List Instr := [.aload 0, .iload 1, .multianewarray 11 2, .aload 0, .getfield 3, .iload 1, .if_icmp .ge 3, .aload 0, .multianewarray 12 1, .ifCond .eq 2, .aload 0, .getfield 8192, .aload 0, .getfield 3, .iload 1, .nop]
def B_25_2 : List Instr := [.aload 0, .getfield 8192, .aload 0, .getfield 3, .iload 1, .nop]
def B_25_3 : List Instr := [.aload 0, .getfield 3, .iload 1, .if_icmp .le 4, .aload 0, .iconst 1, .putfield 4098, .goto_w 4]
def B_25_4 : List Instr := [.aload 0, .iload 1, .putfield 3, .return_]
def cd_25 (b : Int) : List Instr := ([B_25_0, B_25_1, B_25_2, B_25_3, B_25_4] : List (List Instr)).getD b.toNat []
theorem kk_25 : cd_25 0 = B_25_0 ∧ cd_25 1 = B_25_1 ∧ cd_25 2 = B_25_2 ∧ cd_25 3 = B_25_3 ∧ cd_25 4 = B_25_4 := ⟨rfl, rfl, rfl, rfl, rfl⟩
-- 26: ConeForms.read()I
def B_26_0 : List Instr := [.aload 0, .getfield 4354, .ifCond .eq 1, .aload 0, .getfield 259, .ret 0]
def B_26_1 : List Instr := [.aload 0, .getfield 8452, .multianewarray 17 1, .istore 1, .aload 0, .getfield 8449, .multianewarray 18 1, .ifCond .eq 2, .aload 0, .iload 1, .multianewarray 19 2, .goto 3]
def B_26_2 : List Instr := [.iconst (-1), .aload 0, .getfield 8449, .getfield 65, .isub, .goto_w 3]
def B_26_3 : List Instr := [.istore 2, .iload 2, .ifCond .lt 4, .aload 0, .getfield 8448, .iconst 0, .multianewarray 15 2, .iload 2, .ret 0]
def B_26_4 : List Instr := [.aload 0, .getfield 8452, .multianewarray 17 1, .iload 1, .if_icmp .le 5, .aload 0, .getfield 8452, .aload 0, .getfield 8452, .multianewarray 17 1, .iconst 1, .isub, .multianewarray 20 2, .pop, .goto 4]
def B_26_5 : List Instr := [.aload 0, .iconst 1, .putfield 4354, .aload 0, .iload 2, .putfield 259, .iload 2, .ret 0]
def cd_26 (b : Int) : List Instr := ([B_26_0, B_26_1, B_26_2, B_26_3, B_26_4, B_26_5] : List (List Instr)).getD b.toNat []
theorem kk_26 : cd_26 0 = B_26_0 ∧ cd_26 1 = B_26_1 ∧ cd_26 2 = B_26_2 ∧ cd_26 3 = B_26_3 ∧ cd_26 4 = B_26_4 ∧ cd_26 5 = B_26_5 := ⟨rfl, rfl, rfl, rfl, rfl, rfl⟩
-- 27: java/util/ArrayList.size()I
def B_27_0 : List Instr := [.aload 0, .getfield 129, .ret 0]
def cd_27 (b : Int) : List Instr := ([B_27_0] : List (List Instr)).getD b.toNat []
theorem kk_27 : cd_27 0 = B_27_0 := rfl
-- 28: ConeForms$Scanner.scan()Z
def B_28_0 : List Instr := [.aload 0, .iconst 0, .putfield 65, .aload 0, .iconst 1, .putfield 4162, .aload 0, .iconst 0, .putfield 67, .aload 0, .iconst 0, .putfield 72, .iconst 1, .istore 1, .goto_w 1]
def B_28_1 : List Instr := [.iload 1, .ifCond .eq 4, .aload 0, .getfield 65, .aload 0, .getfield 8256, .multianewarray 7 1, .if_icmp .ge 4, .aload 0, .getfield 4162, .ifCond .eq 2, .aload 0, .aload 0, .getfield 8256, .aload 0, .getfield 65, .multianewarray 21 2, .multianewarray 22 2, .goto 3]
def B_28_2 : List Instr := [.aload 0, .aload 0, .getfield 8256, .aload 0, .getfield 65, .multianewarray 21 2, .multianewarray 23 2, .goto_w 3]
def B_28_3 : List Instr := [.istore 1, .goto 1]
def B_28_4 : List Instr := [.iload 1, .ifCond .eq 5, .aload 0, .getfield 4162, .ifCond .eq 6, .goto_w 5]
def B_28_5 : List Instr := [.iconst 0, .ret 1]
def B_28_6 : List Instr := [.aload 0, .iconst 1, .multianewarray 24 2, .aload 0, .getfield 72, .ifCond .ne 7, .iconst 1, .goto 8]
def B_28_7 : List Instr := [.iconst 0, .goto_w 8]
def B_28_8 : List Instr := [.ret 1]
def cd_28 (b : Int) : List Instr := ([B_28_0, B_28_1, B_28_2, B_28_3, B_28_4, B_28_5, B_28_6, B_28_7, B_28_8] : List (List Instr)).getD b.toNat []
theorem kk_28 : cd_28 0 = B_28_0 ∧ cd_28 1 = B_28_1 ∧ cd_28 2 = B_28_2 ∧ cd_28 3 = B_28_3 ∧ cd_28 4 = B_28_4 ∧ cd_28 5 = B_28_5 ∧ cd_28 6 = B_28_6 ∧ cd_28 7 = B_28_7 ∧ cd_28 8 = B_28_8 := ⟨rfl, rfl, rfl, rfl, rfl, rfl, rfl, rfl, rfl⟩
-- 29: java/lang/StringBuilder.charAt(I)C
def B_29_0 : List Instr := [.aload 0, .iload 1, .multianewarray 25 2, .ret 4]
def cd_29 (b : Int) : List Instr := ([B_29_0] : List (List Instr)).getD b.toNat []
theorem kk_29 : cd_29 0 = B_29_0 := rfl
-- 30: java/lang/AbstractStringBuilder.charAt(I)C
def B_30_0 : List Instr := [.aload 0, .getfield 12289, .istore 2, .aload 0, .getfield 8192, .astore 3, .aload 0, .getfield 3, .aload 3, .arraylength, .iload 2, .ishr, .invokeinterface 18 2, .istore 4, .iload 1, .iload 4, .invokeinterface 21 2, .iload 2, .ifCond .ne 1, .aload 3, .iload 1, .baload, .iconst 255, .iand, .i2c, .ret 4]
def B_30_1 : List Instr := [.aload 3, .iload 1, .nop]
def cd_30 (b : Int) : List Instr := ([B_30_0, B_30_1] : List (List Instr)).getD b.toNat []
theorem kk_30 : cd_30 0 = B_30_0 ∧ cd_30 1 = B_30_1 := ⟨rfl, rfl⟩
-- 31: ConeForms$Scanner.first(C)Z
def B_31_0 : List Instr := [.aload 0, .multianewarray 26 1, .ifCond .eq 1, .aload 0, .iconst 3, .multianewarray 27 2, .istore 2, .aload 0, .getstatic 0, .iload 2, .multianewarray 28 3, .aload 0, .iconst 0, .putfield 4162, .iconst 1, .ret 1]
def B_31_1 : List Instr := [.iload 1, .iconst 35, .if_icmp .ne 3, .aload 0, .dup, .getfield 65, .iconst 1, .iadd, .putfield 65, .aload 0, .multianewarray 26 1, .ifCond .ne 2, .iconst 0, .ret 1]
def B_31_2 : List Instr := [.aload 0, .iconst 2, .multianewarray 27 2, .istore 2, .aload 0, .aconst_null, .iload 2, .multianewarray 28 3, .aload 0, .iconst 0, .putfield 4162, .iconst 1, .ret 1]
def B_31_3 : List Instr := [.iload 1, .iconst 117, .if_icmp .lt 4, .iload 1, .iconst 122, .if_icmp .le 5, .goto_w 4]
def B_31_4 : List Instr := [.iload 1, .iconst 112, .if_icmp .lt 8, .iload 1, .iconst 114, .if_icmp .gt 8, .goto_w 5]
def B_31_5 : List Instr := [.aload 0, .iload 1, .iconst 117, .if_icmp .lt 6, .getstatic 1, .goto 7]
def B_31_6 : List Instr := [.getstatic 2, .goto_w 7]
def B_31_7 : List Instr := [.iload 1, .multianewarray 28 3, .aload 0, .dup, .getfield 65, .iconst 1, .iadd, .putfield 65, .aload 0, .iconst 0, .putfield 4162, .iconst 1, .ret 1]
def B_31_8 : List Instr := [.iload 1, .iconst 40, .if_icmp .eq 9, .iload 1, .iconst 45, .if_icmp .ne 12, .goto_w 9]
def B_31_9 : List Instr := [.aload 0, .iload 1, .iconst 45, .if_icmp .ne 10, .iconst 126, .goto 11]
def B_31_10 : List Instr := [.iload 1, .goto_w 11]
def B_31_11 : List Instr := [.iconst 0, .multianewarray 29 3, .iconst 1, .ret 1]
def B_31_12 : List Instr := [.iload 1, .invokeinterface 36 1, .astore 2, .aload 2, .ifnull 13, .aload 2, .multianewarray 30 1, .ifCond .ne 14, .goto_w 13]
def B_31_13 : List Instr := [.iconst 0, .ret 1]
def B_31_14 : List Instr := [.aload 0, .dup, .getfield 65, .iconst 1, .iadd, .putfield 65, .aload 0, .getfield 65, .aload 0, .getfield 8256, .multianewarray 7 1, .if_icmp .ge 15, .aload 0, .getfield 8256, .aload 0, .getfield 65, .multianewarray 21 2, .iconst 40, .if_icmp .eq 16, .goto_w 15]
def B_31_15 : List Instr := [.iconst 0, .ret 1]
def B_31_16 : List Instr := [.aload 0, .iload 1, .aload 2, .getfield 768, .iconst 1, .isub, .multianewarray 29 3, .iconst 1, .ret 1]
def cd_31 (b : Int) : List Instr := ([B_31_0, B_31_1, B_31_2, B_31_3, B_31_4, B_31_5, B_31_6, B_31_7, B_31_8, B_31_9, B_31_10, B_31_11, B_31_12, B_31_13, B_31_14, B_31_15, B_31_16] : List (List Instr)).getD b.toNat []
theorem kk_31 : cd_31 0 = B_31_0 ∧ cd_31 1 = B_31_1 ∧ cd_31 2 = B_31_2 ∧ cd_31 3 = B_31_3 ∧ cd_31 4 = B_31_4 ∧ cd_31 5 = B_31_5 ∧ cd_31 6 = B_31_6 ∧ cd_31 7 = B_31_7 ∧ cd_31 8 = B_31_8 ∧ cd_31 9 = B_31_9 ∧ cd_31 10 = B_31_10 ∧ cd_31 11 = B_31_11 ∧ cd_31 12 = B_31_12 ∧ cd_31 13 = B_31_13 ∧ cd_31 14 = B_31_14 ∧ cd_31 15 = B_31_15 ∧ cd_31 16 = B_31_16 := ⟨rfl, rfl, rfl, rfl, rfl, rfl, rfl, rfl, rfl, rfl, rfl, rfl, rfl, rfl, rfl, rfl, rfl⟩
-- 32: ConeForms$Scanner.digit()Z
def B_32_0 : List Instr := [.aload 0, .getfield 65, .aload 0, .getfield 8256, .multianewarray 7 1, .if_icmp .ge 1, .aload 0, .getfield 8256, .aload 0, .getfield 65, .multianewarray 21 2, .iconst 48, .if_icmp .lt 1, .aload 0, .getfield 8256, .aload 0, .getfield 65, .multianewarray 21 2, .iconst 57, .if_icmp .gt 1, .iconst 1, .goto 2]
def B_32_1 : List Instr := [.iconst 0, .goto_w 2]
def B_32_2 : List Instr := [.ret 1]
def cd_32 (b : Int) : List Instr := ([B_32_0, B_32_1, B_32_2] : List (List Instr)).getD b.toNat []
theorem kk_32 : cd_32 0 = B_32_0 ∧ cd_32 1 = B_32_1 ∧ cd_32 2 = B_32_2 := ⟨rfl, rfl, rfl⟩
-- 33: ConeForms$Scanner.number(I)I
def B_33_0 : List Instr := [.iconst 0, .istore 2, .iconst 0, .istore 3, .goto_w 1]
def B_33_1 : List Instr := [.iload 3, .iload 1, .if_icmp .ge 2, .aload 0, .multianewarray 26 1, .ifCond .eq 2, .iconst 10, .iload 2, .imul, .aload 0, .getfield 8256, .aload 0, .getfield 65, .multianewarray 21 2, .iadd, .iconst 48, .isub, .istore 2, .aload 0, .dup, .getfield 65, .iconst 1, .iadd, .putfield 65, .iinc 3 1, .goto 1]
def B_33_2 : List Instr := [.iload 2, .ret 0]
def cd_33 (b : Int) : List Instr := ([B_33_0, B_33_1, B_33_2] : List (List Instr)).getD b.toNat []
theorem kk_33 : cd_33 0 = B_33_0 ∧ cd_33 1 = B_33_1 ∧ cd_33 2 = B_33_2 := ⟨rfl, rfl, rfl⟩
-- 34: ConeForms$Scanner.step(LConeForms$Kind;I)V
def B_34_0 : List Instr := [.aload 0, .getfield 8260, .aload 0, .getfield 67, .aload 1, .aastore, .aload 0, .getfield 8261, .aload 0, .getfield 67, .iload 2, .iastore, .aload 0, .dup, .getfield 67, .iconst 1, .iadd, .putfield 67, .return_]
def cd_34 (b : Int) : List Instr := ([B_34_0] : List (List Instr)).getD b.toNat []
theorem kk_34 : cd_34 0 = B_34_0 := rfl
-- 35: ConeForms$Scanner.push(CI)V
def B_35_0 : List Instr := [.aload 0, .getfield 8262, .aload 0, .getfield 72, .iload 1, .castore, .aload 0, .getfield 8263, .aload 0, .getfield 72, .iload 2, .iastore, .aload 0, .dup, .getfield 72, .iconst 1, .iadd, .putfield 72, .aload 0, .dup, .getfield 65, .iconst 1, .iadd, .putfield 65, .return_]
def cd_35 (b : Int) : List Instr := ([B_35_0] : List (List Instr)).getD b.toNat []
theorem kk_35 : cd_35 0 = B_35_0 := rfl
-- 36: ConeForms$Scanner.kindOf(C)LConeForms$Kind;
def B_36_0 : List Instr := [.iload 0, .lookupswitch 10 #[(42, 4), (43, 1), (45, 2), (65, 7), (76, 6), (77, 5), (80, 9), (83, 8), (126, 3)]]
def B_36_1 : List Instr := [.getstatic 3, .ret 2]
def B_36_2 : List Instr := [.getstatic 4, .ret 2]
def B_36_3 : List Instr := [.getstatic 5, .ret 2]
def B_36_4 : List Instr := [.getstatic 6, .ret 2]
def B_36_5 : List Instr := [.getstatic 7, .ret 2]
def B_36_6 : List Instr := [.getstatic 8, .ret 2]
def B_36_7 : List Instr := [.getstatic 9, .ret 2]
def B_36_8 : List Instr := [.getstatic 10, .ret 2]
def B_36_9 : List Instr := [.getstatic 11, .ret 2]
def B_36_10 : List Instr := [.aconst_null, .ret 2]
def cd_36 (b : Int) : List Instr := ([B_36_0, B_36_1, B_36_2, B_36_3, B_36_4, B_36_5, B_36_6, B_36_7, B_36_8, B_36_9, B_36_10] : List (List Instr)).getD b.toNat []
theorem kk_36 : cd_36 0 = B_36_0 ∧ cd_36 1 = B_36_1 ∧ cd_36 2 = B_36_2 ∧ cd_36 3 = B_36_3 ∧ cd_36 4 = B_36_4 ∧ cd_36 5 = B_36_5 ∧ cd_36 6 = B_36_6 ∧ cd_36 7 = B_36_7 ∧ cd_36 8 = B_36_8 ∧ cd_36 9 = B_36_9 ∧ cd_36 10 = B_36_10 := ⟨rfl, rfl, rfl, rfl, rfl, rfl, rfl, rfl, rfl, rfl, rfl⟩
-- 37: ConeForms$Kind.bent()Z
def B_37_0 : List Instr := [.aload 0, .getfield 769, .iconst 1, .if_icmp .le 1, .iconst 1, .goto 2]
def B_37_1 : List Instr := [.iconst 0, .goto_w 2]
def B_37_2 : List Instr := [.ret 1]
def cd_37 (b : Int) : List Instr := ([B_37_0, B_37_1, B_37_2] : List (List Instr)).getD b.toNat []
theorem kk_37 : cd_37 0 = B_37_0 ∧ cd_37 1 = B_37_1 ∧ cd_37 2 = B_37_2 := ⟨rfl, rfl, rfl⟩
-- 38: ConeForms$Scanner.then(C)Z
def B_38_0 : List Instr := [.iload 1, .iconst 43, .if_icmp .eq 1, .iload 1, .iconst 45, .if_icmp .eq 1, .iload 1, .iconst 42, .if_icmp .ne 4, .goto_w 1]
def B_38_1 : List Instr := [.aload 0, .iload 1, .iconst 42, .if_icmp .ne 2, .iconst 2, .goto 3]
def B_38_2 : List Instr := [.iconst 1, .goto_w 3]
def B_38_3 : List Instr := [.multianewarray 24 2, .aload 0, .iload 1, .iconst 0, .multianewarray 29 3, .aload 0, .iconst 1, .putfield 4162, .iconst 1, .ret 1]
def B_38_4 : List Instr := [.iload 1, .iconst 44, .if_icmp .eq 5, .iload 1, .iconst 41, .if_icmp .eq 5, .iconst 0, .ret 1]
def B_38_5 : List Instr := [.aload 0, .iconst 1, .multianewarray 24 2, .aload 0, .getfield 72, .ifCond .eq 10, .aload 0, .getfield 8263, .aload 0, .getfield 72, .iconst 1, .isub, .iaload, .ifCond .le 6, .iconst 1, .goto 7]
def B_38_6 : List Instr := [.iconst 0, .goto_w 7]
def B_38_7 : List Instr := [.iload 1, .iconst 44, .if_icmp .ne 8, .iconst 1, .goto 9]
def B_38_8 : List Instr := [.iconst 0, .goto_w 9]
def B_38_9 : List Instr := [.if_icmp .eq 11, .goto_w 10]
def B_38_10 : List Instr := [.iconst 0, .ret 1]
def B_38_11 : List Instr := [.aload 0, .dup, .getfield 65, .iconst 1, .iadd, .putfield 65, .iload 1, .iconst 44, .if_icmp .ne 12, .aload 0, .getfield 8263, .aload 0, .getfield 72, .iconst 1, .isub, .dup2, .iaload, .iconst 1, .isub, .iastore, .aload 0, .iconst 1, .putfield 4162, .iconst 1, .ret 1]
def B_38_12 : List Instr := [.aload 0, .dup, .getfield 72, .iconst 1, .isub, .putfield 72, .aload 0, .getfield 8262, .aload 0, .getfield 72, .caload, .iconst 40, .if_icmp .eq 13, .aload 0, .aload 0, .getfield 8262, .aload 0, .getfield 72, .caload, .invokeinterface 36 1, .iconst 0, .multianewarray 28 3, .goto_w 13]
def B_38_13 : List Instr := [.iconst 1, .ret 1]
def cd_38 (b : Int) : List Instr := ([B_38_0, B_38_1, B_38_2, B_38_3, B_38_4, B_38_5, B_38_6, B_38_7, B_38_8, B_38_9, B_38_10, B_38_11, B_38_12, B_38_13] : List (List Instr)).getD b.toNat []
theorem kk_38 : cd_38 0 = B_38_0 ∧ cd_38 1 = B_38_1 ∧ cd_38 2 = B_38_2 ∧ cd_38 3 = B_38_3 ∧ cd_38 4 = B_38_4 ∧ cd_38 5 = B_38_5 ∧ cd_38 6 = B_38_6 ∧ cd_38 7 = B_38_7 ∧ cd_38 8 = B_38_8 ∧ cd_38 9 = B_38_9 ∧ cd_38 10 = B_38_10 ∧ cd_38 11 = B_38_11 ∧ cd_38 12 = B_38_12 ∧ cd_38 13 = B_38_13 := ⟨rfl, rfl, rfl, rfl, rfl, rfl, rfl, rfl, rfl, rfl, rfl, rfl, rfl, rfl⟩
-- 39: ConeForms$Scanner.reduce(I)V
def B_39_0 : List Instr := [.aload 0, .getfield 72, .ifCond .le 1, .aload 0, .getfield 8262, .aload 0, .getfield 72, .iconst 1, .isub, .caload, .invokeinterface 40 1, .iload 1, .if_icmp .lt 1, .aload 0, .dup, .getfield 72, .iconst 1, .isub, .putfield 72, .aload 0, .aload 0, .getfield 8262, .aload 0, .getfield 72, .caload, .invokeinterface 36 1, .iconst 0, .multianewarray 28 3, .goto 0]
def B_39_1 : List Instr := [.return_]
def cd_39 (b : Int) : List Instr := ([B_39_0, B_39_1] : List (List Instr)).getD b.toNat []
theorem kk_39 : cd_39 0 = B_39_0 ∧ cd_39 1 = B_39_1 := ⟨rfl, rfl⟩
-- 40: ConeForms$Scanner.rank(C)I
def B_40_0 : List Instr := [.iload 0, .iconst 126, .if_icmp .ne 1, .iconst 3, .goto 5]
def B_40_1 : List Instr := [.iload 0, .iconst 42, .if_icmp .ne 2, .iconst 2, .goto 5]
def B_40_2 : List Instr := [.iload 0, .iconst 43, .if_icmp .eq 3, .iload 0, .iconst 45, .if_icmp .ne 4, .goto_w 3]
def B_40_3 : List Instr := [.iconst 1, .goto 5]
def B_40_4 : List Instr := [.iconst 0, .goto_w 5]
def B_40_5 : List Instr := [.ret 0]
def cd_40 (b : Int) : List Instr := ([B_40_0, B_40_1, B_40_2, B_40_3, B_40_4, B_40_5] : List (List Instr)).getD b.toNat []
theorem kk_40 : cd_40 0 = B_40_0 ∧ cd_40 1 = B_40_1 ∧ cd_40 2 = B_40_2 ∧ cd_40 3 = B_40_3 ∧ cd_40 4 = B_40_4 ∧ cd_40 5 = B_40_5 := ⟨rfl, rfl, rfl, rfl, rfl, rfl⟩
-- 41: ConeForms.make(I)I
def B_41_0 : List Instr := [.iconst 0, .istore 2, .iconst 0, .istore 3, .goto_w 1]
def B_41_1 : List Instr := [.iload 3, .aload 0, .getfield 8449, .getfield 67, .if_icmp .ge 16, .aload 0, .getfield 8449, .getfield 8260, .iload 3, .aaload, .astore 4, .aload 0, .getfield 8449, .getfield 8261, .iload 3, .iaload, .istore 5, .aload 4, .ifnonnull 3, .iload 5, .iload 1, .if_icmp .lt 2, .iconst (-100), .ret 0]
def B_41_2 : List Instr := [.aload 0, .getfield 8453, .iload 2, .aload 0, .getfield 8452, .iload 5, .multianewarray 31 2, .checkcast 0, .aastore, .goto 15]
def B_41_3 : List Instr := [.iload 2, .aload 4, .getfield 768, .isub, .istore 2, .aload 4, .getfield 768, .ifCond .le 4, .aload 0, .getfield 8453, .iload 2, .aaload, .goto 5]
def B_41_4 : List Instr := [.aconst_null, .goto_w 5]
def B_41_5 : List Instr := [.astore 6, .aload 4, .getfield 768, .iconst 1, .if_icmp .le 6, .aload 0, .getfield 8453, .iload 2, .iconst 1, .iadd, .aaload, .goto 7]
def B_41_6 : List Instr := [.aconst_null, .goto_w 7]
def B_41_7 : List Instr := [.astore 7, .aload 4, .getfield 768, .iconst 2, .if_icmp .le 8, .aload 0, .getfield 8453, .iload 2, .iconst 2, .iadd, .aaload, .goto 9]
def B_41_8 : List Instr := [.aconst_null, .goto_w 9]
def B_41_9 : List Instr := [.astore 8, .aload 0, .aload 4, .iload 5, .aload 6, .aload 7, .aload 8, .multianewarray 32 6, .astore 9, .aload 9, .ifnonnull 14, .aload 4, .iload 5, .aload 6, .aload 7, .aload 8, .invokeinterface 46 5, .astore 9, .aload 9, .multianewarray 33 1, .lstore 10, .lload 10, .jsr_w 1000000, .lcmp, .ifCond .gt 10, .aload 0, .getfield 8452, .multianewarray 17 1, .iconst 36, .if_icmp .lt 13, .goto_w 10]
def B_41_10 : List Instr := [.lload 10, .jsr_w 1000000, .lcmp, .ifCond .le 11, .iconst (-101), .goto 12]
def B_41_11 : List Instr := [.iconst (-102), .goto_w 12]
def B_41_12 : List Instr := [.ret 0]
def B_41_13 : List Instr := [.aload 0, .aload 9, .lload 10, .l2i, .multianewarray 34 3, .goto_w 14]
def B_41_14 : List Instr := [.aload 0, .getfield 8453, .iload 2, .aload 9, .aastore, .goto_w 15]
def B_41_15 : List Instr := [.iinc 2 1, .iinc 3 1, .goto 1]
def B_41_16 : List Instr := [.aload 0, .getfield 8453, .iconst 0, .aaload, .getfield 325, .ret 0]
def cd_41 (b : Int) : List Instr := ([B_41_0, B_41_1, B_41_2, B_41_3, B_41_4, B_41_5, B_41_6, B_41_7, B_41_8, B_41_9, B_41_10, B_41_11, B_41_12, B_41_13, B_41_14, B_41_15, B_41_16] : List (List Instr)).getD b.toNat []
theorem kk_41 : cd_41 0 = B_41_0 ∧ cd_41 1 = B_41_1 ∧ cd_41 2 = B_41_2 ∧ cd_41 3 = B_41_3 ∧ cd_41 4 = B_41_4 ∧ cd_41 5 = B_41_5 ∧ cd_41 6 = B_41_6 ∧ cd_41 7 = B_41_7 ∧ cd_41 8 = B_41_8 ∧ cd_41 9 = B_41_9 ∧ cd_41 10 = B_41_10 ∧ cd_41 11 = B_41_11 ∧ cd_41 12 = B_41_12 ∧ cd_41 13 = B_41_13 ∧ cd_41 14 = B_41_14 ∧ cd_41 15 = B_41_15 ∧ cd_41 16 = B_41_16 := ⟨rfl, rfl, rfl, rfl, rfl, rfl, rfl, rfl, rfl, rfl, rfl, rfl, rfl, rfl, rfl, rfl, rfl⟩
-- 42: java/util/ArrayList.get(I)Ljava/lang/Object;
def B_42_0 : List Instr := [.iload 1, .aload 0, .getfield 129, .invokeinterface 43 2, .pop, .aload 0, .iload 1, .multianewarray 35 2, .ret 2]
def cd_42 (b : Int) : List Instr := ([B_42_0] : List (List Instr)).getD b.toNat []
theorem kk_42 : cd_42 0 = B_42_0 := rfl
-- 43: java/util/Objects.checkIndex(II)I
def B_43_0 : List Instr := [.iload 0, .iload 1, .aconst_null, .invokeinterface 22 3, .ret 0]
def cd_43 (b : Int) : List Instr := ([B_43_0] : List (List Instr)).getD b.toNat []
theorem kk_43 : cd_43 0 = B_43_0 := rfl
-- 44: java/util/ArrayList.elementData(I)Ljava/lang/Object;
def B_44_0 : List Instr := [.aload 0, .getfield 8320, .iload 1, .aaload, .ret 2]
def cd_44 (b : Int) : List Instr := ([B_44_0] : List (List Instr)).getD b.toNat []
theorem kk_44 : cd_44 0 = B_44_0 := rfl
-- 45: ConeForms.equal(LConeForms$Kind;ILConeForms$Node;LConeForms$Node;LConeForms$Node;)LConeForms$Node;
def B_45_0 : List Instr := [.iconst 0, .istore 6, .goto_w 1]
def B_45_1 : List Instr := [.iload 6, .aload 0, .getfield 8452, .multianewarray 17 1, .if_icmp .ge 3, .aload 0, .getfield 8452, .iload 6, .multianewarray 31 2, .checkcast 0, .astore 7, .aload 7, .getfield 8512, .aload 1, .if_acmp .ne 2, .aload 7, .getfield 321, .iload 2, .if_icmp .ne 2, .aload 7, .getfield 8514, .aload 3, .if_acmp .ne 2, .aload 7, .getfield 8515, .aload 4, .if_acmp .ne 2, .aload 7, .getfield 8516, .aload 5, .if_acmp .ne 2, .aload 7, .ret 2]
def B_45_2 : List Instr := [.iinc 6 1, .goto 1]
def B_45_3 : List Instr := [.aconst_null, .ret 2]
def cd_45 (b : Int) : List Instr := ([B_45_0, B_45_1, B_45_2, B_45_3] : List (List Instr)).getD b.toNat []
theorem kk_45 : cd_45 0 = B_45_0 ∧ cd_45 1 = B_45_1 ∧ cd_45 2 = B_45_2 ∧ cd_45 3 = B_45_3 := ⟨rfl, rfl, rfl, rfl⟩
-- 46: ConeForms.fresh(LConeForms$Kind;ILConeForms$Node;LConeForms$Node;LConeForms$Node;)LConeForms$Node;
def B_46_0 : List Instr := [.aload 0, .getfield 768, .ifCond .ne 1, .new 5, .dup, .aload 0, .iload 1, .multianewarray 36 3, .ret 2]
def B_46_1 : List Instr := [.aload 0, .multianewarray 30 1, .ifCond .eq 2, .new 6, .dup, .aload 0, .aload 2, .aload 3, .aload 4, .multianewarray 37 5, .ret 2]
def B_46_2 : List Instr := [.aload 0, .getstatic 6, .if_acmp .ne 3, .new 7, .dup, .aload 2, .aload 3, .multianewarray 38 3, .goto 4]
def B_46_3 : List Instr := [.new 8, .dup, .aload 0, .aload 2, .aload 3, .multianewarray 39 4, .goto_w 4]
def B_46_4 : List Instr := [.ret 2]
def cd_46 (b : Int) : List Instr := ([B_46_0, B_46_1, B_46_2, B_46_3, B_46_4] : List (List Instr)).getD b.toNat []
theorem kk_46 : cd_46 0 = B_46_0 ∧ cd_46 1 = B_46_1 ∧ cd_46 2 = B_46_2 ∧ cd_46 3 = B_46_3 ∧ cd_46 4 = B_46_4 := ⟨rfl, rfl, rfl, rfl, rfl⟩
-- 47: ConeForms$Leaf.<init>(LConeForms$Kind;I)V
def B_47_0 : List Instr := [.aload 0, .aload 1, .iload 2, .aconst_null, .aconst_null, .aconst_null, .multianewarray 40 6, .aload 1, .getstatic 0, .if_acmp .ne 1, .aload 0, .iload 2, .putfield 326, .goto_w 1]
def B_47_1 : List Instr := [.return_]
def cd_47 (b : Int) : List Instr := ([B_47_0, B_47_1] : List (List Instr)).getD b.toNat []
theorem kk_47 : cd_47 0 = B_47_0 ∧ cd_47 1 = B_47_1 := ⟨rfl, rfl⟩
-- 48: ConeForms$Node.<init>(LConeForms$Kind;ILConeForms$Node;LConeForms$Node;LConeForms$Node;)V
def B_48_0 : List Instr := [.aload 0, .swap, .aload 0, .iconst (-1), .putfield 331, .aload 0, .aload 1, .putfield 8512, .aload 0, .iload 2, .putfield 321, .aload 0, .aload 3, .putfield 8514, .aload 0, .aload 4, .putfield 8515, .aload 0, .aload 5, .putfield 8516, .return_]
def cd_48 (b : Int) : List Instr := ([B_48_0] : List (List Instr)).getD b.toNat []
theorem kk_48 : cd_48 0 = B_48_0 := rfl
-- 49: ConeForms$Bend.<init>(LConeForms$Kind;LConeForms$Node;LConeForms$Node;LConeForms$Node;)V
def B_49_0 : List Instr := [.aload 0, .aload 1, .iconst 0, .aload 2, .aload 3, .aload 4, .multianewarray 40 6, .return_]
def cd_49 (b : Int) : List Instr := ([B_49_0] : List (List Instr)).getD b.toNat []
theorem kk_49 : cd_49 0 = B_49_0 := rfl
-- 50: ConeForms$Product.<init>(LConeForms$Node;LConeForms$Node;)V
def B_50_0 : List Instr := [.aload 0, .getstatic 6, .iconst 0, .aload 1, .aload 2, .aconst_null, .multianewarray 40 6, .return_]
def cd_50 (b : Int) : List Instr := ([B_50_0] : List (List Instr)).getD b.toNat []
theorem kk_50 : cd_50 0 = B_50_0 := rfl
-- 51: ConeForms$Linear.<init>(LConeForms$Kind;LConeForms$Node;LConeForms$Node;)V
def B_51_0 : List Instr := [.aload 0, .aload 1, .iconst 0, .aload 2, .aload 3, .aconst_null, .multianewarray 40 6, .return_]
def cd_51 (b : Int) : List Instr := ([B_51_0] : List (List Instr)).getD b.toNat []
theorem kk_51 : cd_51 0 = B_51_0 := rfl
-- 52: ConeForms$Bend.span()J
def B_52_0 : List Instr := [.aload 0, .getfield 8512, .multianewarray 41 1, .tableswitch 4 9 11 #[1, 2, 3]]
def B_52_1 : List Instr := [.aload 0, .getfield 8514, .getfield 327, .i2l, .lreturn]
def B_52_2 : List Instr := [.aload 0, .getfield 8514, .getfield 327, .i2l, .aload 0, .getfield 8514, .getfield 327, .i2l, .lmul, .lreturn]
def B_52_3 : List Instr := [.aload 0, .getfield 8514, .getfield 327, .i2l, .aload 0, .getfield 8515, .getfield 327, .i2l, .ladd, .aload 0, .getfield 8516, .getfield 327, .i2l, .ladd, .lreturn]
def B_52_4 : List Instr := [.aload 0, .getfield 8514, .getfield 327, .aload 0, .getfield 8515, .getfield 327, .invokeinterface 16 2, .i2l, .lreturn]
def cd_52 (b : Int) : List Instr := ([B_52_0, B_52_1, B_52_2, B_52_3, B_52_4] : List (List Instr)).getD b.toNat []
theorem kk_52 : cd_52 0 = B_52_0 ∧ cd_52 1 = B_52_1 ∧ cd_52 2 = B_52_2 ∧ cd_52 3 = B_52_3 ∧ cd_52 4 = B_52_4 := ⟨rfl, rfl, rfl, rfl, rfl⟩
-- 53: java/lang/Enum.ordinal()I
def B_53_0 : List Instr := [.aload 0, .getfield 770, .ret 0]
def cd_53 (b : Int) : List Instr := ([B_53_0] : List (List Instr)).getD b.toNat []
theorem kk_53 : cd_53 0 = B_53_0 := rfl
-- 54: ConeForms$Leaf.span()J
def B_54_0 : List Instr := [.aload 0, .getfield 8512, .getstatic 0, .if_acmp .ne 1, .iconst 1, .aload 0, .getfield 321, .invokeinterface 16 2, .i2l, .goto 3]
def B_54_1 : List Instr := [.aload 0, .getfield 8512, .getstatic 1, .if_acmp .ne 2, .jsr_w 20, .goto 3]
def B_54_2 : List Instr := [.jsr_w 9, .goto_w 3]
def B_54_3 : List Instr := [.lreturn]
def cd_54 (b : Int) : List Instr := ([B_54_0, B_54_1, B_54_2, B_54_3] : List (List Instr)).getD b.toNat []
theorem kk_54 : cd_54 0 = B_54_0 ∧ cd_54 1 = B_54_1 ∧ cd_54 2 = B_54_2 ∧ cd_54 3 = B_54_3 := ⟨rfl, rfl, rfl, rfl⟩
-- 55: ConeForms$Linear.span()J
def B_55_0 : List Instr := [.aload 0, .getfield 8515, .ifnonnull 1, .aload 0, .getfield 8514, .getfield 327, .i2l, .goto 2]
def B_55_1 : List Instr := [.aload 0, .getfield 8514, .getfield 327, .i2l, .aload 0, .getfield 8515, .getfield 327, .i2l, .ladd, .goto_w 2]
def B_55_2 : List Instr := [.lreturn]
def cd_55 (b : Int) : List Instr := ([B_55_0, B_55_1, B_55_2] : List (List Instr)).getD b.toNat []
theorem kk_55 : cd_55 0 = B_55_0 ∧ cd_55 1 = B_55_1 ∧ cd_55 2 = B_55_2 := ⟨rfl, rfl, rfl⟩
-- 56: ConeForms$Product.span()J
def B_56_0 : List Instr := [.aload 0, .getfield 8514, .getfield 327, .i2l, .aload 0, .getfield 8515, .getfield 327, .i2l, .lmul, .lreturn]
def cd_56 (b : Int) : List Instr := ([B_56_0] : List (List Instr)).getD b.toNat []
theorem kk_56 : cd_56 0 = B_56_0 := rfl
-- 57: ConeForms.settle(LConeForms$Node;I)V
def B_57_0 : List Instr := [.aload 1, .aload 0, .getfield 8452, .multianewarray 17 1, .putfield 325, .aload 1, .iload 2, .putfield 327, .aload 1, .aload 1, .multianewarray 42 1, .putfield 328, .aload 1, .multianewarray 43 1, .aload 1, .aload 1, .multianewarray 44 1, .putfield 326, .aload 0, .getfield 8452, .aload 1, .multianewarray 45 2, .pop, .return_]
def cd_57 (b : Int) : List Instr := ([B_57_0] : List (List Instr)).getD b.toNat []
theorem kk_57 : cd_57 0 = B_57_0 := rfl
-- 58: ConeForms$Bend.signsDue()I
def B_58_0 : List Instr := [.aload 0, .getfield 8512, .multianewarray 41 1, .tableswitch 4 7 11 #[1, 2, 4, 4, 3]]
def B_58_1 : List Instr := [.aload 0, .getfield 8514, .getfield 328, .aload 0, .getfield 8515, .getfield 328, .ior, .iconst 1, .iand, .aload 0, .getfield 8514, .getfield 328, .aload 0, .getfield 8515, .getfield 328, .iand, .iconst 2, .iand, .ior, .ret 0]
def B_58_2 : List Instr := [.aload 0, .getfield 8514, .getfield 328, .aload 0, .getfield 8515, .getfield 328, .iand, .iconst 1, .iand, .aload 0, .getfield 8514, .getfield 328, .aload 0, .getfield 8515, .getfield 328, .ior, .iconst 2, .iand, .ior, .ret 0]
def B_58_3 : List Instr := [.aload 0, .getfield 8514, .getfield 328, .aload 0, .getfield 8515, .getfield 328, .ior, .aload 0, .getfield 8516, .getfield 328, .ior, .iconst 1, .iand, .aload 0, .getfield 8514, .getfield 328, .aload 0, .getfield 8515, .getfield 328, .iand, .aload 0, .getfield 8514, .getfield 328, .aload 0, .getfield 8516, .getfield 328, .iand, .ior, .aload 0, .getfield 8515, .getfield 328, .aload 0, .getfield 8516, .getfield 328, .iand, .ior, .iconst 2, .iand, .ior, .ret 0]
def B_58_4 : List Instr := [.aload 0, .getfield 8514, .getfield 328, .ifCond .eq 5, .iconst 1, .goto 6]
def B_58_5 : List Instr := [.iconst 0, .goto_w 6]
def B_58_6 : List Instr := [.ret 0]
def cd_58 (b : Int) : List Instr := ([B_58_0, B_58_1, B_58_2, B_58_3, B_58_4, B_58_5, B_58_6] : List (List Instr)).getD b.toNat []
theorem kk_58 : cd_58 0 = B_58_0 ∧ cd_58 1 = B_58_1 ∧ cd_58 2 = B_58_2 ∧ cd_58 3 = B_58_3 ∧ cd_58 4 = B_58_4 ∧ cd_58 5 = B_58_5 ∧ cd_58 6 = B_58_6 := ⟨rfl, rfl, rfl, rfl, rfl, rfl, rfl⟩
-- 59: ConeForms$Leaf.signsDue()I
def B_59_0 : List Instr := [.aload 0, .getfield 8512, .getstatic 0, .if_acmp .ne 3, .aload 0, .getfield 321, .ifCond .le 1, .iconst 1, .goto 2]
def B_59_1 : List Instr := [.iconst 0, .goto_w 2]
def B_59_2 : List Instr := [.ret 0]
def B_59_3 : List Instr := [.aload 0, .getfield 321, .iconst 112, .if_icmp .ne 4, .iconst 1, .goto 6]
def B_59_4 : List Instr := [.aload 0, .getfield 321, .iconst 113, .if_icmp .ne 5, .iconst 2, .goto 6]
def B_59_5 : List Instr := [.iconst 3, .goto_w 6]
def B_59_6 : List Instr := [.ret 0]
def cd_59 (b : Int) : List Instr := ([B_59_0, B_59_1, B_59_2, B_59_3, B_59_4, B_59_5, B_59_6] : List (List Instr)).getD b.toNat []
theorem kk_59 : cd_59 0 = B_59_0 ∧ cd_59 1 = B_59_1 ∧ cd_59 2 = B_59_2 ∧ cd_59 3 = B_59_3 ∧ cd_59 4 = B_59_4 ∧ cd_59 5 = B_59_5 ∧ cd_59 6 = B_59_6 := ⟨rfl, rfl, rfl, rfl, rfl, rfl, rfl⟩
-- 60: ConeForms$Linear.signsDue()I
def B_60_0 : List Instr := [.aload 0, .getfield 8512, .getstatic 3, .if_acmp .ne 1, .aload 0, .getfield 8514, .getfield 328, .aload 0, .getfield 8515, .getfield 328, .ior, .goto 3]
def B_60_1 : List Instr := [.aload 0, .getfield 8512, .getstatic 4, .if_acmp .ne 2, .aload 0, .getfield 8514, .getfield 328, .aload 0, .getfield 8515, .getfield 328, .invokeinterface 61 1, .ior, .goto 3]
def B_60_2 : List Instr := [.aload 0, .getfield 8514, .getfield 328, .invokeinterface 61 1, .goto_w 3]
def B_60_3 : List Instr := [.ret 0]
def cd_60 (b : Int) : List Instr := ([B_60_0, B_60_1, B_60_2, B_60_3] : List (List Instr)).getD b.toNat []
theorem kk_60 : cd_60 0 = B_60_0 ∧ cd_60 1 = B_60_1 ∧ cd_60 2 = B_60_2 ∧ cd_60 3 = B_60_3 := ⟨rfl, rfl, rfl, rfl⟩
-- 61: ConeForms.turned(I)I
def B_61_0 : List Instr := [.iload 0, .iconst 1, .iand, .iconst 1, .ishl, .iload 0, .iconst 2, .iand, .iconst 1, .ishr, .ior, .ret 0]
def cd_61 (b : Int) : List Instr := ([B_61_0] : List (List Instr)).getD b.toNat []
theorem kk_61 : cd_61 0 = B_61_0 := rfl
-- 62: ConeForms$Product.signsDue()I
def B_62_0 : List Instr := [.iconst 0, .istore 1, .aload 0, .getfield 8514, .getfield 328, .aload 0, .getfield 8515, .getfield 328, .iand, .ifCond .eq 1, .iload 1, .iconst 1, .ior, .istore 1, .goto_w 1]
def B_62_1 : List Instr := [.aload 0, .getfield 8514, .getfield 328, .aload 0, .getfield 8515, .getfield 328, .invokeinterface 61 1, .iand, .ifCond .eq 2, .iload 1, .iconst 2, .ior, .istore 1, .goto_w 2]
def B_62_2 : List Instr := [.iload 1, .ret 0]
def cd_62 (b : Int) : List Instr := ([B_62_0, B_62_1, B_62_2] : List (List Instr)).getD b.toNat []
theorem kk_62 : cd_62 0 = B_62_0 ∧ cd_62 1 = B_62_1 ∧ cd_62 2 = B_62_2 := ⟨rfl, rfl, rfl⟩
-- 63: ConeForms$Node.judge()V
def B_63_0 : List Instr := [.aload 0, .getfield 8512, .getfield 769, .ifCond .eq 1, .aload 0, .getfield 8512, .getfield 768, .ifCond .le 2, .goto_w 1]
def B_63_1 : List Instr := [.iconst 1, .goto 3]
def B_63_2 : List Instr := [.iconst 0, .goto_w 3]
def B_63_3 : List Instr := [.istore 1, .iconst 1, .istore 2, .iconst 1, .istore 3, .iconst 1, .istore 4, .iconst 0, .istore 5, .iconst 0, .istore 6, .iconst 0, .istore 7, .iconst 0, .istore 8, .aload 0, .getfield 8512, .getfield 768, .istore 9, .goto_w 4]
def B_63_4 : List Instr := [.iload 9, .iconst 1, .if_icmp .lt 15, .aload 0, .iload 9, .multianewarray 46 2, .getfield 329, .istore 10, .iload 1, .ifCond .eq 5, .iload 10, .ifCond .ne 5, .iconst 1, .goto 6]
def B_63_5 : List Instr := [.iconst 0, .goto_w 6]
def B_63_6 : List Instr := [.istore 1, .iload 5, .ifCond .ne 7, .iload 10, .iconst 4, .if_icmp .ne 8, .goto_w 7]
def B_63_7 : List Instr := [.iconst 1, .goto 9]
def B_63_8 : List Instr := [.iconst 0, .goto_w 9]
def B_63_9 : List Instr := [.istore 5, .iload 10, .iconst 1, .if_icmp .le 12, .iconst 0, .istore 2, .iload 6, .ifCond .ne 10, .iload 9, .goto 11]
def B_63_10 : List Instr := [.iload 6, .goto_w 11]
def B_63_11 : List Instr := [.istore 6, .goto_w 12]
def B_63_12 : List Instr := [.aload 0, .iload 9, .iconst 2, .multianewarray 47 3, .ifCond .ne 13, .iconst 0, .istore 3, .iload 9, .istore 7, .goto_w 13]
def B_63_13 : List Instr := [.aload 0, .iload 9, .iconst 3, .multianewarray 47 3, .ifCond .ne 14, .iconst 0, .istore 4, .iload 9, .istore 8, .goto_w 14]
def B_63_14 : List Instr := [.iinc 9 (-1), .goto 4]
def B_63_15 : List Instr := [.aload 0, .multianewarray 48 1, .istore 9, .iload 1, .ifCond .eq 16, .aload 0, .iconst 0, .putfield 329, .goto 26]
def B_63_16 : List Instr := [.iload 9, .iconst 1, .if_icmp .ne 21, .aload 0, .iload 2, .ifCond .eq 17, .iconst 1, .goto 20]
def B_63_17 : List Instr := [.iload 3, .ifCond .eq 18, .iconst 2, .goto 20]
def B_63_18 : List Instr := [.iload 4, .ifCond .eq 19, .iconst 3, .goto 20]
def B_63_19 : List Instr := [.iconst 4, .goto_w 20]
def B_63_20 : List Instr := [.putfield 329, .goto 26]
def B_63_21 : List Instr := [.aload 0, .iload 9, .iconst 2, .if_icmp .ne 22, .iload 3, .ifCond .ne 23, .goto_w 22]
def B_63_22 : List Instr := [.iload 9, .iconst 3, .if_icmp .ne 24, .iload 4, .ifCond .eq 24, .goto_w 23]
def B_63_23 : List Instr := [.iload 9, .goto 25]
def B_63_24 : List Instr := [.iconst 4, .goto_w 25]
def B_63_25 : List Instr := [.putfield 329, .goto_w 26]
def B_63_26 : List Instr := [.aload 0, .getfield 329, .iconst 4, .if_icmp .ne 31, .iload 5, .ifCond .ne 31, .aload 0, .iload 9, .iconst 4, .if_icmp .ne 27, .iconst 4, .goto 30]
def B_63_27 : List Instr := [.iload 9, .iconst 1, .if_icmp .ne 28, .iload 6, .goto 30]
def B_63_28 : List Instr := [.iload 9, .iconst 2, .if_icmp .ne 29, .iload 7, .goto 30]
def B_63_29 : List Instr := [.iload 8, .goto_w 30]
def B_63_30 : List Instr := [.putfield 330, .goto_w 31]
def B_63_31 : List Instr := [.return_]
def cd_63 (b : Int) : List Instr := ([B_63_0, B_63_1, B_63_2, B_63_3, B_63_4, B_63_5, B_63_6, B_63_7, B_63_8, B_63_9, B_63_10, B_63_11, B_63_12, B_63_13, B_63_14, B_63_15, B_63_16, B_63_17, B_63_18, B_63_19, B_63_20, B_63_21, B_63_22, B_63_23, B_63_24, B_63_25, B_63_26, B_63_27, B_63_28, B_63_29, B_63_30, B_63_31] : List (List Instr)).getD b.toNat []
theorem kk_63 : cd_63 0 = B_63_0 ∧ cd_63 1 = B_63_1 ∧ cd_63 2 = B_63_2 ∧ cd_63 3 = B_63_3 ∧ cd_63 4 = B_63_4 ∧ cd_63 5 = B_63_5 ∧ cd_63 6 = B_63_6 ∧ cd_63 7 = B_63_7 ∧ cd_63 8 = B_63_8 ∧ cd_63 9 = B_63_9 ∧ cd_63 10 = B_63_10 ∧ cd_63 11 = B_63_11 ∧ cd_63 12 = B_63_12 ∧ cd_63 13 = B_63_13 ∧ cd_63 14 = B_63_14 ∧ cd_63 15 = B_63_15 ∧ cd_63 16 = B_63_16 ∧ cd_63 17 = B_63_17 ∧ cd_63 18 = B_63_18 ∧ cd_63 19 = B_63_19 ∧ cd_63 20 = B_63_20 ∧ cd_63 21 = B_63_21 ∧ cd_63 22 = B_63_22 ∧ cd_63 23 = B_63_23 ∧ cd_63 24 = B_63_24 ∧ cd_63 25 = B_63_25 ∧ cd_63 26 = B_63_26 ∧ cd_63 27 = B_63_27 ∧ cd_63 28 = B_63_28 ∧ cd_63 29 = B_63_29 ∧ cd_63 30 = B_63_30 ∧ cd_63 31 = B_63_31 := ⟨rfl, rfl, rfl, rfl, rfl, rfl, rfl, rfl, rfl, rfl, rfl, rfl, rfl, rfl, rfl, rfl, rfl, rfl, rfl, rfl, rfl, rfl, rfl, rfl, rfl, rfl, rfl, rfl, rfl, rfl, rfl, rfl⟩
-- 64: ConeForms$Node.argument(I)LConeForms$Node;
def B_64_0 : List Instr := [.iload 1, .iconst 1, .if_icmp .ne 1, .aload 0, .getfield 8514, .goto 3]
def B_64_1 : List Instr := [.iload 1, .iconst 2, .if_icmp .ne 2, .aload 0, .getfield 8515, .goto 3]
def B_64_2 : List Instr := [.aload 0, .getfield 8516, .goto_w 3]
def B_64_3 : List Instr := [.ret 2]
def cd_64 (b : Int) : List Instr := ([B_64_0, B_64_1, B_64_2, B_64_3] : List (List Instr)).getD b.toNat []
theorem kk_64 : cd_64 0 = B_64_0 ∧ cd_64 1 = B_64_1 ∧ cd_64 2 = B_64_2 ∧ cd_64 3 = B_64_3 := ⟨rfl, rfl, rfl, rfl⟩
-- 65: ConeForms$Node.admits(II)Z
def B_65_0 : List Instr := [.aload 0, .iload 1, .multianewarray 46 2, .getfield 329, .istore 3, .iload 3, .iconst 1, .if_icmp .gt 1, .iconst 1, .ret 1]
def B_65_1 : List Instr := [.iload 3, .iconst 4, .if_icmp .ne 2, .iconst 0, .ret 1]
def B_65_2 : List Instr := [.aload 0, .iload 1, .multianewarray 49 2, .istore 4, .iload 3, .iload 2, .if_icmp .ne 4, .iload 4, .ifCond .le 3, .iconst 1, .goto 6]
def B_65_3 : List Instr := [.iconst 0, .goto 6]
def B_65_4 : List Instr := [.iload 4, .ifCond .ge 5, .iconst 1, .goto 6]
def B_65_5 : List Instr := [.iconst 0, .goto_w 6]
def B_65_6 : List Instr := [.ret 1]
def cd_65 (b : Int) : List Instr := ([B_65_0, B_65_1, B_65_2, B_65_3, B_65_4, B_65_5, B_65_6] : List (List Instr)).getD b.toNat []
theorem kk_65 : cd_65 0 = B_65_0 ∧ cd_65 1 = B_65_1 ∧ cd_65 2 = B_65_2 ∧ cd_65 3 = B_65_3 ∧ cd_65 4 = B_65_4 ∧ cd_65 5 = B_65_5 ∧ cd_65 6 = B_65_6 := ⟨rfl, rfl, rfl, rfl, rfl, rfl, rfl⟩
-- 66: ConeForms$Bend.slope(I)I
def B_66_0 : List Instr := [.aload 0, .getfield 8512, .getstatic 9, .if_acmp .eq 1, .aload 0, .getfield 8512, .getstatic 10, .if_acmp .ne 2, .goto_w 1]
def B_66_1 : List Instr := [.aload 0, .getfield 8514, .getfield 328, .invokeinterface 67 1, .goto 3]
def B_66_2 : List Instr := [.iconst 1, .goto_w 3]
def B_66_3 : List Instr := [.ret 0]
def cd_66 (b : Int) : List Instr := ([B_66_0, B_66_1, B_66_2, B_66_3] : List (List Instr)).getD b.toNat []
theorem kk_66 : cd_66 0 = B_66_0 ∧ cd_66 1 = B_66_1 ∧ cd_66 2 = B_66_2 ∧ cd_66 3 = B_66_3 := ⟨rfl, rfl, rfl, rfl⟩
-- 67: ConeForms.upOrDown(I)I
def B_67_0 : List Instr := [.iload 0, .iconst 2, .iand, .ifCond .ne 1, .iconst 1, .goto 3]
def B_67_1 : List Instr := [.iload 0, .iconst 1, .iand, .ifCond .ne 2, .iconst (-1), .goto 3]
def B_67_2 : List Instr := [.iconst 0, .goto_w 3]
def B_67_3 : List Instr := [.ret 0]
def cd_67 (b : Int) : List Instr := ([B_67_0, B_67_1, B_67_2, B_67_3] : List (List Instr)).getD b.toNat []
theorem kk_67 : cd_67 0 = B_67_0 ∧ cd_67 1 = B_67_1 ∧ cd_67 2 = B_67_2 ∧ cd_67 3 = B_67_3 := ⟨rfl, rfl, rfl, rfl⟩
-- 68: ConeForms$Leaf.slope(I)I
def B_68_0 : List Instr := [.iconst 0, .ret 0]
def cd_68 (b : Int) : List Instr := ([B_68_0] : List (List Instr)).getD b.toNat []
theorem kk_68 : cd_68 0 = B_68_0 := rfl
-- 69: ConeForms$Linear.slope(I)I
def B_69_0 : List Instr := [.aload 0, .getfield 8512, .getstatic 5, .if_acmp .eq 1, .aload 0, .getfield 8512, .getstatic 4, .if_acmp .ne 2, .iload 1, .iconst 2, .if_icmp .ne 2, .goto_w 1]
def B_69_1 : List Instr := [.iconst (-1), .goto 3]
def B_69_2 : List Instr := [.iconst 1, .goto_w 3]
def B_69_3 : List Instr := [.ret 0]
def cd_69 (b : Int) : List Instr := ([B_69_0, B_69_1, B_69_2, B_69_3] : List (List Instr)).getD b.toNat []
theorem kk_69 : cd_69 0 = B_69_0 ∧ cd_69 1 = B_69_1 ∧ cd_69 2 = B_69_2 ∧ cd_69 3 = B_69_3 := ⟨rfl, rfl, rfl, rfl⟩
-- 70: ConeForms$Product.slope(I)I
def B_70_0 : List Instr := [.iload 1, .iconst 1, .if_icmp .ne 1, .aload 0, .getfield 8515, .getfield 328, .goto 2]
def B_70_1 : List Instr := [.aload 0, .getfield 8514, .getfield 328, .goto_w 2]
def B_70_2 : List Instr := [.invokeinterface 67 1, .ret 0]
def cd_70 (b : Int) : List Instr := ([B_70_0, B_70_1, B_70_2] : List (List Instr)).getD b.toNat []
theorem kk_70 : cd_70 0 = B_70_0 ∧ cd_70 1 = B_70_1 ∧ cd_70 2 = B_70_2 := ⟨rfl, rfl, rfl⟩
-- 71: ConeForms$Product.shape()I
def B_71_0 : List Instr := [.aload 0, .getfield 8514, .getfield 329, .ifCond .eq 1, .aload 0, .getfield 8515, .getfield 329, .ifCond .eq 1, .iconst 4, .goto 2]
def B_71_1 : List Instr := [.iconst 1, .goto_w 2]
def B_71_2 : List Instr := [.ret 0]
def cd_71 (b : Int) : List Instr := ([B_71_0, B_71_1, B_71_2] : List (List Instr)).getD b.toNat []
theorem kk_71 : cd_71 0 = B_71_0 ∧ cd_71 1 = B_71_1 ∧ cd_71 2 = B_71_2 := ⟨rfl, rfl, rfl⟩
-- 72: ConeForms$Node.shape()I
def B_72_0 : List Instr := [.aload 0, .getfield 8512, .getfield 769, .ret 0]
def cd_72 (b : Int) : List Instr := ([B_72_0] : List (List Instr)).getD b.toNat []
theorem kk_72 : cd_72 0 = B_72_0 := rfl
-- 73: ConeForms$Bend.compute()I
def B_73_0 : List Instr := [.aload 0, .getfield 8512, .multianewarray 41 1, .tableswitch 5 7 10 #[1, 2, 3, 4]]
def B_73_1 : List Instr := [.aload 0, .getfield 8514, .getfield 326, .aload 0, .getfield 8515, .getfield 326, .invokeinterface 16 2, .ret 0]
def B_73_2 : List Instr := [.aload 0, .getfield 8514, .getfield 326, .aload 0, .getfield 8515, .getfield 326, .invokeinterface 18 2, .ret 0]
def B_73_3 : List Instr := [.aload 0, .getfield 8514, .getfield 326, .invokeinterface 74 1, .ret 0]
def B_73_4 : List Instr := [.aload 0, .getfield 8514, .getfield 326, .aload 0, .getfield 8514, .getfield 326, .imul, .ret 0]
def B_73_5 : List Instr := [.aload 0, .getfield 8514, .getfield 326, .aload 0, .getfield 8515, .getfield 326, .iadd, .aload 0, .getfield 8516, .getfield 326, .iadd, .aload 0, .getfield 8514, .getfield 326, .aload 0, .getfield 8515, .getfield 326, .aload 0, .getfield 8516, .getfield 326, .invokeinterface 18 2, .invokeinterface 18 2, .isub, .ret 0]
def cd_73 (b : Int) : List Instr := ([B_73_0, B_73_1, B_73_2, B_73_3, B_73_4, B_73_5] : List (List Instr)).getD b.toNat []
theorem kk_73 : cd_73 0 = B_73_0 ∧ cd_73 1 = B_73_1 ∧ cd_73 2 = B_73_2 ∧ cd_73 3 = B_73_3 ∧ cd_73 4 = B_73_4 ∧ cd_73 5 = B_73_5 := ⟨rfl, rfl, rfl, rfl, rfl, rfl⟩
-- 74: java/lang/Math.abs(I)I
def B_74_0 : List Instr := [.iload 0, .ifCond .ge 1, .iload 0, .ineg, .goto 2]
def B_74_1 : List Instr := [.iload 0, .goto_w 2]
def B_74_2 : List Instr := [.ret 0]
def cd_74 (b : Int) : List Instr := ([B_74_0, B_74_1, B_74_2] : List (List Instr)).getD b.toNat []
theorem kk_74 : cd_74 0 = B_74_0 ∧ cd_74 1 = B_74_1 ∧ cd_74 2 = B_74_2 := ⟨rfl, rfl, rfl⟩
-- 75: ConeForms$Leaf.compute()I
def B_75_0 : List Instr := [.aload 0, .getfield 326, .ret 0]
def cd_75 (b : Int) : List Instr := ([B_75_0] : List (List Instr)).getD b.toNat []
theorem kk_75 : cd_75 0 = B_75_0 := rfl
-- 76: ConeForms$Linear.compute()I
def B_76_0 : List Instr := [.aload 0, .getfield 8512, .getstatic 3, .if_acmp .ne 1, .aload 0, .getfield 8514, .getfield 326, .aload 0, .getfield 8515, .getfield 326, .iadd, .goto 3]
def B_76_1 : List Instr := [.aload 0, .getfield 8512, .getstatic 4, .if_acmp .ne 2, .aload 0, .getfield 8514, .getfield 326, .aload 0, .getfield 8515, .getfield 326, .isub, .goto 3]
def B_76_2 : List Instr := [.aload 0, .getfield 8514, .getfield 326, .ineg, .goto_w 3]
def B_76_3 : List Instr := [.ret 0]
def cd_76 (b : Int) : List Instr := ([B_76_0, B_76_1, B_76_2, B_76_3] : List (List Instr)).getD b.toNat []
theorem kk_76 : cd_76 0 = B_76_0 ∧ cd_76 1 = B_76_1 ∧ cd_76 2 = B_76_2 ∧ cd_76 3 = B_76_3 := ⟨rfl, rfl, rfl, rfl⟩
-- 77: ConeForms$Product.compute()I
def B_77_0 : List Instr := [.aload 0, .getfield 8514, .getfield 326, .aload 0, .getfield 8515, .getfield 326, .imul, .ret 0]
def cd_77 (b : Int) : List Instr := ([B_77_0] : List (List Instr)).getD b.toNat []
theorem kk_77 : cd_77 0 = B_77_0 := rfl
-- 78: java/util/ArrayList.add(Ljava/lang/Object;)Z
def B_78_0 : List Instr := [.aload 0, .dup, .getfield 130, .iconst 1, .iadd, .putfield 130, .aload 0, .aload 1, .aload 0, .getfield 8320, .aload 0, .getfield 129, .multianewarray 50 4, .iconst 1, .ret 1]
def cd_78 (b : Int) : List Instr := ([B_78_0] : List (List Instr)).getD b.toNat []
theorem kk_78 : cd_78 0 = B_78_0 := rfl
-- 79: java/util/ArrayList.add(Ljava/lang/Object;[Ljava/lang/Object;I)V
def B_79_0 : List Instr := [.iload 3, .aload 2, .arraylength, .if_icmp .ne 1, .aload 0, .multianewarray 51 1, .astore 2, .goto_w 1]
def B_79_1 : List Instr := [.aload 2, .iload 3, .aload 1, .aastore, .aload 0, .iload 3, .iconst 1, .iadd, .putfield 129, .return_]
def cd_79 (b : Int) : List Instr := ([B_79_0, B_79_1] : List (List Instr)).getD b.toNat []
theorem kk_79 : cd_79 0 = B_79_0 ∧ cd_79 1 = B_79_1 := ⟨rfl, rfl⟩
-- 80: java/util/ArrayList.grow()[Ljava/lang/Object;
def B_80_0 : List Instr := [.aload 0, .aload 0, .getfield 129, .iconst 1, .iadd, .multianewarray 52 2, .ret 2]
def cd_80 (b : Int) : List Instr := ([B_80_0] : List (List Instr)).getD b.toNat []
theorem kk_80 : cd_80 0 = B_80_0 := rfl
-- 81: java/util/ArrayList.grow(I)[Ljava/lang/Object;
def B_81_0 : List Instr := [.aload 0, .getfield 8320, .arraylength, .istore 2, .iload 2, .ifCond .gt 1, .aload 0, .getfield 8320, .getstatic 12, .if_acmp .eq 2, .goto_w 1]
def B_81_1 : List Instr := [.iload 2, .iload 1, .iload 2, .isub, .iload 2, .iconst 1, .ishr, .invokeinterface 15 3, .istore 3, .aload 0, .aload 0, .getfield 8320, .iload 3, .invokeinterface 82 2, .dup_x1, .putfield 8320, .ret 2]
def B_81_2 : List Instr := [.aload 0, .iconst 10, .iload 1, .invokeinterface 16 2, .anewarray 5, .dup_x1, .putfield 8320, .ret 2]
def cd_81 (b : Int) : List Instr := ([B_81_0, B_81_1, B_81_2] : List (List Instr)).getD b.toNat []
theorem kk_81 : cd_81 0 = B_81_0 ∧ cd_81 1 = B_81_1 ∧ cd_81 2 = B_81_2 := ⟨rfl, rfl, rfl⟩
-- 82: java/util/Arrays.copyOf([Ljava/lang/Object;I)[Ljava/lang/Object;
def B_82_0 : List Instr := [.aload 0, .iload 1, .aload 0, .monitorexit, .invokeinterface 83 3, .ret 2]
def cd_82 (b : Int) : List Instr := ([B_82_0] : List (List Instr)).getD b.toNat []
theorem kk_82 : cd_82 0 = B_82_0 := rfl
-- 83: java/util/Arrays.copyOf([Ljava/lang/Object;ILjava/lang/Class;)[Ljava/lang/Object;
def B_83_0 : List Instr := [.aload 2, .getstatic 13, .if_acmp .ne 1, .iload 1, .anewarray 5, .goto 2]
def B_83_1 : List Instr := [.aload 2, .nop]
def B_83_2 : List Instr := [.astore 3, .aload 0, .iconst 0, .aload 3, .iconst 0, .aload 0, .arraylength, .iload 1, .invokeinterface 18 2, .monitorenter, .aload 3, .ret 2]
def cd_83 (b : Int) : List Instr := ([B_83_0, B_83_1, B_83_2] : List (List Instr)).getD b.toNat []
theorem kk_83 : cd_83 0 = B_83_0 ∧ cd_83 1 = B_83_1 ∧ cd_83 2 = B_83_2 := ⟨rfl, rfl, rfl⟩
-- 84: java/util/ArrayList.remove(I)Ljava/lang/Object;
def B_84_0 : List Instr := [.iload 1, .aload 0, .getfield 129, .invokeinterface 43 2, .pop, .aload 0, .getfield 8320, .astore 2, .aload 2, .iload 1, .aaload, .astore 3, .aload 0, .aload 2, .iload 1, .multianewarray 53 3, .aload 3, .ret 2]
def cd_84 (b : Int) : List Instr := ([B_84_0] : List (List Instr)).getD b.toNat []
theorem kk_84 : cd_84 0 = B_84_0 := rfl
-- 85: java/util/ArrayList.fastRemove([Ljava/lang/Object;I)V
def B_85_0 : List Instr := [.aload 0, .dup, .getfield 130, .iconst 1, .iadd, .putfield 130, .aload 0, .getfield 129, .iconst 1, .isub, .dup, .istore 3, .iload 2, .if_icmp .le 1, .aload 1, .iload 2, .iconst 1, .iadd, .aload 1, .iload 2, .iload 3, .iload 2, .isub, .monitorenter, .goto_w 1]
def B_85_1 : List Instr := [.aload 1, .aload 0, .iload 3, .dup_x1, .putfield 129, .aconst_null, .aastore, .return_]
def cd_85 (b : Int) : List Instr := ([B_85_0, B_85_1] : List (List Instr)).getD b.toNat []
theorem kk_85 : cd_85 0 = B_85_0 ∧ cd_85 1 = B_85_1 := ⟨rfl, rfl⟩
-- 86: ConeForms.nodes()I
def B_86_0 : List Instr := [.aload 0, .getfield 8452, .multianewarray 17 1, .ret 0]
def cd_86 (b : Int) : List Instr := ([B_86_0] : List (List Instr)).getD b.toNat []
theorem kk_86 : cd_86 0 = B_86_0 := rfl
-- 87: ConeForms.attributes(I)I
def B_87_0 : List Instr := [.aload 0, .iload 1, .multianewarray 54 2, .astore 2, .aload 2, .ifnonnull 1, .iconst (-1), .goto 2]
def B_87_1 : List Instr := [.aload 2, .getfield 328, .iconst 4, .aload 2, .getfield 329, .imul, .iadd, .iconst 32, .aload 2, .getfield 330, .imul, .iadd, .goto_w 2]
def B_87_2 : List Instr := [.ret 0]
def cd_87 (b : Int) : List Instr := ([B_87_0, B_87_1, B_87_2] : List (List Instr)).getD b.toNat []
theorem kk_87 : cd_87 0 = B_87_0 ∧ cd_87 1 = B_87_1 ∧ cd_87 2 = B_87_2 := ⟨rfl, rfl, rfl⟩
-- 88: ConeForms.node(I)LConeForms$Node;
def B_88_0 : List Instr := [.iload 1, .ifCond .lt 1, .iload 1, .aload 0, .getfield 8452, .multianewarray 17 1, .if_icmp .lt 2, .goto_w 1]
def B_88_1 : List Instr := [.aconst_null, .goto 3]
def B_88_2 : List Instr := [.aload 0, .getfield 8452, .iload 1, .multianewarray 31 2, .checkcast 0, .goto_w 3]
def B_88_3 : List Instr := [.ret 2]
def cd_88 (b : Int) : List Instr := ([B_88_0, B_88_1, B_88_2, B_88_3] : List (List Instr)).getD b.toNat []
theorem kk_88 : cd_88 0 = B_88_0 ∧ cd_88 1 = B_88_1 ∧ cd_88 2 = B_88_2 ∧ cd_88 3 = B_88_3 := ⟨rfl, rfl, rfl, rfl⟩
-- 89: ConeForms.reach(I)I
def B_89_0 : List Instr := [.aload 0, .iload 1, .multianewarray 54 2, .astore 2, .aload 2, .ifnonnull 1, .iconst 0, .goto 2]
def B_89_1 : List Instr := [.aload 2, .getfield 327, .goto_w 2]
def B_89_2 : List Instr := [.ret 0]
def cd_89 (b : Int) : List Instr := ([B_89_0, B_89_1, B_89_2] : List (List Instr)).getD b.toNat []
theorem kk_89 : cd_89 0 = B_89_0 ∧ cd_89 1 = B_89_1 ∧ cd_89 2 = B_89_2 := ⟨rfl, rfl, rfl⟩
-- 90: ConeForms.value(I)I
def B_90_0 : List Instr := [.aload 0, .iload 1, .multianewarray 54 2, .astore 2, .aload 2, .ifnonnull 1, .iconst 0, .goto 2]
def B_90_1 : List Instr := [.aload 2, .getfield 326, .goto_w 2]
def B_90_2 : List Instr := [.ret 0]
def cd_90 (b : Int) : List Instr := ([B_90_0, B_90_1, B_90_2] : List (List Instr)).getD b.toNat []
theorem kk_90 : cd_90 0 = B_90_0 ∧ cd_90 1 = B_90_1 ∧ cd_90 2 = B_90_2 := ⟨rfl, rfl, rfl⟩
-- 91: ConeForms.set(II)Z
def B_91_0 : List Instr := [.aload 0, .iload 1, .multianewarray 54 2, .astore 3, .aload 3, .ifnonnull 1, .iconst 0, .ret 1]
def B_91_1 : List Instr := [.aload 3, .instanceof 1, .ifCond .eq 4, .aload 3, .getfield 331, .ifCond .lt 2, .iload 2, .iconst 1000000, .invokeinterface 92 2, .ifCond .ne 3, .goto_w 2]
def B_91_2 : List Instr := [.iconst 0, .ret 1]
def B_91_3 : List Instr := [.aload 3, .checkcast 1, .iload 2, .putfield 398, .iconst 1, .ret 1]
def B_91_4 : List Instr := [.aload 3, .getfield 8512, .getstatic 1, .if_acmp .ne 5, .iconst 20, .goto 7]
def B_91_5 : List Instr := [.aload 3, .getfield 8512, .getstatic 2, .if_acmp .ne 6, .iconst 9, .goto 7]
def B_91_6 : List Instr := [.iconst (-1), .goto_w 7]
def B_91_7 : List Instr := [.istore 4, .iload 2, .ifCond .le 8, .iconst 1, .goto 10]
def B_91_8 : List Instr := [.iload 2, .ifCond .ge 9, .iconst 2, .goto 10]
def B_91_9 : List Instr := [.iconst 0, .goto_w 10]
def B_91_10 : List Instr := [.istore 5, .iload 2, .iload 4, .invokeinterface 92 2, .ifCond .eq 11, .aload 3, .getfield 328, .iload 5, .iand, .iload 5, .if_icmp .eq 12, .goto_w 11]
def B_91_11 : List Instr := [.iconst 0, .ret 1]
def B_91_12 : List Instr := [.aload 3, .iload 2, .putfield 326, .iconst 0, .istore 6, .goto_w 13]
def B_91_13 : List Instr := [.iload 6, .aload 0, .getfield 8452, .multianewarray 17 1, .if_icmp .ge 14, .aload 0, .getfield 8452, .iload 6, .multianewarray 31 2, .checkcast 0, .astore 7, .aload 7, .aload 7, .multianewarray 44 1, .putfield 326, .iinc 6 1, .goto 13]
def B_91_14 : List Instr := [.aload 0, .getfield 4362, .ifCond .eq 15, .aload 3, .getfield 8512, .getstatic 2, .if_acmp .ne 15, .aload 0, .multianewarray 55 1, .goto_w 15]
def B_91_15 : List Instr := [.iconst 1, .ret 1]
def cd_91 (b : Int) : List Instr := ([B_91_0, B_91_1, B_91_2, B_91_3, B_91_4, B_91_5, B_91_6, B_91_7, B_91_8, B_91_9, B_91_10, B_91_11, B_91_12, B_91_13, B_91_14, B_91_15] : List (List Instr)).getD b.toNat []
theorem kk_91 : cd_91 0 = B_91_0 ∧ cd_91 1 = B_91_1 ∧ cd_91 2 = B_91_2 ∧ cd_91 3 = B_91_3 ∧ cd_91 4 = B_91_4 ∧ cd_91 5 = B_91_5 ∧ cd_91 6 = B_91_6 ∧ cd_91 7 = B_91_7 ∧ cd_91 8 = B_91_8 ∧ cd_91 9 = B_91_9 ∧ cd_91 10 = B_91_10 ∧ cd_91 11 = B_91_11 ∧ cd_91 12 = B_91_12 ∧ cd_91 13 = B_91_13 ∧ cd_91 14 = B_91_14 ∧ cd_91 15 = B_91_15 := ⟨rfl, rfl, rfl, rfl, rfl, rfl, rfl, rfl, rfl, rfl, rfl, rfl, rfl, rfl, rfl, rfl⟩
-- 92: ConeForms.within(II)Z
def B_92_0 : List Instr := [.iload 0, .iload 1, .ineg, .if_icmp .lt 1, .iload 0, .iload 1, .if_icmp .gt 1, .iconst 1, .goto 2]
def B_92_1 : List Instr := [.iconst 0, .goto_w 2]
def B_92_2 : List Instr := [.ret 1]
def cd_92 (b : Int) : List Instr := ([B_92_0, B_92_1, B_92_2] : List (List Instr)).getD b.toNat []
theorem kk_92 : cd_92 0 = B_92_0 ∧ cd_92 1 = B_92_1 ∧ cd_92 2 = B_92_2 := ⟨rfl, rfl, rfl⟩
-- 93: ConeForms.fill()V
def B_93_0 : List Instr := [.iconst 0, .istore 1, .goto_w 1]
def B_93_1 : List Instr := [.iload 1, .aload 0, .getfield 8452, .multianewarray 17 1, .if_icmp .ge 3, .aload 0, .getfield 8452, .iload 1, .multianewarray 31 2, .checkcast 0, .astore 2, .aload 2, .getfield 4428, .ifCond .eq 2, .aload 2, .aload 0, .getfield 8460, .multianewarray 56 2, .goto_w 2]
def B_93_2 : List Instr := [.iinc 1 1, .goto 1]
def B_93_3 : List Instr := [.aload 0, .getfield 8461, .iconst 111, .multianewarray 57 2, .aload 0, .getfield 8461, .iconst 111, .aload 0, .getfield 8460, .aload 0, .getfield 8454, .getfield 325, .aload 0, .getfield 4359, .ifCond .eq 4, .iconst 1, .goto 5]
def B_93_4 : List Instr := [.iconst (-1), .goto_w 5]
def B_93_5 : List Instr := [.multianewarray 58 5, .aload 0, .iconst 0, .putfield 272, .aload 0, .getfield 8456, .astore 1, .goto_w 6]
def B_93_6 : List Instr := [.aload 1, .ifnull 8, .aload 1, .getfield 4672, .ifCond .eq 7, .aload 0, .aload 1, .getfield 8769, .iconst 1, .aload 1, .getfield 8770, .iconst (-1), .aconst_null, .iconst 0, .iconst 0, .multianewarray 59 8, .goto_w 7]
def B_93_7 : List Instr := [.aload 1, .getfield 8771, .astore 1, .goto 6]
def B_93_8 : List Instr := [.aload 0, .aload 0, .getfield 272, .putfield 270, .aload 0, .getfield 8456, .astore 1, .goto_w 9]
def B_93_9 : List Instr := [.aload 1, .ifnull 11, .aload 1, .getfield 4672, .ifCond .ne 10, .aload 0, .aload 1, .getfield 8770, .iconst 1, .aload 1, .getfield 8769, .iconst (-1), .aconst_null, .iconst 0, .iconst 0, .multianewarray 59 8, .goto_w 10]
def B_93_10 : List Instr := [.aload 1, .getfield 8771, .astore 1, .goto 9]
def B_93_11 : List Instr := [.iconst 0, .istore 1, .goto_w 12]
def B_93_12 : List Instr := [.iload 1, .aload 0, .getfield 8459, .multianewarray 17 1, .if_icmp .ge 13, .aload 0, .aload 0, .getfield 8459, .iload 1, .multianewarray 31 2, .checkcast 0, .multianewarray 60 2, .iinc 1 1, .goto 12]
def B_93_13 : List Instr := [.aload 0, .aload 0, .getfield 272, .aload 0, .getfield 270, .isub, .putfield 271, .iconst 0, .istore 1, .goto_w 14]
def B_93_14 : List Instr := [.iload 1, .aload 0, .getfield 8459, .multianewarray 17 1, .if_icmp .ge 16, .aload 0, .getfield 8459, .iload 1, .multianewarray 31 2, .checkcast 0, .astore 2, .aload 2, .getfield 8512, .getstatic 10, .if_acmp .ne 15, .aload 0, .aload 2, .iconst 1, .aconst_null, .iconst 0, .aconst_null, .iconst 0, .iconst 1, .multianewarray 59 8, .aload 0, .aload 2, .iconst (-1), .aconst_null, .iconst 0, .aconst_null, .iconst 0, .iconst 1, .multianewarray 59 8, .aload 0, .aload 2, .getfield 8514, .iconst 2, .aconst_null, .iconst 0, .aconst_null, .iconst 0, .iconst 0, .multianewarray 59 8, .goto_w 15]
def B_93_15 : List Instr := [.iinc 1 1, .goto 14]
def B_93_16 : List Instr := [.return_]
def cd_93 (b : Int) : List Instr := ([B_93_0, B_93_1, B_93_2, B_93_3, B_93_4, B_93_5, B_93_6, B_93_7, B_93_8, B_93_9, B_93_10, B_93_11, B_93_12, B_93_13, B_93_14, B_93_15, B_93_16] : List (List Instr)).getD b.toNat []
theorem kk_93 : cd_93 0 = B_93_0 ∧ cd_93 1 = B_93_1 ∧ cd_93 2 = B_93_2 ∧ cd_93 3 = B_93_3 ∧ cd_93 4 = B_93_4 ∧ cd_93 5 = B_93_5 ∧ cd_93 6 = B_93_6 ∧ cd_93 7 = B_93_7 ∧ cd_93 8 = B_93_8 ∧ cd_93 9 = B_93_9 ∧ cd_93 10 = B_93_10 ∧ cd_93 11 = B_93_11 ∧ cd_93 12 = B_93_12 ∧ cd_93 13 = B_93_13 ∧ cd_93 14 = B_93_14 ∧ cd_93 15 = B_93_15 ∧ cd_93 16 = B_93_16 := ⟨rfl, rfl, rfl, rfl, rfl, rfl, rfl, rfl, rfl, rfl, rfl, rfl, rfl, rfl, rfl, rfl, rfl⟩
-- 94: ConeForms$Node.expansion(LConeForms$Table;)V
def B_94_0 : List Instr := [.aload 1, .aload 0, .getfield 325, .multianewarray 57 2, .aload 0, .getfield 329, .ifCond .ne 1, .aload 1, .getfield 8385, .aload 0, .getfield 325, .aload 0, .getfield 326, .iastore, .goto 2]
def B_94_1 : List Instr := [.aload 0, .aload 1, .multianewarray 61 2, .goto_w 2]
def B_94_2 : List Instr := [.return_]
def cd_94 (b : Int) : List Instr := ([B_94_0, B_94_1, B_94_2] : List (List Instr)).getD b.toNat []
theorem kk_94 : cd_94 0 = B_94_0 ∧ cd_94 1 = B_94_1 ∧ cd_94 2 = B_94_2 := ⟨rfl, rfl, rfl⟩
-- 95: ConeForms$Table.clear(I)V
def B_95_0 : List Instr := [.iconst 0, .istore 2, .goto_w 1]
def B_95_1 : List Instr := [.iload 2, .iconst 36, .if_icmp .ge 2, .aload 0, .getfield 8384, .iload 1, .iconst 36, .imul, .iload 2, .iadd, .iconst 0, .iastore, .iinc 2 1, .goto 1]
def B_95_2 : List Instr := [.aload 0, .getfield 8385, .iload 1, .iconst 0, .iastore, .return_]
def cd_95 (b : Int) : List Instr := ([B_95_0, B_95_1, B_95_2] : List (List Instr)).getD b.toNat []
theorem kk_95 : cd_95 0 = B_95_0 ∧ cd_95 1 = B_95_1 ∧ cd_95 2 = B_95_2 := ⟨rfl, rfl, rfl⟩
-- 96: ConeForms$Bend.expand(LConeForms$Table;)V
def B_96_0 : List Instr := [.aload 1, .aload 0, .getfield 325, .aload 0, .getfield 325, .iconst 1, .multianewarray 62 4, .return_]
def cd_96 (b : Int) : List Instr := ([B_96_0] : List (List Instr)).getD b.toNat []
theorem kk_96 : cd_96 0 = B_96_0 := rfl
-- 97: ConeForms$Table.put(III)V
def B_97_0 : List Instr := [.aload 0, .getfield 8384, .iload 1, .iconst 36, .imul, .iload 2, .iadd, .iload 3, .iastore, .return_]
def cd_97 (b : Int) : List Instr := ([B_97_0] : List (List Instr)).getD b.toNat []
theorem kk_97 : cd_97 0 = B_97_0 := rfl
-- 98: ConeForms$Leaf.expand(LConeForms$Table;)V
def B_98_0 : List Instr := [.aload 1, .aload 0, .getfield 325, .aload 0, .getfield 325, .iconst 1, .multianewarray 62 4, .return_]
def cd_98 (b : Int) : List Instr := ([B_98_0] : List (List Instr)).getD b.toNat []
theorem kk_98 : cd_98 0 = B_98_0 := rfl
-- 99: ConeForms$Linear.expand(LConeForms$Table;)V
def B_99_0 : List Instr := [.aload 1, .aload 0, .getfield 325, .aload 1, .aload 0, .getfield 8514, .getfield 325, .aload 0, .iconst 1, .multianewarray 63 2, .multianewarray 58 5, .aload 0, .getfield 8515, .ifnull 1, .aload 1, .aload 0, .getfield 325, .aload 1, .aload 0, .getfield 8515, .getfield 325, .aload 0, .iconst 2, .multianewarray 63 2, .multianewarray 58 5, .goto_w 1]
def B_99_1 : List Instr := [.return_]
def cd_99 (b : Int) : List Instr := ([B_99_0, B_99_1] : List (List Instr)).getD b.toNat []
theorem kk_99 : cd_99 0 = B_99_0 ∧ cd_99 1 = B_99_1 := ⟨rfl, rfl⟩
-- 100: ConeForms$Table.add(ILConeForms$Table;II)V
def B_100_0 : List Instr := [.iconst 0, .istore 5, .goto_w 1]
def B_100_1 : List Instr := [.iload 5, .iconst 36, .if_icmp .ge 2, .aload 0, .getfield 8384, .iload 1, .iconst 36, .imul, .iload 5, .iadd, .dup2, .iaload, .iload 4, .aload 2, .getfield 8384, .iload 3, .iconst 36, .imul, .iload 5, .iadd, .iaload, .imul, .iadd, .iastore, .iinc 5 1, .goto 1]
def B_100_2 : List Instr := [.aload 0, .getfield 8385, .iload 1, .dup2, .iaload, .iload 4, .aload 2, .getfield 8385, .iload 3, .iaload, .imul, .iadd, .iastore, .return_]
def cd_100 (b : Int) : List Instr := ([B_100_0, B_100_1, B_100_2] : List (List Instr)).getD b.toNat []
theorem kk_100 : cd_100 0 = B_100_0 ∧ cd_100 1 = B_100_1 ∧ cd_100 2 = B_100_2 := ⟨rfl, rfl, rfl⟩
-- 101: ConeForms$Product.expand(LConeForms$Table;)V
def B_101_0 : List Instr := [.aload 0, .getfield 8514, .getfield 329, .ifCond .ne 1, .aload 1, .aload 0, .getfield 325, .aload 1, .aload 0, .getfield 8515, .getfield 325, .aload 0, .getfield 8514, .getfield 326, .multianewarray 58 5, .goto 2]
def B_101_1 : List Instr := [.aload 1, .aload 0, .getfield 325, .aload 1, .aload 0, .getfield 8514, .getfield 325, .aload 0, .getfield 8515, .getfield 326, .multianewarray 58 5, .goto_w 2]
def B_101_2 : List Instr := [.return_]
def cd_101 (b : Int) : List Instr := ([B_101_0, B_101_1, B_101_2] : List (List Instr)).getD b.toNat []
theorem kk_101 : cd_101 0 = B_101_0 ∧ cd_101 1 = B_101_1 ∧ cd_101 2 = B_101_2 := ⟨rfl, rfl, rfl⟩
-- 102: ConeForms.row(LConeForms$Node;ILConeForms$Node;ILConeForms$Node;II)V
def B_102_0 : List Instr := [.aload 0, .getfield 8461, .aload 0, .getfield 272, .multianewarray 57 2, .aload 0, .getfield 8461, .getfield 8385, .aload 0, .getfield 272, .iload 7, .iastore, .iload 2, .ifCond .eq 1, .aload 0, .getfield 8461, .aload 0, .getfield 272, .aload 0, .getfield 8460, .aload 1, .getfield 325, .iload 2, .multianewarray 58 5, .goto_w 1]
def B_102_1 : List Instr := [.iload 4, .ifCond .eq 2, .aload 0, .getfield 8461, .aload 0, .getfield 272, .aload 0, .getfield 8460, .aload 3, .getfield 325, .iload 4, .multianewarray 58 5, .goto_w 2]
def B_102_2 : List Instr := [.iload 6, .ifCond .eq 3, .aload 0, .getfield 8461, .aload 0, .getfield 272, .aload 0, .getfield 8460, .aload 5, .getfield 325, .iload 6, .multianewarray 58 5, .goto_w 3]
def B_102_3 : List Instr := [.aload 0, .dup, .getfield 272, .iconst 1, .iadd, .putfield 272, .return_]
def cd_102 (b : Int) : List Instr := ([B_102_0, B_102_1, B_102_2, B_102_3] : List (List Instr)).getD b.toNat []
theorem kk_102 : cd_102 0 = B_102_0 ∧ cd_102 1 = B_102_1 ∧ cd_102 2 = B_102_2 ∧ cd_102 3 = B_102_3 := ⟨rfl, rfl, rfl, rfl⟩
-- 103: ConeForms.plain(LConeForms$Node;)V
def B_103_0 : List Instr := [.aload 1, .getfield 8512, .multianewarray 41 1, .tableswitch 6 7 11 #[1, 1, 4, 6, 5]]
def B_103_1 : List Instr := [.aload 1, .getfield 8512, .getstatic 7, .if_acmp .ne 2, .iconst 1, .goto 3]
def B_103_2 : List Instr := [.iconst (-1), .goto_w 3]
def B_103_3 : List Instr := [.istore 2, .aload 0, .aload 1, .iload 2, .aload 1, .getfield 8514, .iload 2, .ineg, .aconst_null, .iconst 0, .iconst 0, .multianewarray 59 8, .aload 0, .aload 1, .iload 2, .aload 1, .getfield 8515, .iload 2, .ineg, .aconst_null, .iconst 0, .iconst 0, .multianewarray 59 8, .goto 6]
def B_103_4 : List Instr := [.aload 0, .aload 1, .iconst 1, .aload 1, .getfield 8514, .iconst (-1), .aconst_null, .iconst 0, .iconst 0, .multianewarray 59 8, .aload 0, .aload 1, .iconst 1, .aload 1, .getfield 8514, .iconst 1, .aconst_null, .iconst 0, .iconst 0, .multianewarray 59 8, .goto 6]
def B_103_5 : List Instr := [.aload 0, .aload 1, .iconst 1, .aload 1, .getfield 8514, .iconst (-1), .aload 1, .getfield 8515, .iconst (-1), .iconst 0, .multianewarray 59 8, .aload 0, .aload 1, .iconst 1, .aload 1, .getfield 8514, .iconst (-1), .aload 1, .getfield 8516, .iconst (-1), .iconst 0, .multianewarray 59 8, .aload 0, .aload 1, .iconst 1, .aload 1, .getfield 8515, .iconst (-1), .aload 1, .getfield 8516, .iconst (-1), .iconst 0, .multianewarray 59 8, .goto 6]
def B_103_6 : List Instr := [.return_]
def cd_103 (b : Int) : List Instr := ([B_103_0, B_103_1, B_103_2, B_103_3, B_103_4, B_103_5, B_103_6] : List (List Instr)).getD b.toNat []
theorem kk_103 : cd_103 0 = B_103_0 ∧ cd_103 1 = B_103_1 ∧ cd_103 2 = B_103_2 ∧ cd_103 3 = B_103_3 ∧ cd_103 4 = B_103_4 ∧ cd_103 5 = B_103_5 ∧ cd_103 6 = B_103_6 := ⟨rfl, rfl, rfl, rfl, rfl, rfl, rfl⟩
-- 104: ConeForms.culprit(I)I
def B_104_0 : List Instr := [.aload 0, .iload 1, .multianewarray 54 2, .astore 2, .aload 2, .ifnonnull 1, .iconst (-2), .ret 0]
def B_104_1 : List Instr := [.aload 0, .aload 2, .multianewarray 64 2, .astore 3, .aload 3, .ifnonnull 2, .iconst (-1), .goto 3]
def B_104_2 : List Instr := [.aload 3, .getfield 325, .goto_w 3]
def B_104_3 : List Instr := [.ret 0]
def cd_104 (b : Int) : List Instr := ([B_104_0, B_104_1, B_104_2, B_104_3] : List (List Instr)).getD b.toNat []
theorem kk_104 : cd_104 0 = B_104_0 ∧ cd_104 1 = B_104_1 ∧ cd_104 2 = B_104_2 ∧ cd_104 3 = B_104_3 := ⟨rfl, rfl, rfl, rfl⟩
-- 105: ConeForms.culpritOf(LConeForms$Node;)LConeForms$Node;
def B_105_0 : List Instr := [.iconst 0, .istore 2, .goto_w 1]
def B_105_1 : List Instr := [.iload 2, .aload 0, .getfield 8452, .multianewarray 17 1, .if_icmp .ge 2, .aload 0, .getfield 8452, .iload 2, .multianewarray 31 2, .checkcast 0, .iconst 0, .putfield 4429, .iinc 2 1, .goto 1]
def B_105_2 : List Instr := [.aload 1, .iconst 1, .invokeinterface 106 2, .ret 2]
def cd_105 (b : Int) : List Instr := ([B_105_0, B_105_1, B_105_2] : List (List Instr)).getD b.toNat []
theorem kk_105 : cd_105 0 = B_105_0 ∧ cd_105 1 = B_105_1 ∧ cd_105 2 = B_105_2 := ⟨rfl, rfl, rfl⟩
-- 106: ConeForms.offender(LConeForms$Node;I)LConeForms$Node;
def B_106_0 : List Instr := [.aload 0, .ifnull 1, .aload 0, .getfield 4429, .ifCond .ne 1, .iload 1, .iconst 36, .if_icmp .le 2, .goto_w 1]
def B_106_1 : List Instr := [.aconst_null, .ret 2]
def B_106_2 : List Instr := [.aload 0, .iconst 1, .putfield 4429, .aload 0, .getfield 8514, .iload 1, .iconst 1, .iadd, .invokeinterface 106 2, .astore 2, .aload 2, .ifnonnull 3, .aload 0, .getfield 8515, .iload 1, .iconst 1, .iadd, .invokeinterface 106 2, .goto 4]
def B_106_3 : List Instr := [.aload 2, .goto_w 4]
def B_106_4 : List Instr := [.astore 2, .aload 2, .ifnonnull 5, .aload 0, .getfield 8516, .iload 1, .iconst 1, .iadd, .invokeinterface 106 2, .goto 6]
def B_106_5 : List Instr := [.aload 2, .goto_w 6]
def B_106_6 : List Instr := [.astore 2, .aload 2, .ifnonnull 7, .aload 0, .getfield 330, .ifCond .le 7, .aload 0, .goto 8]
def B_106_7 : List Instr := [.aload 2, .goto_w 8]
def B_106_8 : List Instr := [.ret 2]
def cd_106 (b : Int) : List Instr := ([B_106_0, B_106_1, B_106_2, B_106_3, B_106_4, B_106_5, B_106_6, B_106_7, B_106_8] : List (List Instr)).getD b.toNat []
theorem kk_106 : cd_106 0 = B_106_0 ∧ cd_106 1 = B_106_1 ∧ cd_106 2 = B_106_2 ∧ cd_106 3 = B_106_3 ∧ cd_106 4 = B_106_4 ∧ cd_106 5 = B_106_5 ∧ cd_106 6 = B_106_6 ∧ cd_106 7 = B_106_7 ∧ cd_106 8 = B_106_8 := ⟨rfl, rfl, rfl, rfl, rfl, rfl, rfl, rfl, rfl⟩
-- 107: ConeForms.objective(IZ)Z
def B_107_0 : List Instr := [.aload 0, .iload 1, .multianewarray 54 2, .astore 3, .aload 3, .ifnonnull 1, .iconst 0, .ret 1]
def B_107_1 : List Instr := [.aload 0, .aload 3, .putfield 8454, .aload 0, .iload 2, .putfield 4359, .aload 0, .multianewarray 65 1, .iconst 1, .ret 1]
def cd_107 (b : Int) : List Instr := ([B_107_0, B_107_1] : List (List Instr)).getD b.toNat []
theorem kk_107 : cd_107 0 = B_107_0 ∧ cd_107 1 = B_107_1 := ⟨rfl, rfl⟩
-- 108: ConeForms.drop()V
def B_108_0 : List Instr := [.aload 0, .iconst 0, .putfield 4362, .aload 0, .getfield 8459, .multianewarray 66 1, .iconst 0, .istore 1, .goto_w 1]
def B_108_1 : List Instr := [.iload 1, .aload 0, .getfield 8452, .multianewarray 17 1, .if_icmp .ge 2, .aload 0, .getfield 8452, .iload 1, .multianewarray 31 2, .checkcast 0, .astore 2, .aload 2, .iconst 0, .putfield 4428, .aload 2, .iconst (-1), .putfield 331, .iinc 1 1, .goto 1]
def B_108_2 : List Instr := [.return_]
def cd_108 (b : Int) : List Instr := ([B_108_0, B_108_1, B_108_2] : List (List Instr)).getD b.toNat []
theorem kk_108 : cd_108 0 = B_108_0 ∧ cd_108 1 = B_108_1 ∧ cd_108 2 = B_108_2 := ⟨rfl, rfl, rfl⟩
-- 109: java/util/ArrayList.clear()V
def B_109_0 : List Instr := [.aload 0, .dup, .getfield 130, .iconst 1, .iadd, .putfield 130, .aload 0, .getfield 8320, .astore 1, .aload 0, .getfield 129, .istore 2, .aload 0, .iconst 0, .dup_x1, .putfield 129, .istore 3, .goto_w 1]
def B_109_1 : List Instr := [.iload 3, .iload 2, .if_icmp .ge 2, .aload 1, .iload 3, .aconst_null, .aastore, .iinc 3 1, .goto 1]
def B_109_2 : List Instr := [.return_]
def cd_109 (b : Int) : List Instr := ([B_109_0, B_109_1, B_109_2] : List (List Instr)).getD b.toNat []
theorem kk_109 : cd_109 0 = B_109_0 ∧ cd_109 1 = B_109_1 ∧ cd_109 2 = B_109_2 := ⟨rfl, rfl, rfl⟩
-- 110: ConeForms.require(ZII)Z
def B_110_0 : List Instr := [.aload 0, .iload 2, .multianewarray 54 2, .astore 4, .aload 0, .iload 3, .multianewarray 54 2, .astore 5, .aload 4, .ifnull 1, .aload 5, .ifnull 1, .aload 0, .getfield 265, .iconst 6, .if_icmp .lt 2, .goto_w 1]
def B_110_1 : List Instr := [.iconst 0, .ret 1]
def B_110_2 : List Instr := [.new 9, .dup, .iload 1, .aload 4, .aload 5, .multianewarray 67 4, .astore 6, .aload 0, .getfield 8456, .ifnonnull 3, .aload 0, .aload 6, .putfield 8456, .goto 6]
def B_110_3 : List Instr := [.aload 0, .getfield 8456, .astore 7, .goto_w 4]
def B_110_4 : List Instr := [.aload 7, .getfield 8771, .ifnull 5, .aload 7, .getfield 8771, .astore 7, .goto 4]
def B_110_5 : List Instr := [.aload 7, .aload 6, .putfield 8771, .goto_w 6]
def B_110_6 : List Instr := [.aload 0, .dup, .getfield 265, .iconst 1, .iadd, .putfield 265, .aload 0, .multianewarray 65 1, .iconst 1, .ret 1]
def cd_110 (b : Int) : List Instr := ([B_110_0, B_110_1, B_110_2, B_110_3, B_110_4, B_110_5, B_110_6] : List (List Instr)).getD b.toNat []
theorem kk_110 : cd_110 0 = B_110_0 ∧ cd_110 1 = B_110_1 ∧ cd_110 2 = B_110_2 ∧ cd_110 3 = B_110_3 ∧ cd_110 4 = B_110_4 ∧ cd_110 5 = B_110_5 ∧ cd_110 6 = B_110_6 := ⟨rfl, rfl, rfl, rfl, rfl, rfl, rfl⟩
-- 111: ConeForms$Requirement.<init>(ZLConeForms$Node;LConeForms$Node;)V
def B_111_0 : List Instr := [.aload 0, .swap, .aload 0, .iload 1, .putfield 4672, .aload 0, .aload 2, .putfield 8769, .aload 0, .aload 3, .putfield 8770, .return_]
def cd_111 (b : Int) : List Instr := ([B_111_0] : List (List Instr)).getD b.toNat []
theorem kk_111 : cd_111 0 = B_111_0 := rfl
-- 112: ConeForms.withdraw(I)Z
def B_112_0 : List Instr := [.iload 1, .ifCond .lt 1, .iload 1, .aload 0, .getfield 265, .if_icmp .lt 2, .goto_w 1]
def B_112_1 : List Instr := [.iconst 0, .ret 1]
def B_112_2 : List Instr := [.iload 1, .ifCond .ne 3, .aload 0, .aload 0, .getfield 8456, .getfield 8771, .putfield 8456, .goto 6]
def B_112_3 : List Instr := [.aload 0, .getfield 8456, .astore 2, .iconst 1, .istore 3, .goto_w 4]
def B_112_4 : List Instr := [.iload 3, .iload 1, .if_icmp .ge 5, .aload 2, .getfield 8771, .astore 2, .iinc 3 1, .goto 4]
def B_112_5 : List Instr := [.aload 2, .aload 2, .getfield 8771, .getfield 8771, .putfield 8771, .goto_w 6]
def B_112_6 : List Instr := [.aload 0, .dup, .getfield 265, .iconst 1, .isub, .putfield 265, .aload 0, .multianewarray 65 1, .iconst 1, .ret 1]
def cd_112 (b : Int) : List Instr := ([B_112_0, B_112_1, B_112_2, B_112_3, B_112_4, B_112_5, B_112_6] : List (List Instr)).getD b.toNat []
theorem kk_112 : cd_112 0 = B_112_0 ∧ cd_112 1 = B_112_1 ∧ cd_112 2 = B_112_2 ∧ cd_112 3 = B_112_3 ∧ cd_112 4 = B_112_4 ∧ cd_112 5 = B_112_5 ∧ cd_112 6 = B_112_6 := ⟨rfl, rfl, rfl, rfl, rfl, rfl, rfl⟩
-- 113: ConeForms.compile()I
def B_113_0 : List Instr := [.aload 0, .getfield 8454, .ifnonnull 1, .iconst (-1), .ret 0]
def B_113_1 : List Instr := [.aload 0, .multianewarray 68 1, .astore 1, .aload 1, .ifnull 2, .iconst (-2), .aload 1, .getfield 325, .isub, .ret 0]
def B_113_2 : List Instr := [.aload 0, .multianewarray 65 1, .aload 0, .multianewarray 69 1, .iconst 0, .istore 2, .goto_w 3]
def B_113_3 : List Instr := [.iload 2, .aload 0, .getfield 8452, .multianewarray 17 1, .if_icmp .ge 5, .aload 0, .getfield 8452, .iload 2, .multianewarray 31 2, .checkcast 0, .astore 3, .aload 3, .getfield 4428, .ifCond .eq 4, .aload 3, .getfield 8512, .getstatic 1, .if_acmp .ne 4, .aload 0, .aload 3, .multianewarray 70 2, .goto_w 4]
def B_113_4 : List Instr := [.iinc 2 1, .goto 3]
def B_113_5 : List Instr := [.iconst 0, .istore 2, .goto_w 6]
def B_113_6 : List Instr := [.iload 2, .aload 0, .getfield 8452, .multianewarray 17 1, .if_icmp .ge 8, .aload 0, .getfield 8452, .iload 2, .multianewarray 31 2, .checkcast 0, .astore 3, .aload 3, .getfield 4428, .ifCond .eq 7, .aload 3, .getfield 329, .ifCond .eq 7, .aload 3, .instanceof 1, .ifCond .eq 7, .aload 0, .aload 3, .multianewarray 70 2, .aload 3, .checkcast 1, .iconst 0, .putfield 398, .goto_w 7]
def B_113_7 : List Instr := [.iinc 2 1, .goto 6]
def B_113_8 : List Instr := [.aload 0, .iconst 1, .putfield 4362, .aload 0, .multianewarray 55 1, .aload 0, .getfield 8459, .multianewarray 17 1, .ret 0]
def cd_113 (b : Int) : List Instr := ([B_113_0, B_113_1, B_113_2, B_113_3, B_113_4, B_113_5, B_113_6, B_113_7, B_113_8] : List (List Instr)).getD b.toNat []
theorem kk_113 : cd_113 0 = B_113_0 ∧ cd_113 1 = B_113_1 ∧ cd_113 2 = B_113_2 ∧ cd_113 3 = B_113_3 ∧ cd_113 4 = B_113_4 ∧ cd_113 5 = B_113_5 ∧ cd_113 6 = B_113_6 ∧ cd_113 7 = B_113_7 ∧ cd_113 8 = B_113_8 := ⟨rfl, rfl, rfl, rfl, rfl, rfl, rfl, rfl, rfl⟩
-- 114: ConeForms.wrongPart()LConeForms$Node;
def B_114_0 : List Instr := [.aload 0, .aload 0, .getfield 8454, .aload 0, .getfield 4359, .ifCond .eq 1, .iconst 2, .goto 2]
def B_114_1 : List Instr := [.iconst 3, .goto_w 2]
def B_114_2 : List Instr := [.multianewarray 71 3, .astore 1, .aload 0, .getfield 8456, .astore 2, .goto_w 3]
def B_114_3 : List Instr := [.aload 2, .ifnull 9, .aload 1, .ifnonnull 9, .aload 0, .aload 2, .getfield 8769, .aload 2, .getfield 4672, .ifCond .eq 4, .iconst 1, .goto 5]
def B_114_4 : List Instr := [.iconst 2, .goto_w 5]
def B_114_5 : List Instr := [.multianewarray 71 3, .astore 1, .aload 1, .ifnonnull 8, .aload 0, .aload 2, .getfield 8770, .aload 2, .getfield 4672, .ifCond .eq 6, .iconst 1, .goto 7]
def B_114_6 : List Instr := [.iconst 3, .goto_w 7]
def B_114_7 : List Instr := [.multianewarray 71 3, .astore 1, .goto_w 8]
def B_114_8 : List Instr := [.aload 2, .getfield 8771, .astore 2, .goto 3]
def B_114_9 : List Instr := [.aload 1, .ret 2]
def cd_114 (b : Int) : List Instr := ([B_114_0, B_114_1, B_114_2, B_114_3, B_114_4, B_114_5, B_114_6, B_114_7, B_114_8, B_114_9] : List (List Instr)).getD b.toNat []
theorem kk_114 : cd_114 0 = B_114_0 ∧ cd_114 1 = B_114_1 ∧ cd_114 2 = B_114_2 ∧ cd_114 3 = B_114_3 ∧ cd_114 4 = B_114_4 ∧ cd_114 5 = B_114_5 ∧ cd_114 6 = B_114_6 ∧ cd_114 7 = B_114_7 ∧ cd_114 8 = B_114_8 ∧ cd_114 9 = B_114_9 := ⟨rfl, rfl, rfl, rfl, rfl, rfl, rfl, rfl, rfl, rfl⟩
-- 115: ConeForms.wrong(LConeForms$Node;I)LConeForms$Node;
def B_115_0 : List Instr := [.aload 1, .getfield 329, .iconst 1, .if_icmp .le 1, .aload 1, .getfield 329, .iload 2, .if_icmp .ne 2, .goto_w 1]
def B_115_1 : List Instr := [.aconst_null, .ret 2]
def B_115_2 : List Instr := [.aload 1, .getfield 329, .iconst 4, .if_icmp .ne 3, .aload 0, .aload 1, .multianewarray 64 2, .goto 4]
def B_115_3 : List Instr := [.aload 1, .goto_w 4]
def B_115_4 : List Instr := [.ret 2]
def cd_115 (b : Int) : List Instr := ([B_115_0, B_115_1, B_115_2, B_115_3, B_115_4] : List (List Instr)).getD b.toNat []
theorem kk_115 : cd_115 0 = B_115_0 ∧ cd_115 1 = B_115_1 ∧ cd_115 2 = B_115_2 ∧ cd_115 3 = B_115_3 ∧ cd_115 4 = B_115_4 := ⟨rfl, rfl, rfl, rfl, rfl⟩
-- 116: ConeForms.use()V
def B_116_0 : List Instr := [.aload 0, .getfield 8454, .iconst 1, .putfield 4428, .aload 0, .getfield 8456, .astore 1, .goto_w 1]
def B_116_1 : List Instr := [.aload 1, .ifnull 2, .aload 1, .getfield 8769, .iconst 1, .putfield 4428, .aload 1, .getfield 8770, .iconst 1, .putfield 4428, .aload 1, .getfield 8771, .astore 1, .goto 1]
def B_116_2 : List Instr := [.aload 0, .getfield 8452, .multianewarray 17 1, .iconst 1, .isub, .istore 1, .goto_w 3]
def B_116_3 : List Instr := [.iload 1, .ifCond .lt 6, .aload 0, .getfield 8452, .iload 1, .multianewarray 31 2, .checkcast 0, .astore 2, .iconst 1, .istore 3, .goto_w 4]
def B_116_4 : List Instr := [.aload 2, .getfield 4428, .ifCond .eq 5, .iload 3, .aload 2, .getfield 8512, .getfield 768, .if_icmp .gt 5, .aload 2, .iload 3, .multianewarray 46 2, .iconst 1, .putfield 4428, .iinc 3 1, .goto 4]
def B_116_5 : List Instr := [.iinc 1 (-1), .goto 3]
def B_116_6 : List Instr := [.return_]
def cd_116 (b : Int) : List Instr := ([B_116_0, B_116_1, B_116_2, B_116_3, B_116_4, B_116_5, B_116_6] : List (List Instr)).getD b.toNat []
theorem kk_116 : cd_116 0 = B_116_0 ∧ cd_116 1 = B_116_1 ∧ cd_116 2 = B_116_2 ∧ cd_116 3 = B_116_3 ∧ cd_116 4 = B_116_4 ∧ cd_116 5 = B_116_5 ∧ cd_116 6 = B_116_6 := ⟨rfl, rfl, rfl, rfl, rfl, rfl, rfl⟩
-- 117: ConeForms.number(LConeForms$Node;)V
def B_117_0 : List Instr := [.aload 1, .aload 0, .getfield 8459, .multianewarray 17 1, .putfield 331, .aload 0, .getfield 8459, .aload 1, .multianewarray 45 2, .pop, .return_]
def cd_117 (b : Int) : List Instr := ([B_117_0] : List (List Instr)).getD b.toNat []
theorem kk_117 : cd_117 0 = B_117_0 := rfl
-- 118: ConeForms.rows(I)I
def B_118_0 : List Instr := [.aload 0, .getfield 4362, .ifCond .eq 1, .iload 1, .ifCond .lt 1, .iload 1, .iconst 2, .if_icmp .le 2, .goto_w 1]
def B_118_1 : List Instr := [.iconst 0, .ret 0]
def B_118_2 : List Instr := [.iload 1, .ifCond .ne 3, .aload 0, .getfield 270, .goto 5]
def B_118_3 : List Instr := [.iload 1, .iconst 1, .if_icmp .ne 4, .aload 0, .getfield 271, .goto 5]
def B_118_4 : List Instr := [.aload 0, .getfield 272, .aload 0, .getfield 270, .isub, .aload 0, .getfield 271, .isub, .goto_w 5]
def B_118_5 : List Instr := [.ret 0]
def cd_118 (b : Int) : List Instr := ([B_118_0, B_118_1, B_118_2, B_118_3, B_118_4, B_118_5] : List (List Instr)).getD b.toNat []
theorem kk_118 : cd_118 0 = B_118_0 ∧ cd_118 1 = B_118_1 ∧ cd_118 2 = B_118_2 ∧ cd_118 3 = B_118_3 ∧ cd_118 4 = B_118_4 ∧ cd_118 5 = B_118_5 := ⟨rfl, rfl, rfl, rfl, rfl, rfl⟩
-- 119: ConeForms.entry(II)I
def B_119_0 : List Instr := [.aload 0, .getfield 4362, .ifCond .eq 1, .iload 1, .iconst (-1), .if_icmp .lt 1, .iload 1, .aload 0, .getfield 272, .if_icmp .ge 1, .iload 2, .iconst (-1), .if_icmp .lt 1, .iload 2, .aload 0, .getfield 8459, .multianewarray 17 1, .if_icmp .lt 2, .goto_w 1]
def B_119_1 : List Instr := [.iconst 0, .ret 0]
def B_119_2 : List Instr := [.iload 1, .ifCond .ge 3, .iconst 111, .goto 4]
def B_119_3 : List Instr := [.iload 1, .goto_w 4]
def B_119_4 : List Instr := [.istore 3, .iload 2, .ifCond .ge 5, .aload 0, .getfield 8461, .getfield 8385, .iload 3, .iaload, .goto 6]
def B_119_5 : List Instr := [.aload 0, .getfield 8461, .iload 3, .aload 0, .getfield 8459, .iload 2, .multianewarray 31 2, .checkcast 0, .getfield 325, .multianewarray 72 3, .goto_w 6]
def B_119_6 : List Instr := [.ret 0]
def cd_119 (b : Int) : List Instr := ([B_119_0, B_119_1, B_119_2, B_119_3, B_119_4, B_119_5, B_119_6] : List (List Instr)).getD b.toNat []
theorem kk_119 : cd_119 0 = B_119_0 ∧ cd_119 1 = B_119_1 ∧ cd_119 2 = B_119_2 ∧ cd_119 3 = B_119_3 ∧ cd_119 4 = B_119_4 ∧ cd_119 5 = B_119_5 ∧ cd_119 6 = B_119_6 := ⟨rfl, rfl, rfl, rfl, rfl, rfl, rfl⟩
-- 120: ConeForms$Table.get(II)I
def B_120_0 : List Instr := [.aload 0, .getfield 8384, .iload 1, .iconst 36, .imul, .iload 2, .iadd, .iaload, .ret 0]
def cd_120 (b : Int) : List Instr := ([B_120_0] : List (List Instr)).getD b.toNat []
theorem kk_120 : cd_120 0 = B_120_0 := rfl
-- 121: ConeForms.column(I)I
def B_121_0 : List Instr := [.aload 0, .iload 1, .multianewarray 54 2, .astore 2, .aload 2, .ifnonnull 1, .iconst (-1), .goto 2]
def B_121_1 : List Instr := [.aload 2, .getfield 331, .goto_w 2]
def B_121_2 : List Instr := [.ret 0]
def cd_121 (b : Int) : List Instr := ([B_121_0, B_121_1, B_121_2] : List (List Instr)).getD b.toNat []
theorem kk_121 : cd_121 0 = B_121_0 ∧ cd_121 1 = B_121_1 ∧ cd_121 2 = B_121_2 := ⟨rfl, rfl, rfl⟩
-- 122: ConeForms.lift()Z
def B_122_0 : List Instr := [.aload 0, .getfield 8459, .multianewarray 73 1, .astore 1, .goto_w 1]
def B_122_1 : List Instr := [.aload 1, .multianewarray 74 1, .ifCond .eq 3, .aload 1, .multianewarray 75 1, .checkcast 0, .astore 2, .aload 2, .instanceof 1, .ifCond .eq 2, .aload 2, .checkcast 1, .aload 2, .getfield 326, .putfield 398, .goto_w 2]
def B_122_2 : List Instr := [.goto 1]
def B_122_3 : List Instr := [.aload 0, .getfield 4362, .ret 1]
def cd_122 (b : Int) : List Instr := ([B_122_0, B_122_1, B_122_2, B_122_3] : List (List Instr)).getD b.toNat []
theorem kk_122 : cd_122 0 = B_122_0 ∧ cd_122 1 = B_122_1 ∧ cd_122 2 = B_122_2 ∧ cd_122 3 = B_122_3 := ⟨rfl, rfl, rfl, rfl⟩
-- 123: java/util/ArrayList.iterator()Ljava/util/Iterator;
def B_123_0 : List Instr := [.new 10, .dup, .aload 0, .multianewarray 76 2, .ret 2]
def cd_123 (b : Int) : List Instr := ([B_123_0] : List (List Instr)).getD b.toNat []
theorem kk_123 : cd_123 0 = B_123_0 := rfl
-- 124: java/util/ArrayList$Itr.<init>(Ljava/util/ArrayList;)V
def B_124_0 : List Instr := [.aload 0, .aload 1, .putfield 8835, .aload 0, .swap, .aload 0, .iconst (-1), .putfield 641, .aload 0, .aload 0, .getfield 8835, .getfield 130, .putfield 642, .return_]
def cd_124 (b : Int) : List Instr := ([B_124_0] : List (List Instr)).getD b.toNat []
theorem kk_124 : cd_124 0 = B_124_0 := rfl
-- 125: java/util/ArrayList$Itr.hasNext()Z
def B_125_0 : List Instr := [.aload 0, .getfield 640, .aload 0, .getfield 8835, .getfield 129, .if_icmp .eq 1, .iconst 1, .goto 2]
def B_125_1 : List Instr := [.iconst 0, .goto_w 2]
def B_125_2 : List Instr := [.ret 1]
def cd_125 (b : Int) : List Instr := ([B_125_0, B_125_1, B_125_2] : List (List Instr)).getD b.toNat []
theorem kk_125 : cd_125 0 = B_125_0 ∧ cd_125 1 = B_125_1 ∧ cd_125 2 = B_125_2 := ⟨rfl, rfl, rfl⟩
-- 126: java/util/ArrayList$Itr.next()Ljava/lang/Object;
def B_126_0 : List Instr := [.aload 0, .multianewarray 77 1, .aload 0, .getfield 640, .istore 1, .iload 1, .aload 0, .getfield 8835, .getfield 129, .if_icmp .lt 1, .nop]
def B_126_1 : List Instr := [.aload 0, .getfield 8835, .getfield 8320, .astore 2, .iload 1, .aload 2, .arraylength, .if_icmp .lt 2, .nop]
def B_126_2 : List Instr := [.aload 0, .iload 1, .iconst 1, .iadd, .putfield 640, .aload 2, .aload 0, .iload 1, .dup_x1, .putfield 641, .aaload, .ret 2]
def cd_126 (b : Int) : List Instr := ([B_126_0, B_126_1, B_126_2] : List (List Instr)).getD b.toNat []
theorem kk_126 : cd_126 0 = B_126_0 ∧ cd_126 1 = B_126_1 ∧ cd_126 2 = B_126_2 := ⟨rfl, rfl, rfl⟩
-- 127: java/util/ArrayList$Itr.checkForComodification()V
def B_127_0 : List Instr := [.aload 0, .getfield 8835, .getfield 130, .aload 0, .getfield 642, .if_icmp .eq 1, .nop]
def B_127_1 : List Instr := [.return_]
def cd_127 (b : Int) : List Instr := ([B_127_0, B_127_1] : List (List Instr)).getD b.toNat []
theorem kk_127 : cd_127 0 = B_127_0 ∧ cd_127 1 = B_127_1 := ⟨rfl, rfl⟩
-- 128: ConeForms.fits()Z
def B_128_0 : List Instr := [.aload 0, .getfield 270, .aload 0, .getfield 271, .iadd, .istore 1, .aload 0, .getfield 4362, .istore 2, .iconst 0, .istore 3, .goto_w 1]
def B_128_1 : List Instr := [.iload 3, .iload 1, .if_icmp .ge 6, .iload 2, .ifCond .eq 6, .aload 0, .iload 3, .multianewarray 78 2, .lstore 4, .iload 3, .aload 0, .getfield 270, .if_icmp .ge 3, .lload 4, .jsr_w 0, .lcmp, .ifCond .ne 2, .iconst 1, .goto 5]
def B_128_2 : List Instr := [.iconst 0, .goto 5]
def B_128_3 : List Instr := [.lload 4, .jsr_w 0, .lcmp, .ifCond .lt 4, .iconst 1, .goto 5]
def B_128_4 : List Instr := [.iconst 0, .goto_w 5]
def B_128_5 : List Instr := [.istore 2, .iinc 3 1, .goto 1]
def B_128_6 : List Instr := [.iload 1, .istore 3, .goto_w 7]
def B_128_7 : List Instr := [.iload 3, .aload 0, .getfield 272, .if_icmp .ge 10, .iload 2, .ifCond .eq 10, .aload 0, .iload 3, .multianewarray 78 2, .lstore 4, .aload 0, .iload 3, .iconst 1, .iadd, .multianewarray 78 2, .invokeinterface 133 1, .lstore 6, .aload 0, .iload 3, .iconst 2, .iadd, .multianewarray 78 2, .invokeinterface 133 1, .lstore 8, .lload 6, .lload 4, .lcmp, .ifCond .gt 8, .lload 8, .lload 4, .lcmp, .ifCond .gt 8, .lload 6, .lload 6, .lmul, .lload 8, .lload 8, .lmul, .ladd, .lload 4, .lload 4, .lmul, .lcmp, .ifCond .gt 8, .iconst 1, .goto 9]
def B_128_8 : List Instr := [.iconst 0, .goto_w 9]
def B_128_9 : List Instr := [.istore 2, .iinc 3 3, .goto 7]
def B_128_10 : List Instr := [.iload 2, .ret 1]
def cd_128 (b : Int) : List Instr := ([B_128_0, B_128_1, B_128_2, B_128_3, B_128_4, B_128_5, B_128_6, B_128_7, B_128_8, B_128_9, B_128_10] : List (List Instr)).getD b.toNat []
theorem kk_128 : cd_128 0 = B_128_0 ∧ cd_128 1 = B_128_1 ∧ cd_128 2 = B_128_2 ∧ cd_128 3 = B_128_3 ∧ cd_128 4 = B_128_4 ∧ cd_128 5 = B_128_5 ∧ cd_128 6 = B_128_6 ∧ cd_128 7 = B_128_7 ∧ cd_128 8 = B_128_8 ∧ cd_128 9 = B_128_9 ∧ cd_128 10 = B_128_10 := ⟨rfl, rfl, rfl, rfl, rfl, rfl, rfl, rfl, rfl, rfl, rfl⟩
-- 129: ConeForms.worth(I)J
def B_129_0 : List Instr := [.aload 0, .getfield 8461, .iload 1, .aload 0, .getfield 8459, .multianewarray 79 3, .lreturn]
def cd_129 (b : Int) : List Instr := ([B_129_0] : List (List Instr)).getD b.toNat []
theorem kk_129 : cd_129 0 = B_129_0 := rfl
-- 130: ConeForms$Table.worth(ILjava/util/ArrayList;)J
def B_130_0 : List Instr := [.aload 0, .getfield 8385, .iload 1, .iaload, .i2l, .lstore 3, .iconst 0, .istore 5, .goto_w 1]
def B_130_1 : List Instr := [.iload 5, .aload 2, .multianewarray 17 1, .if_icmp .ge 2, .aload 2, .iload 5, .multianewarray 31 2, .checkcast 0, .astore 6, .lload 3, .aload 0, .iload 1, .aload 6, .getfield 325, .multianewarray 72 3, .i2l, .aload 6, .multianewarray 80 1, .i2l, .lmul, .ladd, .lstore 3, .iinc 5 1, .goto 1]
def B_130_2 : List Instr := [.lload 3, .lreturn]
def cd_130 (b : Int) : List Instr := ([B_130_0, B_130_1, B_130_2] : List (List Instr)).getD b.toNat []
theorem kk_130 : cd_130 0 = B_130_0 ∧ cd_130 1 = B_130_1 ∧ cd_130 2 = B_130_2 := ⟨rfl, rfl, rfl⟩
-- 131: ConeForms$Bend.standing()I
def B_131_0 : List Instr := [.aload 0, .getfield 398, .ret 0]
def cd_131 (b : Int) : List Instr := ([B_131_0] : List (List Instr)).getD b.toNat []
theorem kk_131 : cd_131 0 = B_131_0 := rfl
-- 132: ConeForms$Node.standing()I
def B_132_0 : List Instr := [.aload 0, .getfield 326, .ret 0]
def cd_132 (b : Int) : List Instr := ([B_132_0] : List (List Instr)).getD b.toNat []
theorem kk_132 : cd_132 0 = B_132_0 := rfl
-- 133: java/lang/Math.abs(J)J
def B_133_0 : List Instr := [.lload 0, .jsr_w 0, .lcmp, .ifCond .ge 1, .lload 0, .lneg, .goto 2]
def B_133_1 : List Instr := [.lload 0, .goto_w 2]
def B_133_2 : List Instr := [.lreturn]
def cd_133 (b : Int) : List Instr := ([B_133_0, B_133_1, B_133_2] : List (List Instr)).getD b.toNat []
theorem kk_133 : cd_133 0 = B_133_0 ∧ cd_133 1 = B_133_1 ∧ cd_133 2 = B_133_2 := ⟨rfl, rfl, rfl⟩
-- 134: ConeForms.cost()J
def B_134_0 : List Instr := [.aload 0, .getfield 4362, .ifCond .eq 1, .aload 0, .iconst 111, .multianewarray 78 2, .goto 2]
def B_134_1 : List Instr := [.jsr_w 0, .goto_w 2]
def B_134_2 : List Instr := [.lreturn]
def cd_134 (b : Int) : List Instr := ([B_134_0, B_134_1, B_134_2] : List (List Instr)).getD b.toNat []
theorem kk_134 : cd_134 0 = B_134_0 ∧ cd_134 1 = B_134_1 ∧ cd_134 2 = B_134_2 := ⟨rfl, rfl, rfl⟩
-- 135: ConeForms.feasible()Z
def B_135_0 : List Instr := [.iconst 1, .istore 1, .aload 0, .getfield 8456, .astore 2, .goto_w 1]
def B_135_1 : List Instr := [.aload 2, .ifnull 2, .iload 1, .ifCond .eq 2, .aload 2, .multianewarray 81 1, .istore 1, .aload 2, .getfield 8771, .astore 2, .goto 1]
def B_135_2 : List Instr := [.iload 1, .ret 1]
def cd_135 (b : Int) : List Instr := ([B_135_0, B_135_1, B_135_2] : List (List Instr)).getD b.toNat []
theorem kk_135 : cd_135 0 = B_135_0 ∧ cd_135 1 = B_135_1 ∧ cd_135 2 = B_135_2 := ⟨rfl, rfl, rfl⟩
-- 136: ConeForms$Requirement.holds()Z
def B_136_0 : List Instr := [.aload 0, .getfield 4672, .ifCond .eq 2, .aload 0, .getfield 8769, .getfield 326, .aload 0, .getfield 8770, .getfield 326, .if_icmp .ne 1, .iconst 1, .goto 4]
def B_136_1 : List Instr := [.iconst 0, .goto 4]
def B_136_2 : List Instr := [.aload 0, .getfield 8769, .getfield 326, .aload 0, .getfield 8770, .getfield 326, .if_icmp .gt 3, .iconst 1, .goto 4]
def B_136_3 : List Instr := [.iconst 0, .goto_w 4]
def B_136_4 : List Instr := [.ret 1]
def cd_136 (b : Int) : List Instr := ([B_136_0, B_136_1, B_136_2, B_136_3, B_136_4] : List (List Instr)).getD b.toNat []
theorem kk_136 : cd_136 0 = B_136_0 ∧ cd_136 1 = B_136_1 ∧ cd_136 2 = B_136_2 ∧ cd_136 3 = B_136_3 ∧ cd_136 4 = B_136_4 := ⟨rfl, rfl, rfl, rfl, rfl⟩
-- 137: ConeFormsModel.<init>()V
def B_137_0 : List Instr := [.aload 0, .swap, .aload 0, .iconst 20, .anewarray 0, .putfield 8896, .aload 0, .iconst 20, .anewarray 0, .putfield 8902, .aload 0, .iconst 20, .anewarray 0, .putfield 8903, .aload 0, .iconst 20, .anewarray 0, .putfield 8905, .aload 0, .iconst 20, .anewarray 0, .putfield 8906, .aload 0, .iconst 20, .anewarray 0, .putfield 8907, .aload 0, .iconst 36, .anewarray 0, .putfield 8909, .aload 0, .iconst 36, .anewarray 0, .putfield 8910, .aload 0, .iconst 108, .anewarray 0, .putfield 8911, .aload 0, .iconst 36, .anewarray 1, .putfield 8912, .aload 0, .iconst 36, .anewarray 0, .putfield 8913, .aload 0, .iconst 36, .anewarray 2, .putfield 8914, .aload 0, .iconst 36, .anewarray 2, .putfield 8915, .aload 0, .iconst 36, .anewarray 0, .putfield 8916, .aload 0, .iconst 36, .anewarray 0, .putfield 8917, .aload 0, .iconst 36, .anewarray 0, .putfield 8918, .aload 0, .iconst 36, .anewarray 2, .putfield 8919, .aload 0, .iconst 36, .anewarray 2, .putfield 8920, .aload 0, .iconst 36, .anewarray 0, .putfield 8921, .aload 0, .iconst 36, .anewarray 0, .putfield 8922, .aload 0, .iconst 36, .anewarray 1, .putfield 8923, .aload 0, .iconst (-1), .putfield 732, .aload 0, .iconst 6, .anewarray 2, .putfield 8927, .aload 0, .iconst 6, .anewarray 0, .putfield 8928, .aload 0, .iconst 6, .anewarray 0, .putfield 8929, .aload 0, .iconst 36, .anewarray 0, .putfield 8931, .return_]
def cd_137 (b : Int) : List Instr := ([B_137_0] : List (List Instr)).getD b.toNat []
theorem kk_137 : cd_137 0 = B_137_0 := rfl
-- 138: ConeFormsModel.type(C)Z
def B_138_0 : List Instr := [.iload 1, .iconst 33, .if_icmp .lt 1, .iload 1, .iconst 126, .if_icmp .gt 1, .aload 0, .getfield 705, .iconst 20, .if_icmp .ne 2, .goto_w 1]
def B_138_1 : List Instr := [.iconst 0, .ret 1]
def B_138_2 : List Instr := [.aload 0, .getfield 8896, .aload 0, .getfield 705, .iload 1, .iastore, .aload 0, .dup, .getfield 705, .iconst 1, .iadd, .putfield 705, .iconst 1, .ret 1]
def cd_138 (b : Int) : List Instr := ([B_138_0, B_138_1, B_138_2] : List (List Instr)).getD b.toNat []
theorem kk_138 : cd_138 0 = B_138_0 ∧ cd_138 1 = B_138_1 ∧ cd_138 2 = B_138_2 := ⟨rfl, rfl, rfl⟩
-- 139: ConeFormsModel.wipe()V
def B_139_0 : List Instr := [.aload 0, .iconst 0, .putfield 705, .return_]
def cd_139 (b : Int) : List Instr := ([B_139_0] : List (List Instr)).getD b.toNat []
theorem kk_139 : cd_139 0 = B_139_0 := rfl
-- 140: ConeFormsModel.read()I
def B_140_0 : List Instr := [.aload 0, .multianewarray 82 1, .istore 1, .iload 1, .ifCond .lt 1, .iconst (-1), .iload 1, .isub, .ret 0]
def B_140_1 : List Instr := [.aload 0, .getfield 716, .istore 2, .aload 0, .iload 2, .multianewarray 83 2, .istore 3, .iload 3, .ifCond .ge 2, .aload 0, .iload 2, .putfield 716, .iload 3, .ret 0]
def B_140_2 : List Instr := [.aload 0, .iconst 0, .putfield 705, .iload 3, .ret 0]
def cd_140 (b : Int) : List Instr := ([B_140_0, B_140_1, B_140_2] : List (List Instr)).getD b.toNat []
theorem kk_140 : cd_140 0 = B_140_0 ∧ cd_140 1 = B_140_1 ∧ cd_140 2 = B_140_2 := ⟨rfl, rfl, rfl⟩
-- 141: ConeFormsModel.parse()I
def B_141_0 : List Instr := [.aload 0, .iconst 0, .putfield 706, .aload 0, .iconst 0, .putfield 709, .aload 0, .iconst 0, .putfield 712, .iconst 0, .istore 1, .goto_w 1]
def B_141_1 : List Instr := [.iload 1, .aload 0, .getfield 705, .if_icmp .ge 3, .aload 0, .aload 0, .getfield 8896, .iload 1, .iaload, .multianewarray 84 2, .ifCond .ne 2, .iload 1, .ret 0]
def B_141_2 : List Instr := [.iinc 1 1, .goto 1]
def B_141_3 : List Instr := [.aload 0, .getfield 706, .ifCond .eq 4, .aload 0, .getfield 706, .iconst 3, .if_icmp .eq 4, .aload 0, .getfield 706, .iconst 5, .if_icmp .ne 5, .goto_w 4]
def B_141_4 : List Instr := [.aload 0, .getfield 705, .ret 0]
def B_141_5 : List Instr := [.aload 0, .iconst 1, .multianewarray 85 2, .aload 0, .getfield 709, .ifCond .le 6, .aload 0, .getfield 705, .goto 7]
def B_141_6 : List Instr := [.iconst (-1), .goto_w 7]
def B_141_7 : List Instr := [.ret 0]
def cd_141 (b : Int) : List Instr := ([B_141_0, B_141_1, B_141_2, B_141_3, B_141_4, B_141_5, B_141_6, B_141_7] : List (List Instr)).getD b.toNat []
theorem kk_141 : cd_141 0 = B_141_0 ∧ cd_141 1 = B_141_1 ∧ cd_141 2 = B_141_2 ∧ cd_141 3 = B_141_3 ∧ cd_141 4 = B_141_4 ∧ cd_141 5 = B_141_5 ∧ cd_141 6 = B_141_6 ∧ cd_141 7 = B_141_7 := ⟨rfl, rfl, rfl, rfl, rfl, rfl, rfl, rfl⟩
-- 142: ConeFormsModel.accept(I)Z
def B_142_0 : List Instr := [.iload 1, .iconst 48, .if_icmp .lt 1, .iload 1, .iconst 57, .if_icmp .gt 1, .iconst 1, .goto 2]
def B_142_1 : List Instr := [.iconst 0, .goto_w 2]
def B_142_2 : List Instr := [.istore 2, .aload 0, .getfield 706, .iconst 5, .if_icmp .ne 5, .aload 0, .iconst 0, .putfield 706, .iload 1, .iconst 40, .if_icmp .ne 3, .iconst 1, .goto 4]
def B_142_3 : List Instr := [.iconst 0, .goto_w 4]
def B_142_4 : List Instr := [.ret 1]
def B_142_5 : List Instr := [.aload 0, .getfield 706, .iconst 3, .if_icmp .ne 6, .aload 0, .iconst 12, .iload 1, .iconst 48, .isub, .multianewarray 86 3, .aload 0, .iconst 1, .putfield 707, .aload 0, .iconst 4, .putfield 706, .iload 2, .ret 1]
def B_142_6 : List Instr := [.iload 2, .ifCond .eq 12, .aload 0, .getfield 706, .iconst 2, .if_icmp .eq 7, .aload 0, .getfield 706, .iconst 4, .if_icmp .ne 12, .goto_w 7]
def B_142_7 : List Instr := [.aload 0, .getfield 8906, .aload 0, .getfield 708, .aload 0, .getfield 8906, .aload 0, .getfield 708, .iaload, .iconst 10, .imul, .iload 1, .iadd, .iconst 48, .isub, .iastore, .aload 0, .dup, .getfield 707, .iconst 1, .iadd, .putfield 707, .aload 0, .getfield 707, .aload 0, .getfield 706, .iconst 2, .if_icmp .ne 8, .iconst 3, .goto 9]
def B_142_8 : List Instr := [.iconst 2, .goto_w 9]
def B_142_9 : List Instr := [.if_icmp .gt 10, .iconst 1, .goto 11]
def B_142_10 : List Instr := [.iconst 0, .goto_w 11]
def B_142_11 : List Instr := [.ret 1]
def B_142_12 : List Instr := [.aload 0, .getfield 706, .ifCond .ne 13, .aload 0, .iload 1, .multianewarray 87 2, .goto 14]
def B_142_13 : List Instr := [.aload 0, .iload 1, .multianewarray 88 2, .goto_w 14]
def B_142_14 : List Instr := [.ret 1]
def cd_142 (b : Int) : List Instr := ([B_142_0, B_142_1, B_142_2, B_142_3, B_142_4, B_142_5, B_142_6, B_142_7, B_142_8, B_142_9, B_142_10, B_142_11, B_142_12, B_142_13, B_142_14] : List (List Instr)).getD b.toNat []
theorem kk_142 : cd_142 0 = B_142_0 ∧ cd_142 1 = B_142_1 ∧ cd_142 2 = B_142_2 ∧ cd_142 3 = B_142_3 ∧ cd_142 4 = B_142_4 ∧ cd_142 5 = B_142_5 ∧ cd_142 6 = B_142_6 ∧ cd_142 7 = B_142_7 ∧ cd_142 8 = B_142_8 ∧ cd_142 9 = B_142_9 ∧ cd_142 10 = B_142_10 ∧ cd_142 11 = B_142_11 ∧ cd_142 12 = B_142_12 ∧ cd_142 13 = B_142_13 ∧ cd_142 14 = B_142_14 := ⟨rfl, rfl, rfl, rfl, rfl, rfl, rfl, rfl, rfl, rfl, rfl, rfl, rfl, rfl, rfl⟩
-- 143: ConeFormsModel.operand(II)V
def B_143_0 : List Instr := [.aload 0, .aload 0, .getfield 712, .putfield 708, .aload 0, .iload 1, .iload 2, .multianewarray 89 3, .aload 0, .multianewarray 90 1, .return_]
def cd_143 (b : Int) : List Instr := ([B_143_0] : List (List Instr)).getD b.toNat []
theorem kk_143 : cd_143 0 = B_143_0 := rfl
-- 144: ConeFormsModel.emit(II)V
def B_144_0 : List Instr := [.aload 0, .getfield 8905, .aload 0, .getfield 712, .iload 1, .iastore, .aload 0, .getfield 8906, .aload 0, .getfield 712, .iload 2, .iastore, .aload 0, .dup, .getfield 712, .iconst 1, .iadd, .putfield 712, .return_]
def cd_144 (b : Int) : List Instr := ([B_144_0] : List (List Instr)).getD b.toNat []
theorem kk_144 : cd_144 0 = B_144_0 := rfl
-- 145: ConeFormsModel.negations()V
def B_145_0 : List Instr := [.aload 0, .getfield 709, .ifCond .le 1, .aload 0, .getfield 8902, .aload 0, .getfield 709, .iconst 1, .isub, .iaload, .iconst 126, .if_icmp .ne 1, .aload 0, .dup, .getfield 709, .iconst 1, .isub, .putfield 709, .aload 0, .iconst 5, .iconst 0, .multianewarray 89 3, .goto 0]
def B_145_1 : List Instr := [.return_]
def cd_145 (b : Int) : List Instr := ([B_145_0, B_145_1] : List (List Instr)).getD b.toNat []
theorem kk_145 : cd_145 0 = B_145_0 ∧ cd_145 1 = B_145_1 := ⟨rfl, rfl⟩
-- 146: ConeFormsModel.begin(I)Z
def B_146_0 : List Instr := [.iload 1, .iconst 48, .if_icmp .lt 1, .iload 1, .iconst 57, .if_icmp .gt 1, .aload 0, .iconst 0, .iload 1, .iconst 48, .isub, .multianewarray 86 3, .aload 0, .iconst 1, .putfield 707, .aload 0, .iconst 2, .putfield 706, .iconst 1, .ret 1]
def B_146_1 : List Instr := [.iload 1, .iconst 117, .if_icmp .lt 2, .iload 1, .iconst 122, .if_icmp .le 3, .goto_w 2]
def B_146_2 : List Instr := [.iload 1, .iconst 112, .if_icmp .lt 6, .iload 1, .iconst 114, .if_icmp .gt 6, .goto_w 3]
def B_146_3 : List Instr := [.aload 0, .iload 1, .iconst 117, .if_icmp .lt 4, .iconst 1, .goto 5]
def B_146_4 : List Instr := [.iconst 2, .goto_w 5]
def B_146_5 : List Instr := [.iload 1, .multianewarray 86 3, .aload 0, .iconst 1, .putfield 706, .iconst 1, .ret 1]
def B_146_6 : List Instr := [.iload 1, .iconst 35, .if_icmp .ne 7, .aload 0, .iconst 3, .putfield 706, .iconst 1, .ret 1]
def B_146_7 : List Instr := [.iload 1, .iconst 45, .if_icmp .eq 8, .iload 1, .iconst 40, .if_icmp .ne 11, .goto_w 8]
def B_146_8 : List Instr := [.aload 0, .iload 1, .iconst 45, .if_icmp .ne 9, .iconst 126, .goto 10]
def B_146_9 : List Instr := [.iconst 40, .goto_w 10]
def B_146_10 : List Instr := [.multianewarray 91 2, .iconst 1, .ret 1]
def B_146_11 : List Instr := [.iload 1, .iconst 65, .if_icmp .eq 12, .iload 1, .iconst 83, .if_icmp .eq 12, .iload 1, .iconst 77, .if_icmp .eq 12, .iload 1, .iconst 76, .if_icmp .eq 12, .iload 1, .iconst 80, .if_icmp .ne 13, .goto_w 12]
def B_146_12 : List Instr := [.aload 0, .iload 1, .multianewarray 91 2, .aload 0, .iconst 5, .putfield 706, .iconst 1, .ret 1]
def B_146_13 : List Instr := [.iconst 0, .ret 1]
def cd_146 (b : Int) : List Instr := ([B_146_0, B_146_1, B_146_2, B_146_3, B_146_4, B_146_5, B_146_6, B_146_7, B_146_8, B_146_9, B_146_10, B_146_11, B_146_12, B_146_13] : List (List Instr)).getD b.toNat []
theorem kk_146 : cd_146 0 = B_146_0 ∧ cd_146 1 = B_146_1 ∧ cd_146 2 = B_146_2 ∧ cd_146 3 = B_146_3 ∧ cd_146 4 = B_146_4 ∧ cd_146 5 = B_146_5 ∧ cd_146 6 = B_146_6 ∧ cd_146 7 = B_146_7 ∧ cd_146 8 = B_146_8 ∧ cd_146 9 = B_146_9 ∧ cd_146 10 = B_146_10 ∧ cd_146 11 = B_146_11 ∧ cd_146 12 = B_146_12 ∧ cd_146 13 = B_146_13 := ⟨rfl, rfl, rfl, rfl, rfl, rfl, rfl, rfl, rfl, rfl, rfl, rfl, rfl, rfl⟩
-- 147: ConeFormsModel.open(I)V
def B_147_0 : List Instr := [.aload 0, .getfield 8902, .aload 0, .getfield 709, .iload 1, .iastore, .aload 0, .getfield 8903, .aload 0, .getfield 709, .iconst 0, .iastore, .aload 0, .dup, .getfield 709, .iconst 1, .iadd, .putfield 709, .return_]
def cd_147 (b : Int) : List Instr := ([B_147_0] : List (List Instr)).getD b.toNat []
theorem kk_147 : cd_147 0 = B_147_0 := rfl
-- 148: ConeFormsModel.follow(I)Z
def B_148_0 : List Instr := [.iload 1, .iconst 43, .if_icmp .eq 1, .iload 1, .iconst 45, .if_icmp .eq 1, .iload 1, .iconst 42, .if_icmp .ne 4, .goto_w 1]
def B_148_1 : List Instr := [.aload 0, .iload 1, .iconst 42, .if_icmp .eq 2, .iconst 1, .goto 3]
def B_148_2 : List Instr := [.iconst 0, .goto_w 3]
def B_148_3 : List Instr := [.multianewarray 85 2, .aload 0, .iload 1, .multianewarray 91 2, .aload 0, .iconst 0, .putfield 706, .iconst 1, .ret 1]
def B_148_4 : List Instr := [.iload 1, .iconst 44, .if_icmp .eq 5, .iload 1, .iconst 41, .if_icmp .eq 5, .iconst 0, .ret 1]
def B_148_5 : List Instr := [.aload 0, .iconst 1, .multianewarray 85 2, .aload 0, .getfield 709, .ifCond .ne 6, .iconst 0, .ret 1]
def B_148_6 : List Instr := [.aload 0, .getfield 8902, .aload 0, .getfield 709, .iconst 1, .isub, .iaload, .istore 2, .aload 0, .getfield 8903, .aload 0, .getfield 709, .iconst 1, .isub, .iaload, .iload 2, .invokeinterface 150 1, .if_icmp .ne 7, .iconst 1, .goto 8]
def B_148_7 : List Instr := [.iconst 0, .goto_w 8]
def B_148_8 : List Instr := [.istore 3, .iload 3, .iload 1, .iconst 41, .if_icmp .ne 9, .iconst 1, .goto 10]
def B_148_9 : List Instr := [.iconst 0, .goto_w 10]
def B_148_10 : List Instr := [.if_icmp .eq 11, .iconst 0, .ret 1]
def B_148_11 : List Instr := [.iload 1, .iconst 44, .if_icmp .ne 12, .aload 0, .getfield 8903, .aload 0, .getfield 709, .iconst 1, .isub, .dup2, .iaload, .iconst 1, .iadd, .iastore, .aload 0, .iconst 0, .putfield 706, .iconst 1, .ret 1]
def B_148_12 : List Instr := [.aload 0, .dup, .getfield 709, .iconst 1, .isub, .putfield 709, .iload 2, .iconst 40, .if_icmp .eq 18, .aload 0, .iload 2, .iconst 65, .if_icmp .ne 13, .iconst 9, .goto 17]
def B_148_13 : List Instr := [.iload 2, .iconst 83, .if_icmp .ne 14, .iconst 10, .goto 17]
def B_148_14 : List Instr := [.iload 2, .iconst 77, .if_icmp .ne 15, .iconst 7, .goto 17]
def B_148_15 : List Instr := [.iload 2, .iconst 76, .if_icmp .ne 16, .iconst 8, .goto 17]
def B_148_16 : List Instr := [.iconst 11, .goto_w 17]
def B_148_17 : List Instr := [.iconst 0, .multianewarray 89 3, .goto_w 18]
def B_148_18 : List Instr := [.aload 0, .multianewarray 90 1, .aload 0, .iconst 1, .putfield 706, .iconst 1, .ret 1]
def cd_148 (b : Int) : List Instr := ([B_148_0, B_148_1, B_148_2, B_148_3, B_148_4, B_148_5, B_148_6, B_148_7, B_148_8, B_148_9, B_148_10, B_148_11, B_148_12, B_148_13, B_148_14, B_148_15, B_148_16, B_148_17, B_148_18] : List (List Instr)).getD b.toNat []
theorem kk_148 : cd_148 0 = B_148_0 ∧ cd_148 1 = B_148_1 ∧ cd_148 2 = B_148_2 ∧ cd_148 3 = B_148_3 ∧ cd_148 4 = B_148_4 ∧ cd_148 5 = B_148_5 ∧ cd_148 6 = B_148_6 ∧ cd_148 7 = B_148_7 ∧ cd_148 8 = B_148_8 ∧ cd_148 9 = B_148_9 ∧ cd_148 10 = B_148_10 ∧ cd_148 11 = B_148_11 ∧ cd_148 12 = B_148_12 ∧ cd_148 13 = B_148_13 ∧ cd_148 14 = B_148_14 ∧ cd_148 15 = B_148_15 ∧ cd_148 16 = B_148_16 ∧ cd_148 17 = B_148_17 ∧ cd_148 18 = B_148_18 := ⟨rfl, rfl, rfl, rfl, rfl, rfl, rfl, rfl, rfl, rfl, rfl, rfl, rfl, rfl, rfl, rfl, rfl, rfl, rfl⟩
-- 149: ConeFormsModel.unwind(Z)V
def B_149_0 : List Instr := [.aload 0, .getfield 709, .ifCond .le 5, .aload 0, .getfield 8902, .aload 0, .getfield 709, .iconst 1, .isub, .iaload, .iconst 42, .if_icmp .eq 1, .iload 1, .ifCond .eq 5, .aload 0, .getfield 8902, .aload 0, .getfield 709, .iconst 1, .isub, .iaload, .iconst 43, .if_icmp .eq 1, .aload 0, .getfield 8902, .aload 0, .getfield 709, .iconst 1, .isub, .iaload, .iconst 45, .if_icmp .ne 5, .goto_w 1]
def B_149_1 : List Instr := [.aload 0, .dup, .getfield 709, .iconst 1, .isub, .putfield 709, .aload 0, .aload 0, .getfield 8902, .aload 0, .getfield 709, .iaload, .iconst 42, .if_icmp .ne 2, .iconst 6, .goto 4]
def B_149_2 : List Instr := [.aload 0, .getfield 8902, .aload 0, .getfield 709, .iaload, .iconst 43, .if_icmp .ne 3, .iconst 3, .goto 4]
def B_149_3 : List Instr := [.iconst 4, .goto_w 4]
def B_149_4 : List Instr := [.iconst 0, .multianewarray 89 3, .goto 0]
def B_149_5 : List Instr := [.return_]
def cd_149 (b : Int) : List Instr := ([B_149_0, B_149_1, B_149_2, B_149_3, B_149_4, B_149_5] : List (List Instr)).getD b.toNat []
theorem kk_149 : cd_149 0 = B_149_0 ∧ cd_149 1 = B_149_1 ∧ cd_149 2 = B_149_2 ∧ cd_149 3 = B_149_3 ∧ cd_149 4 = B_149_4 ∧ cd_149 5 = B_149_5 := ⟨rfl, rfl, rfl, rfl, rfl, rfl⟩
-- 150: ConeFormsModel.commasOf(I)I
def B_150_0 : List Instr := [.iload 0, .iconst 77, .if_icmp .eq 1, .iload 0, .iconst 76, .if_icmp .ne 2, .goto_w 1]
def B_150_1 : List Instr := [.iconst 1, .goto 4]
def B_150_2 : List Instr := [.iload 0, .iconst 80, .if_icmp .ne 3, .iconst 2, .goto 4]
def B_150_3 : List Instr := [.iconst 0, .goto_w 4]
def B_150_4 : List Instr := [.ret 0]
def cd_150 (b : Int) : List Instr := ([B_150_0, B_150_1, B_150_2, B_150_3, B_150_4] : List (List Instr)).getD b.toNat []
theorem kk_150 : cd_150 0 = B_150_0 ∧ cd_150 1 = B_150_1 ∧ cd_150 2 = B_150_2 ∧ cd_150 3 = B_150_3 ∧ cd_150 4 = B_150_4 := ⟨rfl, rfl, rfl, rfl, rfl⟩
-- 151: ConeFormsModel.build(I)I
def B_151_0 : List Instr := [.iconst 0, .istore 2, .iconst 0, .istore 3, .goto_w 1]
def B_151_1 : List Instr := [.iload 3, .aload 0, .getfield 712, .if_icmp .ge 14, .aload 0, .getfield 8905, .iload 3, .iaload, .invokeinterface 152 1, .istore 4, .iload 2, .iload 4, .isub, .istore 2, .iload 4, .ifCond .le 2, .aload 0, .getfield 8907, .iload 2, .iaload, .goto 3]
def B_151_2 : List Instr := [.iconst (-1), .goto_w 3]
def B_151_3 : List Instr := [.istore 5, .iload 4, .iconst 1, .if_icmp .le 4, .aload 0, .getfield 8907, .iload 2, .iconst 1, .iadd, .iaload, .goto 5]
def B_151_4 : List Instr := [.iconst (-1), .goto_w 5]
def B_151_5 : List Instr := [.istore 6, .iload 4, .iconst 2, .if_icmp .le 6, .aload 0, .getfield 8907, .iload 2, .iconst 2, .iadd, .iaload, .goto 7]
def B_151_6 : List Instr := [.iconst (-1), .goto_w 7]
def B_151_7 : List Instr := [.istore 7, .aload 0, .getfield 8905, .iload 3, .iaload, .iconst 12, .if_icmp .ne 8, .iconst 1, .goto 9]
def B_151_8 : List Instr := [.iconst 0, .goto_w 9]
def B_151_9 : List Instr := [.istore 8, .iload 8, .ifCond .eq 11, .aload 0, .getfield 8906, .iload 3, .iaload, .iload 1, .if_icmp .ge 10, .aload 0, .getfield 8906, .iload 3, .iaload, .goto 12]
def B_151_10 : List Instr := [.iconst (-100), .goto 12]
def B_151_11 : List Instr := [.aload 0, .aload 0, .getfield 8905, .iload 3, .iaload, .aload 0, .getfield 8906, .iload 3, .iaload, .iload 5, .iload 6, .iload 7, .multianewarray 92 6, .goto_w 12]
def B_151_12 : List Instr := [.istore 9, .iload 9, .ifCond .ge 13, .iload 9, .ret 0]
def B_151_13 : List Instr := [.aload 0, .getfield 8907, .iload 2, .iload 9, .iastore, .iinc 2 1, .iinc 3 1, .goto 1]
def B_151_14 : List Instr := [.aload 0, .getfield 8907, .iconst 0, .iaload, .ret 0]
def cd_151 (b : Int) : List Instr := ([B_151_0, B_151_1, B_151_2, B_151_3, B_151_4, B_151_5, B_151_6, B_151_7, B_151_8, B_151_9, B_151_10, B_151_11, B_151_12, B_151_13, B_151_14] : List (List Instr)).getD b.toNat []
theorem kk_151 : cd_151 0 = B_151_0 ∧ cd_151 1 = B_151_1 ∧ cd_151 2 = B_151_2 ∧ cd_151 3 = B_151_3 ∧ cd_151 4 = B_151_4 ∧ cd_151 5 = B_151_5 ∧ cd_151 6 = B_151_6 ∧ cd_151 7 = B_151_7 ∧ cd_151 8 = B_151_8 ∧ cd_151 9 = B_151_9 ∧ cd_151 10 = B_151_10 ∧ cd_151 11 = B_151_11 ∧ cd_151 12 = B_151_12 ∧ cd_151 13 = B_151_13 ∧ cd_151 14 = B_151_14 := ⟨rfl, rfl, rfl, rfl, rfl, rfl, rfl, rfl, rfl, rfl, rfl, rfl, rfl, rfl, rfl⟩
-- 152: ConeFormsModel.arity(I)I
def B_152_0 : List Instr := [.iload 0, .iconst 3, .if_icmp .lt 1, .iload 0, .iconst 12, .if_icmp .ne 2, .goto_w 1]
def B_152_1 : List Instr := [.iconst 0, .goto 6]
def B_152_2 : List Instr := [.iload 0, .iconst 11, .if_icmp .ne 3, .iconst 3, .goto 6]
def B_152_3 : List Instr := [.iload 0, .iconst 5, .if_icmp .eq 4, .iload 0, .iconst 9, .if_icmp .eq 4, .iload 0, .iconst 10, .if_icmp .ne 5, .goto_w 4]
def B_152_4 : List Instr := [.iconst 1, .goto 6]
def B_152_5 : List Instr := [.iconst 2, .goto_w 6]
def B_152_6 : List Instr := [.ret 0]
def cd_152 (b : Int) : List Instr := ([B_152_0, B_152_1, B_152_2, B_152_3, B_152_4, B_152_5, B_152_6] : List (List Instr)).getD b.toNat []
theorem kk_152 : cd_152 0 = B_152_0 ∧ cd_152 1 = B_152_1 ∧ cd_152 2 = B_152_2 ∧ cd_152 3 = B_152_3 ∧ cd_152 4 = B_152_4 ∧ cd_152 5 = B_152_5 ∧ cd_152 6 = B_152_6 := ⟨rfl, rfl, rfl, rfl, rfl, rfl, rfl⟩
-- 153: ConeFormsModel.make(IIIII)I
def B_153_0 : List Instr := [.iconst 0, .istore 6, .goto_w 1]
def B_153_1 : List Instr := [.iload 6, .aload 0, .getfield 716, .if_icmp .ge 3, .aload 0, .getfield 8909, .iload 6, .iaload, .iload 1, .if_icmp .ne 2, .aload 0, .getfield 8910, .iload 6, .iaload, .iload 2, .if_icmp .ne 2, .aload 0, .getfield 8911, .iconst 3, .iload 6, .imul, .iaload, .iload 3, .if_icmp .ne 2, .aload 0, .getfield 8911, .iconst 3, .iload 6, .imul, .iconst 1, .iadd, .iaload, .iload 4, .if_icmp .ne 2, .aload 0, .getfield 8911, .iconst 3, .iload 6, .imul, .iconst 2, .iadd, .iaload, .iload 5, .if_icmp .ne 2, .iload 6, .ret 0]
def B_153_2 : List Instr := [.iinc 6 1, .goto 1]
def B_153_3 : List Instr := [.aload 0, .iload 1, .iload 2, .iload 3, .iload 4, .iload 5, .multianewarray 93 6, .lstore 6, .lload 6, .jsr_w 1000000, .lcmp, .ifCond .le 4, .iconst (-101), .ret 0]
def B_153_4 : List Instr := [.aload 0, .getfield 716, .iconst 36, .if_icmp .ne 5, .iconst (-102), .ret 0]
def B_153_5 : List Instr := [.aload 0, .getfield 8909, .aload 0, .getfield 716, .iload 1, .iastore, .aload 0, .getfield 8910, .aload 0, .getfield 716, .iload 2, .iastore, .aload 0, .getfield 8911, .iconst 3, .aload 0, .getfield 716, .imul, .iload 3, .iastore, .aload 0, .getfield 8911, .iconst 3, .aload 0, .getfield 716, .imul, .iconst 1, .iadd, .iload 4, .iastore, .aload 0, .getfield 8911, .iconst 3, .aload 0, .getfield 716, .imul, .iconst 2, .iadd, .iload 5, .iastore, .aload 0, .getfield 8912, .aload 0, .getfield 716, .lload 6, .lastore, .aload 0, .getfield 8913, .aload 0, .getfield 716, .iconst 0, .iastore, .aload 0, .getfield 8931, .aload 0, .getfield 716, .iconst 0, .iastore, .aload 0, .dup, .getfield 716, .iconst 1, .iadd, .putfield 716, .aload 0, .getfield 716, .iconst 1, .isub, .ret 0]
def cd_153 (b : Int) : List Instr := ([B_153_0, B_153_1, B_153_2, B_153_3, B_153_4, B_153_5] : List (List Instr)).getD b.toNat []
theorem kk_153 : cd_153 0 = B_153_0 ∧ cd_153 1 = B_153_1 ∧ cd_153 2 = B_153_2 ∧ cd_153 3 = B_153_3 ∧ cd_153 4 = B_153_4 ∧ cd_153 5 = B_153_5 := ⟨rfl, rfl, rfl, rfl, rfl, rfl⟩
-- 154: ConeFormsModel.reachOf(IIIII)J
def B_154_0 : List Instr := [.iload 1, .tableswitch 13 0 11 #[1, 4, 5, 6, 6, 13, 7, 8, 8, 13, 11, 12]]
def B_154_1 : List Instr := [.iload 2, .iconst 1, .if_icmp .le 2, .iload 2, .i2l, .goto 3]
def B_154_2 : List Instr := [.jsr_w 1, .goto_w 3]
def B_154_3 : List Instr := [.lreturn]
def B_154_4 : List Instr := [.jsr_w 20, .lreturn]
def B_154_5 : List Instr := [.jsr_w 9, .lreturn]
def B_154_6 : List Instr := [.aload 0, .getfield 8912, .iload 3, .laload, .aload 0, .getfield 8912, .iload 4, .laload, .ladd, .lreturn]
def B_154_7 : List Instr := [.aload 0, .getfield 8912, .iload 3, .laload, .aload 0, .getfield 8912, .iload 4, .laload, .lmul, .lreturn]
def B_154_8 : List Instr := [.aload 0, .getfield 8912, .iload 3, .laload, .aload 0, .getfield 8912, .iload 4, .laload, .lcmp, .ifCond .le 9, .aload 0, .getfield 8912, .iload 3, .laload, .goto 10]
def B_154_9 : List Instr := [.aload 0, .getfield 8912, .iload 4, .laload, .goto_w 10]
def B_154_10 : List Instr := [.lreturn]
def B_154_11 : List Instr := [.aload 0, .getfield 8912, .iload 3, .laload, .aload 0, .getfield 8912, .iload 3, .laload, .lmul, .lreturn]
def B_154_12 : List Instr := [.aload 0, .getfield 8912, .iload 3, .laload, .aload 0, .getfield 8912, .iload 4, .laload, .ladd, .aload 0, .getfield 8912, .iload 5, .laload, .ladd, .lreturn]
def B_154_13 : List Instr := [.aload 0, .getfield 8912, .iload 3, .laload, .lreturn]
def cd_154 (b : Int) : List Instr := ([B_154_0, B_154_1, B_154_2, B_154_3, B_154_4, B_154_5, B_154_6, B_154_7, B_154_8, B_154_9, B_154_10, B_154_11, B_154_12, B_154_13] : List (List Instr)).getD b.toNat []
theorem kk_154 : cd_154 0 = B_154_0 ∧ cd_154 1 = B_154_1 ∧ cd_154 2 = B_154_2 ∧ cd_154 3 = B_154_3 ∧ cd_154 4 = B_154_4 ∧ cd_154 5 = B_154_5 ∧ cd_154 6 = B_154_6 ∧ cd_154 7 = B_154_7 ∧ cd_154 8 = B_154_8 ∧ cd_154 9 = B_154_9 ∧ cd_154 10 = B_154_10 ∧ cd_154 11 = B_154_11 ∧ cd_154 12 = B_154_12 ∧ cd_154 13 = B_154_13 := ⟨rfl, rfl, rfl, rfl, rfl, rfl, rfl, rfl, rfl, rfl, rfl, rfl, rfl, rfl⟩
-- 155: ConeFormsModel.nodes()I
def B_155_0 : List Instr := [.aload 0, .getfield 716, .ret 0]
def cd_155 (b : Int) : List Instr := ([B_155_0] : List (List Instr)).getD b.toNat []
theorem kk_155 : cd_155 0 = B_155_0 := rfl
-- 156: ConeFormsModel.attributes(I)I
def B_156_0 : List Instr := [.aload 0, .multianewarray 94 1, .aload 0, .iload 1, .multianewarray 95 2, .ifCond .eq 5, .aload 0, .getfield 8914, .iload 1, .saload, .ifCond .eq 1, .iconst 1, .goto 2]
def B_156_1 : List Instr := [.iconst 0, .goto_w 2]
def B_156_2 : List Instr := [.aload 0, .getfield 8915, .iload 1, .saload, .ifCond .eq 3, .iconst 2, .goto 4]
def B_156_3 : List Instr := [.iconst 0, .goto_w 4]
def B_156_4 : List Instr := [.iadd, .iconst 4, .aload 0, .getfield 8916, .iload 1, .iaload, .imul, .iadd, .iconst 32, .aload 0, .getfield 8917, .iload 1, .iaload, .imul, .iadd, .goto 6]
def B_156_5 : List Instr := [.iconst (-1), .goto_w 6]
def B_156_6 : List Instr := [.ret 0]
def cd_156 (b : Int) : List Instr := ([B_156_0, B_156_1, B_156_2, B_156_3, B_156_4, B_156_5, B_156_6] : List (List Instr)).getD b.toNat []
theorem kk_156 : cd_156 0 = B_156_0 ∧ cd_156 1 = B_156_1 ∧ cd_156 2 = B_156_2 ∧ cd_156 3 = B_156_3 ∧ cd_156 4 = B_156_4 ∧ cd_156 5 = B_156_5 ∧ cd_156 6 = B_156_6 := ⟨rfl, rfl, rfl, rfl, rfl, rfl, rfl⟩
-- 157: ConeFormsModel.work()V
def B_157_0 : List Instr := [.iconst 0, .istore 1, .goto_w 1]
def B_157_1 : List Instr := [.iload 1, .aload 0, .getfield 716, .if_icmp .ge 2, .aload 0, .getfield 8911, .iconst 3, .iload 1, .imul, .iaload, .istore 2, .aload 0, .getfield 8911, .iconst 3, .iload 1, .imul, .iconst 1, .iadd, .iaload, .istore 3, .aload 0, .getfield 8911, .iconst 3, .iload 1, .imul, .iconst 2, .iadd, .iaload, .istore 4, .aload 0, .iload 1, .iload 2, .iload 3, .iload 4, .multianewarray 96 5, .aload 0, .getfield 8918, .iload 1, .aload 0, .iload 1, .iload 2, .iload 3, .iload 4, .multianewarray 97 5, .iastore, .aload 0, .getfield 8916, .iload 1, .aload 0, .iload 1, .multianewarray 98 2, .iastore, .aload 0, .getfield 8917, .iload 1, .aload 0, .iload 1, .multianewarray 99 2, .iastore, .iinc 1 1, .goto 1]
def B_157_2 : List Instr := [.return_]
def cd_157 (b : Int) : List Instr := ([B_157_0, B_157_1, B_157_2] : List (List Instr)).getD b.toNat []
theorem kk_157 : cd_157 0 = B_157_0 ∧ cd_157 1 = B_157_1 ∧ cd_157 2 = B_157_2 := ⟨rfl, rfl, rfl⟩
-- 158: ConeFormsModel.signs(IIII)V
def B_158_0 : List Instr := [.iconst 0, .istore 5, .iconst 0, .istore 6, .aload 0, .getfield 8909, .iload 1, .iaload, .tableswitch 58 0 11 #[1, 4, 5, 10, 17, 24, 25, 34, 40, 58, 58, 46]]
def B_158_1 : List Instr := [.aload 0, .getfield 8910, .iload 1, .iaload, .ifCond .eq 2, .iconst 1, .goto 3]
def B_158_2 : List Instr := [.iconst 0, .goto_w 3]
def B_158_3 : List Instr := [.istore 5, .goto 62]
def B_158_4 : List Instr := [.iconst 1, .istore 5, .iconst 1, .istore 6, .goto 62]
def B_158_5 : List Instr := [.aload 0, .getfield 8910, .iload 1, .iaload, .iconst 113, .if_icmp .eq 6, .iconst 1, .goto 7]
def B_158_6 : List Instr := [.iconst 0, .goto_w 7]
def B_158_7 : List Instr := [.istore 5, .aload 0, .getfield 8910, .iload 1, .iaload, .iconst 112, .if_icmp .eq 8, .iconst 1, .goto 9]
def B_158_8 : List Instr := [.iconst 0, .goto_w 9]
def B_158_9 : List Instr := [.istore 6, .goto 62]
def B_158_10 : List Instr := [.aload 0, .getfield 8914, .iload 2, .saload, .ifCond .ne 11, .aload 0, .getfield 8914, .iload 3, .saload, .ifCond .eq 12, .goto_w 11]
def B_158_11 : List Instr := [.iconst 1, .goto 13]
def B_158_12 : List Instr := [.iconst 0, .goto_w 13]
def B_158_13 : List Instr := [.istore 5, .aload 0, .getfield 8915, .iload 2, .saload, .ifCond .ne 14, .aload 0, .getfield 8915, .iload 3, .saload, .ifCond .eq 15, .goto_w 14]
def B_158_14 : List Instr := [.iconst 1, .goto 16]
def B_158_15 : List Instr := [.iconst 0, .goto_w 16]
def B_158_16 : List Instr := [.istore 6, .goto 62]
def B_158_17 : List Instr := [.aload 0, .getfield 8914, .iload 2, .saload, .ifCond .ne 18, .aload 0, .getfield 8915, .iload 3, .saload, .ifCond .eq 19, .goto_w 18]
def B_158_18 : List Instr := [.iconst 1, .goto 20]
def B_158_19 : List Instr := [.iconst 0, .goto_w 20]
def B_158_20 : List Instr := [.istore 5, .aload 0, .getfield 8915, .iload 2, .saload, .ifCond .ne 21, .aload 0, .getfield 8914, .iload 3, .saload, .ifCond .eq 22, .goto_w 21]
def B_158_21 : List Instr := [.iconst 1, .goto 23]
def B_158_22 : List Instr := [.iconst 0, .goto_w 23]
def B_158_23 : List Instr := [.istore 6, .goto 62]
def B_158_24 : List Instr := [.aload 0, .getfield 8915, .iload 2, .saload, .istore 5, .aload 0, .getfield 8914, .iload 2, .saload, .istore 6, .goto 62]
def B_158_25 : List Instr := [.aload 0, .getfield 8914, .iload 2, .saload, .ifCond .eq 26, .aload 0, .getfield 8914, .iload 3, .saload, .ifCond .ne 27, .goto_w 26]
def B_158_26 : List Instr := [.aload 0, .getfield 8915, .iload 2, .saload, .ifCond .eq 28, .aload 0, .getfield 8915, .iload 3, .saload, .ifCond .eq 28, .goto_w 27]
def B_158_27 : List Instr := [.iconst 1, .goto 29]
def B_158_28 : List Instr := [.iconst 0, .goto_w 29]
def B_158_29 : List Instr := [.istore 5, .aload 0, .getfield 8914, .iload 2, .saload, .ifCond .eq 30, .aload 0, .getfield 8915, .iload 3, .saload, .ifCond .ne 31, .goto_w 30]
def B_158_30 : List Instr := [.aload 0, .getfield 8915, .iload 2, .saload, .ifCond .eq 32, .aload 0, .getfield 8914, .iload 3, .saload, .ifCond .eq 32, .goto_w 31]
def B_158_31 : List Instr := [.iconst 1, .goto 33]
def B_158_32 : List Instr := [.iconst 0, .goto_w 33]
def B_158_33 : List Instr := [.istore 6, .goto 62]
def B_158_34 : List Instr := [.aload 0, .getfield 8914, .iload 2, .saload, .ifCond .ne 35, .aload 0, .getfield 8914, .iload 3, .saload, .ifCond .eq 36, .goto_w 35]
def B_158_35 : List Instr := [.iconst 1, .goto 37]
def B_158_36 : List Instr := [.iconst 0, .goto_w 37]
def B_158_37 : List Instr := [.istore 5, .aload 0, .getfield 8915, .iload 2, .saload, .ifCond .eq 38, .aload 0, .getfield 8915, .iload 3, .saload, .ifCond .eq 38, .iconst 1, .goto 39]
def B_158_38 : List Instr := [.iconst 0, .goto_w 39]
def B_158_39 : List Instr := [.istore 6, .goto 62]
def B_158_40 : List Instr := [.aload 0, .getfield 8914, .iload 2, .saload, .ifCond .eq 41, .aload 0, .getfield 8914, .iload 3, .saload, .ifCond .eq 41, .iconst 1, .goto 42]
def B_158_41 : List Instr := [.iconst 0, .goto_w 42]
def B_158_42 : List Instr := [.istore 5, .aload 0, .getfield 8915, .iload 2, .saload, .ifCond .ne 43, .aload 0, .getfield 8915, .iload 3, .saload, .ifCond .eq 44, .goto_w 43]
def B_158_43 : List Instr := [.iconst 1, .goto 45]
def B_158_44 : List Instr := [.iconst 0, .goto_w 45]
def B_158_45 : List Instr := [.istore 6, .goto 62]
def B_158_46 : List Instr := [.aload 0, .getfield 8914, .iload 2, .saload, .ifCond .ne 47, .aload 0, .getfield 8914, .iload 3, .saload, .ifCond .ne 47, .aload 0, .getfield 8914, .iload 4, .saload, .ifCond .eq 48, .goto_w 47]
def B_158_47 : List Instr := [.iconst 1, .goto 49]
def B_158_48 : List Instr := [.iconst 0, .goto_w 49]
def B_158_49 : List Instr := [.istore 5, .aload 0, .getfield 8915, .iload 2, .saload, .ifCond .eq 50, .iconst 1, .goto 51]
def B_158_50 : List Instr := [.iconst 0, .goto_w 51]
def B_158_51 : List Instr := [.aload 0, .getfield 8915, .iload 3, .saload, .ifCond .eq 52, .iconst 1, .goto 53]
def B_158_52 : List Instr := [.iconst 0, .goto_w 53]
def B_158_53 : List Instr := [.iadd, .aload 0, .getfield 8915, .iload 4, .saload, .ifCond .eq 54, .iconst 1, .goto 55]
def B_158_54 : List Instr := [.iconst 0, .goto_w 55]
def B_158_55 : List Instr := [.iadd, .iconst 2, .if_icmp .lt 56, .iconst 1, .goto 57]
def B_158_56 : List Instr := [.iconst 0, .goto_w 57]
def B_158_57 : List Instr := [.istore 6, .goto 62]
def B_158_58 : List Instr := [.aload 0, .getfield 8914, .iload 2, .saload, .ifCond .ne 59, .aload 0, .getfield 8915, .iload 2, .saload, .ifCond .eq 60, .goto_w 59]
def B_158_59 : List Instr := [.iconst 1, .goto 61]
def B_158_60 : List Instr := [.iconst 0, .goto_w 61]
def B_158_61 : List Instr := [.istore 5, .goto_w 62]
def B_158_62 : List Instr := [.aload 0, .getfield 8914, .iload 1, .iload 5, .sastore, .aload 0, .getfield 8915, .iload 1, .iload 6, .sastore, .return_]
def cd_158 (b : Int) : List Instr := ([B_158_0, B_158_1, B_158_2, B_158_3, B_158_4, B_158_5, B_158_6, B_158_7, B_158_8, B_158_9, B_158_10, B_158_11, B_158_12, B_158_13, B_158_14, B_158_15, B_158_16, B_158_17, B_158_18, B_158_19, B_158_20, B_158_21, B_158_22, B_158_23, B_158_24, B_158_25, B_158_26, B_158_27, B_158_28, B_158_29, B_158_30, B_158_31, B_158_32, B_158_33, B_158_34, B_158_35, B_158_36, B_158_37, B_158_38, B_158_39, B_158_40, B_158_41, B_158_42, B_158_43, B_158_44, B_158_45, B_158_46, B_158_47, B_158_48, B_158_49, B_158_50, B_158_51, B_158_52, B_158_53, B_158_54, B_158_55, B_158_56, B_158_57, B_158_58, B_158_59, B_158_60, B_158_61, B_158_62] : List (List Instr)).getD b.toNat []
theorem kk_158 : cd_158 0 = B_158_0 ∧ cd_158 1 = B_158_1 ∧ cd_158 2 = B_158_2 ∧ cd_158 3 = B_158_3 ∧ cd_158 4 = B_158_4 ∧ cd_158 5 = B_158_5 ∧ cd_158 6 = B_158_6 ∧ cd_158 7 = B_158_7 ∧ cd_158 8 = B_158_8 ∧ cd_158 9 = B_158_9 ∧ cd_158 10 = B_158_10 ∧ cd_158 11 = B_158_11 ∧ cd_158 12 = B_158_12 ∧ cd_158 13 = B_158_13 ∧ cd_158 14 = B_158_14 ∧ cd_158 15 = B_158_15 ∧ cd_158 16 = B_158_16 ∧ cd_158 17 = B_158_17 ∧ cd_158 18 = B_158_18 ∧ cd_158 19 = B_158_19 ∧ cd_158 20 = B_158_20 ∧ cd_158 21 = B_158_21 ∧ cd_158 22 = B_158_22 ∧ cd_158 23 = B_158_23 ∧ cd_158 24 = B_158_24 ∧ cd_158 25 = B_158_25 ∧ cd_158 26 = B_158_26 ∧ cd_158 27 = B_158_27 ∧ cd_158 28 = B_158_28 ∧ cd_158 29 = B_158_29 ∧ cd_158 30 = B_158_30 ∧ cd_158 31 = B_158_31 ∧ cd_158 32 = B_158_32 ∧ cd_158 33 = B_158_33 ∧ cd_158 34 = B_158_34 ∧ cd_158 35 = B_158_35 ∧ cd_158 36 = B_158_36 ∧ cd_158 37 = B_158_37 ∧ cd_158 38 = B_158_38 ∧ cd_158 39 = B_158_39 ∧ cd_158 40 = B_158_40 ∧ cd_158 41 = B_158_41 ∧ cd_158 42 = B_158_42 ∧ cd_158 43 = B_158_43 ∧ cd_158 44 = B_158_44 ∧ cd_158 45 = B_158_45 ∧ cd_158 46 = B_158_46 ∧ cd_158 47 = B_158_47 ∧ cd_158 48 = B_158_48 ∧ cd_158 49 = B_158_49 ∧ cd_158 50 = B_158_50 ∧ cd_158 51 = B_158_51 ∧ cd_158 52 = B_158_52 ∧ cd_158 53 = B_158_53 ∧ cd_158 54 = B_158_54 ∧ cd_158 55 = B_158_55 ∧ cd_158 56 = B_158_56 ∧ cd_158 57 = B_158_57 ∧ cd_158 58 = B_158_58 ∧ cd_158 59 = B_158_59 ∧ cd_158 60 = B_158_60 ∧ cd_158 61 = B_158_61 ∧ cd_158 62 = B_158_62 := ⟨rfl, rfl, rfl, rfl, rfl, rfl, rfl, rfl, rfl, rfl, rfl, rfl, rfl, rfl, rfl, rfl, rfl, rfl, rfl, rfl, rfl, rfl, rfl, rfl, rfl, rfl, rfl, rfl, rfl, rfl, rfl, rfl, rfl, rfl, rfl, rfl, rfl, rfl, rfl, rfl, rfl, rfl, rfl, rfl, rfl, rfl, rfl, rfl, rfl, rfl, rfl, rfl, rfl, rfl, rfl, rfl, rfl, rfl, rfl, rfl, rfl, rfl, rfl⟩
-- 159: ConeFormsModel.worthOf(IIII)I
def B_159_0 : List Instr := [.aload 0, .getfield 8909, .iload 1, .iaload, .tableswitch 11 0 10 #[1, 2, 2, 3, 4, 5, 6, 7, 8, 9, 10]]
def B_159_1 : List Instr := [.aload 0, .getfield 8910, .iload 1, .iaload, .ret 0]
def B_159_2 : List Instr := [.aload 0, .getfield 8913, .iload 1, .iaload, .ret 0]
def B_159_3 : List Instr := [.aload 0, .getfield 8918, .iload 2, .iaload, .aload 0, .getfield 8918, .iload 3, .iaload, .iadd, .ret 0]
def B_159_4 : List Instr := [.aload 0, .getfield 8918, .iload 2, .iaload, .aload 0, .getfield 8918, .iload 3, .iaload, .isub, .ret 0]
def B_159_5 : List Instr := [.aload 0, .getfield 8918, .iload 2, .iaload, .ineg, .ret 0]
def B_159_6 : List Instr := [.aload 0, .getfield 8918, .iload 2, .iaload, .aload 0, .getfield 8918, .iload 3, .iaload, .imul, .ret 0]
def B_159_7 : List Instr := [.aload 0, .getfield 8918, .iload 2, .iaload, .aload 0, .getfield 8918, .iload 3, .iaload, .invokeinterface 160 2, .ret 0]
def B_159_8 : List Instr := [.aload 0, .getfield 8918, .iload 2, .iaload, .ineg, .aload 0, .getfield 8918, .iload 3, .iaload, .ineg, .invokeinterface 160 2, .ineg, .ret 0]
def B_159_9 : List Instr := [.aload 0, .getfield 8918, .iload 2, .iaload, .aload 0, .getfield 8918, .iload 2, .iaload, .ineg, .invokeinterface 160 2, .ret 0]
def B_159_10 : List Instr := [.aload 0, .getfield 8918, .iload 2, .iaload, .aload 0, .getfield 8918, .iload 2, .iaload, .imul, .ret 0]
def B_159_11 : List Instr := [.aload 0, .getfield 8918, .iload 2, .iaload, .aload 0, .getfield 8918, .iload 3, .iaload, .iadd, .aload 0, .getfield 8918, .iload 4, .iaload, .iadd, .aload 0, .getfield 8918, .iload 2, .iaload, .ineg, .aload 0, .getfield 8918, .iload 3, .iaload, .ineg, .invokeinterface 160 2, .aload 0, .getfield 8918, .iload 4, .iaload, .ineg, .invokeinterface 160 2, .iadd, .ret 0]
def cd_159 (b : Int) : List Instr := ([B_159_0, B_159_1, B_159_2, B_159_3, B_159_4, B_159_5, B_159_6, B_159_7, B_159_8, B_159_9, B_159_10, B_159_11] : List (List Instr)).getD b.toNat []
theorem kk_159 : cd_159 0 = B_159_0 ∧ cd_159 1 = B_159_1 ∧ cd_159 2 = B_159_2 ∧ cd_159 3 = B_159_3 ∧ cd_159 4 = B_159_4 ∧ cd_159 5 = B_159_5 ∧ cd_159 6 = B_159_6 ∧ cd_159 7 = B_159_7 ∧ cd_159 8 = B_159_8 ∧ cd_159 9 = B_159_9 ∧ cd_159 10 = B_159_10 ∧ cd_159 11 = B_159_11 := ⟨rfl, rfl, rfl, rfl, rfl, rfl, rfl, rfl, rfl, rfl, rfl, rfl⟩
-- 160: ConeFormsModel.greater(II)I
def B_160_0 : List Instr := [.iload 0, .iload 1, .if_icmp .le 1, .iload 0, .goto 2]
def B_160_1 : List Instr := [.iload 1, .goto_w 2]
def B_160_2 : List Instr := [.ret 0]
def cd_160 (b : Int) : List Instr := ([B_160_0, B_160_1, B_160_2] : List (List Instr)).getD b.toNat []
theorem kk_160 : cd_160 0 = B_160_0 ∧ cd_160 1 = B_160_1 ∧ cd_160 2 = B_160_2 := ⟨rfl, rfl, rfl⟩
-- 161: ConeFormsModel.curveOf(I)I
def B_161_0 : List Instr := [.aload 0, .getfield 8909, .iload 1, .iaload, .istore 2, .iload 2, .invokeinterface 152 1, .istore 3, .iload 3, .ifCond .ne 3, .iload 2, .iconst 1, .if_icmp .ne 1, .iconst 1, .goto 2]
def B_161_1 : List Instr := [.iconst 0, .goto_w 2]
def B_161_2 : List Instr := [.ret 0]
def B_161_3 : List Instr := [.aload 0, .iload 1, .iconst 0, .iconst 0, .multianewarray 100 4, .istore 4, .iload 4, .iload 3, .if_icmp .ne 4, .iconst 0, .ret 0]
def B_161_4 : List Instr := [.iload 2, .iconst 6, .if_icmp .ne 5, .iload 4, .ifCond .ne 5, .iconst 4, .ret 0]
def B_161_5 : List Instr := [.iload 2, .iconst 6, .if_icmp .gt 6, .aload 0, .iload 1, .iconst 0, .iconst 1, .multianewarray 100 4, .iload 3, .if_icmp .ne 6, .iconst 1, .ret 0]
def B_161_6 : List Instr := [.iload 2, .iconst 8, .if_icmp .eq 7, .aload 0, .iload 1, .iconst 2, .multianewarray 101 3, .ifCond .ne 7, .iconst 2, .ret 0]
def B_161_7 : List Instr := [.iload 2, .iconst 6, .if_icmp .le 8, .iload 2, .iconst 8, .if_icmp .ne 9, .goto_w 8]
def B_161_8 : List Instr := [.aload 0, .iload 1, .iconst 3, .multianewarray 101 3, .ifCond .ne 9, .iconst 3, .goto 10]
def B_161_9 : List Instr := [.iconst 4, .goto_w 10]
def B_161_10 : List Instr := [.ret 0]
def cd_161 (b : Int) : List Instr := ([B_161_0, B_161_1, B_161_2, B_161_3, B_161_4, B_161_5, B_161_6, B_161_7, B_161_8, B_161_9, B_161_10] : List (List Instr)).getD b.toNat []
theorem kk_161 : cd_161 0 = B_161_0 ∧ cd_161 1 = B_161_1 ∧ cd_161 2 = B_161_2 ∧ cd_161 3 = B_161_3 ∧ cd_161 4 = B_161_4 ∧ cd_161 5 = B_161_5 ∧ cd_161 6 = B_161_6 ∧ cd_161 7 = B_161_7 ∧ cd_161 8 = B_161_8 ∧ cd_161 9 = B_161_9 ∧ cd_161 10 = B_161_10 := ⟨rfl, rfl, rfl, rfl, rfl, rfl, rfl, rfl, rfl, rfl, rfl⟩
-- 162: ConeFormsModel.having(III)I
def B_162_0 : List Instr := [.iconst 0, .istore 4, .iconst 0, .istore 5, .goto_w 1]
def B_162_1 : List Instr := [.iload 5, .aload 0, .getfield 8909, .iload 1, .iaload, .invokeinterface 152 1, .if_icmp .ge 4, .aload 0, .getfield 8916, .aload 0, .getfield 8911, .iconst 3, .iload 1, .imul, .iload 5, .iadd, .iaload, .iaload, .istore 6, .iload 4, .iload 6, .iload 2, .if_icmp .lt 2, .iload 6, .iload 3, .if_icmp .gt 2, .iconst 1, .goto 3]
def B_162_2 : List Instr := [.iconst 0, .goto_w 3]
def B_162_3 : List Instr := [.iadd, .istore 4, .iinc 5 1, .goto 1]
def B_162_4 : List Instr := [.iload 4, .ret 0]
def cd_162 (b : Int) : List Instr := ([B_162_0, B_162_1, B_162_2, B_162_3, B_162_4] : List (List Instr)).getD b.toNat []
theorem kk_162 : cd_162 0 = B_162_0 ∧ cd_162 1 = B_162_1 ∧ cd_162 2 = B_162_2 ∧ cd_162 3 = B_162_3 ∧ cd_162 4 = B_162_4 := ⟨rfl, rfl, rfl, rfl, rfl⟩
-- 163: ConeFormsModel.firstNot(II)I
def B_163_0 : List Instr := [.iconst 0, .istore 3, .aload 0, .getfield 8909, .iload 1, .iaload, .invokeinterface 152 1, .iconst 1, .isub, .istore 4, .goto_w 1]
def B_163_1 : List Instr := [.iload 4, .ifCond .lt 4, .aload 0, .iload 1, .iload 4, .iload 2, .multianewarray 102 4, .ifCond .eq 2, .iload 3, .goto 3]
def B_163_2 : List Instr := [.iload 4, .iconst 1, .iadd, .goto_w 3]
def B_163_3 : List Instr := [.istore 3, .iinc 4 (-1), .goto 1]
def B_163_4 : List Instr := [.iload 3, .ret 0]
def cd_163 (b : Int) : List Instr := ([B_163_0, B_163_1, B_163_2, B_163_3, B_163_4] : List (List Instr)).getD b.toNat []
theorem kk_163 : cd_163 0 = B_163_0 ∧ cd_163 1 = B_163_1 ∧ cd_163 2 = B_163_2 ∧ cd_163 3 = B_163_3 ∧ cd_163 4 = B_163_4 := ⟨rfl, rfl, rfl, rfl, rfl⟩
-- 164: ConeFormsModel.admits(III)Z
def B_164_0 : List Instr := [.aload 0, .getfield 8916, .aload 0, .getfield 8911, .iconst 3, .iload 1, .imul, .iload 2, .iadd, .iaload, .iaload, .istore 4, .iload 4, .ifCond .eq 1, .iload 4, .iconst 1, .if_icmp .ne 2, .goto_w 1]
def B_164_1 : List Instr := [.iconst 1, .ret 1]
def B_164_2 : List Instr := [.aload 0, .iload 1, .iload 2, .multianewarray 103 3, .istore 5, .iload 4, .iconst 4, .if_icmp .eq 5, .iload 4, .iload 3, .if_icmp .ne 3, .iload 5, .iconst 1, .if_icmp .ne 5, .goto 4]
def B_164_3 : List Instr := [.iload 5, .iconst (-1), .if_icmp .ne 5, .goto_w 4]
def B_164_4 : List Instr := [.iconst 1, .goto 6]
def B_164_5 : List Instr := [.iconst 0, .goto_w 6]
def B_164_6 : List Instr := [.ret 1]
def cd_164 (b : Int) : List Instr := ([B_164_0, B_164_1, B_164_2, B_164_3, B_164_4, B_164_5, B_164_6] : List (List Instr)).getD b.toNat []
theorem kk_164 : cd_164 0 = B_164_0 ∧ cd_164 1 = B_164_1 ∧ cd_164 2 = B_164_2 ∧ cd_164 3 = B_164_3 ∧ cd_164 4 = B_164_4 ∧ cd_164 5 = B_164_5 ∧ cd_164 6 = B_164_6 := ⟨rfl, rfl, rfl, rfl, rfl, rfl, rfl⟩
-- 165: ConeFormsModel.trend(II)I
def B_165_0 : List Instr := [.aload 0, .getfield 8909, .iload 1, .iaload, .istore 3, .iload 3, .iconst 3, .if_icmp .eq 1, .iload 3, .iconst 7, .if_icmp .eq 1, .iload 3, .iconst 8, .if_icmp .eq 1, .iload 3, .iconst 11, .if_icmp .ne 2, .goto_w 1]
def B_165_1 : List Instr := [.iconst 1, .ret 0]
def B_165_2 : List Instr := [.iload 3, .iconst 4, .if_icmp .eq 3, .iload 3, .iconst 5, .if_icmp .ne 6, .goto_w 3]
def B_165_3 : List Instr := [.iload 3, .iconst 4, .if_icmp .ne 4, .iload 2, .ifCond .ne 4, .iconst 1, .goto 5]
def B_165_4 : List Instr := [.iconst (-1), .goto_w 5]
def B_165_5 : List Instr := [.ret 0]
def B_165_6 : List Instr := [.iload 3, .iconst 6, .if_icmp .ne 7, .aload 0, .getfield 8911, .iconst 3, .iload 1, .imul, .iconst 1, .iadd, .iload 2, .isub, .iaload, .goto 8]
def B_165_7 : List Instr := [.aload 0, .getfield 8911, .iconst 3, .iload 1, .imul, .iaload, .goto_w 8]
def B_165_8 : List Instr := [.istore 4, .aload 0, .getfield 8915, .iload 4, .saload, .ifCond .ne 9, .iconst 1, .goto 11]
def B_165_9 : List Instr := [.aload 0, .getfield 8914, .iload 4, .saload, .ifCond .ne 10, .iconst (-1), .goto 11]
def B_165_10 : List Instr := [.iconst 0, .goto_w 11]
def B_165_11 : List Instr := [.ret 0]
def cd_165 (b : Int) : List Instr := ([B_165_0, B_165_1, B_165_2, B_165_3, B_165_4, B_165_5, B_165_6, B_165_7, B_165_8, B_165_9, B_165_10, B_165_11] : List (List Instr)).getD b.toNat []
theorem kk_165 : cd_165 0 = B_165_0 ∧ cd_165 1 = B_165_1 ∧ cd_165 2 = B_165_2 ∧ cd_165 3 = B_165_3 ∧ cd_165 4 = B_165_4 ∧ cd_165 5 = B_165_5 ∧ cd_165 6 = B_165_6 ∧ cd_165 7 = B_165_7 ∧ cd_165 8 = B_165_8 ∧ cd_165 9 = B_165_9 ∧ cd_165 10 = B_165_10 ∧ cd_165 11 = B_165_11 := ⟨rfl, rfl, rfl, rfl, rfl, rfl, rfl, rfl, rfl, rfl, rfl, rfl⟩
-- 166: ConeFormsModel.blameOf(I)I
def B_166_0 : List Instr := [.aload 0, .getfield 8909, .iload 1, .iaload, .istore 2, .aload 0, .getfield 8916, .iload 1, .iaload, .iconst 4, .if_icmp .ne 1, .aload 0, .iload 1, .iconst 4, .iconst 4, .multianewarray 100 4, .ifCond .le 2, .goto_w 1]
def B_166_1 : List Instr := [.iconst 0, .ret 0]
def B_166_2 : List Instr := [.iload 2, .iconst 6, .if_icmp .ne 3, .aload 0, .iload 1, .iconst 0, .iconst 0, .multianewarray 100 4, .ifCond .ne 3, .iconst 4, .ret 0]
def B_166_3 : List Instr := [.iload 2, .iconst 6, .if_icmp .gt 6, .aload 0, .getfield 8916, .aload 0, .getfield 8911, .iconst 3, .iload 1, .imul, .iconst 1, .iadd, .iaload, .iaload, .iconst 1, .if_icmp .le 4, .iconst 2, .goto 5]
def B_166_4 : List Instr := [.iconst 1, .goto_w 5]
def B_166_5 : List Instr := [.ret 0]
def B_166_6 : List Instr := [.aload 0, .iload 1, .iload 2, .iconst 8, .if_icmp .ne 7, .iconst 3, .goto 8]
def B_166_7 : List Instr := [.iconst 2, .goto_w 8]
def B_166_8 : List Instr := [.multianewarray 101 3, .ret 0]
def cd_166 (b : Int) : List Instr := ([B_166_0, B_166_1, B_166_2, B_166_3, B_166_4, B_166_5, B_166_6, B_166_7, B_166_8] : List (List Instr)).getD b.toNat []
theorem kk_166 : cd_166 0 = B_166_0 ∧ cd_166 1 = B_166_1 ∧ cd_166 2 = B_166_2 ∧ cd_166 3 = B_166_3 ∧ cd_166 4 = B_166_4 ∧ cd_166 5 = B_166_5 ∧ cd_166 6 = B_166_6 ∧ cd_166 7 = B_166_7 ∧ cd_166 8 = B_166_8 := ⟨rfl, rfl, rfl, rfl, rfl, rfl, rfl, rfl, rfl⟩
-- 167: ConeFormsModel.isNode(I)Z
def B_167_0 : List Instr := [.iload 1, .ifCond .lt 1, .iload 1, .aload 0, .getfield 716, .if_icmp .ge 1, .iconst 1, .goto 2]
def B_167_1 : List Instr := [.iconst 0, .goto_w 2]
def B_167_2 : List Instr := [.ret 1]
def cd_167 (b : Int) : List Instr := ([B_167_0, B_167_1, B_167_2] : List (List Instr)).getD b.toNat []
theorem kk_167 : cd_167 0 = B_167_0 ∧ cd_167 1 = B_167_1 ∧ cd_167 2 = B_167_2 := ⟨rfl, rfl, rfl⟩
-- 168: ConeFormsModel.reach(I)I
def B_168_0 : List Instr := [.aload 0, .iload 1, .multianewarray 95 2, .ifCond .eq 1, .aload 0, .getfield 8912, .iload 1, .laload, .l2i, .goto 2]
def B_168_1 : List Instr := [.iconst 0, .goto_w 2]
def B_168_2 : List Instr := [.ret 0]
def cd_168 (b : Int) : List Instr := ([B_168_0, B_168_1, B_168_2] : List (List Instr)).getD b.toNat []
theorem kk_168 : cd_168 0 = B_168_0 ∧ cd_168 1 = B_168_1 ∧ cd_168 2 = B_168_2 := ⟨rfl, rfl, rfl⟩
-- 169: ConeFormsModel.value(I)I
def B_169_0 : List Instr := [.aload 0, .multianewarray 94 1, .aload 0, .iload 1, .multianewarray 95 2, .ifCond .eq 1, .aload 0, .getfield 8918, .iload 1, .iaload, .goto 2]
def B_169_1 : List Instr := [.iconst 0, .goto_w 2]
def B_169_2 : List Instr := [.ret 0]
def cd_169 (b : Int) : List Instr := ([B_169_0, B_169_1, B_169_2] : List (List Instr)).getD b.toNat []
theorem kk_169 : cd_169 0 = B_169_0 ∧ cd_169 1 = B_169_1 ∧ cd_169 2 = B_169_2 := ⟨rfl, rfl, rfl⟩
-- 170: ConeFormsModel.culprit(I)I
def B_170_0 : List Instr := [.aload 0, .iload 1, .multianewarray 95 2, .ifCond .ne 1, .iconst (-2), .ret 0]
def B_170_1 : List Instr := [.aload 0, .multianewarray 94 1, .aload 0, .getfield 8916, .iload 1, .iaload, .iconst 4, .if_icmp .ne 2, .aload 0, .iload 1, .multianewarray 104 2, .goto 3]
def B_170_2 : List Instr := [.iconst (-1), .goto_w 3]
def B_170_3 : List Instr := [.ret 0]
def cd_170 (b : Int) : List Instr := ([B_170_0, B_170_1, B_170_2, B_170_3] : List (List Instr)).getD b.toNat []
theorem kk_170 : cd_170 0 = B_170_0 ∧ cd_170 1 = B_170_1 ∧ cd_170 2 = B_170_2 ∧ cd_170 3 = B_170_3 := ⟨rfl, rfl, rfl, rfl⟩
-- 171: ConeFormsModel.walk(I)I
def B_171_0 : List Instr := [.iconst 0, .istore 2, .goto_w 1]
def B_171_1 : List Instr := [.iload 2, .iconst 36, .if_icmp .ge 2, .aload 0, .getfield 8920, .iload 2, .iconst 0, .sastore, .iinc 2 1, .goto 1]
def B_171_2 : List Instr := [.iconst 1, .istore 2, .aload 0, .getfield 8921, .iconst 0, .iload 1, .iastore, .aload 0, .getfield 8922, .iconst 0, .iconst 0, .iastore, .iconst 0, .istore 3, .goto_w 3]
def B_171_3 : List Instr := [.iload 3, .iconst 1000, .if_icmp .ge 7, .iload 2, .ifCond .le 7, .aload 0, .getfield 8921, .iload 2, .iconst 1, .isub, .iaload, .istore 4, .aload 0, .getfield 8922, .iload 2, .iconst 1, .isub, .iaload, .istore 5, .iload 5, .aload 0, .getfield 8909, .iload 4, .iaload, .invokeinterface 152 1, .if_icmp .ne 5, .aload 0, .getfield 8917, .iload 4, .iaload, .ifCond .le 4, .iload 4, .ret 0]
def B_171_4 : List Instr := [.iinc 2 (-1), .goto 6]
def B_171_5 : List Instr := [.aload 0, .getfield 8922, .iload 2, .iconst 1, .isub, .dup2, .iaload, .iconst 1, .iadd, .iastore, .aload 0, .getfield 8911, .iconst 3, .iload 4, .imul, .iload 5, .iadd, .iaload, .istore 6, .aload 0, .getfield 8920, .iload 6, .saload, .ifCond .ne 6, .aload 0, .getfield 8920, .iload 6, .iconst 1, .sastore, .aload 0, .getfield 8921, .iload 2, .iload 6, .iastore, .aload 0, .getfield 8922, .iload 2, .iconst 0, .iastore, .iinc 2 1, .goto_w 6]
def B_171_6 : List Instr := [.iinc 3 1, .goto 3]
def B_171_7 : List Instr := [.iconst (-1), .ret 0]
def cd_171 (b : Int) : List Instr := ([B_171_0, B_171_1, B_171_2, B_171_3, B_171_4, B_171_5, B_171_6, B_171_7] : List (List Instr)).getD b.toNat []
theorem kk_171 : cd_171 0 = B_171_0 ∧ cd_171 1 = B_171_1 ∧ cd_171 2 = B_171_2 ∧ cd_171 3 = B_171_3 ∧ cd_171 4 = B_171_4 ∧ cd_171 5 = B_171_5 ∧ cd_171 6 = B_171_6 ∧ cd_171 7 = B_171_7 := ⟨rfl, rfl, rfl, rfl, rfl, rfl, rfl, rfl⟩
-- 172: ConeFormsModel.objective(IZ)Z
def B_172_0 : List Instr := [.aload 0, .iload 1, .multianewarray 95 2, .ifCond .ne 1, .iconst 0, .ret 1]
def B_172_1 : List Instr := [.aload 0, .iload 1, .putfield 732, .aload 0, .iload 2, .putfield 4829, .aload 0, .iconst 0, .putfield 4834, .iconst 1, .ret 1]
def cd_172 (b : Int) : List Instr := ([B_172_0, B_172_1] : List (List Instr)).getD b.toNat []
theorem kk_172 : cd_172 0 = B_172_0 ∧ cd_172 1 = B_172_1 := ⟨rfl, rfl⟩
-- 173: ConeFormsModel.require(ZII)Z
def B_173_0 : List Instr := [.aload 0, .iload 2, .multianewarray 95 2, .ifCond .eq 1, .aload 0, .iload 3, .multianewarray 95 2, .ifCond .eq 1, .aload 0, .getfield 734, .iconst 6, .if_icmp .ne 2, .goto_w 1]
def B_173_1 : List Instr := [.iconst 0, .ret 1]
def B_173_2 : List Instr := [.aload 0, .getfield 8927, .aload 0, .getfield 734, .iload 1, .sastore, .aload 0, .getfield 8928, .aload 0, .getfield 734, .iload 2, .iastore, .aload 0, .getfield 8929, .aload 0, .getfield 734, .iload 3, .iastore, .aload 0, .dup, .getfield 734, .iconst 1, .iadd, .putfield 734, .aload 0, .iconst 0, .putfield 4834, .iconst 1, .ret 1]
def cd_173 (b : Int) : List Instr := ([B_173_0, B_173_1, B_173_2] : List (List Instr)).getD b.toNat []
theorem kk_173 : cd_173 0 = B_173_0 ∧ cd_173 1 = B_173_1 ∧ cd_173 2 = B_173_2 := ⟨rfl, rfl, rfl⟩
-- 174: ConeFormsModel.withdraw(I)Z
def B_174_0 : List Instr := [.iload 1, .ifCond .lt 1, .iload 1, .aload 0, .getfield 734, .if_icmp .lt 2, .goto_w 1]
def B_174_1 : List Instr := [.iconst 0, .ret 1]
def B_174_2 : List Instr := [.aload 0, .dup, .getfield 734, .iconst 1, .isub, .putfield 734, .iload 1, .istore 2, .goto_w 3]
def B_174_3 : List Instr := [.iload 2, .aload 0, .getfield 734, .if_icmp .ge 4, .aload 0, .getfield 8927, .iload 2, .aload 0, .getfield 8927, .iload 2, .iconst 1, .iadd, .saload, .sastore, .aload 0, .getfield 8928, .iload 2, .aload 0, .getfield 8928, .iload 2, .iconst 1, .iadd, .iaload, .iastore, .aload 0, .getfield 8929, .iload 2, .aload 0, .getfield 8929, .iload 2, .iconst 1, .iadd, .iaload, .iastore, .iinc 2 1, .goto 3]
def B_174_4 : List Instr := [.aload 0, .iconst 0, .putfield 4834, .iconst 1, .ret 1]
def cd_174 (b : Int) : List Instr := ([B_174_0, B_174_1, B_174_2, B_174_3, B_174_4] : List (List Instr)).getD b.toNat []
theorem kk_174 : cd_174 0 = B_174_0 ∧ cd_174 1 = B_174_1 ∧ cd_174 2 = B_174_2 ∧ cd_174 3 = B_174_3 ∧ cd_174 4 = B_174_4 := ⟨rfl, rfl, rfl, rfl, rfl⟩
-- 175: ConeFormsModel.feasible()Z
def B_175_0 : List Instr := [.aload 0, .multianewarray 94 1, .iconst 1, .istore 1, .iconst 0, .istore 2, .goto_w 1]
def B_175_1 : List Instr := [.iload 2, .aload 0, .getfield 734, .if_icmp .ge 6, .aload 0, .getfield 8918, .aload 0, .getfield 8928, .iload 2, .iaload, .iaload, .istore 3, .aload 0, .getfield 8918, .aload 0, .getfield 8929, .iload 2, .iaload, .iaload, .istore 4, .iload 1, .ifCond .eq 4, .aload 0, .getfield 8927, .iload 2, .saload, .ifCond .eq 2, .iload 3, .iload 4, .if_icmp .ne 4, .goto 3]
def B_175_2 : List Instr := [.iload 3, .iload 4, .if_icmp .gt 4, .goto_w 3]
def B_175_3 : List Instr := [.iconst 1, .goto 5]
def B_175_4 : List Instr := [.iconst 0, .goto_w 5]
def B_175_5 : List Instr := [.istore 1, .iinc 2 1, .goto 1]
def B_175_6 : List Instr := [.iload 1, .ret 1]
def cd_175 (b : Int) : List Instr := ([B_175_0, B_175_1, B_175_2, B_175_3, B_175_4, B_175_5, B_175_6] : List (List Instr)).getD b.toNat []
theorem kk_175 : cd_175 0 = B_175_0 ∧ cd_175 1 = B_175_1 ∧ cd_175 2 = B_175_2 ∧ cd_175 3 = B_175_3 ∧ cd_175 4 = B_175_4 ∧ cd_175 5 = B_175_5 ∧ cd_175 6 = B_175_6 := ⟨rfl, rfl, rfl, rfl, rfl, rfl, rfl⟩
-- 176: ConeFormsModel.compile()I
def B_176_0 : List Instr := [.aload 0, .getfield 732, .ifCond .ge 1, .iconst (-1), .ret 0]
def B_176_1 : List Instr := [.aload 0, .multianewarray 94 1, .aload 0, .multianewarray 105 1, .istore 1, .iload 1, .ifCond .lt 4, .iconst (-2), .aload 0, .getfield 8916, .iload 1, .iaload, .iconst 4, .if_icmp .ne 2, .aload 0, .iload 1, .multianewarray 104 2, .goto 3]
def B_176_2 : List Instr := [.iload 1, .goto_w 3]
def B_176_3 : List Instr := [.isub, .ret 0]
def B_176_4 : List Instr := [.aload 0, .iconst 1, .putfield 4834, .iconst 0, .istore 2, .goto_w 5]
def B_176_5 : List Instr := [.iload 2, .iconst 36, .if_icmp .ge 6, .aload 0, .getfield 8931, .iload 2, .iconst 0, .iastore, .iinc 2 1, .goto 5]
def B_176_6 : List Instr := [.aload 0, .multianewarray 106 1, .aload 0, .multianewarray 107 1, .ret 0]
def cd_176 (b : Int) : List Instr := ([B_176_0, B_176_1, B_176_2, B_176_3, B_176_4, B_176_5, B_176_6] : List (List Instr)).getD b.toNat []
theorem kk_176 : cd_176 0 = B_176_0 ∧ cd_176 1 = B_176_1 ∧ cd_176 2 = B_176_2 ∧ cd_176 3 = B_176_3 ∧ cd_176 4 = B_176_4 ∧ cd_176 5 = B_176_5 ∧ cd_176 6 = B_176_6 := ⟨rfl, rfl, rfl, rfl, rfl, rfl, rfl⟩
-- 177: ConeFormsModel.wrongPart()I
def B_177_0 : List Instr := [.aload 0, .aload 0, .getfield 732, .aload 0, .getfield 4829, .ifCond .eq 1, .iconst 2, .goto 2]
def B_177_1 : List Instr := [.iconst 3, .goto_w 2]
def B_177_2 : List Instr := [.multianewarray 108 3, .ifCond .ne 3, .aload 0, .getfield 732, .ret 0]
def B_177_3 : List Instr := [.iconst 0, .istore 1, .goto_w 4]
def B_177_4 : List Instr := [.iload 1, .aload 0, .getfield 734, .if_icmp .ge 11, .aload 0, .aload 0, .getfield 8928, .iload 1, .iaload, .aload 0, .getfield 8927, .iload 1, .saload, .ifCond .eq 5, .iconst 1, .goto 6]
def B_177_5 : List Instr := [.iconst 2, .goto_w 6]
def B_177_6 : List Instr := [.multianewarray 108 3, .ifCond .ne 7, .aload 0, .getfield 8928, .iload 1, .iaload, .ret 0]
def B_177_7 : List Instr := [.aload 0, .aload 0, .getfield 8929, .iload 1, .iaload, .aload 0, .getfield 8927, .iload 1, .saload, .ifCond .eq 8, .iconst 1, .goto 9]
def B_177_8 : List Instr := [.iconst 3, .goto_w 9]
def B_177_9 : List Instr := [.multianewarray 108 3, .ifCond .ne 10, .aload 0, .getfield 8929, .iload 1, .iaload, .ret 0]
def B_177_10 : List Instr := [.iinc 1 1, .goto 4]
def B_177_11 : List Instr := [.iconst (-1), .ret 0]
def cd_177 (b : Int) : List Instr := ([B_177_0, B_177_1, B_177_2, B_177_3, B_177_4, B_177_5, B_177_6, B_177_7, B_177_8, B_177_9, B_177_10, B_177_11] : List (List Instr)).getD b.toNat []
theorem kk_177 : cd_177 0 = B_177_0 ∧ cd_177 1 = B_177_1 ∧ cd_177 2 = B_177_2 ∧ cd_177 3 = B_177_3 ∧ cd_177 4 = B_177_4 ∧ cd_177 5 = B_177_5 ∧ cd_177 6 = B_177_6 ∧ cd_177 7 = B_177_7 ∧ cd_177 8 = B_177_8 ∧ cd_177 9 = B_177_9 ∧ cd_177 10 = B_177_10 ∧ cd_177 11 = B_177_11 := ⟨rfl, rfl, rfl, rfl, rfl, rfl, rfl, rfl, rfl, rfl, rfl, rfl⟩
-- 178: ConeFormsModel.good(II)Z
def B_178_0 : List Instr := [.aload 0, .getfield 8916, .iload 1, .iaload, .ifCond .eq 1, .aload 0, .getfield 8916, .iload 1, .iaload, .iconst 1, .if_icmp .eq 1, .aload 0, .getfield 8916, .iload 1, .iaload, .iload 2, .if_icmp .ne 2, .goto_w 1]
def B_178_1 : List Instr := [.iconst 1, .goto 3]
def B_178_2 : List Instr := [.iconst 0, .goto_w 3]
def B_178_3 : List Instr := [.ret 1]
def cd_178 (b : Int) : List Instr := ([B_178_0, B_178_1, B_178_2, B_178_3] : List (List Instr)).getD b.toNat []
theorem kk_178 : cd_178 0 = B_178_0 ∧ cd_178 1 = B_178_1 ∧ cd_178 2 = B_178_2 ∧ cd_178 3 = B_178_3 := ⟨rfl, rfl, rfl, rfl⟩
-- 179: ConeFormsModel.mark()V
def B_179_0 : List Instr := [.aload 0, .multianewarray 94 1, .iconst 0, .istore 1, .goto_w 1]
def B_179_1 : List Instr := [.iload 1, .aload 0, .getfield 716, .if_icmp .ge 9, .aload 0, .getfield 8919, .iload 1, .iload 1, .aload 0, .getfield 732, .if_icmp .ne 2, .iconst 1, .goto 3]
def B_179_2 : List Instr := [.iconst 0, .goto_w 3]
def B_179_3 : List Instr := [.sastore, .iconst 0, .istore 2, .goto_w 4]
def B_179_4 : List Instr := [.iload 2, .aload 0, .getfield 734, .if_icmp .ge 8, .aload 0, .getfield 8919, .iload 1, .aload 0, .getfield 8919, .iload 1, .saload, .ifCond .ne 5, .aload 0, .getfield 8928, .iload 2, .iaload, .iload 1, .if_icmp .eq 5, .aload 0, .getfield 8929, .iload 2, .iaload, .iload 1, .if_icmp .ne 6, .goto_w 5]
def B_179_5 : List Instr := [.iconst 1, .goto 7]
def B_179_6 : List Instr := [.iconst 0, .goto_w 7]
def B_179_7 : List Instr := [.sastore, .iinc 2 1, .goto 4]
def B_179_8 : List Instr := [.iinc 1 1, .goto 1]
def B_179_9 : List Instr := [.aload 0, .getfield 716, .iconst 1, .isub, .istore 1, .goto_w 10]
def B_179_10 : List Instr := [.iload 1, .ifCond .lt 13, .iconst 0, .istore 2, .goto_w 11]
def B_179_11 : List Instr := [.aload 0, .getfield 8919, .iload 1, .saload, .ifCond .eq 12, .iload 2, .aload 0, .getfield 8909, .iload 1, .iaload, .invokeinterface 152 1, .if_icmp .ge 12, .aload 0, .getfield 8919, .aload 0, .getfield 8911, .iconst 3, .iload 1, .imul, .iload 2, .iadd, .iaload, .iconst 1, .sastore, .iinc 2 1, .goto 11]
def B_179_12 : List Instr := [.iinc 1 (-1), .goto 10]
def B_179_13 : List Instr := [.return_]
def cd_179 (b : Int) : List Instr := ([B_179_0, B_179_1, B_179_2, B_179_3, B_179_4, B_179_5, B_179_6, B_179_7, B_179_8, B_179_9, B_179_10, B_179_11, B_179_12, B_179_13] : List (List Instr)).getD b.toNat []
theorem kk_179 : cd_179 0 = B_179_0 ∧ cd_179 1 = B_179_1 ∧ cd_179 2 = B_179_2 ∧ cd_179 3 = B_179_3 ∧ cd_179 4 = B_179_4 ∧ cd_179 5 = B_179_5 ∧ cd_179 6 = B_179_6 ∧ cd_179 7 = B_179_7 ∧ cd_179 8 = B_179_8 ∧ cd_179 9 = B_179_9 ∧ cd_179 10 = B_179_10 ∧ cd_179 11 = B_179_11 ∧ cd_179 12 = B_179_12 ∧ cd_179 13 = B_179_13 := ⟨rfl, rfl, rfl, rfl, rfl, rfl, rfl, rfl, rfl, rfl, rfl, rfl, rfl, rfl⟩
-- 180: ConeFormsModel.columns()I
def B_180_0 : List Instr := [.iconst 0, .istore 1, .iconst 0, .istore 2, .goto_w 1]
def B_180_1 : List Instr := [.iload 2, .aload 0, .getfield 716, .if_icmp .ge 5, .iload 1, .aload 0, .iload 2, .multianewarray 109 2, .ifCond .ne 2, .aload 0, .iload 2, .multianewarray 110 2, .ifCond .eq 3, .goto_w 2]
def B_180_2 : List Instr := [.iconst 1, .goto 4]
def B_180_3 : List Instr := [.iconst 0, .goto_w 4]
def B_180_4 : List Instr := [.iadd, .istore 1, .iinc 2 1, .goto 1]
def B_180_5 : List Instr := [.iload 1, .ret 0]
def cd_180 (b : Int) : List Instr := ([B_180_0, B_180_1, B_180_2, B_180_3, B_180_4, B_180_5] : List (List Instr)).getD b.toNat []
theorem kk_180 : cd_180 0 = B_180_0 ∧ cd_180 1 = B_180_1 ∧ cd_180 2 = B_180_2 ∧ cd_180 3 = B_180_3 ∧ cd_180 4 = B_180_4 ∧ cd_180 5 = B_180_5 := ⟨rfl, rfl, rfl, rfl, rfl, rfl⟩
-- 181: ConeFormsModel.variable(I)Z
def B_181_0 : List Instr := [.aload 0, .getfield 8919, .iload 1, .saload, .ifCond .eq 1, .aload 0, .getfield 8909, .iload 1, .iaload, .iconst 1, .if_icmp .ne 1, .iconst 1, .goto 2]
def B_181_1 : List Instr := [.iconst 0, .goto_w 2]
def B_181_2 : List Instr := [.ret 1]
def cd_181 (b : Int) : List Instr := ([B_181_0, B_181_1, B_181_2] : List (List Instr)).getD b.toNat []
theorem kk_181 : cd_181 0 = B_181_0 ∧ cd_181 1 = B_181_1 ∧ cd_181 2 = B_181_2 := ⟨rfl, rfl, rfl⟩
-- 182: ConeFormsModel.auxiliary(I)Z
def B_182_0 : List Instr := [.aload 0, .getfield 8919, .iload 1, .saload, .ifCond .eq 1, .aload 0, .getfield 8909, .iload 1, .iaload, .iconst 7, .if_icmp .lt 1, .aload 0, .getfield 8916, .iload 1, .iaload, .ifCond .eq 1, .iconst 1, .goto 2]
def B_182_1 : List Instr := [.iconst 0, .goto_w 2]
def B_182_2 : List Instr := [.ret 1]
def cd_182 (b : Int) : List Instr := ([B_182_0, B_182_1, B_182_2] : List (List Instr)).getD b.toNat []
theorem kk_182 : cd_182 0 = B_182_0 ∧ cd_182 1 = B_182_1 ∧ cd_182 2 = B_182_2 := ⟨rfl, rfl, rfl⟩
-- 183: ConeFormsModel.column(I)I
def B_183_0 : List Instr := [.aload 0, .iload 1, .multianewarray 95 2, .ifCond .eq 1, .aload 0, .getfield 4834, .ifCond .ne 2, .goto_w 1]
def B_183_1 : List Instr := [.iconst (-1), .ret 0]
def B_183_2 : List Instr := [.aload 0, .multianewarray 106 1, .aload 0, .iload 1, .multianewarray 111 2, .ret 0]
def cd_183 (b : Int) : List Instr := ([B_183_0, B_183_1, B_183_2] : List (List Instr)).getD b.toNat []
theorem kk_183 : cd_183 0 = B_183_0 ∧ cd_183 1 = B_183_1 ∧ cd_183 2 = B_183_2 := ⟨rfl, rfl, rfl⟩
-- 184: ConeFormsModel.place(I)I
def B_184_0 : List Instr := [.aload 0, .iload 1, .multianewarray 109 2, .ifCond .ne 1, .aload 0, .iload 1, .multianewarray 110 2, .ifCond .ne 1, .iconst (-1), .ret 0]
def B_184_1 : List Instr := [.iconst 0, .istore 2, .iconst 0, .istore 3, .goto_w 2]
def B_184_2 : List Instr := [.iload 3, .aload 0, .getfield 716, .if_icmp .ge 10, .aload 0, .iload 1, .multianewarray 109 2, .ifCond .eq 4, .aload 0, .iload 3, .multianewarray 109 2, .ifCond .eq 3, .iload 3, .iload 1, .if_icmp .ge 3, .iconst 1, .goto 7]
def B_184_3 : List Instr := [.iconst 0, .goto 7]
def B_184_4 : List Instr := [.aload 0, .iload 3, .multianewarray 109 2, .ifCond .ne 5, .aload 0, .iload 3, .multianewarray 110 2, .ifCond .eq 6, .iload 3, .iload 1, .if_icmp .ge 6, .goto_w 5]
def B_184_5 : List Instr := [.iconst 1, .goto 7]
def B_184_6 : List Instr := [.iconst 0, .goto_w 7]
def B_184_7 : List Instr := [.istore 4, .iload 2, .iload 4, .ifCond .eq 8, .iconst 1, .goto 9]
def B_184_8 : List Instr := [.iconst 0, .goto_w 9]
def B_184_9 : List Instr := [.iadd, .istore 2, .iinc 3 1, .goto 2]
def B_184_10 : List Instr := [.iload 2, .ret 0]
def cd_184 (b : Int) : List Instr := ([B_184_0, B_184_1, B_184_2, B_184_3, B_184_4, B_184_5, B_184_6, B_184_7, B_184_8, B_184_9, B_184_10] : List (List Instr)).getD b.toNat []
theorem kk_184 : cd_184 0 = B_184_0 ∧ cd_184 1 = B_184_1 ∧ cd_184 2 = B_184_2 ∧ cd_184 3 = B_184_3 ∧ cd_184 4 = B_184_4 ∧ cd_184 5 = B_184_5 ∧ cd_184 6 = B_184_6 ∧ cd_184 7 = B_184_7 ∧ cd_184 8 = B_184_8 ∧ cd_184 9 = B_184_9 ∧ cd_184 10 = B_184_10 := ⟨rfl, rfl, rfl, rfl, rfl, rfl, rfl, rfl, rfl, rfl, rfl⟩
-- 185: ConeFormsModel.rows(I)I
def B_185_0 : List Instr := [.aload 0, .getfield 4834, .ifCond .ne 1, .iconst 0, .ret 0]
def B_185_1 : List Instr := [.aload 0, .multianewarray 106 1, .aload 0, .iload 1, .multianewarray 112 2, .ret 0]
def cd_185 (b : Int) : List Instr := ([B_185_0, B_185_1] : List (List Instr)).getD b.toNat []
theorem kk_185 : cd_185 0 = B_185_0 ∧ cd_185 1 = B_185_1 := ⟨rfl, rfl⟩
-- 186: ConeFormsModel.rowCount(I)I
def B_186_0 : List Instr := [.iconst 0, .istore 2, .iconst 0, .istore 3, .goto_w 1]
def B_186_1 : List Instr := [.iload 3, .aload 0, .getfield 734, .if_icmp .ge 6, .iload 2, .iload 1, .aload 0, .getfield 8927, .iload 3, .saload, .ifCond .eq 2, .iconst 0, .goto 3]
def B_186_2 : List Instr := [.iconst 1, .goto_w 3]
def B_186_3 : List Instr := [.if_icmp .ne 4, .iconst 1, .goto 5]
def B_186_4 : List Instr := [.iconst 0, .goto_w 5]
def B_186_5 : List Instr := [.iadd, .istore 2, .iinc 3 1, .goto 1]
def B_186_6 : List Instr := [.iconst 0, .istore 3, .goto_w 7]
def B_186_7 : List Instr := [.iload 3, .aload 0, .getfield 716, .if_icmp .ge 12, .iload 2, .aload 0, .iload 3, .multianewarray 110 2, .ifCond .eq 10, .iload 1, .aload 0, .getfield 8909, .iload 3, .iaload, .iconst 10, .if_icmp .ne 8, .iconst 2, .goto 9]
def B_186_8 : List Instr := [.iconst 1, .goto_w 9]
def B_186_9 : List Instr := [.if_icmp .ne 10, .aload 0, .getfield 8909, .iload 3, .iaload, .invokeinterface 187 1, .goto 11]
def B_186_10 : List Instr := [.iconst 0, .goto_w 11]
def B_186_11 : List Instr := [.iadd, .istore 2, .iinc 3 1, .goto 7]
def B_186_12 : List Instr := [.iload 2, .ret 0]
def cd_186 (b : Int) : List Instr := ([B_186_0, B_186_1, B_186_2, B_186_3, B_186_4, B_186_5, B_186_6, B_186_7, B_186_8, B_186_9, B_186_10, B_186_11, B_186_12] : List (List Instr)).getD b.toNat []
theorem kk_186 : cd_186 0 = B_186_0 ∧ cd_186 1 = B_186_1 ∧ cd_186 2 = B_186_2 ∧ cd_186 3 = B_186_3 ∧ cd_186 4 = B_186_4 ∧ cd_186 5 = B_186_5 ∧ cd_186 6 = B_186_6 ∧ cd_186 7 = B_186_7 ∧ cd_186 8 = B_186_8 ∧ cd_186 9 = B_186_9 ∧ cd_186 10 = B_186_10 ∧ cd_186 11 = B_186_11 ∧ cd_186 12 = B_186_12 := ⟨rfl, rfl, rfl, rfl, rfl, rfl, rfl, rfl, rfl, rfl, rfl, rfl, rfl⟩
-- 187: ConeFormsModel.rowsOf(I)I
def B_187_0 : List Instr := [.iload 0, .iconst 11, .if_icmp .eq 1, .iload 0, .iconst 10, .if_icmp .ne 2, .goto_w 1]
def B_187_1 : List Instr := [.iconst 3, .goto 3]
def B_187_2 : List Instr := [.iconst 2, .goto_w 3]
def B_187_3 : List Instr := [.ret 0]
def cd_187 (b : Int) : List Instr := ([B_187_0, B_187_1, B_187_2, B_187_3] : List (List Instr)).getD b.toNat []
theorem kk_187 : cd_187 0 = B_187_0 ∧ cd_187 1 = B_187_1 ∧ cd_187 2 = B_187_2 ∧ cd_187 3 = B_187_3 := ⟨rfl, rfl, rfl, rfl⟩
-- 188: ConeFormsModel.entry(II)I
def B_188_0 : List Instr := [.aload 0, .getfield 4834, .ifCond .ne 1, .iconst 0, .ret 0]
def B_188_1 : List Instr := [.aload 0, .multianewarray 106 1, .iload 1, .iconst (-1), .if_icmp .lt 2, .iload 1, .aload 0, .multianewarray 113 1, .if_icmp .ge 2, .iload 2, .iconst (-1), .if_icmp .lt 2, .iload 2, .aload 0, .multianewarray 107 1, .if_icmp .lt 3, .goto_w 2]
def B_188_2 : List Instr := [.iconst 0, .ret 0]
def B_188_3 : List Instr := [.aload 0, .iconst (-1), .multianewarray 114 2, .aload 0, .iload 1, .multianewarray 115 2, .lstore 3, .iload 2, .iconst (-1), .if_icmp .ne 4, .lload 3, .l2i, .ret 0]
def B_188_4 : List Instr := [.aload 0, .iload 2, .multianewarray 114 2, .aload 0, .iload 1, .multianewarray 115 2, .lstore 5, .lload 5, .lload 3, .lsub, .l2i, .ret 0]
def cd_188 (b : Int) : List Instr := ([B_188_0, B_188_1, B_188_2, B_188_3, B_188_4] : List (List Instr)).getD b.toNat []
theorem kk_188 : cd_188 0 = B_188_0 ∧ cd_188 1 = B_188_1 ∧ cd_188 2 = B_188_2 ∧ cd_188 3 = B_188_3 ∧ cd_188 4 = B_188_4 := ⟨rfl, rfl, rfl, rfl, rfl⟩
-- 189: ConeFormsModel.allRows()I
def B_189_0 : List Instr := [.aload 0, .iconst 0, .multianewarray 112 2, .aload 0, .iconst 1, .multianewarray 112 2, .iadd, .aload 0, .iconst 2, .multianewarray 112 2, .iadd, .ret 0]
def cd_189 (b : Int) : List Instr := ([B_189_0] : List (List Instr)).getD b.toNat []
theorem kk_189 : cd_189 0 = B_189_0 := rfl
-- 190: ConeFormsModel.expand(I)V
def B_190_0 : List Instr := [.iconst 0, .istore 2, .goto_w 1]
def B_190_1 : List Instr := [.iload 2, .aload 0, .getfield 716, .if_icmp .ge 12, .aload 0, .getfield 8911, .iconst 3, .iload 2, .imul, .iaload, .istore 3, .aload 0, .getfield 8911, .iconst 3, .iload 2, .imul, .iconst 1, .iadd, .iaload, .istore 4, .aload 0, .getfield 8919, .iload 2, .saload, .ifCond .ne 2, .aload 0, .getfield 8923, .iload 2, .jsr_w 0, .lastore, .goto 11]
def B_190_2 : List Instr := [.aload 0, .getfield 8916, .iload 2, .iaload, .ifCond .ne 3, .aload 0, .getfield 8923, .iload 2, .aload 0, .getfield 8918, .iload 2, .iaload, .i2l, .lastore, .goto 11]
def B_190_3 : List Instr := [.aload 0, .iload 2, .multianewarray 109 2, .ifCond .ne 4, .aload 0, .iload 2, .multianewarray 110 2, .ifCond .eq 5, .goto_w 4]
def B_190_4 : List Instr := [.aload 0, .getfield 8923, .iload 2, .aload 0, .iload 2, .iload 1, .multianewarray 116 3, .lastore, .goto 11]
def B_190_5 : List Instr := [.aload 0, .getfield 8909, .iload 2, .iaload, .iconst 3, .if_icmp .ne 6, .aload 0, .getfield 8923, .iload 2, .aload 0, .getfield 8923, .iload 3, .laload, .aload 0, .getfield 8923, .iload 4, .laload, .ladd, .lastore, .goto 11]
def B_190_6 : List Instr := [.aload 0, .getfield 8909, .iload 2, .iaload, .iconst 4, .if_icmp .ne 7, .aload 0, .getfield 8923, .iload 2, .aload 0, .getfield 8923, .iload 3, .laload, .aload 0, .getfield 8923, .iload 4, .laload, .lsub, .lastore, .goto 11]
def B_190_7 : List Instr := [.aload 0, .getfield 8909, .iload 2, .iaload, .iconst 5, .if_icmp .ne 8, .aload 0, .getfield 8923, .iload 2, .aload 0, .getfield 8923, .iload 3, .laload, .lneg, .lastore, .goto 11]
def B_190_8 : List Instr := [.aload 0, .getfield 8923, .iload 2, .aload 0, .getfield 8916, .iload 3, .iaload, .ifCond .ne 9, .aload 0, .getfield 8918, .iload 3, .iaload, .i2l, .aload 0, .getfield 8923, .iload 4, .laload, .lmul, .goto 10]
def B_190_9 : List Instr := [.aload 0, .getfield 8918, .iload 4, .iaload, .i2l, .aload 0, .getfield 8923, .iload 3, .laload, .lmul, .goto_w 10]
def B_190_10 : List Instr := [.lastore, .goto_w 11]
def B_190_11 : List Instr := [.iinc 2 1, .goto 1]
def B_190_12 : List Instr := [.return_]
def cd_190 (b : Int) : List Instr := ([B_190_0, B_190_1, B_190_2, B_190_3, B_190_4, B_190_5, B_190_6, B_190_7, B_190_8, B_190_9, B_190_10, B_190_11, B_190_12] : List (List Instr)).getD b.toNat []
theorem kk_190 : cd_190 0 = B_190_0 ∧ cd_190 1 = B_190_1 ∧ cd_190 2 = B_190_2 ∧ cd_190 3 = B_190_3 ∧ cd_190 4 = B_190_4 ∧ cd_190 5 = B_190_5 ∧ cd_190 6 = B_190_6 ∧ cd_190 7 = B_190_7 ∧ cd_190 8 = B_190_8 ∧ cd_190 9 = B_190_9 ∧ cd_190 10 = B_190_10 ∧ cd_190 11 = B_190_11 ∧ cd_190 12 = B_190_12 := ⟨rfl, rfl, rfl, rfl, rfl, rfl, rfl, rfl, rfl, rfl, rfl, rfl, rfl⟩
-- 191: ConeFormsModel.chosen(II)J
def B_191_0 : List Instr := [.iload 2, .iconst (-2), .if_icmp .ne 3, .aload 0, .iload 1, .multianewarray 109 2, .ifCond .eq 1, .aload 0, .getfield 8913, .iload 1, .iaload, .i2l, .goto 2]
def B_191_1 : List Instr := [.aload 0, .getfield 8931, .iload 1, .iaload, .i2l, .goto_w 2]
def B_191_2 : List Instr := [.lreturn]
def B_191_3 : List Instr := [.aload 0, .iload 1, .multianewarray 111 2, .iload 2, .if_icmp .ne 4, .jsr_w 1, .goto 5]
def B_191_4 : List Instr := [.jsr_w 0, .goto_w 5]
def B_191_5 : List Instr := [.lreturn]
def cd_191 (b : Int) : List Instr := ([B_191_0, B_191_1, B_191_2, B_191_3, B_191_4, B_191_5] : List (List Instr)).getD b.toNat []
theorem kk_191 : cd_191 0 = B_191_0 ∧ cd_191 1 = B_191_1 ∧ cd_191 2 = B_191_2 ∧ cd_191 3 = B_191_3 ∧ cd_191 4 = B_191_4 ∧ cd_191 5 = B_191_5 := ⟨rfl, rfl, rfl, rfl, rfl, rfl⟩
-- 192: ConeFormsModel.rowValue(I)J
def B_192_0 : List Instr := [.iload 1, .iconst (-1), .if_icmp .ne 3, .aload 0, .getfield 4829, .ifCond .eq 1, .aload 0, .getfield 8923, .aload 0, .getfield 732, .laload, .goto 2]
def B_192_1 : List Instr := [.aload 0, .getfield 8923, .aload 0, .getfield 732, .laload, .lneg, .goto_w 2]
def B_192_2 : List Instr := [.lreturn]
def B_192_3 : List Instr := [.iload 1, .istore 2, .iconst 0, .istore 3, .goto_w 4]
def B_192_4 : List Instr := [.iload 3, .iconst 3, .if_icmp .ge 19, .iconst 0, .istore 4, .goto_w 5]
def B_192_5 : List Instr := [.iload 4, .aload 0, .getfield 734, .if_icmp .ge 12, .iload 3, .aload 0, .getfield 8927, .iload 4, .saload, .ifCond .eq 6, .iconst 0, .goto 7]
def B_192_6 : List Instr := [.iconst 1, .goto_w 7]
def B_192_7 : List Instr := [.if_icmp .ne 11, .iload 2, .ifCond .ne 10, .aload 0, .getfield 8927, .iload 4, .saload, .ifCond .eq 8, .aload 0, .getfield 8923, .aload 0, .getfield 8928, .iload 4, .iaload, .laload, .aload 0, .getfield 8923, .aload 0, .getfield 8929, .iload 4, .iaload, .laload, .lsub, .goto 9]
def B_192_8 : List Instr := [.aload 0, .getfield 8923, .aload 0, .getfield 8929, .iload 4, .iaload, .laload, .aload 0, .getfield 8923, .aload 0, .getfield 8928, .iload 4, .iaload, .laload, .lsub, .goto_w 9]
def B_192_9 : List Instr := [.lreturn]
def B_192_10 : List Instr := [.iinc 2 (-1), .goto_w 11]
def B_192_11 : List Instr := [.iinc 4 1, .goto 5]
def B_192_12 : List Instr := [.iconst 0, .istore 4, .goto_w 13]
def B_192_13 : List Instr := [.iload 4, .aload 0, .getfield 716, .if_icmp .ge 18, .aload 0, .iload 4, .multianewarray 110 2, .ifCond .eq 17, .iload 3, .aload 0, .getfield 8909, .iload 4, .iaload, .iconst 10, .if_icmp .ne 14, .iconst 2, .goto 15]
def B_192_14 : List Instr := [.iconst 1, .goto_w 15]
def B_192_15 : List Instr := [.if_icmp .ne 17, .aload 0, .getfield 8909, .iload 4, .iaload, .invokeinterface 187 1, .istore 5, .iload 2, .iload 5, .if_icmp .ge 16, .aload 0, .iload 4, .iload 2, .multianewarray 117 3, .lreturn]
def B_192_16 : List Instr := [.iload 2, .iload 5, .isub, .istore 2, .goto_w 17]
def B_192_17 : List Instr := [.iinc 4 1, .goto 13]
def B_192_18 : List Instr := [.iinc 3 1, .goto 4]
def B_192_19 : List Instr := [.jsr_w 0, .lreturn]
def cd_192 (b : Int) : List Instr := ([B_192_0, B_192_1, B_192_2, B_192_3, B_192_4, B_192_5, B_192_6, B_192_7, B_192_8, B_192_9, B_192_10, B_192_11, B_192_12, B_192_13, B_192_14, B_192_15, B_192_16, B_192_17, B_192_18, B_192_19] : List (List Instr)).getD b.toNat []
theorem kk_192 : cd_192 0 = B_192_0 ∧ cd_192 1 = B_192_1 ∧ cd_192 2 = B_192_2 ∧ cd_192 3 = B_192_3 ∧ cd_192 4 = B_192_4 ∧ cd_192 5 = B_192_5 ∧ cd_192 6 = B_192_6 ∧ cd_192 7 = B_192_7 ∧ cd_192 8 = B_192_8 ∧ cd_192 9 = B_192_9 ∧ cd_192 10 = B_192_10 ∧ cd_192 11 = B_192_11 ∧ cd_192 12 = B_192_12 ∧ cd_192 13 = B_192_13 ∧ cd_192 14 = B_192_14 ∧ cd_192 15 = B_192_15 ∧ cd_192 16 = B_192_16 ∧ cd_192 17 = B_192_17 ∧ cd_192 18 = B_192_18 ∧ cd_192 19 = B_192_19 := ⟨rfl, rfl, rfl, rfl, rfl, rfl, rfl, rfl, rfl, rfl, rfl, rfl, rfl, rfl, rfl, rfl, rfl, rfl, rfl, rfl⟩
-- 193: ConeFormsModel.rowOf(II)J
def B_193_0 : List Instr := [.aload 0, .getfield 8911, .iconst 3, .iload 1, .imul, .iaload, .istore 3, .aload 0, .getfield 8911, .iconst 3, .iload 1, .imul, .iconst 1, .iadd, .iaload, .istore 4, .aload 0, .getfield 8923, .iload 1, .laload, .lstore 5, .aload 0, .getfield 8923, .iload 3, .laload, .lstore 7, .iload 4, .ifCond .ge 1, .jsr_w 0, .goto 2]
def B_193_1 : List Instr := [.aload 0, .getfield 8923, .iload 4, .laload, .goto_w 2]
def B_193_2 : List Instr := [.lstore 9, .aload 0, .getfield 8909, .iload 1, .iaload, .tableswitch 16 7 10 #[3, 6, 9, 12]]
def B_193_3 : List Instr := [.iload 2, .ifCond .ne 4, .lload 5, .lload 7, .lsub, .goto 5]
def B_193_4 : List Instr := [.lload 5, .lload 9, .lsub, .goto_w 5]
def B_193_5 : List Instr := [.lreturn]
def B_193_6 : List Instr := [.iload 2, .ifCond .ne 7, .lload 7, .lload 5, .lsub, .goto 8]
def B_193_7 : List Instr := [.lload 9, .lload 5, .lsub, .goto_w 8]
def B_193_8 : List Instr := [.lreturn]
def B_193_9 : List Instr := [.iload 2, .ifCond .ne 10, .lload 5, .lload 7, .lsub, .goto 11]
def B_193_10 : List Instr := [.lload 5, .lload 7, .ladd, .goto_w 11]
def B_193_11 : List Instr := [.lreturn]
def B_193_12 : List Instr := [.iload 2, .ifCond .ne 13, .jsr_w 1, .lload 5, .ladd, .goto 15]
def B_193_13 : List Instr := [.iload 2, .iconst 1, .if_icmp .ne 14, .jsr_w 1, .lload 5, .lsub, .goto 15]
def B_193_14 : List Instr := [.jsr_w 2, .lload 7, .lmul, .goto_w 15]
def B_193_15 : List Instr := [.lreturn]
def B_193_16 : List Instr := [.aload 0, .getfield 8923, .aload 0, .getfield 8911, .iconst 3, .iload 1, .imul, .iconst 2, .iadd, .iaload, .laload, .lstore 11, .iload 2, .ifCond .ne 17, .lload 5, .lload 7, .lsub, .lload 9, .lsub, .goto 19]
def B_193_17 : List Instr := [.iload 2, .iconst 1, .if_icmp .ne 18, .lload 5, .lload 7, .lsub, .lload 11, .lsub, .goto 19]
def B_193_18 : List Instr := [.lload 5, .lload 9, .lsub, .lload 11, .lsub, .goto_w 19]
def B_193_19 : List Instr := [.lreturn]
def cd_193 (b : Int) : List Instr := ([B_193_0, B_193_1, B_193_2, B_193_3, B_193_4, B_193_5, B_193_6, B_193_7, B_193_8, B_193_9, B_193_10, B_193_11, B_193_12, B_193_13, B_193_14, B_193_15, B_193_16, B_193_17, B_193_18, B_193_19] : List (List Instr)).getD b.toNat []
theorem kk_193 : cd_193 0 = B_193_0 ∧ cd_193 1 = B_193_1 ∧ cd_193 2 = B_193_2 ∧ cd_193 3 = B_193_3 ∧ cd_193 4 = B_193_4 ∧ cd_193 5 = B_193_5 ∧ cd_193 6 = B_193_6 ∧ cd_193 7 = B_193_7 ∧ cd_193 8 = B_193_8 ∧ cd_193 9 = B_193_9 ∧ cd_193 10 = B_193_10 ∧ cd_193 11 = B_193_11 ∧ cd_193 12 = B_193_12 ∧ cd_193 13 = B_193_13 ∧ cd_193 14 = B_193_14 ∧ cd_193 15 = B_193_15 ∧ cd_193 16 = B_193_16 ∧ cd_193 17 = B_193_17 ∧ cd_193 18 = B_193_18 ∧ cd_193 19 = B_193_19 := ⟨rfl, rfl, rfl, rfl, rfl, rfl, rfl, rfl, rfl, rfl, rfl, rfl, rfl, rfl, rfl, rfl, rfl, rfl, rfl, rfl⟩
-- 194: ConeFormsModel.set(II)Z
def B_194_0 : List Instr := [.aload 0, .iload 1, .multianewarray 95 2, .ifCond .ne 1, .iconst 0, .ret 1]
def B_194_1 : List Instr := [.aload 0, .multianewarray 106 1, .aload 0, .getfield 8909, .iload 1, .iaload, .iconst 1, .if_icmp .ne 2, .iconst 20, .goto 5]
def B_194_2 : List Instr := [.aload 0, .getfield 8909, .iload 1, .iaload, .iconst 2, .if_icmp .ne 3, .iconst 9, .goto 5]
def B_194_3 : List Instr := [.aload 0, .getfield 4834, .ifCond .eq 4, .aload 0, .iload 1, .multianewarray 110 2, .ifCond .eq 4, .iconst 1000000, .goto 5]
def B_194_4 : List Instr := [.iconst (-1), .goto_w 5]
def B_194_5 : List Instr := [.istore 3, .iload 3, .ifCond .lt 6, .iload 2, .iload 3, .ineg, .if_icmp .lt 6, .iload 2, .iload 3, .if_icmp .le 7, .goto_w 6]
def B_194_6 : List Instr := [.iconst 0, .ret 1]
def B_194_7 : List Instr := [.aload 0, .getfield 8909, .iload 1, .iaload, .iconst 2, .if_icmp .ne 10, .aload 0, .getfield 8910, .iload 1, .iaload, .iconst 112, .if_icmp .ne 8, .iload 2, .ifCond .lt 9, .goto_w 8]
def B_194_8 : List Instr := [.aload 0, .getfield 8910, .iload 1, .iaload, .iconst 113, .if_icmp .ne 10, .iload 2, .ifCond .le 10, .goto_w 9]
def B_194_9 : List Instr := [.iconst 0, .ret 1]
def B_194_10 : List Instr := [.iload 3, .iconst 1000000, .if_icmp .ne 11, .aload 0, .getfield 8931, .iload 1, .iload 2, .iastore, .goto 12]
def B_194_11 : List Instr := [.aload 0, .getfield 8913, .iload 1, .iload 2, .iastore, .goto_w 12]
def B_194_12 : List Instr := [.iconst 1, .ret 1]
def cd_194 (b : Int) : List Instr := ([B_194_0, B_194_1, B_194_2, B_194_3, B_194_4, B_194_5, B_194_6, B_194_7, B_194_8, B_194_9, B_194_10, B_194_11, B_194_12] : List (List Instr)).getD b.toNat []
theorem kk_194 : cd_194 0 = B_194_0 ∧ cd_194 1 = B_194_1 ∧ cd_194 2 = B_194_2 ∧ cd_194 3 = B_194_3 ∧ cd_194 4 = B_194_4 ∧ cd_194 5 = B_194_5 ∧ cd_194 6 = B_194_6 ∧ cd_194 7 = B_194_7 ∧ cd_194 8 = B_194_8 ∧ cd_194 9 = B_194_9 ∧ cd_194 10 = B_194_10 ∧ cd_194 11 = B_194_11 ∧ cd_194 12 = B_194_12 := ⟨rfl, rfl, rfl, rfl, rfl, rfl, rfl, rfl, rfl, rfl, rfl, rfl, rfl⟩
-- 195: ConeFormsModel.lift()Z
def B_195_0 : List Instr := [.aload 0, .getfield 4834, .ifCond .ne 1, .iconst 0, .ret 1]
def B_195_1 : List Instr := [.aload 0, .multianewarray 94 1, .iconst 0, .istore 1, .goto_w 2]
def B_195_2 : List Instr := [.iload 1, .aload 0, .getfield 716, .if_icmp .ge 3, .aload 0, .getfield 8931, .iload 1, .aload 0, .getfield 8918, .iload 1, .iaload, .iastore, .iinc 1 1, .goto 2]
def B_195_3 : List Instr := [.iconst 1, .ret 1]
def cd_195 (b : Int) : List Instr := ([B_195_0, B_195_1, B_195_2, B_195_3] : List (List Instr)).getD b.toNat []
theorem kk_195 : cd_195 0 = B_195_0 ∧ cd_195 1 = B_195_1 ∧ cd_195 2 = B_195_2 ∧ cd_195 3 = B_195_3 := ⟨rfl, rfl, rfl, rfl⟩
-- 196: ConeFormsModel.fits()Z
def B_196_0 : List Instr := [.aload 0, .getfield 4834, .ifCond .ne 1, .iconst 0, .ret 1]
def B_196_1 : List Instr := [.aload 0, .multianewarray 106 1, .aload 0, .iconst (-2), .multianewarray 114 2, .aload 0, .iconst 0, .multianewarray 112 2, .istore 1, .iload 1, .aload 0, .iconst 1, .multianewarray 112 2, .iadd, .istore 2, .aload 0, .multianewarray 113 1, .istore 3, .iconst 0, .istore 4, .goto_w 2]
def B_196_2 : List Instr := [.iload 4, .iload 2, .if_icmp .ge 6, .aload 0, .iload 4, .multianewarray 115 2, .lstore 5, .iload 4, .iload 1, .if_icmp .ge 3, .lload 5, .jsr_w 0, .lcmp, .ifCond .eq 5, .goto 4]
def B_196_3 : List Instr := [.lload 5, .jsr_w 0, .lcmp, .ifCond .ge 5, .goto_w 4]
def B_196_4 : List Instr := [.iconst 0, .ret 1]
def B_196_5 : List Instr := [.iinc 4 1, .goto 2]
def B_196_6 : List Instr := [.iload 2, .istore 4, .goto_w 7]
def B_196_7 : List Instr := [.iload 4, .iload 3, .if_icmp .ge 9, .aload 0, .iload 4, .multianewarray 115 2, .lstore 5, .aload 0, .iload 4, .iconst 1, .iadd, .multianewarray 115 2, .lstore 7, .aload 0, .iload 4, .iconst 2, .iadd, .multianewarray 115 2, .lstore 9, .lload 5, .lload 7, .lload 9, .invokeinterface 197 3, .ifCond .ne 8, .iconst 0, .ret 1]
def B_196_8 : List Instr := [.iinc 4 3, .goto 7]
def B_196_9 : List Instr := [.iconst 1, .ret 1]
def cd_196 (b : Int) : List Instr := ([B_196_0, B_196_1, B_196_2, B_196_3, B_196_4, B_196_5, B_196_6, B_196_7, B_196_8, B_196_9] : List (List Instr)).getD b.toNat []
theorem kk_196 : cd_196 0 = B_196_0 ∧ cd_196 1 = B_196_1 ∧ cd_196 2 = B_196_2 ∧ cd_196 3 = B_196_3 ∧ cd_196 4 = B_196_4 ∧ cd_196 5 = B_196_5 ∧ cd_196 6 = B_196_6 ∧ cd_196 7 = B_196_7 ∧ cd_196 8 = B_196_8 ∧ cd_196 9 = B_196_9 := ⟨rfl, rfl, rfl, rfl, rfl, rfl, rfl, rfl, rfl, rfl⟩
-- 197: ConeFormsModel.inside(JJJ)Z
def B_197_0 : List Instr := [.lload 0, .jsr_w 0, .lcmp, .ifCond .lt 1, .lload 2, .lload 0, .lcmp, .ifCond .gt 1, .lload 2, .lneg, .lload 0, .lcmp, .ifCond .gt 1, .lload 4, .lload 0, .lcmp, .ifCond .gt 1, .lload 4, .lneg, .lload 0, .lcmp, .ifCond .le 2, .goto_w 1]
def B_197_1 : List Instr := [.iconst 0, .ret 1]
def B_197_2 : List Instr := [.lload 0, .lload 0, .lmul, .lload 2, .lload 2, .lmul, .lload 4, .lload 4, .lmul, .ladd, .lcmp, .ifCond .lt 3, .iconst 1, .goto 4]
def B_197_3 : List Instr := [.iconst 0, .goto_w 4]
def B_197_4 : List Instr := [.ret 1]
def cd_197 (b : Int) : List Instr := ([B_197_0, B_197_1, B_197_2, B_197_3, B_197_4] : List (List Instr)).getD b.toNat []
theorem kk_197 : cd_197 0 = B_197_0 ∧ cd_197 1 = B_197_1 ∧ cd_197 2 = B_197_2 ∧ cd_197 3 = B_197_3 ∧ cd_197 4 = B_197_4 := ⟨rfl, rfl, rfl, rfl, rfl⟩
-- 198: ConeFormsModel.cost()J
def B_198_0 : List Instr := [.aload 0, .getfield 4834, .ifCond .ne 1, .jsr_w 0, .lreturn]
def B_198_1 : List Instr := [.aload 0, .multianewarray 106 1, .aload 0, .iconst (-2), .multianewarray 114 2, .aload 0, .iconst (-1), .multianewarray 115 2, .lreturn]
def cd_198 (b : Int) : List Instr := ([B_198_0, B_198_1] : List (List Instr)).getD b.toNat []
theorem kk_198 : cd_198 0 = B_198_0 ∧ cd_198 1 = B_198_1 := ⟨rfl, rfl⟩
-- 199: ConeFormsLaw.law([I)Z
def B_199_0 : List Instr := [.new 4, .dup, .multianewarray 118 1, .astore 1, .new 11, .dup, .multianewarray 119 1, .astore 2, .iconst 0, .istore 3, .goto_w 1]
def B_199_1 : List Instr := [.iload 3, .aload 0, .arraylength, .iconst 4, .isub, .if_icmp .gt 31, .aload 0, .iload 3, .iaload, .iconst 31, .iand, .tableswitch 30 0 19 #[2, 3, 4, 5, 6, 7, 8, 9, 10, 11, 16, 21, 22, 23, 24, 25, 26, 27, 28, 29]]
def B_199_2 : List Instr := [.aload 1, .aload 0, .iload 3, .iconst 1, .iadd, .iaload, .i2c, .multianewarray 120 2, .aload 2, .aload 0, .iload 3, .iconst 1, .iadd, .iaload, .i2c, .multianewarray 121 2, .if_icmp .eq 30, .iconst 0, .ret 1]
def B_199_3 : List Instr := [.aload 1, .multianewarray 122 1, .aload 2, .multianewarray 123 1, .goto 30]
def B_199_4 : List Instr := [.aload 1, .multianewarray 124 1, .aload 2, .multianewarray 125 1, .if_icmp .eq 30, .iconst 0, .ret 1]
def B_199_5 : List Instr := [.aload 1, .multianewarray 126 1, .aload 2, .multianewarray 127 1, .if_icmp .eq 30, .iconst 0, .ret 1]
def B_199_6 : List Instr := [.aload 1, .aload 0, .iload 3, .iconst 1, .iadd, .iaload, .multianewarray 128 2, .aload 2, .aload 0, .iload 3, .iconst 1, .iadd, .iaload, .multianewarray 129 2, .if_icmp .eq 30, .iconst 0, .ret 1]
def B_199_7 : List Instr := [.aload 1, .aload 0, .iload 3, .iconst 1, .iadd, .iaload, .multianewarray 130 2, .aload 2, .aload 0, .iload 3, .iconst 1, .iadd, .iaload, .multianewarray 131 2, .if_icmp .eq 30, .iconst 0, .ret 1]
def B_199_8 : List Instr := [.aload 1, .aload 0, .iload 3, .iconst 1, .iadd, .iaload, .aload 0, .iload 3, .iconst 2, .iadd, .iaload, .multianewarray 132 3, .aload 2, .aload 0, .iload 3, .iconst 1, .iadd, .iaload, .aload 0, .iload 3, .iconst 2, .iadd, .iaload, .multianewarray 133 3, .if_icmp .eq 30, .iconst 0, .ret 1]
def B_199_9 : List Instr := [.aload 1, .aload 0, .iload 3, .iconst 1, .iadd, .iaload, .multianewarray 134 2, .aload 2, .aload 0, .iload 3, .iconst 1, .iadd, .iaload, .multianewarray 135 2, .if_icmp .eq 30, .iconst 0, .ret 1]
def B_199_10 : List Instr := [.aload 1, .aload 0, .iload 3, .iconst 1, .iadd, .iaload, .multianewarray 136 2, .aload 2, .aload 0, .iload 3, .iconst 1, .iadd, .iaload, .multianewarray 137 2, .if_icmp .eq 30, .iconst 0, .ret 1]
def B_199_11 : List Instr := [.aload 1, .aload 0, .iload 3, .iconst 1, .iadd, .iaload, .aload 0, .iload 3, .iconst 2, .iadd, .iaload, .ifCond .eq 12, .iconst 1, .goto 13]
def B_199_12 : List Instr := [.iconst 0, .goto_w 13]
def B_199_13 : List Instr := [.multianewarray 138 3, .aload 2, .aload 0, .iload 3, .iconst 1, .iadd, .iaload, .aload 0, .iload 3, .iconst 2, .iadd, .iaload, .ifCond .eq 14, .iconst 1, .goto 15]
def B_199_14 : List Instr := [.iconst 0, .goto_w 15]
def B_199_15 : List Instr := [.multianewarray 139 3, .if_icmp .eq 30, .iconst 0, .ret 1]
def B_199_16 : List Instr := [.aload 1, .aload 0, .iload 3, .iconst 1, .iadd, .iaload, .ifCond .eq 17, .iconst 1, .goto 18]
def B_199_17 : List Instr := [.iconst 0, .goto_w 18]
def B_199_18 : List Instr := [.aload 0, .iload 3, .iconst 2, .iadd, .iaload, .aload 0, .iload 3, .iconst 3, .iadd, .iaload, .multianewarray 140 4, .aload 2, .aload 0, .iload 3, .iconst 1, .iadd, .iaload, .ifCond .eq 19, .iconst 1, .goto 20]
def B_199_19 : List Instr := [.iconst 0, .goto_w 20]
def B_199_20 : List Instr := [.aload 0, .iload 3, .iconst 2, .iadd, .iaload, .aload 0, .iload 3, .iconst 3, .iadd, .iaload, .multianewarray 141 4, .if_icmp .eq 30, .iconst 0, .ret 1]
def B_199_21 : List Instr := [.aload 1, .aload 0, .iload 3, .iconst 1, .iadd, .iaload, .multianewarray 142 2, .aload 2, .aload 0, .iload 3, .iconst 1, .iadd, .iaload, .multianewarray 143 2, .if_icmp .eq 30, .iconst 0, .ret 1]
def B_199_22 : List Instr := [.aload 1, .multianewarray 144 1, .aload 2, .multianewarray 145 1, .if_icmp .eq 30, .iconst 0, .ret 1]
def B_199_23 : List Instr := [.aload 1, .aload 0, .iload 3, .iconst 1, .iadd, .iaload, .multianewarray 146 2, .aload 2, .aload 0, .iload 3, .iconst 1, .iadd, .iaload, .multianewarray 147 2, .if_icmp .eq 30, .iconst 0, .ret 1]
def B_199_24 : List Instr := [.aload 1, .aload 0, .iload 3, .iconst 1, .iadd, .iaload, .aload 0, .iload 3, .iconst 2, .iadd, .iaload, .multianewarray 148 3, .aload 2, .aload 0, .iload 3, .iconst 1, .iadd, .iaload, .aload 0, .iload 3, .iconst 2, .iadd, .iaload, .multianewarray 149 3, .if_icmp .eq 30, .iconst 0, .ret 1]
def B_199_25 : List Instr := [.aload 1, .aload 0, .iload 3, .iconst 1, .iadd, .iaload, .multianewarray 150 2, .aload 2, .aload 0, .iload 3, .iconst 1, .iadd, .iaload, .multianewarray 151 2, .if_icmp .eq 30, .iconst 0, .ret 1]
def B_199_26 : List Instr := [.aload 1, .multianewarray 152 1, .aload 2, .multianewarray 153 1, .if_icmp .eq 30, .iconst 0, .ret 1]
def B_199_27 : List Instr := [.aload 1, .multianewarray 154 1, .aload 2, .multianewarray 155 1, .if_icmp .eq 30, .iconst 0, .ret 1]
def B_199_28 : List Instr := [.aload 1, .multianewarray 156 1, .aload 2, .multianewarray 157 1, .lcmp, .ifCond .eq 30, .iconst 0, .ret 1]
def B_199_29 : List Instr := [.aload 1, .multianewarray 158 1, .aload 2, .multianewarray 159 1, .if_icmp .eq 30, .iconst 0, .ret 1]
def B_199_30 : List Instr := [.iinc 3 4, .goto 1]
def B_199_31 : List Instr := [.iconst 1, .ret 1]
def cd_199 (b : Int) : List Instr := ([B_199_0, B_199_1, B_199_2, B_199_3, B_199_4, B_199_5, B_199_6, B_199_7, B_199_8, B_199_9, B_199_10, B_199_11, B_199_12, B_199_13, B_199_14, B_199_15, B_199_16, B_199_17, B_199_18, B_199_19, B_199_20, B_199_21, B_199_22, B_199_23, B_199_24, B_199_25, B_199_26, B_199_27, B_199_28, B_199_29, B_199_30, B_199_31] : List (List Instr)).getD b.toNat []
theorem kk_199 : cd_199 0 = B_199_0 ∧ cd_199 1 = B_199_1 ∧ cd_199 2 = B_199_2 ∧ cd_199 3 = B_199_3 ∧ cd_199 4 = B_199_4 ∧ cd_199 5 = B_199_5 ∧ cd_199 6 = B_199_6 ∧ cd_199 7 = B_199_7 ∧ cd_199 8 = B_199_8 ∧ cd_199 9 = B_199_9 ∧ cd_199 10 = B_199_10 ∧ cd_199 11 = B_199_11 ∧ cd_199 12 = B_199_12 ∧ cd_199 13 = B_199_13 ∧ cd_199 14 = B_199_14 ∧ cd_199 15 = B_199_15 ∧ cd_199 16 = B_199_16 ∧ cd_199 17 = B_199_17 ∧ cd_199 18 = B_199_18 ∧ cd_199 19 = B_199_19 ∧ cd_199 20 = B_199_20 ∧ cd_199 21 = B_199_21 ∧ cd_199 22 = B_199_22 ∧ cd_199 23 = B_199_23 ∧ cd_199 24 = B_199_24 ∧ cd_199 25 = B_199_25 ∧ cd_199 26 = B_199_26 ∧ cd_199 27 = B_199_27 ∧ cd_199 28 = B_199_28 ∧ cd_199 29 = B_199_29 ∧ cd_199 30 = B_199_30 ∧ cd_199 31 = B_199_31 := ⟨rfl, rfl, rfl, rfl, rfl, rfl, rfl, rfl, rfl, rfl, rfl, rfl, rfl, rfl, rfl, rfl, rfl, rfl, rfl, rfl, rfl, rfl, rfl, rfl, rfl, rfl, rfl, rfl, rfl, rfl, rfl, rfl⟩
def pg_l : List (Nat × (Int → List Instr)) := [(1, cd_0), (1, cd_1), (2, cd_2), (2, cd_3), (1, cd_4), (1, cd_5), (1, cd_6), (2, cd_7), (2, cd_8), (1, cd_9), (1, cd_10), (2, cd_11), (2, cd_12), (3, cd_13), (6, cd_14), (4, cd_15), (2, cd_16), (3, cd_17), (2, cd_18), (1, cd_19), (1, cd_20), (2, cd_21), (3, cd_22), (1, cd_23), (2, cd_24), (2, cd_25), (3, cd_26), (1, cd_27), (2, cd_28), (2, cd_29), (5, cd_30), (3, cd_31), (1, cd_32), (4, cd_33), (3, cd_34), (3, cd_35), (1, cd_36), (1, cd_37), (2, cd_38), (2, cd_39), (1, cd_40), (12, cd_41), (2, cd_42), (2, cd_43), (2, cd_44), (8, cd_45), (5, cd_46), (3, cd_47), (6, cd_48), (5, cd_49), (3, cd_50), (4, cd_51), (1, cd_52), (1, cd_53), (1, cd_54), (1, cd_55), (1, cd_56), (3, cd_57), (1, cd_58), (1, cd_59), (1, cd_60), (1, cd_61), (2, cd_62), (11, cd_63), (2, cd_64), (5, cd_65), (2, cd_66), (1, cd_67), (2, cd_68), (2, cd_69), (2, cd_70), (1, cd_71), (1, cd_72), (1, cd_73), (1, cd_74), (1, cd_75), (1, cd_76), (1, cd_77), (2, cd_78), (4, cd_79), (1, cd_80), (4, cd_81), (2, cd_82), (4, cd_83), (4, cd_84), (4, cd_85), (1, cd_86), (3, cd_87), (2, cd_88), (3, cd_89), (3, cd_90), (8, cd_91), (2, cd_92), (3, cd_93), (2, cd_94), (3, cd_95), (2, cd_96), (4, cd_97), (2, cd_98), (2, cd_99), (6, cd_100), (2, cd_101), (8, cd_102), (3, cd_103), (4, cd_104), (3, cd_105), (3, cd_106), (4, cd_107), (3, cd_108), (4, cd_109), (8, cd_110), (4, cd_111), (4, cd_112), (4, cd_113), (3, cd_114), (3, cd_115), (4, cd_116), (2, cd_117), (2, cd_118), (4, cd_119), (3, cd_120), (3, cd_121), (3, cd_122), (1, cd_123), (2, cd_124), (1, cd_125), (3, cd_126), (1, cd_127), (10, cd_128), (2, cd_129), (7, cd_130), (1, cd_131), (1, cd_132), (2, cd_133), (1, cd_134), (3, cd_135), (1, cd_136), (1, cd_137), (2, cd_138), (1, cd_139), (4, cd_140), (2, cd_141), (3, cd_142), (3, cd_143), (3, cd_144), (1, cd_145), (2, cd_146), (2, cd_147), (4, cd_148), (2, cd_149), (1, cd_150), (10, cd_151), (1, cd_152), (8, cd_153), (6, cd_154), (1, cd_155), (2, cd_156), (5, cd_157), (7, cd_158), (5, cd_159), (2, cd_160), (5, cd_161), (7, cd_162), (5, cd_163), (6, cd_164), (5, cd_165), (3, cd_166), (2, cd_167), (2, cd_168), (2, cd_169), (2, cd_170), (7, cd_171), (3, cd_172), (4, cd_173), (3, cd_174), (5, cd_175), (3, cd_176), (2, cd_177), (3, cd_178), (3, cd_179), (3, cd_180), (2, cd_181), (2, cd_182), (2, cd_183), (5, cd_184), (2, cd_185), (4, cd_186), (1, cd_187), (7, cd_188), (1, cd_189), (5, cd_190), (3, cd_191), (6, cd_192), (13, cd_193), (4, cd_194), (2, cd_195), (11, cd_196), (6, cd_197), (1, cd_198), (4, cd_199)]
def vt_l : List (List (Nat × Nat)) := [[(0, 1)], [(1, 3)], [(2, 4)], [(3, 7)], [(0, 2)], [(2, 5)], [(2, 6)], [(0, 9)], [(0, 11)], [(0, 10)], [(0, 12)], [(0, 13)], [(0, 19)], [], [(0, 14)], [(0, 24)], [(0, 25)], [(2, 27)], [(1, 28)], [(4, 41)], [(2, 84)], [(0, 29)], [(1, 31)], [(1, 38)], [(1, 39)], [(0, 30)], [(1, 32)], [(1, 33)], [(1, 34)], [(1, 35)], [(12, 37)], [(2, 42)], [(4, 45)], [(5, 54), (6, 52), (7, 56), (8, 55)], [(4, 57)], [(2, 44)], [(5, 47)], [(6, 49)], [(7, 50)], [(8, 51)], [(5, 48), (6, 48), (7, 48), (8, 48)], [(12, 53)], [(5, 59), (6, 58), (7, 62), (8, 60)], [(5, 63), (6, 63), (7, 63), (8, 63)], [(5, 75), (6, 73), (7, 77), (8, 76)], [(2, 78)], [(5, 64), (6, 64), (7, 64), (8, 64)], [(5, 65), (6, 65), (7, 65), (8, 65)], [(5, 72), (6, 72), (7, 71), (8, 72)], [(5, 68), (6, 66), (7, 70), (8, 69)], [(2, 79)], [(2, 80)], [(2, 81)], [(2, 85)], [(4, 88)], [(4, 93)], [(5, 94), (6, 94), (7, 94), (8, 94)], [(3, 95)], [(3, 100)], [(4, 102)], [(4, 103)], [(5, 98), (6, 96), (7, 101), (8, 99)], [(3, 97)], [(8, 69)], [(4, 105)], [(4, 108)], [(2, 109)], [(9, 111)], [(4, 114)], [(4, 116)], [(4, 117)], [(4, 115)], [(3, 120)], [(2, 123)], [(10, 125)], [(10, 126)], [(10, 124)], [(10, 127)], [(4, 129)], [(3, 130)], [(5, 132), (6, 131), (7, 132), (8, 132)], [(9, 136)], [(11, 141)], [(11, 151)], [(11, 142)], [(11, 149)], [(11, 143)], [(11, 146)], [(11, 148)], [(11, 144)], [(11, 145)], [(11, 147)], [(11, 153)], [(11, 154)], [(11, 157)], [(11, 167)], [(11, 158)], [(11, 159)], [(11, 161)], [(11, 166)], [(11, 162)], [(11, 163)], [(11, 164)], [(11, 165)], [(11, 171)], [(11, 177)], [(11, 179)], [(11, 180)], [(11, 178)], [(11, 181)], [(11, 182)], [(11, 184)], [(11, 186)], [(11, 189)], [(11, 190)], [(11, 192)], [(11, 191)], [(11, 193)], [(4, 0)], [(11, 137)], [(4, 8)], [(11, 138)], [(4, 23)], [(11, 139)], [(4, 26)], [(11, 140)], [(4, 86)], [(11, 155)], [(4, 87)], [(11, 156)], [(4, 89)], [(11, 168)], [(4, 91)], [(11, 194)], [(4, 90)], [(11, 169)], [(4, 104)], [(11, 170)], [(4, 107)], [(11, 172)], [(4, 110)], [(11, 173)], [(4, 112)], [(11, 174)], [(4, 113)], [(11, 176)], [(4, 118)], [(11, 185)], [(4, 119)], [(11, 188)], [(4, 121)], [(11, 183)], [(4, 122)], [(11, 195)], [(4, 128)], [(11, 196)], [(4, 134)], [(11, 198)], [(4, 135)], [(11, 175)]]
def vt_f (k ci : Nat) : Option Nat := (vt_l.getD k []).lookup ci
def PG : am_P := (fun z => pg_l[z]?, vt_f)
section PRG
variable {d : Nat} {w : am_W} {Q : Option Value → am_W → Prop}
theorem am_isA_or {v : Value} (h : am_isA v = true) : v = .null ∨ ∃ a, v = .ref a := by
  cases v <;> simp_all [am_isA]
theorem e_0 {x0 : Nat} : Ev PG (d + 1) 0 [.ref x0] w Q = Wp PG d cd_0 B_0_0 [.ref x0] [] w Q := Ev.go (P := PG) (z := 0) (mL := 1) (C := cd_0) rfl (Nat.le_of_ble_eq_true rfl)
theorem e_1 {x0 : Nat} : Ev PG (d + 1) 1 [.ref x0] w Q = Wp PG d cd_1 B_1_0 [.ref x0] [] w Q := Ev.go (P := PG) (z := 1) (mL := 1) (C := cd_1) rfl (Nat.le_of_ble_eq_true rfl)
theorem e_2 {x0 : Nat} {x1 : Int32} : Ev PG (d + 1) 2 [.ref x0, .int x1] w Q = Wp PG d cd_2 B_2_0 [.ref x0, .int x1] [] w Q := Ev.go (P := PG) (z := 2) (mL := 2) (C := cd_2) rfl (Nat.le_of_ble_eq_true rfl)
theorem e_3 {x0 : Nat} {x1 : Value} (hx1 : am_isA x1 = true) : Ev PG (d + 1) 3 [.ref x0, x1] w Q = Wp PG d cd_3 B_3_0 [.ref x0, x1] [] w Q := by
  (rcases am_isA_or hx1 with rfl | ⟨ax1, rfl⟩) <;> exact Ev.go (P := PG) (z := 3) (mL := 2) (C := cd_3) rfl (Nat.le_of_ble_eq_true rfl)
theorem e_4 {x0 : Nat} : Ev PG (d + 1) 4 [.ref x0] w Q = Wp PG d cd_4 B_4_0 [.ref x0] [] w Q := Ev.go (P := PG) (z := 4) (mL := 1) (C := cd_4) rfl (Nat.le_of_ble_eq_true rfl)
theorem e_5 {x0 : Nat} : Ev PG (d + 1) 5 [.ref x0] w Q = Wp PG d cd_5 B_5_0 [.ref x0] [] w Q := Ev.go (P := PG) (z := 5) (mL := 1) (C := cd_5) rfl (Nat.le_of_ble_eq_true rfl)
theorem e_6 {x0 : Nat} : Ev PG (d + 1) 6 [.ref x0] w Q = Wp PG d cd_6 B_6_0 [.ref x0] [] w Q := Ev.go (P := PG) (z := 6) (mL := 1) (C := cd_6) rfl (Nat.le_of_ble_eq_true rfl)
theorem e_7 {x0 : Nat} {x1 : Int32} : Ev PG (d + 1) 7 [.ref x0, .int x1] w Q = Wp PG d cd_7 B_7_0 [.ref x0, .int x1] [] w Q := Ev.go (P := PG) (z := 7) (mL := 2) (C := cd_7) rfl (Nat.le_of_ble_eq_true rfl)
theorem e_8 {x0 : Nat} {x1 : Int32} : Ev PG (d + 1) 8 [.ref x0, .int x1] w Q = Wp PG d cd_8 B_8_0 [.ref x0, .int x1] [] w Q := Ev.go (P := PG) (z := 8) (mL := 2) (C := cd_8) rfl (Nat.le_of_ble_eq_true rfl)
theorem e_9 {x0 : Nat} : Ev PG (d + 1) 9 [.ref x0] w Q = Wp PG d cd_9 B_9_0 [.ref x0] [] w Q := Ev.go (P := PG) (z := 9) (mL := 1) (C := cd_9) rfl (Nat.le_of_ble_eq_true rfl)
theorem e_10 {x0 : Nat} : Ev PG (d + 1) 10 [.ref x0] w Q = Wp PG d cd_10 B_10_0 [.ref x0] [] w Q := Ev.go (P := PG) (z := 10) (mL := 1) (C := cd_10) rfl (Nat.le_of_ble_eq_true rfl)
theorem e_11 {x0 : Nat} {x1 : Int32} : Ev PG (d + 1) 11 [.ref x0, .int x1] w Q = Wp PG d cd_11 B_11_0 [.ref x0, .int x1] [] w Q := Ev.go (P := PG) (z := 11) (mL := 2) (C := cd_11) rfl (Nat.le_of_ble_eq_true rfl)
theorem e_12 {x0 : Nat} {x1 : Int32} : Ev PG (d + 1) 12 [.ref x0, .int x1] w Q = Wp PG d cd_12 B_12_0 [.ref x0, .int x1] [] w Q := Ev.go (P := PG) (z := 12) (mL := 2) (C := cd_12) rfl (Nat.le_of_ble_eq_true rfl)
theorem e_13 {x0 : Nat} {x1 : Int32} : Ev PG (d + 1) 13 [.ref x0, .int x1] w Q = Wp PG d cd_13 B_13_0 [.ref x0, .int x1, am_J] [] w Q := Ev.go (P := PG) (z := 13) (mL := 3) (C := cd_13) rfl (Nat.le_of_ble_eq_true rfl)
theorem e_14 {x0 : Nat} {x1 : Int32} : Ev PG (d + 1) 14 [.ref x0, .int x1] w Q = Wp PG d cd_14 B_14_0 [.ref x0, .int x1, am_J, am_J, am_J, am_J] [] w Q := Ev.go (P := PG) (z := 14) (mL := 6) (C := cd_14) rfl (Nat.le_of_ble_eq_true rfl)
theorem e_15 {x0 : Int32} {x1 : Int32} {x2 : Int32} : Ev PG (d + 1) 15 [.int x0, .int x1, .int x2] w Q = Wp PG d cd_15 B_15_0 [.int x0, .int x1, .int x2, am_J] [] w Q := Ev.go (P := PG) (z := 15) (mL := 4) (C := cd_15) rfl (Nat.le_of_ble_eq_true rfl)
theorem e_16 {x0 : Int32} {x1 : Int32} : Ev PG (d + 1) 16 [.int x0, .int x1] w Q = Wp PG d cd_16 B_16_0 [.int x0, .int x1] [] w Q := Ev.go (P := PG) (z := 16) (mL := 2) (C := cd_16) rfl (Nat.le_of_ble_eq_true rfl)
theorem e_17 {x0 : Value} {x1 : Int32} (hx0 : am_isA x0 = true) : Ev PG (d + 1) 17 [x0, .int x1] w Q = Wp PG d cd_17 B_17_0 [x0, .int x1, am_J] [] w Q := by
  (rcases am_isA_or hx0 with rfl | ⟨ax0, rfl⟩) <;> exact Ev.go (P := PG) (z := 17) (mL := 3) (C := cd_17) rfl (Nat.le_of_ble_eq_true rfl)
theorem e_18 {x0 : Int32} {x1 : Int32} : Ev PG (d + 1) 18 [.int x0, .int x1] w Q = Wp PG d cd_18 B_18_0 [.int x0, .int x1] [] w Q := Ev.go (P := PG) (z := 18) (mL := 2) (C := cd_18) rfl (Nat.le_of_ble_eq_true rfl)
theorem e_19 {x0 : Nat} : Ev PG (d + 1) 19 [.ref x0] w Q = Wp PG d cd_19 B_19_0 [.ref x0] [] w Q := Ev.go (P := PG) (z := 19) (mL := 1) (C := cd_19) rfl (Nat.le_of_ble_eq_true rfl)
theorem e_20 {x0 : Int32} : Ev PG (d + 1) 20 [.int x0] w Q = Wp PG d cd_20 B_20_0 [.int x0] [] w Q := Ev.go (P := PG) (z := 20) (mL := 1) (C := cd_20) rfl (Nat.le_of_ble_eq_true rfl)
theorem e_21 {x0 : Int32} {x1 : Int32} : Ev PG (d + 1) 21 [.int x0, .int x1] w Q = Wp PG d cd_21 B_21_0 [.int x0, .int x1] [] w Q := Ev.go (P := PG) (z := 21) (mL := 2) (C := cd_21) rfl (Nat.le_of_ble_eq_true rfl)
theorem e_22 {x0 : Int32} {x1 : Int32} {x2 : Value} (hx2 : am_isA x2 = true) : Ev PG (d + 1) 22 [.int x0, .int x1, x2] w Q = Wp PG d cd_22 B_22_0 [.int x0, .int x1, x2] [] w Q := by
  (rcases am_isA_or hx2 with rfl | ⟨ax2, rfl⟩) <;> exact Ev.go (P := PG) (z := 22) (mL := 3) (C := cd_22) rfl (Nat.le_of_ble_eq_true rfl)
theorem e_23 {x0 : Nat} : Ev PG (d + 1) 23 [.ref x0] w Q = Wp PG d cd_23 B_23_0 [.ref x0] [] w Q := Ev.go (P := PG) (z := 23) (mL := 1) (C := cd_23) rfl (Nat.le_of_ble_eq_true rfl)
theorem e_24 {x0 : Nat} {x1 : Int32} : Ev PG (d + 1) 24 [.ref x0, .int x1] w Q = Wp PG d cd_24 B_24_0 [.ref x0, .int x1] [] w Q := Ev.go (P := PG) (z := 24) (mL := 2) (C := cd_24) rfl (Nat.le_of_ble_eq_true rfl)
theorem e_25 {x0 : Nat} {x1 : Int32} : Ev PG (d + 1) 25 [.ref x0, .int x1] w Q = Wp PG d cd_25 B_25_0 [.ref x0, .int x1] [] w Q := Ev.go (P := PG) (z := 25) (mL := 2) (C := cd_25) rfl (Nat.le_of_ble_eq_true rfl)
theorem e_26 {x0 : Nat} : Ev PG (d + 1) 26 [.ref x0] w Q = Wp PG d cd_26 B_26_0 [.ref x0, am_J, am_J] [] w Q := Ev.go (P := PG) (z := 26) (mL := 3) (C := cd_26) rfl (Nat.le_of_ble_eq_true rfl)
theorem e_27 {x0 : Nat} : Ev PG (d + 1) 27 [.ref x0] w Q = Wp PG d cd_27 B_27_0 [.ref x0] [] w Q := Ev.go (P := PG) (z := 27) (mL := 1) (C := cd_27) rfl (Nat.le_of_ble_eq_true rfl)
theorem e_28 {x0 : Nat} : Ev PG (d + 1) 28 [.ref x0] w Q = Wp PG d cd_28 B_28_0 [.ref x0, am_J] [] w Q := Ev.go (P := PG) (z := 28) (mL := 2) (C := cd_28) rfl (Nat.le_of_ble_eq_true rfl)
theorem e_29 {x0 : Nat} {x1 : Int32} : Ev PG (d + 1) 29 [.ref x0, .int x1] w Q = Wp PG d cd_29 B_29_0 [.ref x0, .int x1] [] w Q := Ev.go (P := PG) (z := 29) (mL := 2) (C := cd_29) rfl (Nat.le_of_ble_eq_true rfl)
theorem e_30 {x0 : Nat} {x1 : Int32} : Ev PG (d + 1) 30 [.ref x0, .int x1] w Q = Wp PG d cd_30 B_30_0 [.ref x0, .int x1, am_J, am_J, am_J] [] w Q := Ev.go (P := PG) (z := 30) (mL := 5) (C := cd_30) rfl (Nat.le_of_ble_eq_true rfl)
theorem e_31 {x0 : Nat} {x1 : Int32} : Ev PG (d + 1) 31 [.ref x0, .int x1] w Q = Wp PG d cd_31 B_31_0 [.ref x0, .int x1, am_J] [] w Q := Ev.go (P := PG) (z := 31) (mL := 3) (C := cd_31) rfl (Nat.le_of_ble_eq_true rfl)
theorem e_32 {x0 : Nat} : Ev PG (d + 1) 32 [.ref x0] w Q = Wp PG d cd_32 B_32_0 [.ref x0] [] w Q := Ev.go (P := PG) (z := 32) (mL := 1) (C := cd_32) rfl (Nat.le_of_ble_eq_true rfl)
theorem e_33 {x0 : Nat} {x1 : Int32} : Ev PG (d + 1) 33 [.ref x0, .int x1] w Q = Wp PG d cd_33 B_33_0 [.ref x0, .int x1, am_J, am_J] [] w Q := Ev.go (P := PG) (z := 33) (mL := 4) (C := cd_33) rfl (Nat.le_of_ble_eq_true rfl)
theorem e_34 {x0 : Nat} {x1 : Value} {x2 : Int32} (hx1 : am_isA x1 = true) : Ev PG (d + 1) 34 [.ref x0, x1, .int x2] w Q = Wp PG d cd_34 B_34_0 [.ref x0, x1, .int x2] [] w Q := by
  (rcases am_isA_or hx1 with rfl | ⟨ax1, rfl⟩) <;> exact Ev.go (P := PG) (z := 34) (mL := 3) (C := cd_34) rfl (Nat.le_of_ble_eq_true rfl)
theorem e_35 {x0 : Nat} {x1 : Int32} {x2 : Int32} : Ev PG (d + 1) 35 [.ref x0, .int x1, .int x2] w Q = Wp PG d cd_35 B_35_0 [.ref x0, .int x1, .int x2] [] w Q := Ev.go (P := PG) (z := 35) (mL := 3) (C := cd_35) rfl (Nat.le_of_ble_eq_true rfl)
theorem e_36 {x0 : Int32} : Ev PG (d + 1) 36 [.int x0] w Q = Wp PG d cd_36 B_36_0 [.int x0] [] w Q := Ev.go (P := PG) (z := 36) (mL := 1) (C := cd_36) rfl (Nat.le_of_ble_eq_true rfl)
theorem e_37 {x0 : Nat} : Ev PG (d + 1) 37 [.ref x0] w Q = Wp PG d cd_37 B_37_0 [.ref x0] [] w Q := Ev.go (P := PG) (z := 37) (mL := 1) (C := cd_37) rfl (Nat.le_of_ble_eq_true rfl)
theorem e_38 {x0 : Nat} {x1 : Int32} : Ev PG (d + 1) 38 [.ref x0, .int x1] w Q = Wp PG d cd_38 B_38_0 [.ref x0, .int x1] [] w Q := Ev.go (P := PG) (z := 38) (mL := 2) (C := cd_38) rfl (Nat.le_of_ble_eq_true rfl)
theorem e_39 {x0 : Nat} {x1 : Int32} : Ev PG (d + 1) 39 [.ref x0, .int x1] w Q = Wp PG d cd_39 B_39_0 [.ref x0, .int x1] [] w Q := Ev.go (P := PG) (z := 39) (mL := 2) (C := cd_39) rfl (Nat.le_of_ble_eq_true rfl)
theorem e_40 {x0 : Int32} : Ev PG (d + 1) 40 [.int x0] w Q = Wp PG d cd_40 B_40_0 [.int x0] [] w Q := Ev.go (P := PG) (z := 40) (mL := 1) (C := cd_40) rfl (Nat.le_of_ble_eq_true rfl)
theorem e_41 {x0 : Nat} {x1 : Int32} : Ev PG (d + 1) 41 [.ref x0, .int x1] w Q = Wp PG d cd_41 B_41_0 [.ref x0, .int x1, am_J, am_J, am_J, am_J, am_J, am_J, am_J, am_J, am_J, am_J] [] w Q := Ev.go (P := PG) (z := 41) (mL := 12) (C := cd_41) rfl (Nat.le_of_ble_eq_true rfl)
theorem e_42 {x0 : Nat} {x1 : Int32} : Ev PG (d + 1) 42 [.ref x0, .int x1] w Q = Wp PG d cd_42 B_42_0 [.ref x0, .int x1] [] w Q := Ev.go (P := PG) (z := 42) (mL := 2) (C := cd_42) rfl (Nat.le_of_ble_eq_true rfl)
theorem e_43 {x0 : Int32} {x1 : Int32} : Ev PG (d + 1) 43 [.int x0, .int x1] w Q = Wp PG d cd_43 B_43_0 [.int x0, .int x1] [] w Q := Ev.go (P := PG) (z := 43) (mL := 2) (C := cd_43) rfl (Nat.le_of_ble_eq_true rfl)
theorem e_44 {x0 : Nat} {x1 : Int32} : Ev PG (d + 1) 44 [.ref x0, .int x1] w Q = Wp PG d cd_44 B_44_0 [.ref x0, .int x1] [] w Q := Ev.go (P := PG) (z := 44) (mL := 2) (C := cd_44) rfl (Nat.le_of_ble_eq_true rfl)
theorem e_45 {x0 : Nat} {x1 : Value} {x2 : Int32} {x3 : Value} {x4 : Value} {x5 : Value} (hx1 : am_isA x1 = true) (hx3 : am_isA x3 = true) (hx4 : am_isA x4 = true) (hx5 : am_isA x5 = true) : Ev PG (d + 1) 45 [.ref x0, x1, .int x2, x3, x4, x5] w Q = Wp PG d cd_45 B_45_0 [.ref x0, x1, .int x2, x3, x4, x5, am_J, am_J] [] w Q := by
  (rcases am_isA_or hx1 with rfl | ⟨ax1, rfl⟩) <;> (rcases am_isA_or hx3 with rfl | ⟨ax3, rfl⟩) <;> (rcases am_isA_or hx4 with rfl | ⟨ax4, rfl⟩) <;> (rcases am_isA_or hx5 with rfl | ⟨ax5, rfl⟩) <;> exact Ev.go (P := PG) (z := 45) (mL := 8) (C := cd_45) rfl (Nat.le_of_ble_eq_true rfl)
theorem e_46 {x0 : Value} {x1 : Int32} {x2 : Value} {x3 : Value} {x4 : Value} (hx0 : am_isA x0 = true) (hx2 : am_isA x2 = true) (hx3 : am_isA x3 = true) (hx4 : am_isA x4 = true) : Ev PG (d + 1) 46 [x0, .int x1, x2, x3, x4] w Q = Wp PG d cd_46 B_46_0 [x0, .int x1, x2, x3, x4] [] w Q := by
  (rcases am_isA_or hx0 with rfl | ⟨ax0, rfl⟩) <;> (rcases am_isA_or hx2 with rfl | ⟨ax2, rfl⟩) <;> (rcases am_isA_or hx3 with rfl | ⟨ax3, rfl⟩) <;> (rcases am_isA_or hx4 with rfl | ⟨ax4, rfl⟩) <;> exact Ev.go (P := PG) (z := 46) (mL := 5) (C := cd_46) rfl (Nat.le_of_ble_eq_true rfl)
theorem e_47 {x0 : Nat} {x1 : Value} {x2 : Int32} (hx1 : am_isA x1 = true) : Ev PG (d + 1) 47 [.ref x0, x1, .int x2] w Q = Wp PG d cd_47 B_47_0 [.ref x0, x1, .int x2] [] w Q := by
  (rcases am_isA_or hx1 with rfl | ⟨ax1, rfl⟩) <;> exact Ev.go (P := PG) (z := 47) (mL := 3) (C := cd_47) rfl (Nat.le_of_ble_eq_true rfl)
theorem e_48 {x0 : Nat} {x1 : Value} {x2 : Int32} {x3 : Value} {x4 : Value} {x5 : Value} (hx1 : am_isA x1 = true) (hx3 : am_isA x3 = true) (hx4 : am_isA x4 = true) (hx5 : am_isA x5 = true) : Ev PG (d + 1) 48 [.ref x0, x1, .int x2, x3, x4, x5] w Q = Wp PG d cd_48 B_48_0 [.ref x0, x1, .int x2, x3, x4, x5] [] w Q := by
  (rcases am_isA_or hx1 with rfl | ⟨ax1, rfl⟩) <;> (rcases am_isA_or hx3 with rfl | ⟨ax3, rfl⟩) <;> (rcases am_isA_or hx4 with rfl | ⟨ax4, rfl⟩) <;> (rcases am_isA_or hx5 with rfl | ⟨ax5, rfl⟩) <;> exact Ev.go (P := PG) (z := 48) (mL := 6) (C := cd_48) rfl (Nat.le_of_ble_eq_true rfl)
theorem e_49 {x0 : Nat} {x1 : Value} {x2 : Value} {x3 : Value} {x4 : Value} (hx1 : am_isA x1 = true) (hx2 : am_isA x2 = true) (hx3 : am_isA x3 = true) (hx4 : am_isA x4 = true) : Ev PG (d + 1) 49 [.ref x0, x1, x2, x3, x4] w Q = Wp PG d cd_49 B_49_0 [.ref x0, x1, x2, x3, x4] [] w Q := by
  (rcases am_isA_or hx1 with rfl | ⟨ax1, rfl⟩) <;> (rcases am_isA_or hx2 with rfl | ⟨ax2, rfl⟩) <;> (rcases am_isA_or hx3 with rfl | ⟨ax3, rfl⟩) <;> (rcases am_isA_or hx4 with rfl | ⟨ax4, rfl⟩) <;> exact Ev.go (P := PG) (z := 49) (mL := 5) (C := cd_49) rfl (Nat.le_of_ble_eq_true rfl)
theorem e_50 {x0 : Nat} {x1 : Value} {x2 : Value} (hx1 : am_isA x1 = true) (hx2 : am_isA x2 = true) : Ev PG (d + 1) 50 [.ref x0, x1, x2] w Q = Wp PG d cd_50 B_50_0 [.ref x0, x1, x2] [] w Q := by
  (rcases am_isA_or hx1 with rfl | ⟨ax1, rfl⟩) <;> (rcases am_isA_or hx2 with rfl | ⟨ax2, rfl⟩) <;> exact Ev.go (P := PG) (z := 50) (mL := 3) (C := cd_50) rfl (Nat.le_of_ble_eq_true rfl)
theorem e_51 {x0 : Nat} {x1 : Value} {x2 : Value} {x3 : Value} (hx1 : am_isA x1 = true) (hx2 : am_isA x2 = true) (hx3 : am_isA x3 = true) : Ev PG (d + 1) 51 [.ref x0, x1, x2, x3] w Q = Wp PG d cd_51 B_51_0 [.ref x0, x1, x2, x3] [] w Q := by
  (rcases am_isA_or hx1 with rfl | ⟨ax1, rfl⟩) <;> (rcases am_isA_or hx2 with rfl | ⟨ax2, rfl⟩) <;> (rcases am_isA_or hx3 with rfl | ⟨ax3, rfl⟩) <;> exact Ev.go (P := PG) (z := 51) (mL := 4) (C := cd_51) rfl (Nat.le_of_ble_eq_true rfl)
theorem e_52 {x0 : Nat} : Ev PG (d + 1) 52 [.ref x0] w Q = Wp PG d cd_52 B_52_0 [.ref x0] [] w Q := Ev.go (P := PG) (z := 52) (mL := 1) (C := cd_52) rfl (Nat.le_of_ble_eq_true rfl)
theorem e_53 {x0 : Nat} : Ev PG (d + 1) 53 [.ref x0] w Q = Wp PG d cd_53 B_53_0 [.ref x0] [] w Q := Ev.go (P := PG) (z := 53) (mL := 1) (C := cd_53) rfl (Nat.le_of_ble_eq_true rfl)
theorem e_54 {x0 : Nat} : Ev PG (d + 1) 54 [.ref x0] w Q = Wp PG d cd_54 B_54_0 [.ref x0] [] w Q := Ev.go (P := PG) (z := 54) (mL := 1) (C := cd_54) rfl (Nat.le_of_ble_eq_true rfl)
theorem e_55 {x0 : Nat} : Ev PG (d + 1) 55 [.ref x0] w Q = Wp PG d cd_55 B_55_0 [.ref x0] [] w Q := Ev.go (P := PG) (z := 55) (mL := 1) (C := cd_55) rfl (Nat.le_of_ble_eq_true rfl)
theorem e_56 {x0 : Nat} : Ev PG (d + 1) 56 [.ref x0] w Q = Wp PG d cd_56 B_56_0 [.ref x0] [] w Q := Ev.go (P := PG) (z := 56) (mL := 1) (C := cd_56) rfl (Nat.le_of_ble_eq_true rfl)
theorem e_57 {x0 : Nat} {x1 : Value} {x2 : Int32} (hx1 : am_isA x1 = true) : Ev PG (d + 1) 57 [.ref x0, x1, .int x2] w Q = Wp PG d cd_57 B_57_0 [.ref x0, x1, .int x2] [] w Q := by
  (rcases am_isA_or hx1 with rfl | ⟨ax1, rfl⟩) <;> exact Ev.go (P := PG) (z := 57) (mL := 3) (C := cd_57) rfl (Nat.le_of_ble_eq_true rfl)
theorem e_58 {x0 : Nat} : Ev PG (d + 1) 58 [.ref x0] w Q = Wp PG d cd_58 B_58_0 [.ref x0] [] w Q := Ev.go (P := PG) (z := 58) (mL := 1) (C := cd_58) rfl (Nat.le_of_ble_eq_true rfl)
theorem e_59 {x0 : Nat} : Ev PG (d + 1) 59 [.ref x0] w Q = Wp PG d cd_59 B_59_0 [.ref x0] [] w Q := Ev.go (P := PG) (z := 59) (mL := 1) (C := cd_59) rfl (Nat.le_of_ble_eq_true rfl)
theorem e_60 {x0 : Nat} : Ev PG (d + 1) 60 [.ref x0] w Q = Wp PG d cd_60 B_60_0 [.ref x0] [] w Q := Ev.go (P := PG) (z := 60) (mL := 1) (C := cd_60) rfl (Nat.le_of_ble_eq_true rfl)
theorem e_61 {x0 : Int32} : Ev PG (d + 1) 61 [.int x0] w Q = Wp PG d cd_61 B_61_0 [.int x0] [] w Q := Ev.go (P := PG) (z := 61) (mL := 1) (C := cd_61) rfl (Nat.le_of_ble_eq_true rfl)
theorem e_62 {x0 : Nat} : Ev PG (d + 1) 62 [.ref x0] w Q = Wp PG d cd_62 B_62_0 [.ref x0, am_J] [] w Q := Ev.go (P := PG) (z := 62) (mL := 2) (C := cd_62) rfl (Nat.le_of_ble_eq_true rfl)
theorem e_63 {x0 : Nat} : Ev PG (d + 1) 63 [.ref x0] w Q = Wp PG d cd_63 B_63_0 [.ref x0, am_J, am_J, am_J, am_J, am_J, am_J, am_J, am_J, am_J, am_J] [] w Q := Ev.go (P := PG) (z := 63) (mL := 11) (C := cd_63) rfl (Nat.le_of_ble_eq_true rfl)
theorem e_64 {x0 : Nat} {x1 : Int32} : Ev PG (d + 1) 64 [.ref x0, .int x1] w Q = Wp PG d cd_64 B_64_0 [.ref x0, .int x1] [] w Q := Ev.go (P := PG) (z := 64) (mL := 2) (C := cd_64) rfl (Nat.le_of_ble_eq_true rfl)
theorem e_65 {x0 : Nat} {x1 : Int32} {x2 : Int32} : Ev PG (d + 1) 65 [.ref x0, .int x1, .int x2] w Q = Wp PG d cd_65 B_65_0 [.ref x0, .int x1, .int x2, am_J, am_J] [] w Q := Ev.go (P := PG) (z := 65) (mL := 5) (C := cd_65) rfl (Nat.le_of_ble_eq_true rfl)
theorem e_66 {x0 : Nat} {x1 : Int32} : Ev PG (d + 1) 66 [.ref x0, .int x1] w Q = Wp PG d cd_66 B_66_0 [.ref x0, .int x1] [] w Q := Ev.go (P := PG) (z := 66) (mL := 2) (C := cd_66) rfl (Nat.le_of_ble_eq_true rfl)
theorem e_67 {x0 : Int32} : Ev PG (d + 1) 67 [.int x0] w Q = Wp PG d cd_67 B_67_0 [.int x0] [] w Q := Ev.go (P := PG) (z := 67) (mL := 1) (C := cd_67) rfl (Nat.le_of_ble_eq_true rfl)
theorem e_68 {x0 : Nat} {x1 : Int32} : Ev PG (d + 1) 68 [.ref x0, .int x1] w Q = Wp PG d cd_68 B_68_0 [.ref x0, .int x1] [] w Q := Ev.go (P := PG) (z := 68) (mL := 2) (C := cd_68) rfl (Nat.le_of_ble_eq_true rfl)
theorem e_69 {x0 : Nat} {x1 : Int32} : Ev PG (d + 1) 69 [.ref x0, .int x1] w Q = Wp PG d cd_69 B_69_0 [.ref x0, .int x1] [] w Q := Ev.go (P := PG) (z := 69) (mL := 2) (C := cd_69) rfl (Nat.le_of_ble_eq_true rfl)
theorem e_70 {x0 : Nat} {x1 : Int32} : Ev PG (d + 1) 70 [.ref x0, .int x1] w Q = Wp PG d cd_70 B_70_0 [.ref x0, .int x1] [] w Q := Ev.go (P := PG) (z := 70) (mL := 2) (C := cd_70) rfl (Nat.le_of_ble_eq_true rfl)
theorem e_71 {x0 : Nat} : Ev PG (d + 1) 71 [.ref x0] w Q = Wp PG d cd_71 B_71_0 [.ref x0] [] w Q := Ev.go (P := PG) (z := 71) (mL := 1) (C := cd_71) rfl (Nat.le_of_ble_eq_true rfl)
theorem e_72 {x0 : Nat} : Ev PG (d + 1) 72 [.ref x0] w Q = Wp PG d cd_72 B_72_0 [.ref x0] [] w Q := Ev.go (P := PG) (z := 72) (mL := 1) (C := cd_72) rfl (Nat.le_of_ble_eq_true rfl)
theorem e_73 {x0 : Nat} : Ev PG (d + 1) 73 [.ref x0] w Q = Wp PG d cd_73 B_73_0 [.ref x0] [] w Q := Ev.go (P := PG) (z := 73) (mL := 1) (C := cd_73) rfl (Nat.le_of_ble_eq_true rfl)
theorem e_74 {x0 : Int32} : Ev PG (d + 1) 74 [.int x0] w Q = Wp PG d cd_74 B_74_0 [.int x0] [] w Q := Ev.go (P := PG) (z := 74) (mL := 1) (C := cd_74) rfl (Nat.le_of_ble_eq_true rfl)
theorem e_75 {x0 : Nat} : Ev PG (d + 1) 75 [.ref x0] w Q = Wp PG d cd_75 B_75_0 [.ref x0] [] w Q := Ev.go (P := PG) (z := 75) (mL := 1) (C := cd_75) rfl (Nat.le_of_ble_eq_true rfl)
theorem e_76 {x0 : Nat} : Ev PG (d + 1) 76 [.ref x0] w Q = Wp PG d cd_76 B_76_0 [.ref x0] [] w Q := Ev.go (P := PG) (z := 76) (mL := 1) (C := cd_76) rfl (Nat.le_of_ble_eq_true rfl)
theorem e_77 {x0 : Nat} : Ev PG (d + 1) 77 [.ref x0] w Q = Wp PG d cd_77 B_77_0 [.ref x0] [] w Q := Ev.go (P := PG) (z := 77) (mL := 1) (C := cd_77) rfl (Nat.le_of_ble_eq_true rfl)
theorem e_78 {x0 : Nat} {x1 : Value} (hx1 : am_isA x1 = true) : Ev PG (d + 1) 78 [.ref x0, x1] w Q = Wp PG d cd_78 B_78_0 [.ref x0, x1] [] w Q := by
  (rcases am_isA_or hx1 with rfl | ⟨ax1, rfl⟩) <;> exact Ev.go (P := PG) (z := 78) (mL := 2) (C := cd_78) rfl (Nat.le_of_ble_eq_true rfl)
theorem e_79 {x0 : Nat} {x1 : Value} {x2 : Value} {x3 : Int32} (hx1 : am_isA x1 = true) (hx2 : am_isA x2 = true) : Ev PG (d + 1) 79 [.ref x0, x1, x2, .int x3] w Q = Wp PG d cd_79 B_79_0 [.ref x0, x1, x2, .int x3] [] w Q := by
  (rcases am_isA_or hx1 with rfl | ⟨ax1, rfl⟩) <;> (rcases am_isA_or hx2 with rfl | ⟨ax2, rfl⟩) <;> exact Ev.go (P := PG) (z := 79) (mL := 4) (C := cd_79) rfl (Nat.le_of_ble_eq_true rfl)
theorem e_80 {x0 : Nat} : Ev PG (d + 1) 80 [.ref x0] w Q = Wp PG d cd_80 B_80_0 [.ref x0] [] w Q := Ev.go (P := PG) (z := 80) (mL := 1) (C := cd_80) rfl (Nat.le_of_ble_eq_true rfl)
theorem e_81 {x0 : Nat} {x1 : Int32} : Ev PG (d + 1) 81 [.ref x0, .int x1] w Q = Wp PG d cd_81 B_81_0 [.ref x0, .int x1, am_J, am_J] [] w Q := Ev.go (P := PG) (z := 81) (mL := 4) (C := cd_81) rfl (Nat.le_of_ble_eq_true rfl)
theorem e_82 {x0 : Value} {x1 : Int32} (hx0 : am_isA x0 = true) : Ev PG (d + 1) 82 [x0, .int x1] w Q = Wp PG d cd_82 B_82_0 [x0, .int x1] [] w Q := by
  (rcases am_isA_or hx0 with rfl | ⟨ax0, rfl⟩) <;> exact Ev.go (P := PG) (z := 82) (mL := 2) (C := cd_82) rfl (Nat.le_of_ble_eq_true rfl)
theorem e_83 {x0 : Value} {x1 : Int32} {x2 : Value} (hx0 : am_isA x0 = true) (hx2 : am_isA x2 = true) : Ev PG (d + 1) 83 [x0, .int x1, x2] w Q = Wp PG d cd_83 B_83_0 [x0, .int x1, x2, am_J] [] w Q := by
  (rcases am_isA_or hx0 with rfl | ⟨ax0, rfl⟩) <;> (rcases am_isA_or hx2 with rfl | ⟨ax2, rfl⟩) <;> exact Ev.go (P := PG) (z := 83) (mL := 4) (C := cd_83) rfl (Nat.le_of_ble_eq_true rfl)
theorem e_84 {x0 : Nat} {x1 : Int32} : Ev PG (d + 1) 84 [.ref x0, .int x1] w Q = Wp PG d cd_84 B_84_0 [.ref x0, .int x1, am_J, am_J] [] w Q := Ev.go (P := PG) (z := 84) (mL := 4) (C := cd_84) rfl (Nat.le_of_ble_eq_true rfl)
theorem e_85 {x0 : Nat} {x1 : Value} {x2 : Int32} (hx1 : am_isA x1 = true) : Ev PG (d + 1) 85 [.ref x0, x1, .int x2] w Q = Wp PG d cd_85 B_85_0 [.ref x0, x1, .int x2, am_J] [] w Q := by
  (rcases am_isA_or hx1 with rfl | ⟨ax1, rfl⟩) <;> exact Ev.go (P := PG) (z := 85) (mL := 4) (C := cd_85) rfl (Nat.le_of_ble_eq_true rfl)
theorem e_86 {x0 : Nat} : Ev PG (d + 1) 86 [.ref x0] w Q = Wp PG d cd_86 B_86_0 [.ref x0] [] w Q := Ev.go (P := PG) (z := 86) (mL := 1) (C := cd_86) rfl (Nat.le_of_ble_eq_true rfl)
theorem e_87 {x0 : Nat} {x1 : Int32} : Ev PG (d + 1) 87 [.ref x0, .int x1] w Q = Wp PG d cd_87 B_87_0 [.ref x0, .int x1, am_J] [] w Q := Ev.go (P := PG) (z := 87) (mL := 3) (C := cd_87) rfl (Nat.le_of_ble_eq_true rfl)
theorem e_88 {x0 : Nat} {x1 : Int32} : Ev PG (d + 1) 88 [.ref x0, .int x1] w Q = Wp PG d cd_88 B_88_0 [.ref x0, .int x1] [] w Q := Ev.go (P := PG) (z := 88) (mL := 2) (C := cd_88) rfl (Nat.le_of_ble_eq_true rfl)
theorem e_89 {x0 : Nat} {x1 : Int32} : Ev PG (d + 1) 89 [.ref x0, .int x1] w Q = Wp PG d cd_89 B_89_0 [.ref x0, .int x1, am_J] [] w Q := Ev.go (P := PG) (z := 89) (mL := 3) (C := cd_89) rfl (Nat.le_of_ble_eq_true rfl)
theorem e_90 {x0 : Nat} {x1 : Int32} : Ev PG (d + 1) 90 [.ref x0, .int x1] w Q = Wp PG d cd_90 B_90_0 [.ref x0, .int x1, am_J] [] w Q := Ev.go (P := PG) (z := 90) (mL := 3) (C := cd_90) rfl (Nat.le_of_ble_eq_true rfl)
theorem e_91 {x0 : Nat} {x1 : Int32} {x2 : Int32} : Ev PG (d + 1) 91 [.ref x0, .int x1, .int x2] w Q = Wp PG d cd_91 B_91_0 [.ref x0, .int x1, .int x2, am_J, am_J, am_J, am_J, am_J] [] w Q := Ev.go (P := PG) (z := 91) (mL := 8) (C := cd_91) rfl (Nat.le_of_ble_eq_true rfl)
theorem e_92 {x0 : Int32} {x1 : Int32} : Ev PG (d + 1) 92 [.int x0, .int x1] w Q = Wp PG d cd_92 B_92_0 [.int x0, .int x1] [] w Q := Ev.go (P := PG) (z := 92) (mL := 2) (C := cd_92) rfl (Nat.le_of_ble_eq_true rfl)
theorem e_93 {x0 : Nat} : Ev PG (d + 1) 93 [.ref x0] w Q = Wp PG d cd_93 B_93_0 [.ref x0, am_J, am_J] [] w Q := Ev.go (P := PG) (z := 93) (mL := 3) (C := cd_93) rfl (Nat.le_of_ble_eq_true rfl)
theorem e_94 {x0 : Nat} {x1 : Value} (hx1 : am_isA x1 = true) : Ev PG (d + 1) 94 [.ref x0, x1] w Q = Wp PG d cd_94 B_94_0 [.ref x0, x1] [] w Q := by
  (rcases am_isA_or hx1 with rfl | ⟨ax1, rfl⟩) <;> exact Ev.go (P := PG) (z := 94) (mL := 2) (C := cd_94) rfl (Nat.le_of_ble_eq_true rfl)
theorem e_95 {x0 : Nat} {x1 : Int32} : Ev PG (d + 1) 95 [.ref x0, .int x1] w Q = Wp PG d cd_95 B_95_0 [.ref x0, .int x1, am_J] [] w Q := Ev.go (P := PG) (z := 95) (mL := 3) (C := cd_95) rfl (Nat.le_of_ble_eq_true rfl)
theorem e_96 {x0 : Nat} {x1 : Value} (hx1 : am_isA x1 = true) : Ev PG (d + 1) 96 [.ref x0, x1] w Q = Wp PG d cd_96 B_96_0 [.ref x0, x1] [] w Q := by
  (rcases am_isA_or hx1 with rfl | ⟨ax1, rfl⟩) <;> exact Ev.go (P := PG) (z := 96) (mL := 2) (C := cd_96) rfl (Nat.le_of_ble_eq_true rfl)
theorem e_97 {x0 : Nat} {x1 : Int32} {x2 : Int32} {x3 : Int32} : Ev PG (d + 1) 97 [.ref x0, .int x1, .int x2, .int x3] w Q = Wp PG d cd_97 B_97_0 [.ref x0, .int x1, .int x2, .int x3] [] w Q := Ev.go (P := PG) (z := 97) (mL := 4) (C := cd_97) rfl (Nat.le_of_ble_eq_true rfl)
theorem e_98 {x0 : Nat} {x1 : Value} (hx1 : am_isA x1 = true) : Ev PG (d + 1) 98 [.ref x0, x1] w Q = Wp PG d cd_98 B_98_0 [.ref x0, x1] [] w Q := by
  (rcases am_isA_or hx1 with rfl | ⟨ax1, rfl⟩) <;> exact Ev.go (P := PG) (z := 98) (mL := 2) (C := cd_98) rfl (Nat.le_of_ble_eq_true rfl)
theorem e_99 {x0 : Nat} {x1 : Value} (hx1 : am_isA x1 = true) : Ev PG (d + 1) 99 [.ref x0, x1] w Q = Wp PG d cd_99 B_99_0 [.ref x0, x1] [] w Q := by
  (rcases am_isA_or hx1 with rfl | ⟨ax1, rfl⟩) <;> exact Ev.go (P := PG) (z := 99) (mL := 2) (C := cd_99) rfl (Nat.le_of_ble_eq_true rfl)
theorem e_100 {x0 : Nat} {x1 : Int32} {x2 : Value} {x3 : Int32} {x4 : Int32} (hx2 : am_isA x2 = true) : Ev PG (d + 1) 100 [.ref x0, .int x1, x2, .int x3, .int x4] w Q = Wp PG d cd_100 B_100_0 [.ref x0, .int x1, x2, .int x3, .int x4, am_J] [] w Q := by
  (rcases am_isA_or hx2 with rfl | ⟨ax2, rfl⟩) <;> exact Ev.go (P := PG) (z := 100) (mL := 6) (C := cd_100) rfl (Nat.le_of_ble_eq_true rfl)
theorem e_101 {x0 : Nat} {x1 : Value} (hx1 : am_isA x1 = true) : Ev PG (d + 1) 101 [.ref x0, x1] w Q = Wp PG d cd_101 B_101_0 [.ref x0, x1] [] w Q := by
  (rcases am_isA_or hx1 with rfl | ⟨ax1, rfl⟩) <;> exact Ev.go (P := PG) (z := 101) (mL := 2) (C := cd_101) rfl (Nat.le_of_ble_eq_true rfl)
theorem e_102 {x0 : Nat} {x1 : Value} {x2 : Int32} {x3 : Value} {x4 : Int32} {x5 : Value} {x6 : Int32} {x7 : Int32} (hx1 : am_isA x1 = true) (hx3 : am_isA x3 = true) (hx5 : am_isA x5 = true) : Ev PG (d + 1) 102 [.ref x0, x1, .int x2, x3, .int x4, x5, .int x6, .int x7] w Q = Wp PG d cd_102 B_102_0 [.ref x0, x1, .int x2, x3, .int x4, x5, .int x6, .int x7] [] w Q := by
  (rcases am_isA_or hx1 with rfl | ⟨ax1, rfl⟩) <;> (rcases am_isA_or hx3 with rfl | ⟨ax3, rfl⟩) <;> (rcases am_isA_or hx5 with rfl | ⟨ax5, rfl⟩) <;> exact Ev.go (P := PG) (z := 102) (mL := 8) (C := cd_102) rfl (Nat.le_of_ble_eq_true rfl)
theorem e_103 {x0 : Nat} {x1 : Value} (hx1 : am_isA x1 = true) : Ev PG (d + 1) 103 [.ref x0, x1] w Q = Wp PG d cd_103 B_103_0 [.ref x0, x1, am_J] [] w Q := by
  (rcases am_isA_or hx1 with rfl | ⟨ax1, rfl⟩) <;> exact Ev.go (P := PG) (z := 103) (mL := 3) (C := cd_103) rfl (Nat.le_of_ble_eq_true rfl)
theorem e_104 {x0 : Nat} {x1 : Int32} : Ev PG (d + 1) 104 [.ref x0, .int x1] w Q = Wp PG d cd_104 B_104_0 [.ref x0, .int x1, am_J, am_J] [] w Q := Ev.go (P := PG) (z := 104) (mL := 4) (C := cd_104) rfl (Nat.le_of_ble_eq_true rfl)
theorem e_105 {x0 : Nat} {x1 : Value} (hx1 : am_isA x1 = true) : Ev PG (d + 1) 105 [.ref x0, x1] w Q = Wp PG d cd_105 B_105_0 [.ref x0, x1, am_J] [] w Q := by
  (rcases am_isA_or hx1 with rfl | ⟨ax1, rfl⟩) <;> exact Ev.go (P := PG) (z := 105) (mL := 3) (C := cd_105) rfl (Nat.le_of_ble_eq_true rfl)
theorem e_106 {x0 : Value} {x1 : Int32} (hx0 : am_isA x0 = true) : Ev PG (d + 1) 106 [x0, .int x1] w Q = Wp PG d cd_106 B_106_0 [x0, .int x1, am_J] [] w Q := by
  (rcases am_isA_or hx0 with rfl | ⟨ax0, rfl⟩) <;> exact Ev.go (P := PG) (z := 106) (mL := 3) (C := cd_106) rfl (Nat.le_of_ble_eq_true rfl)
theorem e_107 {x0 : Nat} {x1 : Int32} {x2 : Int32} : Ev PG (d + 1) 107 [.ref x0, .int x1, .int x2] w Q = Wp PG d cd_107 B_107_0 [.ref x0, .int x1, .int x2, am_J] [] w Q := Ev.go (P := PG) (z := 107) (mL := 4) (C := cd_107) rfl (Nat.le_of_ble_eq_true rfl)
theorem e_108 {x0 : Nat} : Ev PG (d + 1) 108 [.ref x0] w Q = Wp PG d cd_108 B_108_0 [.ref x0, am_J, am_J] [] w Q := Ev.go (P := PG) (z := 108) (mL := 3) (C := cd_108) rfl (Nat.le_of_ble_eq_true rfl)
theorem e_109 {x0 : Nat} : Ev PG (d + 1) 109 [.ref x0] w Q = Wp PG d cd_109 B_109_0 [.ref x0, am_J, am_J, am_J] [] w Q := Ev.go (P := PG) (z := 109) (mL := 4) (C := cd_109) rfl (Nat.le_of_ble_eq_true rfl)
theorem e_110 {x0 : Nat} {x1 : Int32} {x2 : Int32} {x3 : Int32} : Ev PG (d + 1) 110 [.ref x0, .int x1, .int x2, .int x3] w Q = Wp PG d cd_110 B_110_0 [.ref x0, .int x1, .int x2, .int x3, am_J, am_J, am_J, am_J] [] w Q := Ev.go (P := PG) (z := 110) (mL := 8) (C := cd_110) rfl (Nat.le_of_ble_eq_true rfl)
theorem e_111 {x0 : Nat} {x1 : Int32} {x2 : Value} {x3 : Value} (hx2 : am_isA x2 = true) (hx3 : am_isA x3 = true) : Ev PG (d + 1) 111 [.ref x0, .int x1, x2, x3] w Q = Wp PG d cd_111 B_111_0 [.ref x0, .int x1, x2, x3] [] w Q := by
  (rcases am_isA_or hx2 with rfl | ⟨ax2, rfl⟩) <;> (rcases am_isA_or hx3 with rfl | ⟨ax3, rfl⟩) <;> exact Ev.go (P := PG) (z := 111) (mL := 4) (C := cd_111) rfl (Nat.le_of_ble_eq_true rfl)
theorem e_112 {x0 : Nat} {x1 : Int32} : Ev PG (d + 1) 112 [.ref x0, .int x1] w Q = Wp PG d cd_112 B_112_0 [.ref x0, .int x1, am_J, am_J] [] w Q := Ev.go (P := PG) (z := 112) (mL := 4) (C := cd_112) rfl (Nat.le_of_ble_eq_true rfl)
theorem e_113 {x0 : Nat} : Ev PG (d + 1) 113 [.ref x0] w Q = Wp PG d cd_113 B_113_0 [.ref x0, am_J, am_J, am_J] [] w Q := Ev.go (P := PG) (z := 113) (mL := 4) (C := cd_113) rfl (Nat.le_of_ble_eq_true rfl)
theorem e_114 {x0 : Nat} : Ev PG (d + 1) 114 [.ref x0] w Q = Wp PG d cd_114 B_114_0 [.ref x0, am_J, am_J] [] w Q := Ev.go (P := PG) (z := 114) (mL := 3) (C := cd_114) rfl (Nat.le_of_ble_eq_true rfl)
theorem e_115 {x0 : Nat} {x1 : Value} {x2 : Int32} (hx1 : am_isA x1 = true) : Ev PG (d + 1) 115 [.ref x0, x1, .int x2] w Q = Wp PG d cd_115 B_115_0 [.ref x0, x1, .int x2] [] w Q := by
  (rcases am_isA_or hx1 with rfl | ⟨ax1, rfl⟩) <;> exact Ev.go (P := PG) (z := 115) (mL := 3) (C := cd_115) rfl (Nat.le_of_ble_eq_true rfl)
theorem e_116 {x0 : Nat} : Ev PG (d + 1) 116 [.ref x0] w Q = Wp PG d cd_116 B_116_0 [.ref x0, am_J, am_J, am_J] [] w Q := Ev.go (P := PG) (z := 116) (mL := 4) (C := cd_116) rfl (Nat.le_of_ble_eq_true rfl)
theorem e_117 {x0 : Nat} {x1 : Value} (hx1 : am_isA x1 = true) : Ev PG (d + 1) 117 [.ref x0, x1] w Q = Wp PG d cd_117 B_117_0 [.ref x0, x1] [] w Q := by
  (rcases am_isA_or hx1 with rfl | ⟨ax1, rfl⟩) <;> exact Ev.go (P := PG) (z := 117) (mL := 2) (C := cd_117) rfl (Nat.le_of_ble_eq_true rfl)
theorem e_118 {x0 : Nat} {x1 : Int32} : Ev PG (d + 1) 118 [.ref x0, .int x1] w Q = Wp PG d cd_118 B_118_0 [.ref x0, .int x1] [] w Q := Ev.go (P := PG) (z := 118) (mL := 2) (C := cd_118) rfl (Nat.le_of_ble_eq_true rfl)
theorem e_119 {x0 : Nat} {x1 : Int32} {x2 : Int32} : Ev PG (d + 1) 119 [.ref x0, .int x1, .int x2] w Q = Wp PG d cd_119 B_119_0 [.ref x0, .int x1, .int x2, am_J] [] w Q := Ev.go (P := PG) (z := 119) (mL := 4) (C := cd_119) rfl (Nat.le_of_ble_eq_true rfl)
theorem e_120 {x0 : Nat} {x1 : Int32} {x2 : Int32} : Ev PG (d + 1) 120 [.ref x0, .int x1, .int x2] w Q = Wp PG d cd_120 B_120_0 [.ref x0, .int x1, .int x2] [] w Q := Ev.go (P := PG) (z := 120) (mL := 3) (C := cd_120) rfl (Nat.le_of_ble_eq_true rfl)
theorem e_121 {x0 : Nat} {x1 : Int32} : Ev PG (d + 1) 121 [.ref x0, .int x1] w Q = Wp PG d cd_121 B_121_0 [.ref x0, .int x1, am_J] [] w Q := Ev.go (P := PG) (z := 121) (mL := 3) (C := cd_121) rfl (Nat.le_of_ble_eq_true rfl)
theorem e_122 {x0 : Nat} : Ev PG (d + 1) 122 [.ref x0] w Q = Wp PG d cd_122 B_122_0 [.ref x0, am_J, am_J] [] w Q := Ev.go (P := PG) (z := 122) (mL := 3) (C := cd_122) rfl (Nat.le_of_ble_eq_true rfl)
theorem e_123 {x0 : Nat} : Ev PG (d + 1) 123 [.ref x0] w Q = Wp PG d cd_123 B_123_0 [.ref x0] [] w Q := Ev.go (P := PG) (z := 123) (mL := 1) (C := cd_123) rfl (Nat.le_of_ble_eq_true rfl)
theorem e_124 {x0 : Nat} {x1 : Value} (hx1 : am_isA x1 = true) : Ev PG (d + 1) 124 [.ref x0, x1] w Q = Wp PG d cd_124 B_124_0 [.ref x0, x1] [] w Q := by
  (rcases am_isA_or hx1 with rfl | ⟨ax1, rfl⟩) <;> exact Ev.go (P := PG) (z := 124) (mL := 2) (C := cd_124) rfl (Nat.le_of_ble_eq_true rfl)
theorem e_125 {x0 : Nat} : Ev PG (d + 1) 125 [.ref x0] w Q = Wp PG d cd_125 B_125_0 [.ref x0] [] w Q := Ev.go (P := PG) (z := 125) (mL := 1) (C := cd_125) rfl (Nat.le_of_ble_eq_true rfl)
theorem e_126 {x0 : Nat} : Ev PG (d + 1) 126 [.ref x0] w Q = Wp PG d cd_126 B_126_0 [.ref x0, am_J, am_J] [] w Q := Ev.go (P := PG) (z := 126) (mL := 3) (C := cd_126) rfl (Nat.le_of_ble_eq_true rfl)
theorem e_127 {x0 : Nat} : Ev PG (d + 1) 127 [.ref x0] w Q = Wp PG d cd_127 B_127_0 [.ref x0] [] w Q := Ev.go (P := PG) (z := 127) (mL := 1) (C := cd_127) rfl (Nat.le_of_ble_eq_true rfl)
theorem e_128 {x0 : Nat} : Ev PG (d + 1) 128 [.ref x0] w Q = Wp PG d cd_128 B_128_0 [.ref x0, am_J, am_J, am_J, am_J, am_J, am_J, am_J, am_J, am_J] [] w Q := Ev.go (P := PG) (z := 128) (mL := 10) (C := cd_128) rfl (Nat.le_of_ble_eq_true rfl)
theorem e_129 {x0 : Nat} {x1 : Int32} : Ev PG (d + 1) 129 [.ref x0, .int x1] w Q = Wp PG d cd_129 B_129_0 [.ref x0, .int x1] [] w Q := Ev.go (P := PG) (z := 129) (mL := 2) (C := cd_129) rfl (Nat.le_of_ble_eq_true rfl)
theorem e_130 {x0 : Nat} {x1 : Int32} {x2 : Value} (hx2 : am_isA x2 = true) : Ev PG (d + 1) 130 [.ref x0, .int x1, x2] w Q = Wp PG d cd_130 B_130_0 [.ref x0, .int x1, x2, am_J, am_J, am_J, am_J] [] w Q := by
  (rcases am_isA_or hx2 with rfl | ⟨ax2, rfl⟩) <;> exact Ev.go (P := PG) (z := 130) (mL := 7) (C := cd_130) rfl (Nat.le_of_ble_eq_true rfl)
theorem e_131 {x0 : Nat} : Ev PG (d + 1) 131 [.ref x0] w Q = Wp PG d cd_131 B_131_0 [.ref x0] [] w Q := Ev.go (P := PG) (z := 131) (mL := 1) (C := cd_131) rfl (Nat.le_of_ble_eq_true rfl)
theorem e_132 {x0 : Nat} : Ev PG (d + 1) 132 [.ref x0] w Q = Wp PG d cd_132 B_132_0 [.ref x0] [] w Q := Ev.go (P := PG) (z := 132) (mL := 1) (C := cd_132) rfl (Nat.le_of_ble_eq_true rfl)
theorem e_133 {x0 : Int64} : Ev PG (d + 1) 133 [.long x0] w Q = Wp PG d cd_133 B_133_0 [.long x0, am_J] [] w Q := Ev.go (P := PG) (z := 133) (mL := 2) (C := cd_133) rfl (Nat.le_of_ble_eq_true rfl)
theorem e_134 {x0 : Nat} : Ev PG (d + 1) 134 [.ref x0] w Q = Wp PG d cd_134 B_134_0 [.ref x0] [] w Q := Ev.go (P := PG) (z := 134) (mL := 1) (C := cd_134) rfl (Nat.le_of_ble_eq_true rfl)
theorem e_135 {x0 : Nat} : Ev PG (d + 1) 135 [.ref x0] w Q = Wp PG d cd_135 B_135_0 [.ref x0, am_J, am_J] [] w Q := Ev.go (P := PG) (z := 135) (mL := 3) (C := cd_135) rfl (Nat.le_of_ble_eq_true rfl)
theorem e_136 {x0 : Nat} : Ev PG (d + 1) 136 [.ref x0] w Q = Wp PG d cd_136 B_136_0 [.ref x0] [] w Q := Ev.go (P := PG) (z := 136) (mL := 1) (C := cd_136) rfl (Nat.le_of_ble_eq_true rfl)
theorem e_137 {x0 : Nat} : Ev PG (d + 1) 137 [.ref x0] w Q = Wp PG d cd_137 B_137_0 [.ref x0] [] w Q := Ev.go (P := PG) (z := 137) (mL := 1) (C := cd_137) rfl (Nat.le_of_ble_eq_true rfl)
theorem e_138 {x0 : Nat} {x1 : Int32} : Ev PG (d + 1) 138 [.ref x0, .int x1] w Q = Wp PG d cd_138 B_138_0 [.ref x0, .int x1] [] w Q := Ev.go (P := PG) (z := 138) (mL := 2) (C := cd_138) rfl (Nat.le_of_ble_eq_true rfl)
theorem e_139 {x0 : Nat} : Ev PG (d + 1) 139 [.ref x0] w Q = Wp PG d cd_139 B_139_0 [.ref x0] [] w Q := Ev.go (P := PG) (z := 139) (mL := 1) (C := cd_139) rfl (Nat.le_of_ble_eq_true rfl)
theorem e_140 {x0 : Nat} : Ev PG (d + 1) 140 [.ref x0] w Q = Wp PG d cd_140 B_140_0 [.ref x0, am_J, am_J, am_J] [] w Q := Ev.go (P := PG) (z := 140) (mL := 4) (C := cd_140) rfl (Nat.le_of_ble_eq_true rfl)
theorem e_141 {x0 : Nat} : Ev PG (d + 1) 141 [.ref x0] w Q = Wp PG d cd_141 B_141_0 [.ref x0, am_J] [] w Q := Ev.go (P := PG) (z := 141) (mL := 2) (C := cd_141) rfl (Nat.le_of_ble_eq_true rfl)
theorem e_142 {x0 : Nat} {x1 : Int32} : Ev PG (d + 1) 142 [.ref x0, .int x1] w Q = Wp PG d cd_142 B_142_0 [.ref x0, .int x1, am_J] [] w Q := Ev.go (P := PG) (z := 142) (mL := 3) (C := cd_142) rfl (Nat.le_of_ble_eq_true rfl)
theorem e_143 {x0 : Nat} {x1 : Int32} {x2 : Int32} : Ev PG (d + 1) 143 [.ref x0, .int x1, .int x2] w Q = Wp PG d cd_143 B_143_0 [.ref x0, .int x1, .int x2] [] w Q := Ev.go (P := PG) (z := 143) (mL := 3) (C := cd_143) rfl (Nat.le_of_ble_eq_true rfl)
theorem e_144 {x0 : Nat} {x1 : Int32} {x2 : Int32} : Ev PG (d + 1) 144 [.ref x0, .int x1, .int x2] w Q = Wp PG d cd_144 B_144_0 [.ref x0, .int x1, .int x2] [] w Q := Ev.go (P := PG) (z := 144) (mL := 3) (C := cd_144) rfl (Nat.le_of_ble_eq_true rfl)
theorem e_145 {x0 : Nat} : Ev PG (d + 1) 145 [.ref x0] w Q = Wp PG d cd_145 B_145_0 [.ref x0] [] w Q := Ev.go (P := PG) (z := 145) (mL := 1) (C := cd_145) rfl (Nat.le_of_ble_eq_true rfl)
theorem e_146 {x0 : Nat} {x1 : Int32} : Ev PG (d + 1) 146 [.ref x0, .int x1] w Q = Wp PG d cd_146 B_146_0 [.ref x0, .int x1] [] w Q := Ev.go (P := PG) (z := 146) (mL := 2) (C := cd_146) rfl (Nat.le_of_ble_eq_true rfl)
theorem e_147 {x0 : Nat} {x1 : Int32} : Ev PG (d + 1) 147 [.ref x0, .int x1] w Q = Wp PG d cd_147 B_147_0 [.ref x0, .int x1] [] w Q := Ev.go (P := PG) (z := 147) (mL := 2) (C := cd_147) rfl (Nat.le_of_ble_eq_true rfl)
theorem e_148 {x0 : Nat} {x1 : Int32} : Ev PG (d + 1) 148 [.ref x0, .int x1] w Q = Wp PG d cd_148 B_148_0 [.ref x0, .int x1, am_J, am_J] [] w Q := Ev.go (P := PG) (z := 148) (mL := 4) (C := cd_148) rfl (Nat.le_of_ble_eq_true rfl)
theorem e_149 {x0 : Nat} {x1 : Int32} : Ev PG (d + 1) 149 [.ref x0, .int x1] w Q = Wp PG d cd_149 B_149_0 [.ref x0, .int x1] [] w Q := Ev.go (P := PG) (z := 149) (mL := 2) (C := cd_149) rfl (Nat.le_of_ble_eq_true rfl)
theorem e_150 {x0 : Int32} : Ev PG (d + 1) 150 [.int x0] w Q = Wp PG d cd_150 B_150_0 [.int x0] [] w Q := Ev.go (P := PG) (z := 150) (mL := 1) (C := cd_150) rfl (Nat.le_of_ble_eq_true rfl)
theorem e_151 {x0 : Nat} {x1 : Int32} : Ev PG (d + 1) 151 [.ref x0, .int x1] w Q = Wp PG d cd_151 B_151_0 [.ref x0, .int x1, am_J, am_J, am_J, am_J, am_J, am_J, am_J, am_J] [] w Q := Ev.go (P := PG) (z := 151) (mL := 10) (C := cd_151) rfl (Nat.le_of_ble_eq_true rfl)
theorem e_152 {x0 : Int32} : Ev PG (d + 1) 152 [.int x0] w Q = Wp PG d cd_152 B_152_0 [.int x0] [] w Q := Ev.go (P := PG) (z := 152) (mL := 1) (C := cd_152) rfl (Nat.le_of_ble_eq_true rfl)
theorem e_153 {x0 : Nat} {x1 : Int32} {x2 : Int32} {x3 : Int32} {x4 : Int32} {x5 : Int32} : Ev PG (d + 1) 153 [.ref x0, .int x1, .int x2, .int x3, .int x4, .int x5] w Q = Wp PG d cd_153 B_153_0 [.ref x0, .int x1, .int x2, .int x3, .int x4, .int x5, am_J, am_J] [] w Q := Ev.go (P := PG) (z := 153) (mL := 8) (C := cd_153) rfl (Nat.le_of_ble_eq_true rfl)
theorem e_154 {x0 : Nat} {x1 : Int32} {x2 : Int32} {x3 : Int32} {x4 : Int32} {x5 : Int32} : Ev PG (d + 1) 154 [.ref x0, .int x1, .int x2, .int x3, .int x4, .int x5] w Q = Wp PG d cd_154 B_154_0 [.ref x0, .int x1, .int x2, .int x3, .int x4, .int x5] [] w Q := Ev.go (P := PG) (z := 154) (mL := 6) (C := cd_154) rfl (Nat.le_of_ble_eq_true rfl)
theorem e_155 {x0 : Nat} : Ev PG (d + 1) 155 [.ref x0] w Q = Wp PG d cd_155 B_155_0 [.ref x0] [] w Q := Ev.go (P := PG) (z := 155) (mL := 1) (C := cd_155) rfl (Nat.le_of_ble_eq_true rfl)
theorem e_156 {x0 : Nat} {x1 : Int32} : Ev PG (d + 1) 156 [.ref x0, .int x1] w Q = Wp PG d cd_156 B_156_0 [.ref x0, .int x1] [] w Q := Ev.go (P := PG) (z := 156) (mL := 2) (C := cd_156) rfl (Nat.le_of_ble_eq_true rfl)
theorem e_157 {x0 : Nat} : Ev PG (d + 1) 157 [.ref x0] w Q = Wp PG d cd_157 B_157_0 [.ref x0, am_J, am_J, am_J, am_J] [] w Q := Ev.go (P := PG) (z := 157) (mL := 5) (C := cd_157) rfl (Nat.le_of_ble_eq_true rfl)
theorem e_158 {x0 : Nat} {x1 : Int32} {x2 : Int32} {x3 : Int32} {x4 : Int32} : Ev PG (d + 1) 158 [.ref x0, .int x1, .int x2, .int x3, .int x4] w Q = Wp PG d cd_158 B_158_0 [.ref x0, .int x1, .int x2, .int x3, .int x4, am_J, am_J] [] w Q := Ev.go (P := PG) (z := 158) (mL := 7) (C := cd_158) rfl (Nat.le_of_ble_eq_true rfl)
theorem e_159 {x0 : Nat} {x1 : Int32} {x2 : Int32} {x3 : Int32} {x4 : Int32} : Ev PG (d + 1) 159 [.ref x0, .int x1, .int x2, .int x3, .int x4] w Q = Wp PG d cd_159 B_159_0 [.ref x0, .int x1, .int x2, .int x3, .int x4] [] w Q := Ev.go (P := PG) (z := 159) (mL := 5) (C := cd_159) rfl (Nat.le_of_ble_eq_true rfl)
theorem e_160 {x0 : Int32} {x1 : Int32} : Ev PG (d + 1) 160 [.int x0, .int x1] w Q = Wp PG d cd_160 B_160_0 [.int x0, .int x1] [] w Q := Ev.go (P := PG) (z := 160) (mL := 2) (C := cd_160) rfl (Nat.le_of_ble_eq_true rfl)
theorem e_161 {x0 : Nat} {x1 : Int32} : Ev PG (d + 1) 161 [.ref x0, .int x1] w Q = Wp PG d cd_161 B_161_0 [.ref x0, .int x1, am_J, am_J, am_J] [] w Q := Ev.go (P := PG) (z := 161) (mL := 5) (C := cd_161) rfl (Nat.le_of_ble_eq_true rfl)
theorem e_162 {x0 : Nat} {x1 : Int32} {x2 : Int32} {x3 : Int32} : Ev PG (d + 1) 162 [.ref x0, .int x1, .int x2, .int x3] w Q = Wp PG d cd_162 B_162_0 [.ref x0, .int x1, .int x2, .int x3, am_J, am_J, am_J] [] w Q := Ev.go (P := PG) (z := 162) (mL := 7) (C := cd_162) rfl (Nat.le_of_ble_eq_true rfl)
theorem e_163 {x0 : Nat} {x1 : Int32} {x2 : Int32} : Ev PG (d + 1) 163 [.ref x0, .int x1, .int x2] w Q = Wp PG d cd_163 B_163_0 [.ref x0, .int x1, .int x2, am_J, am_J] [] w Q := Ev.go (P := PG) (z := 163) (mL := 5) (C := cd_163) rfl (Nat.le_of_ble_eq_true rfl)
theorem e_164 {x0 : Nat} {x1 : Int32} {x2 : Int32} {x3 : Int32} : Ev PG (d + 1) 164 [.ref x0, .int x1, .int x2, .int x3] w Q = Wp PG d cd_164 B_164_0 [.ref x0, .int x1, .int x2, .int x3, am_J, am_J] [] w Q := Ev.go (P := PG) (z := 164) (mL := 6) (C := cd_164) rfl (Nat.le_of_ble_eq_true rfl)
theorem e_165 {x0 : Nat} {x1 : Int32} {x2 : Int32} : Ev PG (d + 1) 165 [.ref x0, .int x1, .int x2] w Q = Wp PG d cd_165 B_165_0 [.ref x0, .int x1, .int x2, am_J, am_J] [] w Q := Ev.go (P := PG) (z := 165) (mL := 5) (C := cd_165) rfl (Nat.le_of_ble_eq_true rfl)
theorem e_166 {x0 : Nat} {x1 : Int32} : Ev PG (d + 1) 166 [.ref x0, .int x1] w Q = Wp PG d cd_166 B_166_0 [.ref x0, .int x1, am_J] [] w Q := Ev.go (P := PG) (z := 166) (mL := 3) (C := cd_166) rfl (Nat.le_of_ble_eq_true rfl)
theorem e_167 {x0 : Nat} {x1 : Int32} : Ev PG (d + 1) 167 [.ref x0, .int x1] w Q = Wp PG d cd_167 B_167_0 [.ref x0, .int x1] [] w Q := Ev.go (P := PG) (z := 167) (mL := 2) (C := cd_167) rfl (Nat.le_of_ble_eq_true rfl)
theorem e_168 {x0 : Nat} {x1 : Int32} : Ev PG (d + 1) 168 [.ref x0, .int x1] w Q = Wp PG d cd_168 B_168_0 [.ref x0, .int x1] [] w Q := Ev.go (P := PG) (z := 168) (mL := 2) (C := cd_168) rfl (Nat.le_of_ble_eq_true rfl)
theorem e_169 {x0 : Nat} {x1 : Int32} : Ev PG (d + 1) 169 [.ref x0, .int x1] w Q = Wp PG d cd_169 B_169_0 [.ref x0, .int x1] [] w Q := Ev.go (P := PG) (z := 169) (mL := 2) (C := cd_169) rfl (Nat.le_of_ble_eq_true rfl)
theorem e_170 {x0 : Nat} {x1 : Int32} : Ev PG (d + 1) 170 [.ref x0, .int x1] w Q = Wp PG d cd_170 B_170_0 [.ref x0, .int x1] [] w Q := Ev.go (P := PG) (z := 170) (mL := 2) (C := cd_170) rfl (Nat.le_of_ble_eq_true rfl)
theorem e_171 {x0 : Nat} {x1 : Int32} : Ev PG (d + 1) 171 [.ref x0, .int x1] w Q = Wp PG d cd_171 B_171_0 [.ref x0, .int x1, am_J, am_J, am_J, am_J, am_J] [] w Q := Ev.go (P := PG) (z := 171) (mL := 7) (C := cd_171) rfl (Nat.le_of_ble_eq_true rfl)
theorem e_172 {x0 : Nat} {x1 : Int32} {x2 : Int32} : Ev PG (d + 1) 172 [.ref x0, .int x1, .int x2] w Q = Wp PG d cd_172 B_172_0 [.ref x0, .int x1, .int x2] [] w Q := Ev.go (P := PG) (z := 172) (mL := 3) (C := cd_172) rfl (Nat.le_of_ble_eq_true rfl)
theorem e_173 {x0 : Nat} {x1 : Int32} {x2 : Int32} {x3 : Int32} : Ev PG (d + 1) 173 [.ref x0, .int x1, .int x2, .int x3] w Q = Wp PG d cd_173 B_173_0 [.ref x0, .int x1, .int x2, .int x3] [] w Q := Ev.go (P := PG) (z := 173) (mL := 4) (C := cd_173) rfl (Nat.le_of_ble_eq_true rfl)
theorem e_174 {x0 : Nat} {x1 : Int32} : Ev PG (d + 1) 174 [.ref x0, .int x1] w Q = Wp PG d cd_174 B_174_0 [.ref x0, .int x1, am_J] [] w Q := Ev.go (P := PG) (z := 174) (mL := 3) (C := cd_174) rfl (Nat.le_of_ble_eq_true rfl)
theorem e_175 {x0 : Nat} : Ev PG (d + 1) 175 [.ref x0] w Q = Wp PG d cd_175 B_175_0 [.ref x0, am_J, am_J, am_J, am_J] [] w Q := Ev.go (P := PG) (z := 175) (mL := 5) (C := cd_175) rfl (Nat.le_of_ble_eq_true rfl)
theorem e_176 {x0 : Nat} : Ev PG (d + 1) 176 [.ref x0] w Q = Wp PG d cd_176 B_176_0 [.ref x0, am_J, am_J] [] w Q := Ev.go (P := PG) (z := 176) (mL := 3) (C := cd_176) rfl (Nat.le_of_ble_eq_true rfl)
theorem e_177 {x0 : Nat} : Ev PG (d + 1) 177 [.ref x0] w Q = Wp PG d cd_177 B_177_0 [.ref x0, am_J] [] w Q := Ev.go (P := PG) (z := 177) (mL := 2) (C := cd_177) rfl (Nat.le_of_ble_eq_true rfl)
theorem e_178 {x0 : Nat} {x1 : Int32} {x2 : Int32} : Ev PG (d + 1) 178 [.ref x0, .int x1, .int x2] w Q = Wp PG d cd_178 B_178_0 [.ref x0, .int x1, .int x2] [] w Q := Ev.go (P := PG) (z := 178) (mL := 3) (C := cd_178) rfl (Nat.le_of_ble_eq_true rfl)
theorem e_179 {x0 : Nat} : Ev PG (d + 1) 179 [.ref x0] w Q = Wp PG d cd_179 B_179_0 [.ref x0, am_J, am_J] [] w Q := Ev.go (P := PG) (z := 179) (mL := 3) (C := cd_179) rfl (Nat.le_of_ble_eq_true rfl)
theorem e_180 {x0 : Nat} : Ev PG (d + 1) 180 [.ref x0] w Q = Wp PG d cd_180 B_180_0 [.ref x0, am_J, am_J] [] w Q := Ev.go (P := PG) (z := 180) (mL := 3) (C := cd_180) rfl (Nat.le_of_ble_eq_true rfl)
theorem e_181 {x0 : Nat} {x1 : Int32} : Ev PG (d + 1) 181 [.ref x0, .int x1] w Q = Wp PG d cd_181 B_181_0 [.ref x0, .int x1] [] w Q := Ev.go (P := PG) (z := 181) (mL := 2) (C := cd_181) rfl (Nat.le_of_ble_eq_true rfl)
theorem e_182 {x0 : Nat} {x1 : Int32} : Ev PG (d + 1) 182 [.ref x0, .int x1] w Q = Wp PG d cd_182 B_182_0 [.ref x0, .int x1] [] w Q := Ev.go (P := PG) (z := 182) (mL := 2) (C := cd_182) rfl (Nat.le_of_ble_eq_true rfl)
theorem e_183 {x0 : Nat} {x1 : Int32} : Ev PG (d + 1) 183 [.ref x0, .int x1] w Q = Wp PG d cd_183 B_183_0 [.ref x0, .int x1] [] w Q := Ev.go (P := PG) (z := 183) (mL := 2) (C := cd_183) rfl (Nat.le_of_ble_eq_true rfl)
theorem e_184 {x0 : Nat} {x1 : Int32} : Ev PG (d + 1) 184 [.ref x0, .int x1] w Q = Wp PG d cd_184 B_184_0 [.ref x0, .int x1, am_J, am_J, am_J] [] w Q := Ev.go (P := PG) (z := 184) (mL := 5) (C := cd_184) rfl (Nat.le_of_ble_eq_true rfl)
theorem e_185 {x0 : Nat} {x1 : Int32} : Ev PG (d + 1) 185 [.ref x0, .int x1] w Q = Wp PG d cd_185 B_185_0 [.ref x0, .int x1] [] w Q := Ev.go (P := PG) (z := 185) (mL := 2) (C := cd_185) rfl (Nat.le_of_ble_eq_true rfl)
theorem e_186 {x0 : Nat} {x1 : Int32} : Ev PG (d + 1) 186 [.ref x0, .int x1] w Q = Wp PG d cd_186 B_186_0 [.ref x0, .int x1, am_J, am_J] [] w Q := Ev.go (P := PG) (z := 186) (mL := 4) (C := cd_186) rfl (Nat.le_of_ble_eq_true rfl)
theorem e_187 {x0 : Int32} : Ev PG (d + 1) 187 [.int x0] w Q = Wp PG d cd_187 B_187_0 [.int x0] [] w Q := Ev.go (P := PG) (z := 187) (mL := 1) (C := cd_187) rfl (Nat.le_of_ble_eq_true rfl)
theorem e_188 {x0 : Nat} {x1 : Int32} {x2 : Int32} : Ev PG (d + 1) 188 [.ref x0, .int x1, .int x2] w Q = Wp PG d cd_188 B_188_0 [.ref x0, .int x1, .int x2, am_J, am_J, am_J, am_J] [] w Q := Ev.go (P := PG) (z := 188) (mL := 7) (C := cd_188) rfl (Nat.le_of_ble_eq_true rfl)
theorem e_189 {x0 : Nat} : Ev PG (d + 1) 189 [.ref x0] w Q = Wp PG d cd_189 B_189_0 [.ref x0] [] w Q := Ev.go (P := PG) (z := 189) (mL := 1) (C := cd_189) rfl (Nat.le_of_ble_eq_true rfl)
theorem e_190 {x0 : Nat} {x1 : Int32} : Ev PG (d + 1) 190 [.ref x0, .int x1] w Q = Wp PG d cd_190 B_190_0 [.ref x0, .int x1, am_J, am_J, am_J] [] w Q := Ev.go (P := PG) (z := 190) (mL := 5) (C := cd_190) rfl (Nat.le_of_ble_eq_true rfl)
theorem e_191 {x0 : Nat} {x1 : Int32} {x2 : Int32} : Ev PG (d + 1) 191 [.ref x0, .int x1, .int x2] w Q = Wp PG d cd_191 B_191_0 [.ref x0, .int x1, .int x2] [] w Q := Ev.go (P := PG) (z := 191) (mL := 3) (C := cd_191) rfl (Nat.le_of_ble_eq_true rfl)
theorem e_192 {x0 : Nat} {x1 : Int32} : Ev PG (d + 1) 192 [.ref x0, .int x1] w Q = Wp PG d cd_192 B_192_0 [.ref x0, .int x1, am_J, am_J, am_J, am_J] [] w Q := Ev.go (P := PG) (z := 192) (mL := 6) (C := cd_192) rfl (Nat.le_of_ble_eq_true rfl)
theorem e_193 {x0 : Nat} {x1 : Int32} {x2 : Int32} : Ev PG (d + 1) 193 [.ref x0, .int x1, .int x2] w Q = Wp PG d cd_193 B_193_0 [.ref x0, .int x1, .int x2, am_J, am_J, am_J, am_J, am_J, am_J, am_J, am_J, am_J, am_J] [] w Q := Ev.go (P := PG) (z := 193) (mL := 13) (C := cd_193) rfl (Nat.le_of_ble_eq_true rfl)
theorem e_194 {x0 : Nat} {x1 : Int32} {x2 : Int32} : Ev PG (d + 1) 194 [.ref x0, .int x1, .int x2] w Q = Wp PG d cd_194 B_194_0 [.ref x0, .int x1, .int x2, am_J] [] w Q := Ev.go (P := PG) (z := 194) (mL := 4) (C := cd_194) rfl (Nat.le_of_ble_eq_true rfl)
theorem e_195 {x0 : Nat} : Ev PG (d + 1) 195 [.ref x0] w Q = Wp PG d cd_195 B_195_0 [.ref x0, am_J] [] w Q := Ev.go (P := PG) (z := 195) (mL := 2) (C := cd_195) rfl (Nat.le_of_ble_eq_true rfl)
theorem e_196 {x0 : Nat} : Ev PG (d + 1) 196 [.ref x0] w Q = Wp PG d cd_196 B_196_0 [.ref x0, am_J, am_J, am_J, am_J, am_J, am_J, am_J, am_J, am_J, am_J] [] w Q := Ev.go (P := PG) (z := 196) (mL := 11) (C := cd_196) rfl (Nat.le_of_ble_eq_true rfl)
theorem e_197 {x0 : Int64} {x1 : Int64} {x2 : Int64} : Ev PG (d + 1) 197 [.long x0, .long x1, .long x2] w Q = Wp PG d cd_197 B_197_0 [.long x0, am_J, .long x1, am_J, .long x2, am_J] [] w Q := Ev.go (P := PG) (z := 197) (mL := 6) (C := cd_197) rfl (Nat.le_of_ble_eq_true rfl)
theorem e_198 {x0 : Nat} : Ev PG (d + 1) 198 [.ref x0] w Q = Wp PG d cd_198 B_198_0 [.ref x0] [] w Q := Ev.go (P := PG) (z := 198) (mL := 1) (C := cd_198) rfl (Nat.le_of_ble_eq_true rfl)
theorem e_199 {x0 : Value} (hx0 : am_isA x0 = true) : Ev PG (d + 1) 199 [x0] w Q = Wp PG d cd_199 B_199_0 [x0, am_J, am_J, am_J] [] w Q := by
  (rcases am_isA_or hx0 with rfl | ⟨ax0, rfl⟩) <;> exact Ev.go (P := PG) (z := 199) (mL := 4) (C := cd_199) rfl (Nat.le_of_ble_eq_true rfl)
theorem q_0_0 {as : List Value} : Evv PG d 0 (some 0) as w Q = Ev PG d 1 as w Q := rfl
theorem q_1_1 {as : List Value} : Evv PG d 1 (some 1) as w Q = Ev PG d 3 as w Q := rfl
theorem q_2_2 {as : List Value} : Evv PG d 2 (some 2) as w Q = Ev PG d 4 as w Q := rfl
theorem q_3_3 {as : List Value} : Evv PG d 3 (some 3) as w Q = Ev PG d 7 as w Q := rfl
theorem q_4_0 {as : List Value} : Evv PG d 4 (some 0) as w Q = Ev PG d 2 as w Q := rfl
theorem q_5_2 {as : List Value} : Evv PG d 5 (some 2) as w Q = Ev PG d 5 as w Q := rfl
theorem q_6_2 {as : List Value} : Evv PG d 6 (some 2) as w Q = Ev PG d 6 as w Q := rfl
theorem q_7_0 {as : List Value} : Evv PG d 7 (some 0) as w Q = Ev PG d 9 as w Q := rfl
theorem q_8_0 {as : List Value} : Evv PG d 8 (some 0) as w Q = Ev PG d 11 as w Q := rfl
theorem q_9_0 {as : List Value} : Evv PG d 9 (some 0) as w Q = Ev PG d 10 as w Q := rfl
theorem q_10_0 {as : List Value} : Evv PG d 10 (some 0) as w Q = Ev PG d 12 as w Q := rfl
theorem q_11_0 {as : List Value} : Evv PG d 11 (some 0) as w Q = Ev PG d 13 as w Q := rfl
theorem q_12_0 {as : List Value} : Evv PG d 12 (some 0) as w Q = Ev PG d 19 as w Q := rfl
theorem q_14_0 {as : List Value} : Evv PG d 14 (some 0) as w Q = Ev PG d 14 as w Q := rfl
theorem q_15_0 {as : List Value} : Evv PG d 15 (some 0) as w Q = Ev PG d 24 as w Q := rfl
theorem q_16_0 {as : List Value} : Evv PG d 16 (some 0) as w Q = Ev PG d 25 as w Q := rfl
theorem q_17_2 {as : List Value} : Evv PG d 17 (some 2) as w Q = Ev PG d 27 as w Q := rfl
theorem q_18_1 {as : List Value} : Evv PG d 18 (some 1) as w Q = Ev PG d 28 as w Q := rfl
theorem q_19_4 {as : List Value} : Evv PG d 19 (some 4) as w Q = Ev PG d 41 as w Q := rfl
theorem q_20_2 {as : List Value} : Evv PG d 20 (some 2) as w Q = Ev PG d 84 as w Q := rfl
theorem q_21_0 {as : List Value} : Evv PG d 21 (some 0) as w Q = Ev PG d 29 as w Q := rfl
theorem q_22_1 {as : List Value} : Evv PG d 22 (some 1) as w Q = Ev PG d 31 as w Q := rfl
theorem q_23_1 {as : List Value} : Evv PG d 23 (some 1) as w Q = Ev PG d 38 as w Q := rfl
theorem q_24_1 {as : List Value} : Evv PG d 24 (some 1) as w Q = Ev PG d 39 as w Q := rfl
theorem q_25_0 {as : List Value} : Evv PG d 25 (some 0) as w Q = Ev PG d 30 as w Q := rfl
theorem q_26_1 {as : List Value} : Evv PG d 26 (some 1) as w Q = Ev PG d 32 as w Q := rfl
theorem q_27_1 {as : List Value} : Evv PG d 27 (some 1) as w Q = Ev PG d 33 as w Q := rfl
theorem q_28_1 {as : List Value} : Evv PG d 28 (some 1) as w Q = Ev PG d 34 as w Q := rfl
theorem q_29_1 {as : List Value} : Evv PG d 29 (some 1) as w Q = Ev PG d 35 as w Q := rfl
theorem q_30_12 {as : List Value} : Evv PG d 30 (some 12) as w Q = Ev PG d 37 as w Q := rfl
theorem q_31_2 {as : List Value} : Evv PG d 31 (some 2) as w Q = Ev PG d 42 as w Q := rfl
theorem q_32_4 {as : List Value} : Evv PG d 32 (some 4) as w Q = Ev PG d 45 as w Q := rfl
theorem q_33_5 {as : List Value} : Evv PG d 33 (some 5) as w Q = Ev PG d 54 as w Q := rfl
theorem q_33_6 {as : List Value} : Evv PG d 33 (some 6) as w Q = Ev PG d 52 as w Q := rfl
theorem q_33_7 {as : List Value} : Evv PG d 33 (some 7) as w Q = Ev PG d 56 as w Q := rfl
theorem q_33_8 {as : List Value} : Evv PG d 33 (some 8) as w Q = Ev PG d 55 as w Q := rfl
theorem q_34_4 {as : List Value} : Evv PG d 34 (some 4) as w Q = Ev PG d 57 as w Q := rfl
theorem q_35_2 {as : List Value} : Evv PG d 35 (some 2) as w Q = Ev PG d 44 as w Q := rfl
theorem q_36_5 {as : List Value} : Evv PG d 36 (some 5) as w Q = Ev PG d 47 as w Q := rfl
theorem q_37_6 {as : List Value} : Evv PG d 37 (some 6) as w Q = Ev PG d 49 as w Q := rfl
theorem q_38_7 {as : List Value} : Evv PG d 38 (some 7) as w Q = Ev PG d 50 as w Q := rfl
theorem q_39_8 {as : List Value} : Evv PG d 39 (some 8) as w Q = Ev PG d 51 as w Q := rfl
theorem q_40_5 {as : List Value} : Evv PG d 40 (some 5) as w Q = Ev PG d 48 as w Q := rfl
theorem q_40_6 {as : List Value} : Evv PG d 40 (some 6) as w Q = Ev PG d 48 as w Q := rfl
theorem q_40_7 {as : List Value} : Evv PG d 40 (some 7) as w Q = Ev PG d 48 as w Q := rfl
theorem q_40_8 {as : List Value} : Evv PG d 40 (some 8) as w Q = Ev PG d 48 as w Q := rfl
theorem q_41_12 {as : List Value} : Evv PG d 41 (some 12) as w Q = Ev PG d 53 as w Q := rfl
theorem q_42_5 {as : List Value} : Evv PG d 42 (some 5) as w Q = Ev PG d 59 as w Q := rfl
theorem q_42_6 {as : List Value} : Evv PG d 42 (some 6) as w Q = Ev PG d 58 as w Q := rfl
theorem q_42_7 {as : List Value} : Evv PG d 42 (some 7) as w Q = Ev PG d 62 as w Q := rfl
theorem q_42_8 {as : List Value} : Evv PG d 42 (some 8) as w Q = Ev PG d 60 as w Q := rfl
theorem q_43_5 {as : List Value} : Evv PG d 43 (some 5) as w Q = Ev PG d 63 as w Q := rfl
theorem q_43_6 {as : List Value} : Evv PG d 43 (some 6) as w Q = Ev PG d 63 as w Q := rfl
theorem q_43_7 {as : List Value} : Evv PG d 43 (some 7) as w Q = Ev PG d 63 as w Q := rfl
theorem q_43_8 {as : List Value} : Evv PG d 43 (some 8) as w Q = Ev PG d 63 as w Q := rfl
theorem q_44_5 {as : List Value} : Evv PG d 44 (some 5) as w Q = Ev PG d 75 as w Q := rfl
theorem q_44_6 {as : List Value} : Evv PG d 44 (some 6) as w Q = Ev PG d 73 as w Q := rfl
theorem q_44_7 {as : List Value} : Evv PG d 44 (some 7) as w Q = Ev PG d 77 as w Q := rfl
theorem q_44_8 {as : List Value} : Evv PG d 44 (some 8) as w Q = Ev PG d 76 as w Q := rfl
theorem q_45_2 {as : List Value} : Evv PG d 45 (some 2) as w Q = Ev PG d 78 as w Q := rfl
theorem q_46_5 {as : List Value} : Evv PG d 46 (some 5) as w Q = Ev PG d 64 as w Q := rfl
theorem q_46_6 {as : List Value} : Evv PG d 46 (some 6) as w Q = Ev PG d 64 as w Q := rfl
theorem q_46_7 {as : List Value} : Evv PG d 46 (some 7) as w Q = Ev PG d 64 as w Q := rfl
theorem q_46_8 {as : List Value} : Evv PG d 46 (some 8) as w Q = Ev PG d 64 as w Q := rfl
theorem q_47_5 {as : List Value} : Evv PG d 47 (some 5) as w Q = Ev PG d 65 as w Q := rfl
theorem q_47_6 {as : List Value} : Evv PG d 47 (some 6) as w Q = Ev PG d 65 as w Q := rfl
theorem q_47_7 {as : List Value} : Evv PG d 47 (some 7) as w Q = Ev PG d 65 as w Q := rfl
theorem q_47_8 {as : List Value} : Evv PG d 47 (some 8) as w Q = Ev PG d 65 as w Q := rfl
theorem q_48_5 {as : List Value} : Evv PG d 48 (some 5) as w Q = Ev PG d 72 as w Q := rfl
theorem q_48_6 {as : List Value} : Evv PG d 48 (some 6) as w Q = Ev PG d 72 as w Q := rfl
theorem q_48_7 {as : List Value} : Evv PG d 48 (some 7) as w Q = Ev PG d 71 as w Q := rfl
theorem q_48_8 {as : List Value} : Evv PG d 48 (some 8) as w Q = Ev PG d 72 as w Q := rfl
theorem q_49_5 {as : List Value} : Evv PG d 49 (some 5) as w Q = Ev PG d 68 as w Q := rfl
theorem q_49_6 {as : List Value} : Evv PG d 49 (some 6) as w Q = Ev PG d 66 as w Q := rfl
theorem q_49_7 {as : List Value} : Evv PG d 49 (some 7) as w Q = Ev PG d 70 as w Q := rfl
theorem q_49_8 {as : List Value} : Evv PG d 49 (some 8) as w Q = Ev PG d 69 as w Q := rfl
theorem q_50_2 {as : List Value} : Evv PG d 50 (some 2) as w Q = Ev PG d 79 as w Q := rfl
theorem q_51_2 {as : List Value} : Evv PG d 51 (some 2) as w Q = Ev PG d 80 as w Q := rfl
theorem q_52_2 {as : List Value} : Evv PG d 52 (some 2) as w Q = Ev PG d 81 as w Q := rfl
theorem q_53_2 {as : List Value} : Evv PG d 53 (some 2) as w Q = Ev PG d 85 as w Q := rfl
theorem q_54_4 {as : List Value} : Evv PG d 54 (some 4) as w Q = Ev PG d 88 as w Q := rfl
theorem q_55_4 {as : List Value} : Evv PG d 55 (some 4) as w Q = Ev PG d 93 as w Q := rfl
theorem q_56_5 {as : List Value} : Evv PG d 56 (some 5) as w Q = Ev PG d 94 as w Q := rfl
theorem q_56_6 {as : List Value} : Evv PG d 56 (some 6) as w Q = Ev PG d 94 as w Q := rfl
theorem q_56_7 {as : List Value} : Evv PG d 56 (some 7) as w Q = Ev PG d 94 as w Q := rfl
theorem q_56_8 {as : List Value} : Evv PG d 56 (some 8) as w Q = Ev PG d 94 as w Q := rfl
theorem q_57_3 {as : List Value} : Evv PG d 57 (some 3) as w Q = Ev PG d 95 as w Q := rfl
theorem q_58_3 {as : List Value} : Evv PG d 58 (some 3) as w Q = Ev PG d 100 as w Q := rfl
theorem q_59_4 {as : List Value} : Evv PG d 59 (some 4) as w Q = Ev PG d 102 as w Q := rfl
theorem q_60_4 {as : List Value} : Evv PG d 60 (some 4) as w Q = Ev PG d 103 as w Q := rfl
theorem q_61_5 {as : List Value} : Evv PG d 61 (some 5) as w Q = Ev PG d 98 as w Q := rfl
theorem q_61_6 {as : List Value} : Evv PG d 61 (some 6) as w Q = Ev PG d 96 as w Q := rfl
theorem q_61_7 {as : List Value} : Evv PG d 61 (some 7) as w Q = Ev PG d 101 as w Q := rfl
theorem q_61_8 {as : List Value} : Evv PG d 61 (some 8) as w Q = Ev PG d 99 as w Q := rfl
theorem q_62_3 {as : List Value} : Evv PG d 62 (some 3) as w Q = Ev PG d 97 as w Q := rfl
theorem q_63_8 {as : List Value} : Evv PG d 63 (some 8) as w Q = Ev PG d 69 as w Q := rfl
theorem q_64_4 {as : List Value} : Evv PG d 64 (some 4) as w Q = Ev PG d 105 as w Q := rfl
theorem q_65_4 {as : List Value} : Evv PG d 65 (some 4) as w Q = Ev PG d 108 as w Q := rfl
theorem q_66_2 {as : List Value} : Evv PG d 66 (some 2) as w Q = Ev PG d 109 as w Q := rfl
theorem q_67_9 {as : List Value} : Evv PG d 67 (some 9) as w Q = Ev PG d 111 as w Q := rfl
theorem q_68_4 {as : List Value} : Evv PG d 68 (some 4) as w Q = Ev PG d 114 as w Q := rfl
theorem q_69_4 {as : List Value} : Evv PG d 69 (some 4) as w Q = Ev PG d 116 as w Q := rfl
theorem q_70_4 {as : List Value} : Evv PG d 70 (some 4) as w Q = Ev PG d 117 as w Q := rfl
theorem q_71_4 {as : List Value} : Evv PG d 71 (some 4) as w Q = Ev PG d 115 as w Q := rfl
theorem q_72_3 {as : List Value} : Evv PG d 72 (some 3) as w Q = Ev PG d 120 as w Q := rfl
theorem q_73_2 {as : List Value} : Evv PG d 73 (some 2) as w Q = Ev PG d 123 as w Q := rfl
theorem q_74_10 {as : List Value} : Evv PG d 74 (some 10) as w Q = Ev PG d 125 as w Q := rfl
theorem q_75_10 {as : List Value} : Evv PG d 75 (some 10) as w Q = Ev PG d 126 as w Q := rfl
theorem q_76_10 {as : List Value} : Evv PG d 76 (some 10) as w Q = Ev PG d 124 as w Q := rfl
theorem q_77_10 {as : List Value} : Evv PG d 77 (some 10) as w Q = Ev PG d 127 as w Q := rfl
theorem q_78_4 {as : List Value} : Evv PG d 78 (some 4) as w Q = Ev PG d 129 as w Q := rfl
theorem q_79_3 {as : List Value} : Evv PG d 79 (some 3) as w Q = Ev PG d 130 as w Q := rfl
theorem q_80_5 {as : List Value} : Evv PG d 80 (some 5) as w Q = Ev PG d 132 as w Q := rfl
theorem q_80_6 {as : List Value} : Evv PG d 80 (some 6) as w Q = Ev PG d 131 as w Q := rfl
theorem q_80_7 {as : List Value} : Evv PG d 80 (some 7) as w Q = Ev PG d 132 as w Q := rfl
theorem q_80_8 {as : List Value} : Evv PG d 80 (some 8) as w Q = Ev PG d 132 as w Q := rfl
theorem q_81_9 {as : List Value} : Evv PG d 81 (some 9) as w Q = Ev PG d 136 as w Q := rfl
theorem q_82_11 {as : List Value} : Evv PG d 82 (some 11) as w Q = Ev PG d 141 as w Q := rfl
theorem q_83_11 {as : List Value} : Evv PG d 83 (some 11) as w Q = Ev PG d 151 as w Q := rfl
theorem q_84_11 {as : List Value} : Evv PG d 84 (some 11) as w Q = Ev PG d 142 as w Q := rfl
theorem q_85_11 {as : List Value} : Evv PG d 85 (some 11) as w Q = Ev PG d 149 as w Q := rfl
theorem q_86_11 {as : List Value} : Evv PG d 86 (some 11) as w Q = Ev PG d 143 as w Q := rfl
theorem q_87_11 {as : List Value} : Evv PG d 87 (some 11) as w Q = Ev PG d 146 as w Q := rfl
theorem q_88_11 {as : List Value} : Evv PG d 88 (some 11) as w Q = Ev PG d 148 as w Q := rfl
theorem q_89_11 {as : List Value} : Evv PG d 89 (some 11) as w Q = Ev PG d 144 as w Q := rfl
theorem q_90_11 {as : List Value} : Evv PG d 90 (some 11) as w Q = Ev PG d 145 as w Q := rfl
theorem q_91_11 {as : List Value} : Evv PG d 91 (some 11) as w Q = Ev PG d 147 as w Q := rfl
theorem q_92_11 {as : List Value} : Evv PG d 92 (some 11) as w Q = Ev PG d 153 as w Q := rfl
theorem q_93_11 {as : List Value} : Evv PG d 93 (some 11) as w Q = Ev PG d 154 as w Q := rfl
theorem q_94_11 {as : List Value} : Evv PG d 94 (some 11) as w Q = Ev PG d 157 as w Q := rfl
theorem q_95_11 {as : List Value} : Evv PG d 95 (some 11) as w Q = Ev PG d 167 as w Q := rfl
theorem q_96_11 {as : List Value} : Evv PG d 96 (some 11) as w Q = Ev PG d 158 as w Q := rfl
theorem q_97_11 {as : List Value} : Evv PG d 97 (some 11) as w Q = Ev PG d 159 as w Q := rfl
theorem q_98_11 {as : List Value} : Evv PG d 98 (some 11) as w Q = Ev PG d 161 as w Q := rfl
theorem q_99_11 {as : List Value} : Evv PG d 99 (some 11) as w Q = Ev PG d 166 as w Q := rfl
theorem q_100_11 {as : List Value} : Evv PG d 100 (some 11) as w Q = Ev PG d 162 as w Q := rfl
theorem q_101_11 {as : List Value} : Evv PG d 101 (some 11) as w Q = Ev PG d 163 as w Q := rfl
theorem q_102_11 {as : List Value} : Evv PG d 102 (some 11) as w Q = Ev PG d 164 as w Q := rfl
theorem q_103_11 {as : List Value} : Evv PG d 103 (some 11) as w Q = Ev PG d 165 as w Q := rfl
theorem q_104_11 {as : List Value} : Evv PG d 104 (some 11) as w Q = Ev PG d 171 as w Q := rfl
theorem q_105_11 {as : List Value} : Evv PG d 105 (some 11) as w Q = Ev PG d 177 as w Q := rfl
theorem q_106_11 {as : List Value} : Evv PG d 106 (some 11) as w Q = Ev PG d 179 as w Q := rfl
theorem q_107_11 {as : List Value} : Evv PG d 107 (some 11) as w Q = Ev PG d 180 as w Q := rfl
theorem q_108_11 {as : List Value} : Evv PG d 108 (some 11) as w Q = Ev PG d 178 as w Q := rfl
theorem q_109_11 {as : List Value} : Evv PG d 109 (some 11) as w Q = Ev PG d 181 as w Q := rfl
theorem q_110_11 {as : List Value} : Evv PG d 110 (some 11) as w Q = Ev PG d 182 as w Q := rfl
theorem q_111_11 {as : List Value} : Evv PG d 111 (some 11) as w Q = Ev PG d 184 as w Q := rfl
theorem q_112_11 {as : List Value} : Evv PG d 112 (some 11) as w Q = Ev PG d 186 as w Q := rfl
theorem q_113_11 {as : List Value} : Evv PG d 113 (some 11) as w Q = Ev PG d 189 as w Q := rfl
theorem q_114_11 {as : List Value} : Evv PG d 114 (some 11) as w Q = Ev PG d 190 as w Q := rfl
theorem q_115_11 {as : List Value} : Evv PG d 115 (some 11) as w Q = Ev PG d 192 as w Q := rfl
theorem q_116_11 {as : List Value} : Evv PG d 116 (some 11) as w Q = Ev PG d 191 as w Q := rfl
theorem q_117_11 {as : List Value} : Evv PG d 117 (some 11) as w Q = Ev PG d 193 as w Q := rfl
theorem q_118_4 {as : List Value} : Evv PG d 118 (some 4) as w Q = Ev PG d 0 as w Q := rfl
theorem q_119_11 {as : List Value} : Evv PG d 119 (some 11) as w Q = Ev PG d 137 as w Q := rfl
theorem q_120_4 {as : List Value} : Evv PG d 120 (some 4) as w Q = Ev PG d 8 as w Q := rfl
theorem q_121_11 {as : List Value} : Evv PG d 121 (some 11) as w Q = Ev PG d 138 as w Q := rfl
theorem q_122_4 {as : List Value} : Evv PG d 122 (some 4) as w Q = Ev PG d 23 as w Q := rfl
theorem q_123_11 {as : List Value} : Evv PG d 123 (some 11) as w Q = Ev PG d 139 as w Q := rfl
theorem q_124_4 {as : List Value} : Evv PG d 124 (some 4) as w Q = Ev PG d 26 as w Q := rfl
theorem q_125_11 {as : List Value} : Evv PG d 125 (some 11) as w Q = Ev PG d 140 as w Q := rfl
theorem q_126_4 {as : List Value} : Evv PG d 126 (some 4) as w Q = Ev PG d 86 as w Q := rfl
theorem q_127_11 {as : List Value} : Evv PG d 127 (some 11) as w Q = Ev PG d 155 as w Q := rfl
theorem q_128_4 {as : List Value} : Evv PG d 128 (some 4) as w Q = Ev PG d 87 as w Q := rfl
theorem q_129_11 {as : List Value} : Evv PG d 129 (some 11) as w Q = Ev PG d 156 as w Q := rfl
theorem q_130_4 {as : List Value} : Evv PG d 130 (some 4) as w Q = Ev PG d 89 as w Q := rfl
theorem q_131_11 {as : List Value} : Evv PG d 131 (some 11) as w Q = Ev PG d 168 as w Q := rfl
theorem q_132_4 {as : List Value} : Evv PG d 132 (some 4) as w Q = Ev PG d 91 as w Q := rfl
theorem q_133_11 {as : List Value} : Evv PG d 133 (some 11) as w Q = Ev PG d 194 as w Q := rfl
theorem q_134_4 {as : List Value} : Evv PG d 134 (some 4) as w Q = Ev PG d 90 as w Q := rfl
theorem q_135_11 {as : List Value} : Evv PG d 135 (some 11) as w Q = Ev PG d 169 as w Q := rfl
theorem q_136_4 {as : List Value} : Evv PG d 136 (some 4) as w Q = Ev PG d 104 as w Q := rfl
theorem q_137_11 {as : List Value} : Evv PG d 137 (some 11) as w Q = Ev PG d 170 as w Q := rfl
theorem q_138_4 {as : List Value} : Evv PG d 138 (some 4) as w Q = Ev PG d 107 as w Q := rfl
theorem q_139_11 {as : List Value} : Evv PG d 139 (some 11) as w Q = Ev PG d 172 as w Q := rfl
theorem q_140_4 {as : List Value} : Evv PG d 140 (some 4) as w Q = Ev PG d 110 as w Q := rfl
theorem q_141_11 {as : List Value} : Evv PG d 141 (some 11) as w Q = Ev PG d 173 as w Q := rfl
theorem q_142_4 {as : List Value} : Evv PG d 142 (some 4) as w Q = Ev PG d 112 as w Q := rfl
theorem q_143_11 {as : List Value} : Evv PG d 143 (some 11) as w Q = Ev PG d 174 as w Q := rfl
theorem q_144_4 {as : List Value} : Evv PG d 144 (some 4) as w Q = Ev PG d 113 as w Q := rfl
theorem q_145_11 {as : List Value} : Evv PG d 145 (some 11) as w Q = Ev PG d 176 as w Q := rfl
theorem q_146_4 {as : List Value} : Evv PG d 146 (some 4) as w Q = Ev PG d 118 as w Q := rfl
theorem q_147_11 {as : List Value} : Evv PG d 147 (some 11) as w Q = Ev PG d 185 as w Q := rfl
theorem q_148_4 {as : List Value} : Evv PG d 148 (some 4) as w Q = Ev PG d 119 as w Q := rfl
theorem q_149_11 {as : List Value} : Evv PG d 149 (some 11) as w Q = Ev PG d 188 as w Q := rfl
theorem q_150_4 {as : List Value} : Evv PG d 150 (some 4) as w Q = Ev PG d 121 as w Q := rfl
theorem q_151_11 {as : List Value} : Evv PG d 151 (some 11) as w Q = Ev PG d 183 as w Q := rfl
theorem q_152_4 {as : List Value} : Evv PG d 152 (some 4) as w Q = Ev PG d 122 as w Q := rfl
theorem q_153_11 {as : List Value} : Evv PG d 153 (some 11) as w Q = Ev PG d 195 as w Q := rfl
theorem q_154_4 {as : List Value} : Evv PG d 154 (some 4) as w Q = Ev PG d 128 as w Q := rfl
theorem q_155_11 {as : List Value} : Evv PG d 155 (some 11) as w Q = Ev PG d 196 as w Q := rfl
theorem q_156_4 {as : List Value} : Evv PG d 156 (some 4) as w Q = Ev PG d 134 as w Q := rfl
theorem q_157_11 {as : List Value} : Evv PG d 157 (some 11) as w Q = Ev PG d 198 as w Q := rfl
theorem q_158_4 {as : List Value} : Evv PG d 158 (some 4) as w Q = Ev PG d 135 as w Q := rfl
theorem q_159_11 {as : List Value} : Evv PG d 159 (some 11) as w Q = Ev PG d 175 as w Q := rfl
set_option maxRecDepth 100000 in
theorem qq_all : (∀ (d : Nat) (w : am_W) (Q : Option Value → am_W → Prop) (as : List Value), Evv PG d 0 (some 0) as w Q = Ev PG d 1 as w Q) ∧ (∀ (d : Nat) (w : am_W) (Q : Option Value → am_W → Prop) (as : List Value), Evv PG d 1 (some 1) as w Q = Ev PG d 3 as w Q) ∧ (∀ (d : Nat) (w : am_W) (Q : Option Value → am_W → Prop) (as : List Value), Evv PG d 2 (some 2) as w Q = Ev PG d 4 as w Q) ∧ (∀ (d : Nat) (w : am_W) (Q : Option Value → am_W → Prop) (as : List Value), Evv PG d 3 (some 3) as w Q = Ev PG d 7 as w Q) ∧ (∀ (d : Nat) (w : am_W) (Q : Option Value → am_W → Prop) (as : List Value), Evv PG d 4 (some 0) as w Q = Ev PG d 2 as w Q) ∧ (∀ (d : Nat) (w : am_W) (Q : Option Value → am_W → Prop) (as : List Value), Evv PG d 5 (some 2) as w Q = Ev PG d 5 as w Q) ∧ (∀ (d : Nat) (w : am_W) (Q : Option Value → am_W → Prop) (as : List Value), Evv PG d 6 (some 2) as w Q = Ev PG d 6 as w Q) ∧ (∀ (d : Nat) (w : am_W) (Q : Option Value → am_W → Prop) (as : List Value), Evv PG d 7 (some 0) as w Q = Ev PG d 9 as w Q) ∧ (∀ (d : Nat) (w : am_W) (Q : Option Value → am_W → Prop) (as : List Value), Evv PG d 8 (some 0) as w Q = Ev PG d 11 as w Q) ∧ (∀ (d : Nat) (w : am_W) (Q : Option Value → am_W → Prop) (as : List Value), Evv PG d 9 (some 0) as w Q = Ev PG d 10 as w Q) ∧ (∀ (d : Nat) (w : am_W) (Q : Option Value → am_W → Prop) (as : List Value), Evv PG d 10 (some 0) as w Q = Ev PG d 12 as w Q) ∧ (∀ (d : Nat) (w : am_W) (Q : Option Value → am_W → Prop) (as : List Value), Evv PG d 11 (some 0) as w Q = Ev PG d 13 as w Q) ∧ (∀ (d : Nat) (w : am_W) (Q : Option Value → am_W → Prop) (as : List Value), Evv PG d 12 (some 0) as w Q = Ev PG d 19 as w Q) ∧ (∀ (d : Nat) (w : am_W) (Q : Option Value → am_W → Prop) (as : List Value), Evv PG d 14 (some 0) as w Q = Ev PG d 14 as w Q) ∧ (∀ (d : Nat) (w : am_W) (Q : Option Value → am_W → Prop) (as : List Value), Evv PG d 15 (some 0) as w Q = Ev PG d 24 as w Q) ∧ (∀ (d : Nat) (w : am_W) (Q : Option Value → am_W → Prop) (as : List Value), Evv PG d 16 (some 0) as w Q = Ev PG d 25 as w Q) ∧ (∀ (d : Nat) (w : am_W) (Q : Option Value → am_W → Prop) (as : List Value), Evv PG d 17 (some 2) as w Q = Ev PG d 27 as w Q) ∧ (∀ (d : Nat) (w : am_W) (Q : Option Value → am_W → Prop) (as : List Value), Evv PG d 18 (some 1) as w Q = Ev PG d 28 as w Q) ∧ (∀ (d : Nat) (w : am_W) (Q : Option Value → am_W → Prop) (as : List Value), Evv PG d 19 (some 4) as w Q = Ev PG d 41 as w Q) ∧ (∀ (d : Nat) (w : am_W) (Q : Option Value → am_W → Prop) (as : List Value), Evv PG d 20 (some 2) as w Q = Ev PG d 84 as w Q) ∧ (∀ (d : Nat) (w : am_W) (Q : Option Value → am_W → Prop) (as : List Value), Evv PG d 21 (some 0) as w Q = Ev PG d 29 as w Q) ∧ (∀ (d : Nat) (w : am_W) (Q : Option Value → am_W → Prop) (as : List Value), Evv PG d 22 (some 1) as w Q = Ev PG d 31 as w Q) ∧ (∀ (d : Nat) (w : am_W) (Q : Option Value → am_W → Prop) (as : List Value), Evv PG d 23 (some 1) as w Q = Ev PG d 38 as w Q) ∧ (∀ (d : Nat) (w : am_W) (Q : Option Value → am_W → Prop) (as : List Value), Evv PG d 24 (some 1) as w Q = Ev PG d 39 as w Q) ∧ (∀ (d : Nat) (w : am_W) (Q : Option Value → am_W → Prop) (as : List Value), Evv PG d 25 (some 0) as w Q = Ev PG d 30 as w Q) ∧ (∀ (d : Nat) (w : am_W) (Q : Option Value → am_W → Prop) (as : List Value), Evv PG d 26 (some 1) as w Q = Ev PG d 32 as w Q) ∧ (∀ (d : Nat) (w : am_W) (Q : Option Value → am_W → Prop) (as : List Value), Evv PG d 27 (some 1) as w Q = Ev PG d 33 as w Q) ∧ (∀ (d : Nat) (w : am_W) (Q : Option Value → am_W → Prop) (as : List Value), Evv PG d 28 (some 1) as w Q = Ev PG d 34 as w Q) ∧ (∀ (d : Nat) (w : am_W) (Q : Option Value → am_W → Prop) (as : List Value), Evv PG d 29 (some 1) as w Q = Ev PG d 35 as w Q) ∧ (∀ (d : Nat) (w : am_W) (Q : Option Value → am_W → Prop) (as : List Value), Evv PG d 30 (some 12) as w Q = Ev PG d 37 as w Q) ∧ (∀ (d : Nat) (w : am_W) (Q : Option Value → am_W → Prop) (as : List Value), Evv PG d 31 (some 2) as w Q = Ev PG d 42 as w Q) ∧ (∀ (d : Nat) (w : am_W) (Q : Option Value → am_W → Prop) (as : List Value), Evv PG d 32 (some 4) as w Q = Ev PG d 45 as w Q) ∧ (∀ (d : Nat) (w : am_W) (Q : Option Value → am_W → Prop) (as : List Value), Evv PG d 33 (some 5) as w Q = Ev PG d 54 as w Q) ∧ (∀ (d : Nat) (w : am_W) (Q : Option Value → am_W → Prop) (as : List Value), Evv PG d 33 (some 6) as w Q = Ev PG d 52 as w Q) ∧ (∀ (d : Nat) (w : am_W) (Q : Option Value → am_W → Prop) (as : List Value), Evv PG d 33 (some 7) as w Q = Ev PG d 56 as w Q) ∧ (∀ (d : Nat) (w : am_W) (Q : Option Value → am_W → Prop) (as : List Value), Evv PG d 33 (some 8) as w Q = Ev PG d 55 as w Q) ∧ (∀ (d : Nat) (w : am_W) (Q : Option Value → am_W → Prop) (as : List Value), Evv PG d 34 (some 4) as w Q = Ev PG d 57 as w Q) ∧ (∀ (d : Nat) (w : am_W) (Q : Option Value → am_W → Prop) (as : List Value), Evv PG d 35 (some 2) as w Q = Ev PG d 44 as w Q) ∧ (∀ (d : Nat) (w : am_W) (Q : Option Value → am_W → Prop) (as : List Value), Evv PG d 36 (some 5) as w Q = Ev PG d 47 as w Q) ∧ (∀ (d : Nat) (w : am_W) (Q : Option Value → am_W → Prop) (as : List Value), Evv PG d 37 (some 6) as w Q = Ev PG d 49 as w Q) ∧ (∀ (d : Nat) (w : am_W) (Q : Option Value → am_W → Prop) (as : List Value), Evv PG d 38 (some 7) as w Q = Ev PG d 50 as w Q) ∧ (∀ (d : Nat) (w : am_W) (Q : Option Value → am_W → Prop) (as : List Value), Evv PG d 39 (some 8) as w Q = Ev PG d 51 as w Q) ∧ (∀ (d : Nat) (w : am_W) (Q : Option Value → am_W → Prop) (as : List Value), Evv PG d 40 (some 5) as w Q = Ev PG d 48 as w Q) ∧ (∀ (d : Nat) (w : am_W) (Q : Option Value → am_W → Prop) (as : List Value), Evv PG d 40 (some 6) as w Q = Ev PG d 48 as w Q) ∧ (∀ (d : Nat) (w : am_W) (Q : Option Value → am_W → Prop) (as : List Value), Evv PG d 40 (some 7) as w Q = Ev PG d 48 as w Q) ∧ (∀ (d : Nat) (w : am_W) (Q : Option Value → am_W → Prop) (as : List Value), Evv PG d 40 (some 8) as w Q = Ev PG d 48 as w Q) ∧ (∀ (d : Nat) (w : am_W) (Q : Option Value → am_W → Prop) (as : List Value), Evv PG d 41 (some 12) as w Q = Ev PG d 53 as w Q) ∧ (∀ (d : Nat) (w : am_W) (Q : Option Value → am_W → Prop) (as : List Value), Evv PG d 42 (some 5) as w Q = Ev PG d 59 as w Q) ∧ (∀ (d : Nat) (w : am_W) (Q : Option Value → am_W → Prop) (as : List Value), Evv PG d 42 (some 6) as w Q = Ev PG d 58 as w Q) ∧ (∀ (d : Nat) (w : am_W) (Q : Option Value → am_W → Prop) (as : List Value), Evv PG d 42 (some 7) as w Q = Ev PG d 62 as w Q) ∧ (∀ (d : Nat) (w : am_W) (Q : Option Value → am_W → Prop) (as : List Value), Evv PG d 42 (some 8) as w Q = Ev PG d 60 as w Q) ∧ (∀ (d : Nat) (w : am_W) (Q : Option Value → am_W → Prop) (as : List Value), Evv PG d 43 (some 5) as w Q = Ev PG d 63 as w Q) ∧ (∀ (d : Nat) (w : am_W) (Q : Option Value → am_W → Prop) (as : List Value), Evv PG d 43 (some 6) as w Q = Ev PG d 63 as w Q) ∧ (∀ (d : Nat) (w : am_W) (Q : Option Value → am_W → Prop) (as : List Value), Evv PG d 43 (some 7) as w Q = Ev PG d 63 as w Q) ∧ (∀ (d : Nat) (w : am_W) (Q : Option Value → am_W → Prop) (as : List Value), Evv PG d 43 (some 8) as w Q = Ev PG d 63 as w Q) ∧ (∀ (d : Nat) (w : am_W) (Q : Option Value → am_W → Prop) (as : List Value), Evv PG d 44 (some 5) as w Q = Ev PG d 75 as w Q) ∧ (∀ (d : Nat) (w : am_W) (Q : Option Value → am_W → Prop) (as : List Value), Evv PG d 44 (some 6) as w Q = Ev PG d 73 as w Q) ∧ (∀ (d : Nat) (w : am_W) (Q : Option Value → am_W → Prop) (as : List Value), Evv PG d 44 (some 7) as w Q = Ev PG d 77 as w Q) ∧ (∀ (d : Nat) (w : am_W) (Q : Option Value → am_W → Prop) (as : List Value), Evv PG d 44 (some 8) as w Q = Ev PG d 76 as w Q) ∧ (∀ (d : Nat) (w : am_W) (Q : Option Value → am_W → Prop) (as : List Value), Evv PG d 45 (some 2) as w Q = Ev PG d 78 as w Q) ∧ (∀ (d : Nat) (w : am_W) (Q : Option Value → am_W → Prop) (as : List Value), Evv PG d 46 (some 5) as w Q = Ev PG d 64 as w Q) ∧ (∀ (d : Nat) (w : am_W) (Q : Option Value → am_W → Prop) (as : List Value), Evv PG d 46 (some 6) as w Q = Ev PG d 64 as w Q) ∧ (∀ (d : Nat) (w : am_W) (Q : Option Value → am_W → Prop) (as : List Value), Evv PG d 46 (some 7) as w Q = Ev PG d 64 as w Q) ∧ (∀ (d : Nat) (w : am_W) (Q : Option Value → am_W → Prop) (as : List Value), Evv PG d 46 (some 8) as w Q = Ev PG d 64 as w Q) ∧ (∀ (d : Nat) (w : am_W) (Q : Option Value → am_W → Prop) (as : List Value), Evv PG d 47 (some 5) as w Q = Ev PG d 65 as w Q) ∧ (∀ (d : Nat) (w : am_W) (Q : Option Value → am_W → Prop) (as : List Value), Evv PG d 47 (some 6) as w Q = Ev PG d 65 as w Q) ∧ (∀ (d : Nat) (w : am_W) (Q : Option Value → am_W → Prop) (as : List Value), Evv PG d 47 (some 7) as w Q = Ev PG d 65 as w Q) ∧ (∀ (d : Nat) (w : am_W) (Q : Option Value → am_W → Prop) (as : List Value), Evv PG d 47 (some 8) as w Q = Ev PG d 65 as w Q) ∧ (∀ (d : Nat) (w : am_W) (Q : Option Value → am_W → Prop) (as : List Value), Evv PG d 48 (some 5) as w Q = Ev PG d 72 as w Q) ∧ (∀ (d : Nat) (w : am_W) (Q : Option Value → am_W → Prop) (as : List Value), Evv PG d 48 (some 6) as w Q = Ev PG d 72 as w Q) ∧ (∀ (d : Nat) (w : am_W) (Q : Option Value → am_W → Prop) (as : List Value), Evv PG d 48 (some 7) as w Q = Ev PG d 71 as w Q) ∧ (∀ (d : Nat) (w : am_W) (Q : Option Value → am_W → Prop) (as : List Value), Evv PG d 48 (some 8) as w Q = Ev PG d 72 as w Q) ∧ (∀ (d : Nat) (w : am_W) (Q : Option Value → am_W → Prop) (as : List Value), Evv PG d 49 (some 5) as w Q = Ev PG d 68 as w Q) ∧ (∀ (d : Nat) (w : am_W) (Q : Option Value → am_W → Prop) (as : List Value), Evv PG d 49 (some 6) as w Q = Ev PG d 66 as w Q) ∧ (∀ (d : Nat) (w : am_W) (Q : Option Value → am_W → Prop) (as : List Value), Evv PG d 49 (some 7) as w Q = Ev PG d 70 as w Q) ∧ (∀ (d : Nat) (w : am_W) (Q : Option Value → am_W → Prop) (as : List Value), Evv PG d 49 (some 8) as w Q = Ev PG d 69 as w Q) ∧ (∀ (d : Nat) (w : am_W) (Q : Option Value → am_W → Prop) (as : List Value), Evv PG d 50 (some 2) as w Q = Ev PG d 79 as w Q) ∧ (∀ (d : Nat) (w : am_W) (Q : Option Value → am_W → Prop) (as : List Value), Evv PG d 51 (some 2) as w Q = Ev PG d 80 as w Q) ∧ (∀ (d : Nat) (w : am_W) (Q : Option Value → am_W → Prop) (as : List Value), Evv PG d 52 (some 2) as w Q = Ev PG d 81 as w Q) ∧ (∀ (d : Nat) (w : am_W) (Q : Option Value → am_W → Prop) (as : List Value), Evv PG d 53 (some 2) as w Q = Ev PG d 85 as w Q) ∧ (∀ (d : Nat) (w : am_W) (Q : Option Value → am_W → Prop) (as : List Value), Evv PG d 54 (some 4) as w Q = Ev PG d 88 as w Q) ∧ (∀ (d : Nat) (w : am_W) (Q : Option Value → am_W → Prop) (as : List Value), Evv PG d 55 (some 4) as w Q = Ev PG d 93 as w Q) ∧ (∀ (d : Nat) (w : am_W) (Q : Option Value → am_W → Prop) (as : List Value), Evv PG d 56 (some 5) as w Q = Ev PG d 94 as w Q) ∧ (∀ (d : Nat) (w : am_W) (Q : Option Value → am_W → Prop) (as : List Value), Evv PG d 56 (some 6) as w Q = Ev PG d 94 as w Q) ∧ (∀ (d : Nat) (w : am_W) (Q : Option Value → am_W → Prop) (as : List Value), Evv PG d 56 (some 7) as w Q = Ev PG d 94 as w Q) ∧ (∀ (d : Nat) (w : am_W) (Q : Option Value → am_W → Prop) (as : List Value), Evv PG d 56 (some 8) as w Q = Ev PG d 94 as w Q) ∧ (∀ (d : Nat) (w : am_W) (Q : Option Value → am_W → Prop) (as : List Value), Evv PG d 57 (some 3) as w Q = Ev PG d 95 as w Q) ∧ (∀ (d : Nat) (w : am_W) (Q : Option Value → am_W → Prop) (as : List Value), Evv PG d 58 (some 3) as w Q = Ev PG d 100 as w Q) ∧ (∀ (d : Nat) (w : am_W) (Q : Option Value → am_W → Prop) (as : List Value), Evv PG d 59 (some 4) as w Q = Ev PG d 102 as w Q) ∧ (∀ (d : Nat) (w : am_W) (Q : Option Value → am_W → Prop) (as : List Value), Evv PG d 60 (some 4) as w Q = Ev PG d 103 as w Q) ∧ (∀ (d : Nat) (w : am_W) (Q : Option Value → am_W → Prop) (as : List Value), Evv PG d 61 (some 5) as w Q = Ev PG d 98 as w Q) ∧ (∀ (d : Nat) (w : am_W) (Q : Option Value → am_W → Prop) (as : List Value), Evv PG d 61 (some 6) as w Q = Ev PG d 96 as w Q) ∧ (∀ (d : Nat) (w : am_W) (Q : Option Value → am_W → Prop) (as : List Value), Evv PG d 61 (some 7) as w Q = Ev PG d 101 as w Q) ∧ (∀ (d : Nat) (w : am_W) (Q : Option Value → am_W → Prop) (as : List Value), Evv PG d 61 (some 8) as w Q = Ev PG d 99 as w Q) ∧ (∀ (d : Nat) (w : am_W) (Q : Option Value → am_W → Prop) (as : List Value), Evv PG d 62 (some 3) as w Q = Ev PG d 97 as w Q) ∧ (∀ (d : Nat) (w : am_W) (Q : Option Value → am_W → Prop) (as : List Value), Evv PG d 63 (some 8) as w Q = Ev PG d 69 as w Q) ∧ (∀ (d : Nat) (w : am_W) (Q : Option Value → am_W → Prop) (as : List Value), Evv PG d 64 (some 4) as w Q = Ev PG d 105 as w Q) ∧ (∀ (d : Nat) (w : am_W) (Q : Option Value → am_W → Prop) (as : List Value), Evv PG d 65 (some 4) as w Q = Ev PG d 108 as w Q) ∧ (∀ (d : Nat) (w : am_W) (Q : Option Value → am_W → Prop) (as : List Value), Evv PG d 66 (some 2) as w Q = Ev PG d 109 as w Q) ∧ (∀ (d : Nat) (w : am_W) (Q : Option Value → am_W → Prop) (as : List Value), Evv PG d 67 (some 9) as w Q = Ev PG d 111 as w Q) ∧ (∀ (d : Nat) (w : am_W) (Q : Option Value → am_W → Prop) (as : List Value), Evv PG d 68 (some 4) as w Q = Ev PG d 114 as w Q) ∧ (∀ (d : Nat) (w : am_W) (Q : Option Value → am_W → Prop) (as : List Value), Evv PG d 69 (some 4) as w Q = Ev PG d 116 as w Q) ∧ (∀ (d : Nat) (w : am_W) (Q : Option Value → am_W → Prop) (as : List Value), Evv PG d 70 (some 4) as w Q = Ev PG d 117 as w Q) ∧ (∀ (d : Nat) (w : am_W) (Q : Option Value → am_W → Prop) (as : List Value), Evv PG d 71 (some 4) as w Q = Ev PG d 115 as w Q) ∧ (∀ (d : Nat) (w : am_W) (Q : Option Value → am_W → Prop) (as : List Value), Evv PG d 72 (some 3) as w Q = Ev PG d 120 as w Q) ∧ (∀ (d : Nat) (w : am_W) (Q : Option Value → am_W → Prop) (as : List Value), Evv PG d 73 (some 2) as w Q = Ev PG d 123 as w Q) ∧ (∀ (d : Nat) (w : am_W) (Q : Option Value → am_W → Prop) (as : List Value), Evv PG d 74 (some 10) as w Q = Ev PG d 125 as w Q) ∧ (∀ (d : Nat) (w : am_W) (Q : Option Value → am_W → Prop) (as : List Value), Evv PG d 75 (some 10) as w Q = Ev PG d 126 as w Q) ∧ (∀ (d : Nat) (w : am_W) (Q : Option Value → am_W → Prop) (as : List Value), Evv PG d 76 (some 10) as w Q = Ev PG d 124 as w Q) ∧ (∀ (d : Nat) (w : am_W) (Q : Option Value → am_W → Prop) (as : List Value), Evv PG d 77 (some 10) as w Q = Ev PG d 127 as w Q) ∧ (∀ (d : Nat) (w : am_W) (Q : Option Value → am_W → Prop) (as : List Value), Evv PG d 78 (some 4) as w Q = Ev PG d 129 as w Q) ∧ (∀ (d : Nat) (w : am_W) (Q : Option Value → am_W → Prop) (as : List Value), Evv PG d 79 (some 3) as w Q = Ev PG d 130 as w Q) ∧ (∀ (d : Nat) (w : am_W) (Q : Option Value → am_W → Prop) (as : List Value), Evv PG d 80 (some 5) as w Q = Ev PG d 132 as w Q) ∧ (∀ (d : Nat) (w : am_W) (Q : Option Value → am_W → Prop) (as : List Value), Evv PG d 80 (some 6) as w Q = Ev PG d 131 as w Q) ∧ (∀ (d : Nat) (w : am_W) (Q : Option Value → am_W → Prop) (as : List Value), Evv PG d 80 (some 7) as w Q = Ev PG d 132 as w Q) ∧ (∀ (d : Nat) (w : am_W) (Q : Option Value → am_W → Prop) (as : List Value), Evv PG d 80 (some 8) as w Q = Ev PG d 132 as w Q) ∧ (∀ (d : Nat) (w : am_W) (Q : Option Value → am_W → Prop) (as : List Value), Evv PG d 81 (some 9) as w Q = Ev PG d 136 as w Q) ∧ (∀ (d : Nat) (w : am_W) (Q : Option Value → am_W → Prop) (as : List Value), Evv PG d 82 (some 11) as w Q = Ev PG d 141 as w Q) ∧ (∀ (d : Nat) (w : am_W) (Q : Option Value → am_W → Prop) (as : List Value), Evv PG d 83 (some 11) as w Q = Ev PG d 151 as w Q) ∧ (∀ (d : Nat) (w : am_W) (Q : Option Value → am_W → Prop) (as : List Value), Evv PG d 84 (some 11) as w Q = Ev PG d 142 as w Q) ∧ (∀ (d : Nat) (w : am_W) (Q : Option Value → am_W → Prop) (as : List Value), Evv PG d 85 (some 11) as w Q = Ev PG d 149 as w Q) ∧ (∀ (d : Nat) (w : am_W) (Q : Option Value → am_W → Prop) (as : List Value), Evv PG d 86 (some 11) as w Q = Ev PG d 143 as w Q) ∧ (∀ (d : Nat) (w : am_W) (Q : Option Value → am_W → Prop) (as : List Value), Evv PG d 87 (some 11) as w Q = Ev PG d 146 as w Q) ∧ (∀ (d : Nat) (w : am_W) (Q : Option Value → am_W → Prop) (as : List Value), Evv PG d 88 (some 11) as w Q = Ev PG d 148 as w Q) ∧ (∀ (d : Nat) (w : am_W) (Q : Option Value → am_W → Prop) (as : List Value), Evv PG d 89 (some 11) as w Q = Ev PG d 144 as w Q) ∧ (∀ (d : Nat) (w : am_W) (Q : Option Value → am_W → Prop) (as : List Value), Evv PG d 90 (some 11) as w Q = Ev PG d 145 as w Q) ∧ (∀ (d : Nat) (w : am_W) (Q : Option Value → am_W → Prop) (as : List Value), Evv PG d 91 (some 11) as w Q = Ev PG d 147 as w Q) ∧ (∀ (d : Nat) (w : am_W) (Q : Option Value → am_W → Prop) (as : List Value), Evv PG d 92 (some 11) as w Q = Ev PG d 153 as w Q) ∧ (∀ (d : Nat) (w : am_W) (Q : Option Value → am_W → Prop) (as : List Value), Evv PG d 93 (some 11) as w Q = Ev PG d 154 as w Q) ∧ (∀ (d : Nat) (w : am_W) (Q : Option Value → am_W → Prop) (as : List Value), Evv PG d 94 (some 11) as w Q = Ev PG d 157 as w Q) ∧ (∀ (d : Nat) (w : am_W) (Q : Option Value → am_W → Prop) (as : List Value), Evv PG d 95 (some 11) as w Q = Ev PG d 167 as w Q) ∧ (∀ (d : Nat) (w : am_W) (Q : Option Value → am_W → Prop) (as : List Value), Evv PG d 96 (some 11) as w Q = Ev PG d 158 as w Q) ∧ (∀ (d : Nat) (w : am_W) (Q : Option Value → am_W → Prop) (as : List Value), Evv PG d 97 (some 11) as w Q = Ev PG d 159 as w Q) ∧ (∀ (d : Nat) (w : am_W) (Q : Option Value → am_W → Prop) (as : List Value), Evv PG d 98 (some 11) as w Q = Ev PG d 161 as w Q) ∧ (∀ (d : Nat) (w : am_W) (Q : Option Value → am_W → Prop) (as : List Value), Evv PG d 99 (some 11) as w Q = Ev PG d 166 as w Q) ∧ (∀ (d : Nat) (w : am_W) (Q : Option Value → am_W → Prop) (as : List Value), Evv PG d 100 (some 11) as w Q = Ev PG d 162 as w Q) ∧ (∀ (d : Nat) (w : am_W) (Q : Option Value → am_W → Prop) (as : List Value), Evv PG d 101 (some 11) as w Q = Ev PG d 163 as w Q) ∧ (∀ (d : Nat) (w : am_W) (Q : Option Value → am_W → Prop) (as : List Value), Evv PG d 102 (some 11) as w Q = Ev PG d 164 as w Q) ∧ (∀ (d : Nat) (w : am_W) (Q : Option Value → am_W → Prop) (as : List Value), Evv PG d 103 (some 11) as w Q = Ev PG d 165 as w Q) ∧ (∀ (d : Nat) (w : am_W) (Q : Option Value → am_W → Prop) (as : List Value), Evv PG d 104 (some 11) as w Q = Ev PG d 171 as w Q) ∧ (∀ (d : Nat) (w : am_W) (Q : Option Value → am_W → Prop) (as : List Value), Evv PG d 105 (some 11) as w Q = Ev PG d 177 as w Q) ∧ (∀ (d : Nat) (w : am_W) (Q : Option Value → am_W → Prop) (as : List Value), Evv PG d 106 (some 11) as w Q = Ev PG d 179 as w Q) ∧ (∀ (d : Nat) (w : am_W) (Q : Option Value → am_W → Prop) (as : List Value), Evv PG d 107 (some 11) as w Q = Ev PG d 180 as w Q) ∧ (∀ (d : Nat) (w : am_W) (Q : Option Value → am_W → Prop) (as : List Value), Evv PG d 108 (some 11) as w Q = Ev PG d 178 as w Q) ∧ (∀ (d : Nat) (w : am_W) (Q : Option Value → am_W → Prop) (as : List Value), Evv PG d 109 (some 11) as w Q = Ev PG d 181 as w Q) ∧ (∀ (d : Nat) (w : am_W) (Q : Option Value → am_W → Prop) (as : List Value), Evv PG d 110 (some 11) as w Q = Ev PG d 182 as w Q) ∧ (∀ (d : Nat) (w : am_W) (Q : Option Value → am_W → Prop) (as : List Value), Evv PG d 111 (some 11) as w Q = Ev PG d 184 as w Q) ∧ (∀ (d : Nat) (w : am_W) (Q : Option Value → am_W → Prop) (as : List Value), Evv PG d 112 (some 11) as w Q = Ev PG d 186 as w Q) ∧ (∀ (d : Nat) (w : am_W) (Q : Option Value → am_W → Prop) (as : List Value), Evv PG d 113 (some 11) as w Q = Ev PG d 189 as w Q) ∧ (∀ (d : Nat) (w : am_W) (Q : Option Value → am_W → Prop) (as : List Value), Evv PG d 114 (some 11) as w Q = Ev PG d 190 as w Q) ∧ (∀ (d : Nat) (w : am_W) (Q : Option Value → am_W → Prop) (as : List Value), Evv PG d 115 (some 11) as w Q = Ev PG d 192 as w Q) ∧ (∀ (d : Nat) (w : am_W) (Q : Option Value → am_W → Prop) (as : List Value), Evv PG d 116 (some 11) as w Q = Ev PG d 191 as w Q) ∧ (∀ (d : Nat) (w : am_W) (Q : Option Value → am_W → Prop) (as : List Value), Evv PG d 117 (some 11) as w Q = Ev PG d 193 as w Q) ∧ (∀ (d : Nat) (w : am_W) (Q : Option Value → am_W → Prop) (as : List Value), Evv PG d 118 (some 4) as w Q = Ev PG d 0 as w Q) ∧ (∀ (d : Nat) (w : am_W) (Q : Option Value → am_W → Prop) (as : List Value), Evv PG d 119 (some 11) as w Q = Ev PG d 137 as w Q) ∧ (∀ (d : Nat) (w : am_W) (Q : Option Value → am_W → Prop) (as : List Value), Evv PG d 120 (some 4) as w Q = Ev PG d 8 as w Q) ∧ (∀ (d : Nat) (w : am_W) (Q : Option Value → am_W → Prop) (as : List Value), Evv PG d 121 (some 11) as w Q = Ev PG d 138 as w Q) ∧ (∀ (d : Nat) (w : am_W) (Q : Option Value → am_W → Prop) (as : List Value), Evv PG d 122 (some 4) as w Q = Ev PG d 23 as w Q) ∧ (∀ (d : Nat) (w : am_W) (Q : Option Value → am_W → Prop) (as : List Value), Evv PG d 123 (some 11) as w Q = Ev PG d 139 as w Q) ∧ (∀ (d : Nat) (w : am_W) (Q : Option Value → am_W → Prop) (as : List Value), Evv PG d 124 (some 4) as w Q = Ev PG d 26 as w Q) ∧ (∀ (d : Nat) (w : am_W) (Q : Option Value → am_W → Prop) (as : List Value), Evv PG d 125 (some 11) as w Q = Ev PG d 140 as w Q) ∧ (∀ (d : Nat) (w : am_W) (Q : Option Value → am_W → Prop) (as : List Value), Evv PG d 126 (some 4) as w Q = Ev PG d 86 as w Q) ∧ (∀ (d : Nat) (w : am_W) (Q : Option Value → am_W → Prop) (as : List Value), Evv PG d 127 (some 11) as w Q = Ev PG d 155 as w Q) ∧ (∀ (d : Nat) (w : am_W) (Q : Option Value → am_W → Prop) (as : List Value), Evv PG d 128 (some 4) as w Q = Ev PG d 87 as w Q) ∧ (∀ (d : Nat) (w : am_W) (Q : Option Value → am_W → Prop) (as : List Value), Evv PG d 129 (some 11) as w Q = Ev PG d 156 as w Q) ∧ (∀ (d : Nat) (w : am_W) (Q : Option Value → am_W → Prop) (as : List Value), Evv PG d 130 (some 4) as w Q = Ev PG d 89 as w Q) ∧ (∀ (d : Nat) (w : am_W) (Q : Option Value → am_W → Prop) (as : List Value), Evv PG d 131 (some 11) as w Q = Ev PG d 168 as w Q) ∧ (∀ (d : Nat) (w : am_W) (Q : Option Value → am_W → Prop) (as : List Value), Evv PG d 132 (some 4) as w Q = Ev PG d 91 as w Q) ∧ (∀ (d : Nat) (w : am_W) (Q : Option Value → am_W → Prop) (as : List Value), Evv PG d 133 (some 11) as w Q = Ev PG d 194 as w Q) ∧ (∀ (d : Nat) (w : am_W) (Q : Option Value → am_W → Prop) (as : List Value), Evv PG d 134 (some 4) as w Q = Ev PG d 90 as w Q) ∧ (∀ (d : Nat) (w : am_W) (Q : Option Value → am_W → Prop) (as : List Value), Evv PG d 135 (some 11) as w Q = Ev PG d 169 as w Q) ∧ (∀ (d : Nat) (w : am_W) (Q : Option Value → am_W → Prop) (as : List Value), Evv PG d 136 (some 4) as w Q = Ev PG d 104 as w Q) ∧ (∀ (d : Nat) (w : am_W) (Q : Option Value → am_W → Prop) (as : List Value), Evv PG d 137 (some 11) as w Q = Ev PG d 170 as w Q) ∧ (∀ (d : Nat) (w : am_W) (Q : Option Value → am_W → Prop) (as : List Value), Evv PG d 138 (some 4) as w Q = Ev PG d 107 as w Q) ∧ (∀ (d : Nat) (w : am_W) (Q : Option Value → am_W → Prop) (as : List Value), Evv PG d 139 (some 11) as w Q = Ev PG d 172 as w Q) ∧ (∀ (d : Nat) (w : am_W) (Q : Option Value → am_W → Prop) (as : List Value), Evv PG d 140 (some 4) as w Q = Ev PG d 110 as w Q) ∧ (∀ (d : Nat) (w : am_W) (Q : Option Value → am_W → Prop) (as : List Value), Evv PG d 141 (some 11) as w Q = Ev PG d 173 as w Q) ∧ (∀ (d : Nat) (w : am_W) (Q : Option Value → am_W → Prop) (as : List Value), Evv PG d 142 (some 4) as w Q = Ev PG d 112 as w Q) ∧ (∀ (d : Nat) (w : am_W) (Q : Option Value → am_W → Prop) (as : List Value), Evv PG d 143 (some 11) as w Q = Ev PG d 174 as w Q) ∧ (∀ (d : Nat) (w : am_W) (Q : Option Value → am_W → Prop) (as : List Value), Evv PG d 144 (some 4) as w Q = Ev PG d 113 as w Q) ∧ (∀ (d : Nat) (w : am_W) (Q : Option Value → am_W → Prop) (as : List Value), Evv PG d 145 (some 11) as w Q = Ev PG d 176 as w Q) ∧ (∀ (d : Nat) (w : am_W) (Q : Option Value → am_W → Prop) (as : List Value), Evv PG d 146 (some 4) as w Q = Ev PG d 118 as w Q) ∧ (∀ (d : Nat) (w : am_W) (Q : Option Value → am_W → Prop) (as : List Value), Evv PG d 147 (some 11) as w Q = Ev PG d 185 as w Q) ∧ (∀ (d : Nat) (w : am_W) (Q : Option Value → am_W → Prop) (as : List Value), Evv PG d 148 (some 4) as w Q = Ev PG d 119 as w Q) ∧ (∀ (d : Nat) (w : am_W) (Q : Option Value → am_W → Prop) (as : List Value), Evv PG d 149 (some 11) as w Q = Ev PG d 188 as w Q) ∧ (∀ (d : Nat) (w : am_W) (Q : Option Value → am_W → Prop) (as : List Value), Evv PG d 150 (some 4) as w Q = Ev PG d 121 as w Q) ∧ (∀ (d : Nat) (w : am_W) (Q : Option Value → am_W → Prop) (as : List Value), Evv PG d 151 (some 11) as w Q = Ev PG d 183 as w Q) ∧ (∀ (d : Nat) (w : am_W) (Q : Option Value → am_W → Prop) (as : List Value), Evv PG d 152 (some 4) as w Q = Ev PG d 122 as w Q) ∧ (∀ (d : Nat) (w : am_W) (Q : Option Value → am_W → Prop) (as : List Value), Evv PG d 153 (some 11) as w Q = Ev PG d 195 as w Q) ∧ (∀ (d : Nat) (w : am_W) (Q : Option Value → am_W → Prop) (as : List Value), Evv PG d 154 (some 4) as w Q = Ev PG d 128 as w Q) ∧ (∀ (d : Nat) (w : am_W) (Q : Option Value → am_W → Prop) (as : List Value), Evv PG d 155 (some 11) as w Q = Ev PG d 196 as w Q) ∧ (∀ (d : Nat) (w : am_W) (Q : Option Value → am_W → Prop) (as : List Value), Evv PG d 156 (some 4) as w Q = Ev PG d 134 as w Q) ∧ (∀ (d : Nat) (w : am_W) (Q : Option Value → am_W → Prop) (as : List Value), Evv PG d 157 (some 11) as w Q = Ev PG d 198 as w Q) ∧ (∀ (d : Nat) (w : am_W) (Q : Option Value → am_W → Prop) (as : List Value), Evv PG d 158 (some 4) as w Q = Ev PG d 135 as w Q) ∧ (∀ (d : Nat) (w : am_W) (Q : Option Value → am_W → Prop) (as : List Value), Evv PG d 159 (some 11) as w Q = Ev PG d 175 as w Q) := ⟨fun _ _ _ _ => rfl, fun _ _ _ _ => rfl, fun _ _ _ _ => rfl, fun _ _ _ _ => rfl, fun _ _ _ _ => rfl, fun _ _ _ _ => rfl, fun _ _ _ _ => rfl, fun _ _ _ _ => rfl, fun _ _ _ _ => rfl, fun _ _ _ _ => rfl, fun _ _ _ _ => rfl, fun _ _ _ _ => rfl, fun _ _ _ _ => rfl, fun _ _ _ _ => rfl, fun _ _ _ _ => rfl, fun _ _ _ _ => rfl, fun _ _ _ _ => rfl, fun _ _ _ _ => rfl, fun _ _ _ _ => rfl, fun _ _ _ _ => rfl, fun _ _ _ _ => rfl, fun _ _ _ _ => rfl, fun _ _ _ _ => rfl, fun _ _ _ _ => rfl, fun _ _ _ _ => rfl, fun _ _ _ _ => rfl, fun _ _ _ _ => rfl, fun _ _ _ _ => rfl, fun _ _ _ _ => rfl, fun _ _ _ _ => rfl, fun _ _ _ _ => rfl, fun _ _ _ _ => rfl, fun _ _ _ _ => rfl, fun _ _ _ _ => rfl, fun _ _ _ _ => rfl, fun _ _ _ _ => rfl, fun _ _ _ _ => rfl, fun _ _ _ _ => rfl, fun _ _ _ _ => rfl, fun _ _ _ _ => rfl, fun _ _ _ _ => rfl, fun _ _ _ _ => rfl, fun _ _ _ _ => rfl, fun _ _ _ _ => rfl, fun _ _ _ _ => rfl, fun _ _ _ _ => rfl, fun _ _ _ _ => rfl, fun _ _ _ _ => rfl, fun _ _ _ _ => rfl, fun _ _ _ _ => rfl, fun _ _ _ _ => rfl, fun _ _ _ _ => rfl, fun _ _ _ _ => rfl, fun _ _ _ _ => rfl, fun _ _ _ _ => rfl, fun _ _ _ _ => rfl, fun _ _ _ _ => rfl, fun _ _ _ _ => rfl, fun _ _ _ _ => rfl, fun _ _ _ _ => rfl, fun _ _ _ _ => rfl, fun _ _ _ _ => rfl, fun _ _ _ _ => rfl, fun _ _ _ _ => rfl, fun _ _ _ _ => rfl, fun _ _ _ _ => rfl, fun _ _ _ _ => rfl, fun _ _ _ _ => rfl, fun _ _ _ _ => rfl, fun _ _ _ _ => rfl, fun _ _ _ _ => rfl, fun _ _ _ _ => rfl, fun _ _ _ _ => rfl, fun _ _ _ _ => rfl, fun _ _ _ _ => rfl, fun _ _ _ _ => rfl, fun _ _ _ _ => rfl, fun _ _ _ _ => rfl, fun _ _ _ _ => rfl, fun _ _ _ _ => rfl, fun _ _ _ _ => rfl, fun _ _ _ _ => rfl, fun _ _ _ _ => rfl, fun _ _ _ _ => rfl, fun _ _ _ _ => rfl, fun _ _ _ _ => rfl, fun _ _ _ _ => rfl, fun _ _ _ _ => rfl, fun _ _ _ _ => rfl, fun _ _ _ _ => rfl, fun _ _ _ _ => rfl, fun _ _ _ _ => rfl, fun _ _ _ _ => rfl, fun _ _ _ _ => rfl, fun _ _ _ _ => rfl, fun _ _ _ _ => rfl, fun _ _ _ _ => rfl, fun _ _ _ _ => rfl, fun _ _ _ _ => rfl, fun _ _ _ _ => rfl, fun _ _ _ _ => rfl, fun _ _ _ _ => rfl, fun _ _ _ _ => rfl, fun _ _ _ _ => rfl, fun _ _ _ _ => rfl, fun _ _ _ _ => rfl, fun _ _ _ _ => rfl, fun _ _ _ _ => rfl, fun _ _ _ _ => rfl, fun _ _ _ _ => rfl, fun _ _ _ _ => rfl, fun _ _ _ _ => rfl, fun _ _ _ _ => rfl, fun _ _ _ _ => rfl, fun _ _ _ _ => rfl, fun _ _ _ _ => rfl, fun _ _ _ _ => rfl, fun _ _ _ _ => rfl, fun _ _ _ _ => rfl, fun _ _ _ _ => rfl, fun _ _ _ _ => rfl, fun _ _ _ _ => rfl, fun _ _ _ _ => rfl, fun _ _ _ _ => rfl, fun _ _ _ _ => rfl, fun _ _ _ _ => rfl, fun _ _ _ _ => rfl, fun _ _ _ _ => rfl, fun _ _ _ _ => rfl, fun _ _ _ _ => rfl, fun _ _ _ _ => rfl, fun _ _ _ _ => rfl, fun _ _ _ _ => rfl, fun _ _ _ _ => rfl, fun _ _ _ _ => rfl, fun _ _ _ _ => rfl, fun _ _ _ _ => rfl, fun _ _ _ _ => rfl, fun _ _ _ _ => rfl, fun _ _ _ _ => rfl, fun _ _ _ _ => rfl, fun _ _ _ _ => rfl, fun _ _ _ _ => rfl, fun _ _ _ _ => rfl, fun _ _ _ _ => rfl, fun _ _ _ _ => rfl, fun _ _ _ _ => rfl, fun _ _ _ _ => rfl, fun _ _ _ _ => rfl, fun _ _ _ _ => rfl, fun _ _ _ _ => rfl, fun _ _ _ _ => rfl, fun _ _ _ _ => rfl, fun _ _ _ _ => rfl, fun _ _ _ _ => rfl, fun _ _ _ _ => rfl, fun _ _ _ _ => rfl, fun _ _ _ _ => rfl, fun _ _ _ _ => rfl, fun _ _ _ _ => rfl, fun _ _ _ _ => rfl, fun _ _ _ _ => rfl, fun _ _ _ _ => rfl, fun _ _ _ _ => rfl, fun _ _ _ _ => rfl, fun _ _ _ _ => rfl, fun _ _ _ _ => rfl, fun _ _ _ _ => rfl, fun _ _ _ _ => rfl, fun _ _ _ _ => rfl, fun _ _ _ _ => rfl, fun _ _ _ _ => rfl, fun _ _ _ _ => rfl, fun _ _ _ _ => rfl, fun _ _ _ _ => rfl, fun _ _ _ _ => rfl, fun _ _ _ _ => rfl, fun _ _ _ _ => rfl, fun _ _ _ _ => rfl, fun _ _ _ _ => rfl, fun _ _ _ _ => rfl, fun _ _ _ _ => rfl, fun _ _ _ _ => rfl, fun _ _ _ _ => rfl, fun _ _ _ _ => rfl, fun _ _ _ _ => rfl, fun _ _ _ _ => rfl, fun _ _ _ _ => rfl, fun _ _ _ _ => rfl, fun _ _ _ _ => rfl, fun _ _ _ _ => rfl, fun _ _ _ _ => rfl, fun _ _ _ _ => rfl, fun _ _ _ _ => rfl, fun _ _ _ _ => rfl⟩
theorem ic_all : (Int32.ofInt (-102) = (-102)) ∧ (Int32.ofInt (-101) = (-101)) ∧ (Int32.ofInt (-100) = (-100)) ∧ (Int32.ofInt (-2) = (-2)) ∧ (Int32.ofInt (-1) = (-1)) ∧ (Int32.ofInt 0 = 0) ∧ (Int32.ofInt 1 = 1) ∧ (Int32.ofInt 2 = 2) ∧ (Int32.ofInt 3 = 3) ∧ (Int32.ofInt 4 = 4) ∧ (Int32.ofInt 5 = 5) ∧ (Int32.ofInt 6 = 6) ∧ (Int32.ofInt 7 = 7) ∧ (Int32.ofInt 8 = 8) ∧ (Int32.ofInt 9 = 9) ∧ (Int32.ofInt 10 = 10) ∧ (Int32.ofInt 11 = 11) ∧ (Int32.ofInt 12 = 12) ∧ (Int32.ofInt 13 = 13) ∧ (Int32.ofInt 14 = 14) ∧ (Int32.ofInt 15 = 15) ∧ (Int32.ofInt 16 = 16) ∧ (Int32.ofInt 17 = 17) ∧ (Int32.ofInt 18 = 18) ∧ (Int32.ofInt 19 = 19) ∧ (Int32.ofInt 20 = 20) ∧ (Int32.ofInt 31 = 31) ∧ (Int32.ofInt 32 = 32) ∧ (Int32.ofInt 33 = 33) ∧ (Int32.ofInt 35 = 35) ∧ (Int32.ofInt 36 = 36) ∧ (Int32.ofInt 40 = 40) ∧ (Int32.ofInt 41 = 41) ∧ (Int32.ofInt 42 = 42) ∧ (Int32.ofInt 43 = 43) ∧ (Int32.ofInt 44 = 44) ∧ (Int32.ofInt 45 = 45) ∧ (Int32.ofInt 48 = 48) ∧ (Int32.ofInt 57 = 57) ∧ (Int32.ofInt 65 = 65) ∧ (Int32.ofInt 76 = 76) ∧ (Int32.ofInt 77 = 77) ∧ (Int32.ofInt 80 = 80) ∧ (Int32.ofInt 83 = 83) ∧ (Int32.ofInt 108 = 108) ∧ (Int32.ofInt 111 = 111) ∧ (Int32.ofInt 112 = 112) ∧ (Int32.ofInt 113 = 113) ∧ (Int32.ofInt 114 = 114) ∧ (Int32.ofInt 117 = 117) ∧ (Int32.ofInt 122 = 122) ∧ (Int32.ofInt 126 = 126) ∧ (Int32.ofInt 255 = 255) ∧ (Int32.ofInt 1000 = 1000) ∧ (Int32.ofInt 1000000 = 1000000) ∧ (Int32.ofInt 2147483639 = 2147483639) ∧ (Int32.ofInt 2147483647 = 2147483647) := ⟨by decide, by decide, by decide, by decide, by decide, by decide, by decide, by decide, by decide, by decide, by decide, by decide, by decide, by decide, by decide, by decide, by decide, by decide, by decide, by decide, by decide, by decide, by decide, by decide, by decide, by decide, by decide, by decide, by decide, by decide, by decide, by decide, by decide, by decide, by decide, by decide, by decide, by decide, by decide, by decide, by decide, by decide, by decide, by decide, by decide, by decide, by decide, by decide, by decide, by decide, by decide, by decide, by decide, by decide, by decide, by decide, by decide⟩
theorem lc_all : (Int64.ofInt 0 = 0) ∧ (Int64.ofInt 1 = 1) ∧ (Int64.ofInt 2 = 2) ∧ (Int64.ofInt 9 = 9) ∧ (Int64.ofInt 20 = 20) ∧ (Int64.ofInt 1000000 = 1000000) := ⟨by decide, by decide, by decide, by decide, by decide, by decide⟩
end PRG
