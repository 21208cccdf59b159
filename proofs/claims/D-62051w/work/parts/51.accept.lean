/-! THE MODEL's line: accept and parse. -/
theorem OK_num {na : Nat} {a : Int} : ∀ {O : List (Nat × Int)} {f g : Nat → Int32}, OK O f g → na < O.length → ∃ v, g na = Int32.ofInt v ∧ OK (updN na a O) f (upd g na (Int32.ofInt (v * 10 + a)))
  | [], _, _, _, h => by simp at h
  | x :: O, f, g, ⟨a1, a2, a3, h⟩, hl => by
    simp only [List.length_cons] at hl
    by_cases e : O.length = na
    · subst e
      refine ⟨x.2, a2, ?_⟩
      simp only [updN, ↓reduceIte]
      exact ⟨a1, uu_3 _ _ _, a3, OK_u2 (Nat.le_refl _) h⟩
    · obtain ⟨v, e1, e2⟩ := OK_num h (show na < O.length by omega)
      refine ⟨v, e1, ?_⟩
      simp only [updN]
      rw [if_neg e]
      have ln : ∀ O : List (Nat × Int), (updN na a O).length = O.length := fun O => by
        induction O with
        | nil => rfl
        | cons y O ih => simp only [updN]; split <;> simp [ih]
      refine ⟨by rw [ln]; exact a1, ?_, a3, e2⟩
      rw [ln, us_ne e]; exact a2
theorem updN_len (na : Nat) (a : Int) : ∀ O : List (Nat × Int), (updN na a O).length = O.length
  | [] => rfl
  | y :: O => by simp only [updN]; split <;> simp [updN_len na a O]
section M21
variable {d : Nat} {sc : Nat → Int32} {ar : Nat → Nat → Int32} {la : Nat → Nat → Int64} {R w : am_W} {K : Option Value → am_W → Prop} {S : List (Nat × Nat)} {O : List (Nat × Int)} {c md dg na : Nat}
theorem c_accept (h : PM (md, dg, na, S, O) sc ar) (hc : c < 1000) (hl : S.length + O.length < 20) (hdg : (md = 2 ∨ md = 4) → dg ≤ 3)
    (q1 : ∀ p sc' ar', acF c md dg na S O = some p → PM p sc' ar' → Fr sc ar sc' ar' → K (some (.int (Int32.ofNat 1))) (mw sc' ar' la R)) (q0 : acF c md dg na S O = none → ∀ sc' ar', Fr sc ar sc' ar' → K (some (.int (Int32.ofNat 0))) (mw sc' ar' la R)) :
    Ev PG (d + 5) 142 [.ref 33, .int (Int32.ofNat c)] (mw sc ar la R) K := by
  have hpm := h
  obtain ⟨hp, h2, h3, h4, b1, b2, b3, b4⟩ := h
  dsimp only at hp h2 h3 h4 b1 b2 b3 b4
  have r2 : ∀ b : Bool, b = decide (48 ≤ c ∧ c ≤ 57) → Wp PG (d + 4) cd_142 B_142_2 [.ref 33, .int (Int32.ofNat c), am_J] [.int (bi b)] (mw sc ar la R) K := fun b eb => by
    rw [B_142_2]
    by_cases m5 : md = 5
    · subst m5
      simp only [acF, ↓reduceIte] at q1 q0
      by_cases c40 : c = 40
      · have c40' : (c = 40) = True := by simp [c40]
        simp (disch := omega) only [wr_all, wr_side, wr_call, qq_all, kk_142, B_142_0, B_142_1, B_142_2, B_142_3, B_142_4, B_142_5, B_142_6, B_142_7, B_142_8, B_142_9, B_142_10, B_142_11, B_142_12, B_142_13, B_142_14, mw_rd, mw_put, nn_clamp, nn_lt, nn_le, nn_eq, nn_lt0, nn_0le, nn_0lt, nn_le0, nn_eq0, nn_eq_1, nn_f1, nn_f0, nn_addn, nn_muln, nn_subn, nn_sub1, nn_nle, bi_1, bi_0, bi_fit, vu, io_all, Nat.reduceDiv, Nat.reduceMod, Nat.reduceBEq, Nat.reduceLeDiff, Nat.reduceEqDiff, Nat.reduceLT, Nat.reduceMul, Nat.reduceAdd, Nat.reduceSub, BEq.rfl, Bool.or_true, Bool.true_or, Bool.true_and, Bool.and_true, Bool.or_false, Bool.false_or, Bool.not_false, Bool.not_true, decide_false, decide_true, true_and, and_true, not_true_eq_false, not_false_eq_true, ↓reduceIte, Option.toList_some, Option.toList_none, List.cons_append, List.nil_append, am_sw, am_lk, List.toList_toArray, Int.reduceAdd, am_cats_cons, List.map_cons, List.map_nil, List.sum_cons, List.sum_nil, h2, c40'] at q1 ⊢
        exact q1 _ _ _ rfl (PM_i hp rfl h3 h4 (by omega) (by omega) (by omega) (by omega)) (Fr.s (by omega) Fr.rf)
      · simp (disch := omega) only [wr_all, wr_side, wr_call, qq_all, kk_142, B_142_0, B_142_1, B_142_2, B_142_3, B_142_4, B_142_5, B_142_6, B_142_7, B_142_8, B_142_9, B_142_10, B_142_11, B_142_12, B_142_13, B_142_14, mw_rd, mw_put, nn_clamp, nn_lt, nn_le, nn_eq, nn_lt0, nn_0le, nn_0lt, nn_le0, nn_eq0, nn_eq_1, nn_f1, nn_f0, nn_addn, nn_muln, nn_subn, nn_sub1, nn_nle, bi_1, bi_0, bi_fit, vu, io_all, Nat.reduceDiv, Nat.reduceMod, Nat.reduceBEq, Nat.reduceLeDiff, Nat.reduceEqDiff, Nat.reduceLT, Nat.reduceMul, Nat.reduceAdd, Nat.reduceSub, BEq.rfl, Bool.or_true, Bool.true_or, Bool.true_and, Bool.and_true, Bool.or_false, Bool.false_or, Bool.not_false, Bool.not_true, decide_false, decide_true, true_and, and_true, not_true_eq_false, not_false_eq_true, ↓reduceIte, Option.toList_some, Option.toList_none, List.cons_append, List.nil_append, am_sw, am_lk, List.toList_toArray, Int.reduceAdd, am_cats_cons, List.map_cons, List.map_nil, List.sum_cons, List.sum_nil, h2, c40, forall_const] at q0 ⊢
        exact q0 _ _ (Fr.s (by omega) Fr.rf)
    · by_cases m3 : md = 3
      · subst m3
        simp only [acF, Nat.reduceEqDiff, ↓reduceIte] at q1 q0
        simp (disch := omega) only [wr_all, wr_side, wr_call, qq_all, kk_142, B_142_5, mw_rd, mw_put, nn_eq, nz_c48, io_all, Nat.reduceDiv, Nat.reduceMod, Nat.reduceBEq, Nat.reduceLeDiff, Nat.reduceEqDiff, Nat.reduceLT, Nat.reduceMul, Nat.reduceAdd, Nat.reduceSub, BEq.rfl, Bool.or_true, Bool.true_or, Bool.true_and, Bool.and_true, Bool.or_false, Bool.false_or, Bool.not_false, Bool.not_true, decide_false, decide_true, true_and, and_true, not_true_eq_false, not_false_eq_true, ↓reduceIte, Option.toList_some, Option.toList_none, List.cons_append, List.nil_append, am_sw, am_lk, List.toList_toArray, Int.reduceAdd, am_cats_cons, List.map_cons, List.map_nil, List.sum_cons, List.sum_nil, h2]
        refine c_operand hp (by omega) hl (fun S' O' sc' ar' e p' f' g2 g3 g4 => ?_)
        simp (disch := omega) only [wr_all, wr_side, wr_call, qq_all, kk_142, B_142_0, B_142_1, B_142_2, B_142_3, B_142_4, B_142_5, B_142_6, B_142_7, B_142_8, B_142_9, B_142_10, B_142_11, B_142_12, B_142_13, B_142_14, mw_rd, mw_put, nn_clamp, nn_lt, nn_le, nn_eq, nn_lt0, nn_0le, nn_0lt, nn_le0, nn_eq0, nn_eq_1, nn_f1, nn_f0, nn_addn, nn_muln, nn_subn, nn_sub1, nn_nle, bi_1, bi_0, bi_fit, vu, io_all, Nat.reduceDiv, Nat.reduceMod, Nat.reduceBEq, Nat.reduceLeDiff, Nat.reduceEqDiff, Nat.reduceLT, Nat.reduceMul, Nat.reduceAdd, Nat.reduceSub, BEq.rfl, Bool.or_true, Bool.true_or, Bool.true_and, Bool.and_true, Bool.or_false, Bool.false_or, Bool.not_false, Bool.not_true, decide_false, decide_true, true_and, and_true, not_true_eq_false, not_false_eq_true, ↓reduceIte, Option.toList_some, Option.toList_none, List.cons_append, List.nil_append, am_sw, am_lk, List.toList_toArray, Int.reduceAdd, am_cats_cons, List.map_cons, List.map_nil, List.sum_cons, List.sum_nil]
        have gr := ngF_grow S ((12, (c : Int) - 48) :: O)
        rw [← e] at gr
        simp only [List.length_cons] at gr
        cases b
        · have nd : ¬ (48 ≤ c ∧ c ≤ 57) := by simpa using eb.symm
          simp only [nd, ↓reduceIte, forall_const] at q0
          exact q0 _ _ (Fr.s (by omega) (Fr.s (by omega) f'))
        · have dg : 48 ≤ c ∧ c ≤ 57 := by simpa using eb.symm
          simp only [dg, and_self, ↓reduceIte] at q1
          exact q1 (4, 1, O.length, S', O') _ _ (by rw [← e]) (PM_i p' rfl rfl g4 (by omega) (by omega) (by omega) (fun _ => by omega)) (Fr.s (by omega) (Fr.s (by omega) f'))
      · have r12 : ¬ ((48 ≤ c ∧ c ≤ 57) ∧ (md = 2 ∨ md = 4)) → Wp PG (d + 4) cd_142 B_142_12 [.ref 33, .int (Int32.ofNat c), .int (bi b)] [] (mw sc ar la R) K := fun nd => by
          have ac : acF c md dg na S O = if md = 0 then bgF c dg na S O else foF c dg na S O := by rw [acF, if_neg m5, if_neg m3, if_neg nd]
          rw [ac] at q1 q0
          rw [B_142_12]
          by_cases m0 : md = 0
          · subst m0
            simp only [↓reduceIte] at q1 q0
            simp (disch := omega) only [wr_all, wr_side, wr_call, qq_all, kk_142, B_142_14, mw_rd, nn_eq0, io_all, Nat.reduceDiv, Nat.reduceMod, Nat.reduceBEq, Nat.reduceLeDiff, Nat.reduceEqDiff, Nat.reduceLT, Nat.reduceMul, Nat.reduceAdd, Nat.reduceSub, BEq.rfl, Bool.or_true, Bool.true_or, Bool.true_and, Bool.and_true, Bool.or_false, Bool.false_or, Bool.not_false, Bool.not_true, decide_false, decide_true, true_and, and_true, not_true_eq_false, not_false_eq_true, ↓reduceIte, Option.toList_some, Option.toList_none, List.cons_append, List.nil_append, am_sw, am_lk, List.toList_toArray, Int.reduceAdd, am_cats_cons, List.map_cons, List.map_nil, List.sum_cons, List.sum_nil, h2]
            refine c_begin hpm hc hl (fun p sc' ar' e p' f' => ?_) (fun e sc' ar' f' => ?_)
            · simp (disch := omega) only [wr_all, wr_side, wr_call, qq_all, kk_142, B_142_0, B_142_1, B_142_2, B_142_3, B_142_4, B_142_5, B_142_6, B_142_7, B_142_8, B_142_9, B_142_10, B_142_11, B_142_12, B_142_13, B_142_14, mw_rd, mw_put, nn_clamp, nn_lt, nn_le, nn_eq, nn_lt0, nn_0le, nn_0lt, nn_le0, nn_eq0, nn_eq_1, nn_f1, nn_f0, nn_addn, nn_muln, nn_subn, nn_sub1, nn_nle, bi_1, bi_0, bi_fit, vu, io_all, Nat.reduceDiv, Nat.reduceMod, Nat.reduceBEq, Nat.reduceLeDiff, Nat.reduceEqDiff, Nat.reduceLT, Nat.reduceMul, Nat.reduceAdd, Nat.reduceSub, BEq.rfl, Bool.or_true, Bool.true_or, Bool.true_and, Bool.and_true, Bool.or_false, Bool.false_or, Bool.not_false, Bool.not_true, decide_false, decide_true, true_and, and_true, not_true_eq_false, not_false_eq_true, ↓reduceIte, Option.toList_some, Option.toList_none, List.cons_append, List.nil_append, am_sw, am_lk, List.toList_toArray, Int.reduceAdd, am_cats_cons, List.map_cons, List.map_nil, List.sum_cons, List.sum_nil]
              exact q1 p _ _ e p' f'
            · simp (disch := omega) only [wr_all, wr_side, wr_call, qq_all, kk_142, B_142_0, B_142_1, B_142_2, B_142_3, B_142_4, B_142_5, B_142_6, B_142_7, B_142_8, B_142_9, B_142_10, B_142_11, B_142_12, B_142_13, B_142_14, mw_rd, mw_put, nn_clamp, nn_lt, nn_le, nn_eq, nn_lt0, nn_0le, nn_0lt, nn_le0, nn_eq0, nn_eq_1, nn_f1, nn_f0, nn_addn, nn_muln, nn_subn, nn_sub1, nn_nle, bi_1, bi_0, bi_fit, vu, io_all, Nat.reduceDiv, Nat.reduceMod, Nat.reduceBEq, Nat.reduceLeDiff, Nat.reduceEqDiff, Nat.reduceLT, Nat.reduceMul, Nat.reduceAdd, Nat.reduceSub, BEq.rfl, Bool.or_true, Bool.true_or, Bool.true_and, Bool.and_true, Bool.or_false, Bool.false_or, Bool.not_false, Bool.not_true, decide_false, decide_true, true_and, and_true, not_true_eq_false, not_false_eq_true, ↓reduceIte, Option.toList_some, Option.toList_none, List.cons_append, List.nil_append, am_sw, am_lk, List.toList_toArray, Int.reduceAdd, am_cats_cons, List.map_cons, List.map_nil, List.sum_cons, List.sum_nil]
              exact q0 e _ _ f'
          · simp only [m0, ↓reduceIte] at q1 q0
            simp (disch := omega) only [wr_all, wr_side, wr_call, qq_all, kk_142, B_142_13, B_142_14, mw_rd, nn_eq0, io_all, Nat.reduceDiv, Nat.reduceMod, Nat.reduceBEq, Nat.reduceLeDiff, Nat.reduceEqDiff, Nat.reduceLT, Nat.reduceMul, Nat.reduceAdd, Nat.reduceSub, BEq.rfl, Bool.or_true, Bool.true_or, Bool.true_and, Bool.and_true, Bool.or_false, Bool.false_or, Bool.not_false, Bool.not_true, decide_false, decide_true, true_and, and_true, not_true_eq_false, not_false_eq_true, ↓reduceIte, Option.toList_some, Option.toList_none, List.cons_append, List.nil_append, am_sw, am_lk, List.toList_toArray, Int.reduceAdd, am_cats_cons, List.map_cons, List.map_nil, List.sum_cons, List.sum_nil, h2, m0]
            refine c_follow hpm hc hl (fun p sc' ar' e p' f' => ?_) (fun e sc' ar' f' => ?_)
            · simp (disch := omega) only [wr_all, wr_side, wr_call, qq_all, kk_142, B_142_0, B_142_1, B_142_2, B_142_3, B_142_4, B_142_5, B_142_6, B_142_7, B_142_8, B_142_9, B_142_10, B_142_11, B_142_12, B_142_13, B_142_14, mw_rd, mw_put, nn_clamp, nn_lt, nn_le, nn_eq, nn_lt0, nn_0le, nn_0lt, nn_le0, nn_eq0, nn_eq_1, nn_f1, nn_f0, nn_addn, nn_muln, nn_subn, nn_sub1, nn_nle, bi_1, bi_0, bi_fit, vu, io_all, Nat.reduceDiv, Nat.reduceMod, Nat.reduceBEq, Nat.reduceLeDiff, Nat.reduceEqDiff, Nat.reduceLT, Nat.reduceMul, Nat.reduceAdd, Nat.reduceSub, BEq.rfl, Bool.or_true, Bool.true_or, Bool.true_and, Bool.and_true, Bool.or_false, Bool.false_or, Bool.not_false, Bool.not_true, decide_false, decide_true, true_and, and_true, not_true_eq_false, not_false_eq_true, ↓reduceIte, Option.toList_some, Option.toList_none, List.cons_append, List.nil_append, am_sw, am_lk, List.toList_toArray, Int.reduceAdd, am_cats_cons, List.map_cons, List.map_nil, List.sum_cons, List.sum_nil]
              exact q1 p _ _ e p' f'
            · simp (disch := omega) only [wr_all, wr_side, wr_call, qq_all, kk_142, B_142_0, B_142_1, B_142_2, B_142_3, B_142_4, B_142_5, B_142_6, B_142_7, B_142_8, B_142_9, B_142_10, B_142_11, B_142_12, B_142_13, B_142_14, mw_rd, mw_put, nn_clamp, nn_lt, nn_le, nn_eq, nn_lt0, nn_0le, nn_0lt, nn_le0, nn_eq0, nn_eq_1, nn_f1, nn_f0, nn_addn, nn_muln, nn_subn, nn_sub1, nn_nle, bi_1, bi_0, bi_fit, vu, io_all, Nat.reduceDiv, Nat.reduceMod, Nat.reduceBEq, Nat.reduceLeDiff, Nat.reduceEqDiff, Nat.reduceLT, Nat.reduceMul, Nat.reduceAdd, Nat.reduceSub, BEq.rfl, Bool.or_true, Bool.true_or, Bool.true_and, Bool.and_true, Bool.or_false, Bool.false_or, Bool.not_false, Bool.not_true, decide_false, decide_true, true_and, and_true, not_true_eq_false, not_false_eq_true, ↓reduceIte, Option.toList_some, Option.toList_none, List.cons_append, List.nil_append, am_sw, am_lk, List.toList_toArray, Int.reduceAdd, am_cats_cons, List.map_cons, List.map_nil, List.sum_cons, List.sum_nil]
              exact q0 e _ _ f'
        have r7 : (48 ≤ c ∧ c ≤ 57) → (md = 2 ∨ md = 4) → Wp PG (d + 4) cd_142 B_142_7 [.ref 33, .int (Int32.ofNat c), .int (bi b)] [] (mw sc ar la R) K := fun dd mm => by
          have ac : acF c md dg na S O = if dg + 1 ≤ (if md = 2 then 3 else 2) then some (md, dg + 1, na, S, updN na ((c : Int) - 48) O) else none := by rw [acF, if_neg m5, if_neg m3, if_pos ⟨dd, mm⟩]
          rw [ac] at q1 q0
          obtain ⟨h5, h8, hs, ho, hb⟩ := hp
          have hd3 := hdg mm
          have b2' := b2 mm
          have b3' := b3 mm
          have nb := b4 mm
          obtain ⟨v, e1, e2⟩ := OK_num (a := (c : Int) - 48) ho nb
          have cal : Int32.ofInt v * Int32.ofNat 10 + Int32.ofNat c - Int32.ofNat 48 = Int32.ofInt (v * 10 + ((c : Int) - 48)) := by
            rw [nz_nat, nz_nat, nz_nat, nz_mul, nz_add, nz_sub]; congr 1; omega
          rw [B_142_7]
          have pm' : PM (md, dg + 1, na, S, updN na ((c : Int) - 48) O) (upd sc 3 (Int32.ofNat (dg + 1))) (va_up ar 4 (upd (ar 4) na (Int32.ofInt (v * 10 + ((c : Int) - 48))))) :=
            PM_i ⟨h5, by rw [updN_len]; exact h8, hs, e2, by rw [updN_len]; exact hb⟩ h2 rfl h4 b1 (by omega) b3 (by intro _; rw [updN_len]; exact nb)
          by_cases m2 : md = 2
          · have m2' : (md = 2) = True := by simp [m2]
            simp only [m2', ↓reduceIte] at q1 q0
            simp (disch := omega) only [wr_all, wr_side, wr_call, qq_all, kk_142, B_142_0, B_142_1, B_142_2, B_142_3, B_142_4, B_142_5, B_142_6, B_142_7, B_142_8, B_142_9, B_142_10, B_142_11, B_142_12, B_142_13, B_142_14, mw_rd, mw_put, nn_clamp, nn_lt, nn_le, nn_eq, nn_lt0, nn_0le, nn_0lt, nn_le0, nn_eq0, nn_eq_1, nn_f1, nn_f0, nn_addn, nn_muln, nn_subn, nn_sub1, nn_nle, bi_1, bi_0, bi_fit, vu, io_all, Nat.reduceDiv, Nat.reduceMod, Nat.reduceBEq, Nat.reduceLeDiff, Nat.reduceEqDiff, Nat.reduceLT, Nat.reduceMul, Nat.reduceAdd, Nat.reduceSub, BEq.rfl, Bool.or_true, Bool.true_or, Bool.true_and, Bool.and_true, Bool.or_false, Bool.false_or, Bool.not_false, Bool.not_true, decide_false, decide_true, true_and, and_true, not_true_eq_false, not_false_eq_true, ↓reduceIte, Option.toList_some, Option.toList_none, List.cons_append, List.nil_append, am_sw, am_lk, List.toList_toArray, Int.reduceAdd, am_cats_cons, List.map_cons, List.map_nil, List.sum_cons, List.sum_nil, h2, h3, h4, e1, cal, m2', us_ne, uu_3]
            by_cases y : 3 < dg + 1
            · simp only [y, ↓reduceIte]
              rw [if_neg (by omega)] at q0
              exact q0 rfl _ _ (Fr.s (by omega) (Fr.a (by omega) Fr.rf))
            · simp only [y, ↓reduceIte]
              rw [if_pos (by omega)] at q1
              exact q1 _ _ _ rfl pm' (Fr.s (by omega) (Fr.a (by omega) Fr.rf))
          · simp only [m2, ↓reduceIte] at q1 q0
            simp (disch := omega) only [wr_all, wr_side, wr_call, qq_all, kk_142, B_142_0, B_142_1, B_142_2, B_142_3, B_142_4, B_142_5, B_142_6, B_142_7, B_142_8, B_142_9, B_142_10, B_142_11, B_142_12, B_142_13, B_142_14, mw_rd, mw_put, nn_clamp, nn_lt, nn_le, nn_eq, nn_lt0, nn_0le, nn_0lt, nn_le0, nn_eq0, nn_eq_1, nn_f1, nn_f0, nn_addn, nn_muln, nn_subn, nn_sub1, nn_nle, bi_1, bi_0, bi_fit, vu, io_all, Nat.reduceDiv, Nat.reduceMod, Nat.reduceBEq, Nat.reduceLeDiff, Nat.reduceEqDiff, Nat.reduceLT, Nat.reduceMul, Nat.reduceAdd, Nat.reduceSub, BEq.rfl, Bool.or_true, Bool.true_or, Bool.true_and, Bool.and_true, Bool.or_false, Bool.false_or, Bool.not_false, Bool.not_true, decide_false, decide_true, true_and, and_true, not_true_eq_false, not_false_eq_true, ↓reduceIte, Option.toList_some, Option.toList_none, List.cons_append, List.nil_append, am_sw, am_lk, List.toList_toArray, Int.reduceAdd, am_cats_cons, List.map_cons, List.map_nil, List.sum_cons, List.sum_nil, h2, h3, h4, e1, cal, m2, us_ne, uu_3]
            by_cases y : 2 < dg + 1
            · simp only [y, ↓reduceIte]
              rw [if_neg (by omega)] at q0
              exact q0 rfl _ _ (Fr.s (by omega) (Fr.a (by omega) Fr.rf))
            · simp only [y, ↓reduceIte]
              rw [if_pos (by omega)] at q1
              exact q1 _ _ _ rfl pm' (Fr.s (by omega) (Fr.a (by omega) Fr.rf))
        simp (disch := omega) only [wr_all, wr_side, kk_142, B_142_5, B_142_6, mw_rd, nn_eq, bi_0, io_all, Nat.reduceDiv, Nat.reduceMod, Nat.reduceBEq, Nat.reduceLeDiff, Nat.reduceEqDiff, Nat.reduceLT, Nat.reduceMul, Nat.reduceAdd, Nat.reduceSub, BEq.rfl, Bool.or_true, Bool.true_or, Bool.true_and, Bool.and_true, Bool.or_false, Bool.false_or, Bool.not_false, Bool.not_true, decide_false, decide_true, true_and, and_true, not_true_eq_false, not_false_eq_true, ↓reduceIte, Option.toList_some, Option.toList_none, List.cons_append, List.nil_append, am_sw, am_lk, List.toList_toArray, Int.reduceAdd, am_cats_cons, List.map_cons, List.map_nil, List.sum_cons, List.sum_nil, h2, m5, m3]
        cases b
        · have nd : ¬ (48 ≤ c ∧ c ≤ 57) := by simpa using eb.symm
          simp only [↓reduceIte]
          exact r12 (fun x => nd x.1)
        · have dd : 48 ≤ c ∧ c ≤ 57 := by simpa using eb.symm
          simp only [↓reduceIte, Bool.true_eq_false]
          by_cases m2 : md = 2
          · have m2' : (md = 2) = True := by simp [m2]
            simp only [m2', ↓reduceIte]
            exact r7 dd (Or.inl m2)
          · by_cases m4 : md = 4
            · have m4' : (md = 4) = True := by simp [m4]
              simp only [m2, m4', ↓reduceIte, not_true_eq_false]
              exact r7 dd (Or.inr m4)
            · simp only [m2, m4, ↓reduceIte, not_false_eq_true]
              exact r12 (by rintro ⟨_, x⟩; omega)
  rw [e_142, B_142_0]
  by_cases n1 : c < 48
  · simp (disch := omega) only [wr_all, kk_142, B_142_1, nn_lt, io_all, Nat.reduceDiv, Nat.reduceMod, Nat.reduceBEq, Nat.reduceLeDiff, Nat.reduceEqDiff, Nat.reduceLT, Nat.reduceMul, Nat.reduceAdd, Nat.reduceSub, BEq.rfl, Bool.or_true, Bool.true_or, Bool.true_and, Bool.and_true, Bool.or_false, Bool.false_or, Bool.not_false, Bool.not_true, decide_false, decide_true, true_and, and_true, not_true_eq_false, not_false_eq_true, ↓reduceIte, Option.toList_some, Option.toList_none, List.cons_append, List.nil_append, am_sw, am_lk, List.toList_toArray, Int.reduceAdd, am_cats_cons, List.map_cons, List.map_nil, List.sum_cons, List.sum_nil, n1]
    exact r2 false (by rw [eq_comm, decide_eq_false_iff_not]; omega)
  · by_cases n2 : 57 < c
    · simp (disch := omega) only [wr_all, kk_142, B_142_1, nn_lt, io_all, Nat.reduceDiv, Nat.reduceMod, Nat.reduceBEq, Nat.reduceLeDiff, Nat.reduceEqDiff, Nat.reduceLT, Nat.reduceMul, Nat.reduceAdd, Nat.reduceSub, BEq.rfl, Bool.or_true, Bool.true_or, Bool.true_and, Bool.and_true, Bool.or_false, Bool.false_or, Bool.not_false, Bool.not_true, decide_false, decide_true, true_and, and_true, not_true_eq_false, not_false_eq_true, ↓reduceIte, Option.toList_some, Option.toList_none, List.cons_append, List.nil_append, am_sw, am_lk, List.toList_toArray, Int.reduceAdd, am_cats_cons, List.map_cons, List.map_nil, List.sum_cons, List.sum_nil, n1, n2]
      exact r2 false (by rw [eq_comm, decide_eq_false_iff_not]; omega)
    · simp (disch := omega) only [wr_all, kk_142, B_142_1, nn_lt, io_all, Nat.reduceDiv, Nat.reduceMod, Nat.reduceBEq, Nat.reduceLeDiff, Nat.reduceEqDiff, Nat.reduceLT, Nat.reduceMul, Nat.reduceAdd, Nat.reduceSub, BEq.rfl, Bool.or_true, Bool.true_or, Bool.true_and, Bool.and_true, Bool.or_false, Bool.false_or, Bool.not_false, Bool.not_true, decide_false, decide_true, true_and, and_true, not_true_eq_false, not_false_eq_true, ↓reduceIte, Option.toList_some, Option.toList_none, List.cons_append, List.nil_append, am_sw, am_lk, List.toList_toArray, Int.reduceAdd, am_cats_cons, List.map_cons, List.map_nil, List.sum_cons, List.sum_nil, n1, n2]
      exact r2 true (by rw [eq_comm, decide_eq_true_iff]; omega)
end M21
