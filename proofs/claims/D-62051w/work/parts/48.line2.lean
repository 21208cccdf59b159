/-! THE MODEL's line: unwind, operand, begin. -/
theorem ngF_len : ∀ (S : List (Nat × Nat)) (O : List (Nat × Int)), (ngF S O).1.length + (ngF S O).2.length = S.length + O.length
  | [], O => rfl
  | x :: S, O => by
    unfold ngF
    split
    · rw [ngF_len S]; simp only [List.length_cons]; omega
    · rfl
theorem uwF_len (all : Bool) : ∀ (S : List (Nat × Nat)) (O : List (Nat × Int)), (uwF all S O).1.length + (uwF all S O).2.length = S.length + O.length
  | [], O => rfl
  | x :: S, O => by
    unfold uwF
    split
    · rw [uwF_len all S]; simp only [List.length_cons]; omega
    · rfl
theorem us_ne {f : Nat → Int32} {k j : Nat} {v : Int32} (h : j ≠ k) : upd f k v j = f j := by simp only [upd]; rw [if_neg h]
section M18
variable {d : Nat} {sc : Nat → Int32} {ar : Nat → Nat → Int32} {la : Nat → Nat → Int64} {R w : am_W} {K : Option Value → am_W → Prop} {S : List (Nat × Nat)} {O : List (Nat × Int)}
theorem c_unw_l {all : Bool} (q : ∀ (S' : List (Nat × Nat)) (O' : List (Nat × Int)) sc' ar', (S', O') = uwF all S O → PS S' O' sc' ar' → Fr sc ar sc' ar' → sc' 2 = sc 2 → sc' 3 = sc 3 → sc' 4 = sc 4 → K none (mw sc' ar' la R)) (h : PS S O sc ar) :
    Wp PG (d + 1) cd_149 B_149_0 [.ref 33, .int (bi all)] [] (mw sc ar la R) K := by
  induction S generalizing O sc ar with
  | nil =>
    obtain ⟨h5, h8, hs, ho, hb⟩ := h
    rw [B_149_0]
    simp (disch := omega) only [wr_all, wr_side, wr_call, qq_all, kk_149, B_149_1, B_149_2, B_149_3, B_149_4, B_149_5, mw_rd, mw_put, nn_clamp, nn_lt, nn_le, nn_eq, nn_lt0, nn_0le, nn_0lt, nn_le0, nn_eq0, nn_eq_1, nn_f1, nn_f0, nn_addn, nn_muln, nn_subn, nn_sub1, nn_nle, bi_1, bi_0, bi_fit, vu, io_all, Nat.reduceDiv, Nat.reduceMod, Nat.reduceBEq, Nat.reduceLeDiff, Nat.reduceEqDiff, Nat.reduceLT, Nat.reduceMul, Nat.reduceAdd, Nat.reduceSub, BEq.rfl, Bool.or_true, Bool.true_or, Bool.true_and, Bool.and_true, Bool.or_false, Bool.false_or, Bool.not_false, Bool.not_true, decide_false, decide_true, true_and, and_true, not_true_eq_false, not_false_eq_true, ↓reduceIte, Option.toList_some, Option.toList_none, List.cons_append, List.nil_append, am_sw, am_lk, List.toList_toArray, Int.reduceAdd, am_cats_cons, List.map_cons, List.map_nil, List.sum_cons, List.sum_nil, h5, List.length_nil]
    exact q [] O sc ar rfl ⟨h5, h8, hs, ho, hb⟩ Fr.rf rfl rfl rfl
  | cons x S ih =>
    have h' := h
    obtain ⟨h5, h8, ⟨s1, s2, s3, s4, hs⟩, ho, hb⟩ := h
    simp only [List.length_cons] at h5 hb
    have nz : ¬ S.length + 1 = 0 := by omega
    have em : (x.1 = 42 ∨ all = true ∧ (x.1 = 43 ∨ x.1 = 45)) → Ev PG (d + 1) 144 [.ref 33, .int (Int32.ofNat (opk x.1)), .int (Int32.ofInt 0)] (mw (upd sc 5 (Int32.ofNat S.length)) ar la R) (fun r w1 => Wp PG (d + 1) cd_149 B_149_0 [.ref 33, .int (bi all)] (r.toList ++ []) w1 K) := fun y => by
      refine c_emit (S := S) (O := O) (v := 0) ⟨rfl, h8, hs, ho, by omega⟩ (by unfold opk; (repeat' split) <;> omega) (by omega) (fun sc' ar' p' f' e2 e3 e4 => ?_)
      simp only [Option.toList_none, List.nil_append]
      refine ih (fun S' O' sc'' ar'' e p'' f'' g2 g3 g4 => q S' O' sc'' ar'' ?_ p'' ?_ ?_ ?_ ?_) p'
      · rw [e, uwF, if_pos y]
      · exact (Fr.s (by omega) Fr.rf).tr (f'.tr f'')
      · rw [g2, e2]; rfl
      · rw [g3, e3]; rfl
      · rw [g4, e4]; rfl
    have no : ¬ (x.1 = 42 ∨ all = true ∧ (x.1 = 43 ∨ x.1 = 45)) → K none (mw sc ar la R) := fun y => q (x :: S) O sc ar (by rw [uwF, if_neg y]) h' Fr.rf rfl rfl rfl
    rw [show Int32.ofInt 0 = Int32.ofNat 0 from rfl] at em
    rw [B_149_0]
    have gt : ∀ w1 : am_W, ∀ st : List Value, Wp PG (d + 1) cd_149 [.goto 0] [.ref 33, .int (bi all)] st w1 K = Wp PG (d + 1) cd_149 B_149_0 [.ref 33, .int (bi all)] st w1 K := fun w1 st => by simp only [wr_all, kk_149]
    simp (disch := omega) only [wr_all, wr_side, wr_call, qq_all, kk_149, B_149_1, B_149_2, B_149_3, B_149_4, B_149_5, mw_rd, mw_put, nn_clamp, nn_lt, nn_le, nn_eq, nn_lt0, nn_0le, nn_0lt, nn_le0, nn_eq0, nn_eq_1, nn_f1, nn_f0, nn_addn, nn_muln, nn_subn, nn_sub1, nn_nle, bi_1, bi_0, bi_fit, vu, io_all, Nat.reduceDiv, Nat.reduceMod, Nat.reduceBEq, Nat.reduceLeDiff, Nat.reduceEqDiff, Nat.reduceLT, Nat.reduceMul, Nat.reduceAdd, Nat.reduceSub, BEq.rfl, Bool.or_true, Bool.true_or, Bool.true_and, Bool.and_true, Bool.or_false, Bool.false_or, Bool.not_false, Bool.not_true, decide_false, decide_true, true_and, and_true, not_true_eq_false, not_false_eq_true, ↓reduceIte, Option.toList_some, Option.toList_none, List.cons_append, List.nil_append, am_sw, am_lk, List.toList_toArray, Int.reduceAdd, am_cats_cons, List.map_cons, List.map_nil, List.sum_cons, List.sum_nil, h5, nz, Nat.add_sub_cancel, s1, uu_3, us_ne]
    unfold opk at em
    by_cases y1 : x.1 = 42
    · simp only [y1, ↓reduceIte, true_or, not_true_eq_false, forall_const] at em ⊢
      exact em
    · by_cases y2 : x.1 = 43
      · cases all
        · simp only [y2, ↓reduceIte, Nat.reduceEqDiff, Bool.false_eq_true, false_and, or_self, not_false_eq_true, forall_const] at no ⊢
          exact no
        · simp only [y2, ↓reduceIte, Nat.reduceEqDiff, Bool.true_eq_false, true_and, true_or, or_true, not_true_eq_false, not_false_eq_true, forall_const] at em ⊢
          exact em
      · by_cases y3 : x.1 = 45
        · cases all
          · simp only [y3, ↓reduceIte, Nat.reduceEqDiff, Bool.false_eq_true, false_and, or_self, not_false_eq_true, forall_const] at no ⊢
            exact no
          · simp only [y3, ↓reduceIte, Nat.reduceEqDiff, Bool.true_eq_false, true_and, true_or, or_true, not_true_eq_false, not_false_eq_true, forall_const] at em ⊢
            exact em
        · have no' := no (by simp only [y1, y2, y3, or_self, and_false, not_false_eq_true])
          cases all <;> simp only [y1, y2, y3, ↓reduceIte, Bool.true_eq_false, not_false_eq_true] <;> exact no'
theorem c_unwind {all : Bool} (h : PS S O sc ar) (q : ∀ (S' : List (Nat × Nat)) (O' : List (Nat × Int)) sc' ar', (S', O') = uwF all S O → PS S' O' sc' ar' → Fr sc ar sc' ar' → sc' 2 = sc 2 → sc' 3 = sc 3 → sc' 4 = sc 4 → K none (mw sc' ar' la R)) :
    Ev PG (d + 2) 149 [.ref 33, .int (bi all)] (mw sc ar la R) K := by
  rw [e_149]
  exact c_unw_l q h
theorem c_operand {k : Nat} {v : Int} (h : PS S O sc ar) (hk : k < 13) (hl : S.length + O.length < 20) (q : ∀ (S' : List (Nat × Nat)) (O' : List (Nat × Int)) sc' ar', (S', O') = ngF S ((k, v) :: O) → PS S' O' sc' ar' → Fr sc ar sc' ar' → sc' 2 = sc 2 → sc' 3 = sc 3 → sc' 4 = Int32.ofNat O.length → K none (mw sc' ar' la R)) :
    Ev PG (d + 3) 143 [.ref 33, .int (Int32.ofNat k), .int (Int32.ofInt v)] (mw sc ar la R) K := by
  obtain ⟨h5, h8, hs, ho, hb⟩ := h
  rw [e_143]
  simp (disch := omega) only [wr_all, wr_side, wr_call, qq_all, kk_143, B_143_0, mw_rd, mw_put, nn_clamp, nn_lt, nn_le, nn_eq, nn_lt0, nn_0le, nn_0lt, nn_le0, nn_eq0, nn_eq_1, nn_f1, nn_f0, nn_addn, nn_muln, nn_subn, nn_sub1, nn_nle, bi_1, bi_0, bi_fit, vu, io_all, Nat.reduceDiv, Nat.reduceMod, Nat.reduceBEq, Nat.reduceLeDiff, Nat.reduceEqDiff, Nat.reduceLT, Nat.reduceMul, Nat.reduceAdd, Nat.reduceSub, BEq.rfl, Bool.or_true, Bool.true_or, Bool.true_and, Bool.and_true, Bool.or_false, Bool.false_or, Bool.not_false, Bool.not_true, decide_false, decide_true, true_and, and_true, not_true_eq_false, not_false_eq_true, ↓reduceIte, Option.toList_some, Option.toList_none, List.cons_append, List.nil_append, am_sw, am_lk, List.toList_toArray, Int.reduceAdd, am_cats_cons, List.map_cons, List.map_nil, List.sum_cons, List.sum_nil, h8]
  refine c_emit (S := S) (O := O) ⟨h5, h8, hs, ho, by omega⟩ hk hl (fun sc' ar' p' f' e2 e3 e4 => ?_)
  simp (disch := omega) only [wr_all, wr_side, wr_call, qq_all, kk_143, B_143_0, mw_rd, mw_put, nn_clamp, nn_lt, nn_le, nn_eq, nn_lt0, nn_0le, nn_0lt, nn_le0, nn_eq0, nn_eq_1, nn_f1, nn_f0, nn_addn, nn_muln, nn_subn, nn_sub1, nn_nle, bi_1, bi_0, bi_fit, vu, io_all, Nat.reduceDiv, Nat.reduceMod, Nat.reduceBEq, Nat.reduceLeDiff, Nat.reduceEqDiff, Nat.reduceLT, Nat.reduceMul, Nat.reduceAdd, Nat.reduceSub, BEq.rfl, Bool.or_true, Bool.true_or, Bool.true_and, Bool.and_true, Bool.or_false, Bool.false_or, Bool.not_false, Bool.not_true, decide_false, decide_true, true_and, and_true, not_true_eq_false, not_false_eq_true, ↓reduceIte, Option.toList_some, Option.toList_none, List.cons_append, List.nil_append, am_sw, am_lk, List.toList_toArray, Int.reduceAdd, am_cats_cons, List.map_cons, List.map_nil, List.sum_cons, List.sum_nil]
  refine c_negations p' (fun S' O' sc'' ar'' e p'' f'' g2 g3 g4 => ?_)
  simp (disch := omega) only [wr_all, wr_side, wr_call, qq_all, kk_143, B_143_0, mw_rd, mw_put, nn_clamp, nn_lt, nn_le, nn_eq, nn_lt0, nn_0le, nn_0lt, nn_le0, nn_eq0, nn_eq_1, nn_f1, nn_f0, nn_addn, nn_muln, nn_subn, nn_sub1, nn_nle, bi_1, bi_0, bi_fit, vu, io_all, Nat.reduceDiv, Nat.reduceMod, Nat.reduceBEq, Nat.reduceLeDiff, Nat.reduceEqDiff, Nat.reduceLT, Nat.reduceMul, Nat.reduceAdd, Nat.reduceSub, BEq.rfl, Bool.or_true, Bool.true_or, Bool.true_and, Bool.and_true, Bool.or_false, Bool.false_or, Bool.not_false, Bool.not_true, decide_false, decide_true, true_and, and_true, not_true_eq_false, not_false_eq_true, ↓reduceIte, Option.toList_some, Option.toList_none, List.cons_append, List.nil_append, am_sw, am_lk, List.toList_toArray, Int.reduceAdd, am_cats_cons, List.map_cons, List.map_nil, List.sum_cons, List.sum_nil]
  refine q S' O' sc'' ar'' e p'' ((Fr.s (by omega) Fr.rf).tr (f'.tr f'')) ?_ ?_ ?_
  · rw [g2, e2]; rfl
  · rw [g3, e3]; rfl
  · rw [g4, e4]; rfl
end M18
