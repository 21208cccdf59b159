/-! THE MODEL's blame, signs, values. -/
theorem cvF_5 {c : Nat → Nat} {u d : Nat → Bool} (h : cvF 5 c u d = 4) (h5 : c 0 < 5) : c 0 = 4 := by
  rcases (by omega : c 0 = 0 ∨ c 0 = 1 ∨ c 0 = 2 ∨ c 0 = 3 ∨ c 0 = 4) with e | e | e | e | e <;> simp [cvF, ary, hvF, fnF, adF, trF, e] at h ⊢
theorem cvF_lt {t : Nat} {c : Nat → Nat} {u d : Nat → Bool} : cvF t c u d < 5 := by unfold cvF; (repeat' split) <;> omega
theorem cvF_leaf {t : Nat} {c : Nat → Nat} {u d : Nat → Bool} (h : t < 3) : cvF t c u d ≠ 4 := by unfold cvF ary; simp [h]; split <;> omega
theorem nb_1 : vp_nar .boolean (Int32.ofNat 1) = Int32.ofNat 1 := by decide
theorem nb_0 : vp_nar .boolean (Int32.ofNat 0) = Int32.ofNat 0 := by decide
theorem nb_bi (b : Bool) : vp_nar .boolean (bi b) = bi b := by cases b <;> rfl
section M3
variable {d : Nat} {sc : Nat → Int32} {ar : Nat → Nat → Int32} {la : Nat → Nat → Int64} {R w : am_W} {K : Option Value → am_W → Prop}
variable {n : Nat} {kd nm : Nat → Nat} {ag : Nat → Nat → Nat} {up dn : Nat → Bool} {cv bl : Nat → Nat}
theorem c_blameOf {k : Nat} (h : MS n kd nm ag ar) (hk : k < n) (hu : ∀ i, i < k → ar 11 i = bi (up i)) (hd : ∀ i, i < k → ar 12 i = bi (dn i)) (hc : ∀ i, i < k → ar 13 i = Int32.ofNat (cv i) ∧ cv i < 5)
    (hck : ar 13 k = Int32.ofNat (cv k)) (hcv : cv k = cvF (kd k) (fun i => cv (ag k i)) (fun i => up (ag k i)) (fun i => dn (ag k i))) :
    Ev PG (d + 4) 166 [.ref 33, .int (Int32.ofNat k)] (mw sc ar la R) K = K (some (.int (Int32.ofNat (blF (kd k) (cv k) (fun i => cv (ag k i)) (fun i => up (ag k i)) (fun i => dn (ag k i)))))) (mw sc ar la R) := by
  have h1 := h.1
  have ht := (h.2.1 k hk).1
  have e6 := (h.2.1 k hk).2.2.1
  have a1 := h.a1 hk
  have g0 := h.2.2 k hk 0
  have g1 := h.2.2 k hk 1
  have ck : cv k < 5 := by rw [hcv]; exact cvF_lt
  have v1 := hvF_le (fun i => cv (ag k i)) 4 4 (ary (kd k))
  have v2 := hvF_le (fun i => cv (ag k i)) 0 0 (ary (kd k))
  have a3 := ary_3 (kd k)
  by_cases c4 : cv k = 4
  · rcases n12 ht with e | e | e | e | e | e | e | e | e | e | e | e <;> rw [e] at e6 a1 g0 g1 v1 v2 hcv <;> simp only [ary_all] at a1 g0 g1 v1 v2 <;> rw [c4] at hck hcv
    · exact absurd hcv.symm (cvF_leaf (by omega))
    · exact absurd hcv.symm (cvF_leaf (by omega))
    · exact absurd hcv.symm (cvF_leaf (by omega))
    all_goals try (have hj : 1 < 2 := by omega
                   have a1' := a1 hj
                   have g1' := g1 hj
                   have hc1 := hc _ g1')
    all_goals rw [e_166]
    case inr.inr.inr.inr.inr.inl =>
      have q := cvF_5 hcv.symm (hc _ (g0 (by omega))).2
      simp (maxSteps := 1000000) (disch := omega) only [↓ c_having h hk (lo := 4) (hi := 4) (by omega) (by omega) hc, wr_all, wr_side, wr_call, qq_all, kk_166, B_166_0, B_166_1, B_166_2, B_166_3, B_166_4, B_166_5, B_166_6, B_166_7, B_166_8, mw_rd, mw_put, nn_clamp, nn_lt, nn_le, nn_eq, nn_lt0, nn_0le, nn_0lt, nn_le0, nn_eq0, nn_eq_1, nn_f1, nn_f0, nn_addn, nn_muln, nn_subn, nn_sub1, nn_nle, bi_1, bi_0, bi_fit, vu, io_all, Nat.reduceDiv, Nat.reduceMod, Nat.reduceBEq, Nat.reduceLeDiff, Nat.reduceEqDiff, Nat.reduceLT, Nat.reduceMul, Nat.reduceAdd, Nat.reduceSub, BEq.rfl, Bool.or_true, Bool.true_or, Bool.true_and, Bool.and_true, Bool.or_false, Bool.false_or, Bool.not_false, Bool.not_true, decide_false, decide_true, true_and, and_true, not_true_eq_false, not_false_eq_true, ↓reduceIte, Option.toList_some, Option.toList_none, List.cons_append, List.nil_append, am_sw, am_lk, List.toList_toArray, Int.reduceAdd, am_cats_cons, List.map_cons, List.map_nil, List.sum_cons, List.sum_nil, e6, e, ary_all, hck]
      simp [blF, hvF, ary, q, c4]
    all_goals simp (maxSteps := 1000000) (disch := omega) only [↓ c_having h hk (lo := 4) (hi := 4) (by omega) (by omega) hc, ↓ c_having h hk (lo := 0) (hi := 0) (by omega) (by omega) hc, ↓ c_firstNot h hk (wt := 2) (by omega) hu hd hc, ↓ c_firstNot h hk (wt := 3) (by omega) hu hd hc, wr_all, wr_side, wr_call, qq_all, kk_166, B_166_0, B_166_1, B_166_2, B_166_3, B_166_4, B_166_5, B_166_6, B_166_7, B_166_8, mw_rd, mw_put, nn_clamp, nn_lt, nn_le, nn_eq, nn_lt0, nn_0le, nn_0lt, nn_le0, nn_eq0, nn_eq_1, nn_f1, nn_f0, nn_addn, nn_muln, nn_subn, nn_sub1, nn_nle, bi_1, bi_0, bi_fit, vu, io_all, Nat.reduceDiv, Nat.reduceMod, Nat.reduceBEq, Nat.reduceLeDiff, Nat.reduceEqDiff, Nat.reduceLT, Nat.reduceMul, Nat.reduceAdd, Nat.reduceSub, BEq.rfl, Bool.or_true, Bool.true_or, Bool.true_and, Bool.and_true, Bool.or_false, Bool.false_or, Bool.not_false, Bool.not_true, decide_false, decide_true, true_and, and_true, not_true_eq_false, not_false_eq_true, ↓reduceIte, Option.toList_some, Option.toList_none, List.cons_append, List.nil_append, am_sw, am_lk, List.toList_toArray, Int.reduceAdd, am_cats_cons, List.map_cons, List.map_nil, List.sum_cons, List.sum_nil, e6, e, ary_all, hck, a1, hc, g1]
    all_goals simp only [blF, c4, ary_all, Nat.reduceEqDiff, Nat.reduceLeDiff, ↓reduceIte, true_and, false_and, false_or, ne_eq, not_true_eq_false, not_false_eq_true]
    all_goals (repeat' split) <;> first | rfl | (exfalso; omega) | (simp_all; done)
  · rw [e_166]
    simp (maxSteps := 1000000) (disch := omega) only [wr_all, wr_side, wr_call, qq_all, kk_166, B_166_0, B_166_1, B_166_2, B_166_3, B_166_4, B_166_5, B_166_6, B_166_7, B_166_8, mw_rd, mw_put, nn_clamp, nn_lt, nn_le, nn_eq, nn_lt0, nn_0le, nn_0lt, nn_le0, nn_eq0, nn_eq_1, nn_f1, nn_f0, nn_addn, nn_muln, nn_subn, nn_sub1, nn_nle, bi_1, bi_0, bi_fit, vu, io_all, Nat.reduceDiv, Nat.reduceMod, Nat.reduceBEq, Nat.reduceLeDiff, Nat.reduceEqDiff, Nat.reduceLT, Nat.reduceMul, Nat.reduceAdd, Nat.reduceSub, BEq.rfl, Bool.or_true, Bool.true_or, Bool.true_and, Bool.and_true, Bool.or_false, Bool.false_or, Bool.not_false, Bool.not_true, decide_false, decide_true, true_and, and_true, not_true_eq_false, not_false_eq_true, ↓reduceIte, Option.toList_some, Option.toList_none, List.cons_append, List.nil_append, am_sw, am_lk, List.toList_toArray, Int.reduceAdd, am_cats_cons, List.map_cons, List.map_nil, List.sum_cons, List.sum_nil, e6, hck, c4]
    simp [blF, c4]
/-- the model's arrays of one attribute, at k -/
theorem c_signs {k : Nat} (h : MS n kd nm ag ar) (hk : k < n) (hu : ∀ i, i < k → ar 11 i = bi (up i)) (hd : ∀ i, i < k → ar 12 i = bi (dn i)) :
    Ev PG (d + 1) 158 [.ref 33, .int (Int32.ofNat k), .int (ar 8 (3 * k)), .int (ar 8 (3 * k + 1)), .int (ar 8 (3 * k + 2))] (mw sc ar la R) K
      = K none (mw sc (va_up (va_up ar 11 (upd (ar 11) k (bi (upF (kd k) (nm k) (fun i => up (ag k i)) (fun i => dn (ag k i)))))) 12 (upd (ar 12) k (bi (dnF (kd k) (nm k) (fun i => up (ag k i)) (fun i => dn (ag k i)))))) la R) := by
  have h1 := h.1
  have ht := (h.2.1 k hk).1
  have hn := (h.2.1 k hk).2.1
  have e6 := (h.2.1 k hk).2.2.1
  have e7 := (h.2.1 k hk).2.2.2.1
  have a0 := h.a0 hk
  have a1 := h.a1 hk
  have a2 := h.a2 hk
  have g0 := h.2.2 k hk 0
  have g1 := h.2.2 k hk 1
  have g2 := h.2.2 k hk 2
  rw [e_158]
  rcases n12 ht with e | e | e | e | e | e | e | e | e | e | e | e <;> rw [e] at e6 a0 a1 a2 g0 g1 g2 <;> simp [ary_all] at a0 a1 a2 g0 g1 g2 <;> rw [e]
  all_goals simp (maxSteps := 1000000) (disch := omega) only [wr_all, wr_side, wr_call, qq_all, kk_158, B_158_0, B_158_1, B_158_2, B_158_3, B_158_4, B_158_5, B_158_6, B_158_7, B_158_8, B_158_9, B_158_10, B_158_11, B_158_12, B_158_13, B_158_14, B_158_15, B_158_16, B_158_17, B_158_18, B_158_19, B_158_20, B_158_21, B_158_22, B_158_23, B_158_24, B_158_25, B_158_26, B_158_27, B_158_28, B_158_29, B_158_30, B_158_31, B_158_32, B_158_33, B_158_34, B_158_35, B_158_36, B_158_37, B_158_38, B_158_39, B_158_40, B_158_41, B_158_42, B_158_43, B_158_44, B_158_45, B_158_46, B_158_47, B_158_48, B_158_49, B_158_50, B_158_51, B_158_52, B_158_53, B_158_54, B_158_55, B_158_56, B_158_57, B_158_58, B_158_59, B_158_60, B_158_61, B_158_62, mw_rd, mw_put, nn_clamp, nn_lt, nn_le, nn_eq, nn_lt0, nn_0le, nn_0lt, nn_le0, nn_eq0, nn_eq_1, nn_f1, nn_f0, nn_addn, nn_muln, nn_subn, nn_sub1, nn_nle, bi_1, bi_0, bi_fit, vu, io_all, Nat.reduceDiv, Nat.reduceMod, Nat.reduceBEq, Nat.reduceLeDiff, Nat.reduceEqDiff, Nat.reduceLT, Nat.reduceMul, Nat.reduceAdd, Nat.reduceSub, BEq.rfl, Bool.or_true, Bool.true_or, Bool.true_and, Bool.and_true, Bool.or_false, Bool.false_or, Bool.not_false, Bool.not_true, decide_false, decide_true, true_and, and_true, not_true_eq_false, not_false_eq_true, ↓reduceIte, Option.toList_some, Option.toList_none, List.cons_append, List.nil_append, am_sw, am_lk, List.toList_toArray, Int.reduceAdd, am_cats_cons, List.map_cons, List.map_nil, List.sum_cons, List.sum_nil, e6, e7, a0, a1, a2, hu, hd, nb_1, nb_0, nb_bi]
  case inl => simp only [upF, dnF]; by_cases x : nm k = 0 <;> simp [x, bi]
  case inr.inl => rfl
  case inr.inr.inl => simp only [upF, dnF]; by_cases x : nm k = 113 <;> by_cases y : nm k = 112 <;> simp [x, y, bi]
  all_goals simp only [upF, dnF]
  case inr.inr.inr.inr.inr.inr.inr.inr.inr.inl => cases up (ag k 0) <;> cases dn (ag k 0) <;> rfl
  case inr.inr.inr.inr.inr.inr.inr.inr.inr.inr.inl => cases up (ag k 0) <;> cases dn (ag k 0) <;> rfl
  case inr.inr.inr.inr.inr.inr.inr.inr.inr.inr.inr => cases up (ag k 0) <;> cases dn (ag k 0) <;> cases up (ag k 1) <;> cases dn (ag k 1) <;> cases up (ag k 2) <;> cases dn (ag k 2) <;> rfl
  all_goals cases up (ag k 0) <;> cases dn (ag k 0) <;> cases up (ag k 1) <;> cases dn (ag k 1) <;> rfl
end M3
