/-! THE MODEL's set. -/
theorem zn_lt {z : Int} {b : Nat} (h : -2147483648 ≤ z) (h' : z < 2147483648) (hb : b < 2147483648) : (Int32.ofInt z < -Int32.ofNat b) = (z < -(b : Int)) := by
  rw [nz_nat, nz_neg, nz_lt h h' (by omega) (by omega)]
theorem zn_le {z : Int} {b : Nat} (h : -2147483648 ≤ z) (h' : z < 2147483648) (hb : b < 2147483648) : (Int32.ofInt z ≤ Int32.ofNat b) = (z ≤ (b : Int)) := by
  rw [nz_nat, nz_le h h' (by omega) (by omega)]
theorem z0_lt {z : Int} (h : -2147483648 ≤ z) (h' : z < 2147483648) : (Int32.ofInt z < 0) = (z < 0) := by
  rw [show (0 : Int32) = Int32.ofInt 0 from rfl, nz_lt h h' (by omega) (by omega)]
theorem z0_le {z : Int} (h : -2147483648 ≤ z) (h' : z < 2147483648) : (Int32.ofInt z ≤ 0) = (z ≤ 0) := by
  rw [show (0 : Int32) = Int32.ofInt 0 from rfl, nz_le h h' (by omega) (by omega)]
section M15
variable {d : Nat} {sc : Nat → Int32} {ar : Nat → Nat → Int32} {la : Nat → Nat → Int64} {R w : am_W} {K : Option Value → am_W → Prop}
variable {n nq : Nat} {kd nm lf rt : Nat → Nat} {ag : Nat → Nat → Nat} {up dn ex us : Nat → Bool} {cv bl : Nat → Nat} {vl gv ow ch lin lin' : Nat → Int} {go : Option Nat} {st : Bool} {z : Int}
theorem c_set_no {x y : Int32} (h : MI n kd nm ag gv up dn cv bl vl go nq ex lf rt st sc ar) (hx : ¬ (0 ≤ x ∧ x < Int32.ofNat n)) : Ev PG (d + 7) 194 [.ref 33, .int x, .int y] (mw sc ar la R) K = K (some (.int (bi false))) (mw sc ar la R) := by
  rw [e_194]
  simp (disch := omega) only [↓ c_isno h.1.1 h.2.1 hx, wr_all, wr_side, wr_call, qq_all, kk_194, B_194_0, B_194_1, B_194_2, B_194_3, B_194_4, B_194_5, B_194_6, B_194_7, B_194_8, B_194_9, B_194_10, B_194_11, B_194_12, mw_rd, mw_put, nn_clamp, nn_lt, nn_le, nn_eq, nn_lt0, nn_0le, nn_0lt, nn_le0, nn_eq0, nn_eq_1, nn_f1, nn_f0, nn_addn, nn_muln, nn_subn, nn_sub1, nn_nle, bi_1, bi_0, bi_fit, vu, io_all, Nat.reduceDiv, Nat.reduceMod, Nat.reduceBEq, Nat.reduceLeDiff, Nat.reduceEqDiff, Nat.reduceLT, Nat.reduceMul, Nat.reduceAdd, Nat.reduceSub, BEq.rfl, Bool.or_true, Bool.true_or, Bool.true_and, Bool.and_true, Bool.or_false, Bool.false_or, Bool.not_false, Bool.not_true, decide_false, decide_true, true_and, and_true, not_true_eq_false, not_false_eq_true, ↓reduceIte, Option.toList_some, Option.toList_none, List.cons_append, List.nil_append, am_sw, am_lk, List.toList_toArray, Int.reduceAdd, am_cats_cons, List.map_cons, List.map_nil, List.sum_cons, List.sum_nil]
  rfl
theorem c_set_var {k : Nat} (h : MI n kd nm ag gv up dn cv bl vl go nq ex lf rt st sc ar) (hu : us = usF n kd ag go nq lf rt) (hk : k < n) (h1 : kd k = 1) (z1 : -2147483648 ≤ z) (z2 : z < 2147483648) :
    Ev PG (d + 7) 194 [.ref 33, .int (Int32.ofNat k), .int (Int32.ofInt z)] (mw sc ar la R) K = if -20 ≤ z ∧ z ≤ 20 then K (some (.int (bi true))) (mw sc (va_up (mkA n up dn cv bl vl us ar) 10 (upd (ar 10) k (Int32.ofInt z))) la R) else K (some (.int (bi false))) (mw sc (mkA n up dn cv bl vl us ar) la R) := by
  have n36 := h.1.1
  have mm : Ev PG (d + 6) 179 [.ref 33] (mw sc ar la R) = fun K => K none (mw sc (mkA n up dn cv bl vl us ar) la R) := by funext K; rw [hu]; exact h.mark
  have e6 : mkA n up dn cv bl vl us ar 6 k = Int32.ofNat 1 := by rw [← h1]; exact (h.1.2.1 k hk).2.2.1
  rw [e_194]
  simp (disch := omega) only [↓ c_isn h.1.1 h.2.1 hk, ↓ mm, wr_all, wr_side, wr_call, qq_all, kk_194, B_194_0, B_194_1, B_194_2, B_194_3, B_194_4, B_194_5, B_194_6, B_194_7, B_194_8, B_194_9, B_194_10, B_194_11, B_194_12, mw_rd, mw_put, nn_clamp, nn_lt, nn_le, nn_eq, nn_lt0, nn_0le, nn_0lt, nn_le0, nn_eq0, nn_eq_1, nn_f1, nn_f0, nn_addn, nn_muln, nn_subn, nn_sub1, nn_nle, bi_1, bi_0, bi_fit, vu, io_all, Nat.reduceDiv, Nat.reduceMod, Nat.reduceBEq, Nat.reduceLeDiff, Nat.reduceEqDiff, Nat.reduceLT, Nat.reduceMul, Nat.reduceAdd, Nat.reduceSub, BEq.rfl, Bool.or_true, Bool.true_or, Bool.true_and, Bool.and_true, Bool.or_false, Bool.false_or, Bool.not_false, Bool.not_true, decide_false, decide_true, true_and, and_true, not_true_eq_false, not_false_eq_true, ↓reduceIte, Option.toList_some, Option.toList_none, List.cons_append, List.nil_append, am_sw, am_lk, List.toList_toArray, Int.reduceAdd, am_cats_cons, List.map_cons, List.map_nil, List.sum_cons, List.sum_nil, e6, zn_lt, zn_le, Bool.true_eq_false]
  (repeat' split) <;> first | rfl | (exfalso; omega)
theorem c_set_par {k : Nat} (h : MI n kd nm ag gv up dn cv bl vl go nq ex lf rt st sc ar) (hu : us = usF n kd ag go nq lf rt) (hk : k < n) (h2 : kd k = 2) (z1 : -2147483648 ≤ z) (z2 : z < 2147483648) :
    Ev PG (d + 7) 194 [.ref 33, .int (Int32.ofNat k), .int (Int32.ofInt z)] (mw sc ar la R) K = if -9 ≤ z ∧ z ≤ 9 ∧ (nm k = 112 → 0 ≤ z) ∧ (nm k = 113 → z ≤ 0) then K (some (.int (bi true))) (mw sc (va_up (mkA n up dn cv bl vl us ar) 10 (upd (ar 10) k (Int32.ofInt z))) la R) else K (some (.int (bi false))) (mw sc (mkA n up dn cv bl vl us ar) la R) := by
  have n36 := h.1.1
  have hn := (h.1.2.1 k hk).2.1
  have mm : Ev PG (d + 6) 179 [.ref 33] (mw sc ar la R) = fun K => K none (mw sc (mkA n up dn cv bl vl us ar) la R) := by funext K; rw [hu]; exact h.mark
  have e6 : mkA n up dn cv bl vl us ar 6 k = Int32.ofNat 2 := by rw [← h2]; exact (h.1.2.1 k hk).2.2.1
  have e7 : mkA n up dn cv bl vl us ar 7 k = Int32.ofNat (nm k) := (h.1.2.1 k hk).2.2.2.1
  rw [e_194]
  simp (disch := omega) only [↓ c_isn h.1.1 h.2.1 hk, ↓ mm, wr_all, wr_side, wr_call, qq_all, kk_194, B_194_0, B_194_1, B_194_2, B_194_3, B_194_4, B_194_5, B_194_6, B_194_7, B_194_8, B_194_9, B_194_10, B_194_11, B_194_12, mw_rd, mw_put, nn_clamp, nn_lt, nn_le, nn_eq, nn_lt0, nn_0le, nn_0lt, nn_le0, nn_eq0, nn_eq_1, nn_f1, nn_f0, nn_addn, nn_muln, nn_subn, nn_sub1, nn_nle, bi_1, bi_0, bi_fit, vu, io_all, Nat.reduceDiv, Nat.reduceMod, Nat.reduceBEq, Nat.reduceLeDiff, Nat.reduceEqDiff, Nat.reduceLT, Nat.reduceMul, Nat.reduceAdd, Nat.reduceSub, BEq.rfl, Bool.or_true, Bool.true_or, Bool.true_and, Bool.and_true, Bool.or_false, Bool.false_or, Bool.not_false, Bool.not_true, decide_false, decide_true, true_and, and_true, not_true_eq_false, not_false_eq_true, ↓reduceIte, Option.toList_some, Option.toList_none, List.cons_append, List.nil_append, am_sw, am_lk, List.toList_toArray, Int.reduceAdd, am_cats_cons, List.map_cons, List.map_nil, List.sum_cons, List.sum_nil, e6, e7, zn_lt, zn_le, z0_lt, z0_le, Bool.true_eq_false]
  (repeat' split) <;> first | rfl | (exfalso; omega)
theorem c_set_own {k : Nat} (h : MI n kd nm ag gv up dn cv bl vl go nq ex lf rt st sc ar) (hu : us = usF n kd ag go nq lf rt) (hk : k < n) (h1 : kd k ≠ 1) (h2 : kd k ≠ 2) (z1 : -2147483648 ≤ z) (z2 : z < 2147483648) :
    Ev PG (d + 7) 194 [.ref 33, .int (Int32.ofNat k), .int (Int32.ofInt z)] (mw sc ar la R) K = if st = true ∧ auF us kd cv k = true ∧ -1000000 ≤ z ∧ z ≤ 1000000 then K (some (.int (bi true))) (mw sc (va_up (mkA n up dn cv bl vl us ar) 24 (upd (ar 24) k (Int32.ofInt z))) la R) else K (some (.int (bi false))) (mw sc (mkA n up dn cv bl vl us ar) la R) := by
  have n36 := h.1.1
  have ht := (h.1.2.1 k hk).1
  have e34 := h.2.2.2.2.2.2.2
  have mm : Ev PG (d + 6) 179 [.ref 33] (mw sc ar la R) = fun K => K none (mw sc (mkA n up dn cv bl vl us ar) la R) := by funext K; rw [hu]; exact h.mark
  have e6 : mkA n up dn cv bl vl us ar 6 k = Int32.ofNat (kd k) := (h.1.2.1 k hk).2.2.1
  have au := fun K => c_auxiliary (d := d + 5) (sc := sc) (la := la) (R := R) (K := K) (h.mk (us := us)) hk
  rw [e_194]
  simp (disch := omega) only [↓ c_isn h.1.1 h.2.1 hk, ↓ mm, ↓ au, wr_all, wr_side, wr_call, qq_all, kk_194, B_194_0, B_194_1, B_194_2, B_194_3, B_194_4, B_194_5, B_194_6, B_194_7, B_194_8, B_194_9, B_194_10, B_194_11, B_194_12, mw_rd, mw_put, nn_clamp, nn_lt, nn_le, nn_eq, nn_lt0, nn_0le, nn_0lt, nn_le0, nn_eq0, nn_eq_1, nn_f1, nn_f0, nn_addn, nn_muln, nn_subn, nn_sub1, nn_nle, bi_1, bi_0, bi_fit, vu, io_all, Nat.reduceDiv, Nat.reduceMod, Nat.reduceBEq, Nat.reduceLeDiff, Nat.reduceEqDiff, Nat.reduceLT, Nat.reduceMul, Nat.reduceAdd, Nat.reduceSub, BEq.rfl, Bool.or_true, Bool.true_or, Bool.true_and, Bool.and_true, Bool.or_false, Bool.false_or, Bool.not_false, Bool.not_true, decide_false, decide_true, true_and, and_true, not_true_eq_false, not_false_eq_true, ↓reduceIte, Option.toList_some, Option.toList_none, List.cons_append, List.nil_append, am_sw, am_lk, List.toList_toArray, Int.reduceAdd, am_cats_cons, List.map_cons, List.map_nil, List.sum_cons, List.sum_nil, e6, e34, h1, h2, zn_lt, zn_le, z0_lt, z0_le, Bool.true_eq_false]
  cases st <;> cases auF us kd cv k <;> simp only [Bool.true_eq_false, Bool.false_eq_true, false_and, true_and, ↓reduceIte, show ((-1 : Int32) < 0) = True from by decide]
  · rfl
  · rfl
  · rfl
  · (repeat' split) <;> first | rfl | (exfalso; omega)
end M15
