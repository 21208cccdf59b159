/-! THE MODEL's form: column, rows, entry, set, lift. -/
def mkA (n : Nat) (up dn : Nat → Bool) (cv bl : Nat → Nat) (vl : Nat → Int) (us : Nat → Bool) (ar : Nat → Nat → Int32) : Nat → Nat → Int32 := va_up (ovA n up dn cv bl vl ar) 16 (ovB n (fun i => bi (us i)) (ar 16))
/-- what is known of the model between two calls -/
def MI (n : Nat) (kd nm : Nat → Nat) (ag : Nat → Nat → Nat) (gv : Nat → Int) (up dn : Nat → Bool) (cv bl : Nat → Nat) (vl : Nat → Int) (go : Option Nat) (nq : Nat) (ex : Nat → Bool) (lf rt : Nat → Nat) (st : Bool) (sc : Nat → Int32) (ar : Nat → Nat → Int32) : Prop :=
  MS n kd nm ag ar ∧ sc 12 = Int32.ofNat n ∧ (∀ k, k < n → ar 10 k = Int32.ofInt (gv k)) ∧ AF n kd nm ag gv up dn cv bl vl ∧ sc 28 = oi go ∧ (∀ g, go = some g → g < n) ∧ MR n nq ex lf rt sc ar ∧ sc 34 = bi st
theorem l2i_of (x : Int) : (Int64.ofInt x).toInt32 = Int32.ofInt x := by rw [Int64.toInt32_ofInt]
section M13
variable {d : Nat} {sc : Nat → Int32} {ar : Nat → Nat → Int32} {la : Nat → Nat → Int64} {R w : am_W} {K : Option Value → am_W → Prop}
variable {n nq : Nat} {kd nm lf rt : Nat → Nat} {ag : Nat → Nat → Nat} {up dn ex us : Nat → Bool} {cv bl : Nat → Nat} {vl gv ow ch lin : Nat → Int} {go : Option Nat} {st : Bool}
theorem MI.mark (h : MI n kd nm ag gv up dn cv bl vl go nq ex lf rt st sc ar) : Ev PG (d + 6) 179 [.ref 33] (mw sc ar la R) K = K none (mw sc (mkA n up dn cv bl vl (usF n kd ag go nq lf rt) ar) la R) := c_mark h.1 h.2.2.2.2.2.2.1 h.2.1 h.2.2.1 h.2.2.2.1 h.2.2.2.2.1 h.2.2.2.2.2.1
theorem MI.mk (h : MI n kd nm ag gv up dn cv bl vl go nq ex lf rt st sc ar) : MK n kd nm ag cv vl us (mkA n up dn cv bl vl us ar) := MK_mark h.1 h.2.2.2.1
theorem MI.mr (h : MI n kd nm ag gv up dn cv bl vl go nq ex lf rt st sc ar) : MR n nq ex lf rt sc (mkA n up dn cv bl vl us ar) := ⟨h.2.2.2.2.2.2.1.1, h.2.2.2.2.2.2.1.2.1, h.2.2.2.2.2.2.1.2.2⟩
theorem MI.leaf (h : MI n kd nm ag gv up dn cv bl vl go nq ex lf rt st sc ar) : ∀ k, k < n → (kd k = 0 ∨ kd k = 2) → cv k = 0 := fun k hk e => by
  rw [(h.2.2.2.1 k hk).2.2.1]
  rcases e with e | e <;> rw [e] <;> simp [cvF, ary]
theorem c_column {k : Nat} (h : MI n kd nm ag gv up dn cv bl vl go nq ex lf rt true sc ar) (hk : k < n) :
    Ev PG (d + 7) 183 [.ref 33, .int (Int32.ofNat k)] (mw sc ar la R) K = K (some (.int (oi (plF n (usF n kd ag go nq lf rt) kd cv k)))) (mw sc (mkA n up dn cv bl vl (usF n kd ag go nq lf rt) ar) la R) := by
  have e34 := h.2.2.2.2.2.2.2
  rw [e_183]
  simp (disch := omega) only [↓ c_isn h.1.1 h.2.1 hk, ↓ h.mark, ↓ c_place (sc := sc) h.mk h.2.1 hk, wr_all, wr_side, wr_call, qq_all, kk_183, B_183_0, B_183_1, B_183_2, mw_rd, mw_put, nn_clamp, nn_lt, nn_le, nn_eq, nn_lt0, nn_0le, nn_0lt, nn_le0, nn_eq0, nn_eq_1, nn_f1, nn_f0, nn_addn, nn_muln, nn_subn, nn_sub1, nn_nle, bi_1, bi_0, bi_fit, vu, io_all, Nat.reduceDiv, Nat.reduceMod, Nat.reduceBEq, Nat.reduceLeDiff, Nat.reduceEqDiff, Nat.reduceLT, Nat.reduceMul, Nat.reduceAdd, Nat.reduceSub, BEq.rfl, Bool.or_true, Bool.true_or, Bool.true_and, Bool.and_true, Bool.or_false, Bool.false_or, Bool.not_false, Bool.not_true, decide_false, decide_true, true_and, and_true, not_true_eq_false, not_false_eq_true, ↓reduceIte, Option.toList_some, Option.toList_none, List.cons_append, List.nil_append, am_sw, am_lk, List.toList_toArray, Int.reduceAdd, am_cats_cons, List.map_cons, List.map_nil, List.sum_cons, List.sum_nil, e34, Bool.true_eq_false]
theorem c_column_no {x : Int32} (h : MI n kd nm ag gv up dn cv bl vl go nq ex lf rt st sc ar) (hx : st = false ∨ ¬ (0 ≤ x ∧ x < Int32.ofNat n)) :
    Ev PG (d + 7) 183 [.ref 33, .int x] (mw sc ar la R) K = K (some (.int (-1))) (mw sc ar la R) := by
  have e34 := h.2.2.2.2.2.2.2
  rw [e_183]
  rcases nd_cases n x (by have := h.1.1; omega) with ⟨k, hk, rfl⟩ | hn
  · rcases hx with rfl | hx
    · simp (disch := omega) only [↓ c_isn h.1.1 h.2.1 hk, wr_all, wr_side, wr_call, qq_all, kk_183, B_183_0, B_183_1, B_183_2, mw_rd, mw_put, nn_clamp, nn_lt, nn_le, nn_eq, nn_lt0, nn_0le, nn_0lt, nn_le0, nn_eq0, nn_eq_1, nn_f1, nn_f0, nn_addn, nn_muln, nn_subn, nn_sub1, nn_nle, bi_1, bi_0, bi_fit, vu, io_all, Nat.reduceDiv, Nat.reduceMod, Nat.reduceBEq, Nat.reduceLeDiff, Nat.reduceEqDiff, Nat.reduceLT, Nat.reduceMul, Nat.reduceAdd, Nat.reduceSub, BEq.rfl, Bool.or_true, Bool.true_or, Bool.true_and, Bool.and_true, Bool.or_false, Bool.false_or, Bool.not_false, Bool.not_true, decide_false, decide_true, true_and, and_true, not_true_eq_false, not_false_eq_true, ↓reduceIte, Option.toList_some, Option.toList_none, List.cons_append, List.nil_append, am_sw, am_lk, List.toList_toArray, Int.reduceAdd, am_cats_cons, List.map_cons, List.map_nil, List.sum_cons, List.sum_nil, e34, Bool.true_eq_false]
    · exact absurd (by have := h.1.1; simp (disch := omega) only [nn_0le, nn_lt, hk, and_self]) hx
  · simp (disch := omega) only [↓ c_isno h.1.1 h.2.1 hn, wr_all, wr_side, wr_call, qq_all, kk_183, B_183_0, B_183_1, B_183_2, mw_rd, mw_put, nn_clamp, nn_lt, nn_le, nn_eq, nn_lt0, nn_0le, nn_0lt, nn_le0, nn_eq0, nn_eq_1, nn_f1, nn_f0, nn_addn, nn_muln, nn_subn, nn_sub1, nn_nle, bi_1, bi_0, bi_fit, vu, io_all, Nat.reduceDiv, Nat.reduceMod, Nat.reduceBEq, Nat.reduceLeDiff, Nat.reduceEqDiff, Nat.reduceLT, Nat.reduceMul, Nat.reduceAdd, Nat.reduceSub, BEq.rfl, Bool.or_true, Bool.true_or, Bool.true_and, Bool.and_true, Bool.or_false, Bool.false_or, Bool.not_false, Bool.not_true, decide_false, decide_true, true_and, and_true, not_true_eq_false, not_false_eq_true, ↓reduceIte, Option.toList_some, Option.toList_none, List.cons_append, List.nil_append, am_sw, am_lk, List.toList_toArray, Int.reduceAdd, am_cats_cons, List.map_cons, List.map_nil, List.sum_cons, List.sum_nil]
theorem c_rows {c : Int32} (h : MI n kd nm ag gv up dn cv bl vl go nq ex lf rt true sc ar) :
    Ev PG (d + 7) 185 [.ref 33, .int c] (mw sc ar la R) K = K (some (.int (Int32.ofNat (rcF n nq ex (usF n kd ag go nq lf rt) kd cv c)))) (mw sc (mkA n up dn cv bl vl (usF n kd ag go nq lf rt) ar) la R) := by
  have e34 := h.2.2.2.2.2.2.2
  rw [e_185]
  simp (disch := omega) only [↓ h.mark, ↓ c_rowCount (sc := sc) h.mk h.mr h.2.1, wr_all, wr_side, wr_call, qq_all, kk_185, B_185_0, B_185_1, mw_rd, mw_put, nn_clamp, nn_lt, nn_le, nn_eq, nn_lt0, nn_0le, nn_0lt, nn_le0, nn_eq0, nn_eq_1, nn_f1, nn_f0, nn_addn, nn_muln, nn_subn, nn_sub1, nn_nle, bi_1, bi_0, bi_fit, vu, io_all, Nat.reduceDiv, Nat.reduceMod, Nat.reduceBEq, Nat.reduceLeDiff, Nat.reduceEqDiff, Nat.reduceLT, Nat.reduceMul, Nat.reduceAdd, Nat.reduceSub, BEq.rfl, Bool.or_true, Bool.true_or, Bool.true_and, Bool.and_true, Bool.or_false, Bool.false_or, Bool.not_false, Bool.not_true, decide_false, decide_true, true_and, and_true, not_true_eq_false, not_false_eq_true, ↓reduceIte, Option.toList_some, Option.toList_none, List.cons_append, List.nil_append, am_sw, am_lk, List.toList_toArray, Int.reduceAdd, am_cats_cons, List.map_cons, List.map_nil, List.sum_cons, List.sum_nil, e34, Bool.true_eq_false]
theorem c_rows_no {c : Int32} (h : MI n kd nm ag gv up dn cv bl vl go nq ex lf rt false sc ar) :
    Ev PG (d + 7) 185 [.ref 33, .int c] (mw sc ar la R) K = K (some (.int (Int32.ofNat 0))) (mw sc ar la R) := by
  have e34 := h.2.2.2.2.2.2.2
  rw [e_185]
  simp (disch := omega) only [wr_all, wr_side, wr_call, qq_all, kk_185, B_185_0, B_185_1, mw_rd, mw_put, nn_clamp, nn_lt, nn_le, nn_eq, nn_lt0, nn_0le, nn_0lt, nn_le0, nn_eq0, nn_eq_1, nn_f1, nn_f0, nn_addn, nn_muln, nn_subn, nn_sub1, nn_nle, bi_1, bi_0, bi_fit, vu, io_all, Nat.reduceDiv, Nat.reduceMod, Nat.reduceBEq, Nat.reduceLeDiff, Nat.reduceEqDiff, Nat.reduceLT, Nat.reduceMul, Nat.reduceAdd, Nat.reduceSub, BEq.rfl, Bool.or_true, Bool.true_or, Bool.true_and, Bool.and_true, Bool.or_false, Bool.false_or, Bool.not_false, Bool.not_true, decide_false, decide_true, true_and, and_true, not_true_eq_false, not_false_eq_true, ↓reduceIte, Option.toList_some, Option.toList_none, List.cons_append, List.nil_append, am_sw, am_lk, List.toList_toArray, Int.reduceAdd, am_cats_cons, List.map_cons, List.map_nil, List.sum_cons, List.sum_nil, e34]
theorem c_entry_no {r c : Int32} (h : MI n kd nm ag gv up dn cv bl vl go nq ex lf rt false sc ar) :
    Ev PG (d + 9) 188 [.ref 33, .int r, .int c] (mw sc ar la R) K = K (some (.int (Int32.ofNat 0))) (mw sc ar la R) := by
  have e34 := h.2.2.2.2.2.2.2
  rw [e_188]
  simp (disch := omega) only [wr_all, wr_side, wr_call, qq_all, kk_188, B_188_0, B_188_1, B_188_2, B_188_3, B_188_4, mw_rd, mw_put, nn_clamp, nn_lt, nn_le, nn_eq, nn_lt0, nn_0le, nn_0lt, nn_le0, nn_eq0, nn_eq_1, nn_f1, nn_f0, nn_addn, nn_muln, nn_subn, nn_sub1, nn_nle, bi_1, bi_0, bi_fit, vu, io_all, Nat.reduceDiv, Nat.reduceMod, Nat.reduceBEq, Nat.reduceLeDiff, Nat.reduceEqDiff, Nat.reduceLT, Nat.reduceMul, Nat.reduceAdd, Nat.reduceSub, BEq.rfl, Bool.or_true, Bool.true_or, Bool.true_and, Bool.and_true, Bool.or_false, Bool.false_or, Bool.not_false, Bool.not_true, decide_false, decide_true, true_and, and_true, not_true_eq_false, not_false_eq_true, ↓reduceIte, Option.toList_some, Option.toList_none, List.cons_append, List.nil_append, am_sw, am_lk, List.toList_toArray, Int.reduceAdd, am_cats_cons, List.map_cons, List.map_nil, List.sum_cons, List.sum_nil, e34]
/-- all rows; all columns -/
def arF (n nq : Nat) (ex us : Nat → Bool) (kd cv : Nat → Nat) : Nat := rcF n nq ex us kd cv (Int32.ofNat 0) + rcF n nq ex us kd cv (Int32.ofNat 1) + rcF n nq ex us kd cv (Int32.ofNat 2)
def ncF (n : Nat) (us : Nat → Bool) (kd cv : Nat → Nat) : Nat := cntF (fun q => vaF us kd q || auF us kd cv q) n
theorem c_entry_out {r c : Int32} (h : MI n kd nm ag gv up dn cv bl vl go nq ex lf rt true sc ar) (hu : us = usF n kd ag go nq lf rt) (ho : r < -1 ∨ Int32.ofNat (arF n nq ex us kd cv) ≤ r ∨ c < -1 ∨ Int32.ofNat (ncF n us kd cv) ≤ c) :
    Ev PG (d + 9) 188 [.ref 33, .int r, .int c] (mw sc ar la R) K = K (some (.int (Int32.ofNat 0))) (mw sc (mkA n up dn cv bl vl us ar) la R) := by
  have e34 := h.2.2.2.2.2.2.2
  subst hu
  rw [e_188]
  simp (disch := omega) only [↓ h.mark, ↓ c_allRows (sc := sc) h.mk h.mr h.2.1, ↓ c_columns (sc := sc) h.mk h.2.1, wr_all, wr_side, wr_call, qq_all, kk_188, B_188_0, B_188_1, B_188_2, B_188_3, B_188_4, mw_rd, mw_put, nn_clamp, nn_lt, nn_le, nn_eq, nn_lt0, nn_0le, nn_0lt, nn_le0, nn_eq0, nn_eq_1, nn_f1, nn_f0, nn_addn, nn_muln, nn_subn, nn_sub1, nn_nle, bi_1, bi_0, bi_fit, vu, io_all, Nat.reduceDiv, Nat.reduceMod, Nat.reduceBEq, Nat.reduceLeDiff, Nat.reduceEqDiff, Nat.reduceLT, Nat.reduceMul, Nat.reduceAdd, Nat.reduceSub, BEq.rfl, Bool.or_true, Bool.true_or, Bool.true_and, Bool.and_true, Bool.or_false, Bool.false_or, Bool.not_false, Bool.not_true, decide_false, decide_true, true_and, and_true, not_true_eq_false, not_false_eq_true, ↓reduceIte, Option.toList_some, Option.toList_none, List.cons_append, List.nil_append, am_sw, am_lk, List.toList_toArray, Int.reduceAdd, am_cats_cons, List.map_cons, List.map_nil, List.sum_cons, List.sum_nil, e34, Bool.true_eq_false]
  by_cases y1 : r < -1
  · simp only [y1, ↓reduceIte]
  by_cases y2 : Int32.ofNat (arF n nq ex (usF n kd ag go nq lf rt) kd cv) ≤ r
  · have y2' := y2
    rw [arF] at y2'
    simp only [y1, y2', ↓reduceIte]
  have y2' := y2
  rw [arF] at y2'
  by_cases y3 : c < -1
  · simp only [y1, y2', y3, ↓reduceIte]
  by_cases y4 : Int32.ofNat (ncF n (usF n kd ag go nq lf rt) kd cv) ≤ c
  · have y4' : ¬ c < Int32.ofNat (cntF (fun q => vaF (usF n kd ag go nq lf rt) kd q || auF (usF n kd ag go nq lf rt) kd cv q) n) := by rw [ncF] at y4; grind
    simp only [y1, y2', y3, y4', ↓reduceIte]
  · exact absurd ho (by simp only [y1, y2, y3, y4, or_self, not_false_eq_true])
end M13
