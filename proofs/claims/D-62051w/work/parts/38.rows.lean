/-! THE MODEL's rows, counted. -/
def rwF (t : Nat) : Nat := if t = 11 ∨ t = 10 then 3 else 2
def sumF (f : Nat → Nat) : Nat → Nat
  | 0 => 0
  | m + 1 => sumF f m + f m
def rqF (ex : Nat → Bool) (c : Int32) (q : Nat) : Bool := decide (c = Int32.ofNat (if ex q = true then 0 else 1))
def rkF (us : Nat → Bool) (kd cv : Nat → Nat) (c : Int32) (k : Nat) : Nat := if auF us kd cv k = true ∧ c = Int32.ofNat (if kd k = 10 then 2 else 1) then rwF (kd k) else 0
def rcF (n nq : Nat) (ex us : Nat → Bool) (kd cv : Nat → Nat) (c : Int32) : Nat := cntF (rqF ex c) nq + sumF (rkF us kd cv c) n
theorem rkF_le (us : Nat → Bool) (kd cv : Nat → Nat) (c : Int32) (k : Nat) : rkF us kd cv c k ≤ 3 := by unfold rkF rwF; (repeat' split) <;> omega
theorem sumF_le {f : Nat → Nat} {b : Nat} (h : ∀ k, f k ≤ b) : ∀ m, sumF f m ≤ b * m
  | 0 => Nat.le_refl 0
  | m + 1 => by have := sumF_le h m; have := h m; rw [sumF, Nat.mul_succ]; omega
theorem rcF_le {n nq : Nat} {ex us : Nat → Bool} {kd cv : Nat → Nat} {c : Int32} (h : n ≤ 36) (hq : nq ≤ 6) : rcF n nq ex us kd cv c ≤ 114 := by
  have := cntF_le (rqF ex c) nq
  have := sumF_le (rkF_le us kd cv c) n
  unfold rcF
  omega
section M8
variable {d : Nat} {sc : Nat → Int32} {ar : Nat → Nat → Int32} {la : Nat → Nat → Int64} {R w : am_W} {K : Option Value → am_W → Prop}
variable {n nq : Nat} {kd nm lf rt : Nat → Nat} {ag : Nat → Nat → Nat} {up dn ex us : Nat → Bool} {cv bl : Nat → Nat} {vl gv : Nat → Int} {go : Option Nat}
theorem c_rowsOf {t : Nat} (h : t < 12) : Ev PG (d + 1) 187 [.int (Int32.ofNat t)] w K = K (some (.int (Int32.ofNat (rwF t)))) w := by
  rw [e_187]
  simp (disch := omega) only [wr_all, wr_side, wr_call, qq_all, kk_187, B_187_0, B_187_1, B_187_2, B_187_3, mw_rd, mw_put, nn_clamp, nn_lt, nn_le, nn_eq, nn_lt0, nn_0le, nn_0lt, nn_le0, nn_eq0, nn_eq_1, nn_f1, nn_f0, nn_addn, nn_muln, nn_subn, nn_sub1, nn_nle, bi_1, bi_0, bi_fit, vu, io_all, Nat.reduceDiv, Nat.reduceMod, Nat.reduceBEq, Nat.reduceLeDiff, Nat.reduceEqDiff, Nat.reduceLT, Nat.reduceMul, Nat.reduceAdd, Nat.reduceSub, BEq.rfl, Bool.or_true, Bool.true_or, Bool.true_and, Bool.and_true, Bool.or_false, Bool.false_or, Bool.not_false, Bool.not_true, decide_false, decide_true, true_and, and_true, not_true_eq_false, not_false_eq_true, ↓reduceIte, Option.toList_some, Option.toList_none, List.cons_append, List.nil_append, am_sw, am_lk, List.toList_toArray, Int.reduceAdd, am_cats_cons, List.map_cons, List.map_nil, List.sum_cons, List.sum_nil]
  unfold rwF
  by_cases y : t = 11 <;> by_cases z : t = 10 <;> simp [y, z]
theorem c_rowCount_k {c : Int32} {C : Nat} (hC : C ≤ 100) (h : MK n kd nm ag cv vl us ar) (e12 : sc 12 = Int32.ofNat n) :
    ∀ (m k : Nat), k + m = n → Wp PG (d + 1) cd_186 B_186_7 [.ref 33, .int c, .int (Int32.ofNat (C + sumF (rkF us kd cv c) k)), .int (Int32.ofNat k)] [] (mw sc ar la R) K
      = K (some (.int (Int32.ofNat (C + sumF (rkF us kd cv c) n)))) (mw sc ar la R) := by
  have h1 := h.1.1
  intro m
  induction m with
  | zero =>
    intro k e
    obtain rfl : k = n := by omega
    rw [B_186_7]
    simp (disch := omega) only [wr_all, wr_side, wr_call, qq_all, kk_186, B_186_0, B_186_2, B_186_3, B_186_4, B_186_5, B_186_6, B_186_8, B_186_9, B_186_10, B_186_11, B_186_12, mw_rd, mw_put, nn_clamp, nn_lt, nn_le, nn_eq, nn_lt0, nn_0le, nn_0lt, nn_le0, nn_eq0, nn_eq_1, nn_f1, nn_f0, nn_addn, nn_muln, nn_subn, nn_sub1, nn_nle, bi_1, bi_0, bi_fit, vu, io_all, Nat.reduceDiv, Nat.reduceMod, Nat.reduceBEq, Nat.reduceLeDiff, Nat.reduceEqDiff, Nat.reduceLT, Nat.reduceMul, Nat.reduceAdd, Nat.reduceSub, BEq.rfl, Bool.or_true, Bool.true_or, Bool.true_and, Bool.and_true, Bool.or_false, Bool.false_or, Bool.not_false, Bool.not_true, decide_false, decide_true, true_and, and_true, not_true_eq_false, not_false_eq_true, ↓reduceIte, Option.toList_some, Option.toList_none, List.cons_append, List.nil_append, am_sw, am_lk, List.toList_toArray, Int.reduceAdd, am_cats_cons, List.map_cons, List.map_nil, List.sum_cons, List.sum_nil, e12, Nat.le_refl]
  | succ m ih =>
    intro k e
    have nl : ¬ n ≤ k := by omega
    have hk : k < n := by omega
    have ht := (h.1.2.1 k hk).1
    have e6 := (h.1.2.1 k hk).2.2.1
    have sm := sumF_le (rkF_le us kd cv c) k
    rw [B_186_7]
    simp (disch := omega) only [↓ c_auxiliary h hk, ↓ c_rowsOf, wr_all, wr_side, wr_call, qq_all, kk_186, B_186_0, B_186_2, B_186_3, B_186_4, B_186_5, B_186_6, B_186_8, B_186_9, B_186_10, B_186_11, B_186_12, mw_rd, mw_put, nn_clamp, nn_lt, nn_le, nn_eq, nn_lt0, nn_0le, nn_0lt, nn_le0, nn_eq0, nn_eq_1, nn_f1, nn_f0, nn_addn, nn_muln, nn_subn, nn_sub1, nn_nle, bi_1, bi_0, bi_fit, vu, io_all, Nat.reduceDiv, Nat.reduceMod, Nat.reduceBEq, Nat.reduceLeDiff, Nat.reduceEqDiff, Nat.reduceLT, Nat.reduceMul, Nat.reduceAdd, Nat.reduceSub, BEq.rfl, Bool.or_true, Bool.true_or, Bool.true_and, Bool.and_true, Bool.or_false, Bool.false_or, Bool.not_false, Bool.not_true, decide_false, decide_true, true_and, and_true, not_true_eq_false, not_false_eq_true, ↓reduceIte, Option.toList_some, Option.toList_none, List.cons_append, List.nil_append, am_sw, am_lk, List.toList_toArray, Int.reduceAdd, am_cats_cons, List.map_cons, List.map_nil, List.sum_cons, List.sum_nil, e12, e6, nl]
    rw [← ih (k + 1) (by omega)]
    simp only [sumF, rkF]
    cases auF us kd cv k <;> by_cases y : kd k = 10 <;> by_cases z : c = Int32.ofNat (if kd k = 10 then 2 else 1) <;> simp only [y, ↓reduceIte] at z <;> simp only [y, z, ↓reduceIte, Bool.false_eq_true, false_and, true_and, Nat.add_assoc, Nat.add_zero, not_true_eq_false, not_false_eq_true, Bool.true_eq_false]
theorem c_rowCount_q {c : Int32} (h : MK n kd nm ag cv vl us ar) (hr : MR n nq ex lf rt sc ar) (e12 : sc 12 = Int32.ofNat n) :
    ∀ (m q : Nat), q + m = nq → Wp PG (d + 1) cd_186 B_186_1 [.ref 33, .int c, .int (Int32.ofNat (cntF (rqF ex c) q)), .int (Int32.ofNat q)] [] (mw sc ar la R) K
      = K (some (.int (Int32.ofNat (rcF n nq ex us kd cv c)))) (mw sc ar la R) := by
  have h1 := h.1.1
  obtain ⟨h6, e30, hq⟩ := hr
  intro m
  induction m with
  | zero =>
    intro q e
    obtain rfl : q = nq := by omega
    have cl := cntF_le (rqF ex c) q
    rw [rcF, ← c_rowCount_k (d := d) (sc := sc) (la := la) (R := R) (K := K) (C := cntF (rqF ex c) q) (by omega) h e12 n 0 (by omega), B_186_1]
    simp (disch := omega) only [wr_all, wr_side, wr_call, qq_all, kk_186, B_186_0, B_186_2, B_186_3, B_186_4, B_186_5, B_186_6, B_186_8, B_186_9, B_186_10, B_186_11, B_186_12, mw_rd, mw_put, nn_clamp, nn_lt, nn_le, nn_eq, nn_lt0, nn_0le, nn_0lt, nn_le0, nn_eq0, nn_eq_1, nn_f1, nn_f0, nn_addn, nn_muln, nn_subn, nn_sub1, nn_nle, bi_1, bi_0, bi_fit, vu, io_all, Nat.reduceDiv, Nat.reduceMod, Nat.reduceBEq, Nat.reduceLeDiff, Nat.reduceEqDiff, Nat.reduceLT, Nat.reduceMul, Nat.reduceAdd, Nat.reduceSub, BEq.rfl, Bool.or_true, Bool.true_or, Bool.true_and, Bool.and_true, Bool.or_false, Bool.false_or, Bool.not_false, Bool.not_true, decide_false, decide_true, true_and, and_true, not_true_eq_false, not_false_eq_true, ↓reduceIte, Option.toList_some, Option.toList_none, List.cons_append, List.nil_append, am_sw, am_lk, List.toList_toArray, Int.reduceAdd, am_cats_cons, List.map_cons, List.map_nil, List.sum_cons, List.sum_nil, e30, Nat.le_refl, sumF, Nat.add_zero]
  | succ m ih =>
    intro q e
    have nl : ¬ nq ≤ q := by omega
    obtain ⟨x1, x2, x3, x4, x5⟩ := hq q (by omega)
    have cl := cntF_le (rqF ex c) q
    rw [B_186_1]
    simp (disch := omega) only [wr_all, wr_side, wr_call, qq_all, kk_186, B_186_0, B_186_2, B_186_3, B_186_4, B_186_5, B_186_6, B_186_8, B_186_9, B_186_10, B_186_11, B_186_12, mw_rd, mw_put, nn_clamp, nn_lt, nn_le, nn_eq, nn_lt0, nn_0le, nn_0lt, nn_le0, nn_eq0, nn_eq_1, nn_f1, nn_f0, nn_addn, nn_muln, nn_subn, nn_sub1, nn_nle, bi_1, bi_0, bi_fit, vu, io_all, Nat.reduceDiv, Nat.reduceMod, Nat.reduceBEq, Nat.reduceLeDiff, Nat.reduceEqDiff, Nat.reduceLT, Nat.reduceMul, Nat.reduceAdd, Nat.reduceSub, BEq.rfl, Bool.or_true, Bool.true_or, Bool.true_and, Bool.and_true, Bool.or_false, Bool.false_or, Bool.not_false, Bool.not_true, decide_false, decide_true, true_and, and_true, not_true_eq_false, not_false_eq_true, ↓reduceIte, Option.toList_some, Option.toList_none, List.cons_append, List.nil_append, am_sw, am_lk, List.toList_toArray, Int.reduceAdd, am_cats_cons, List.map_cons, List.map_nil, List.sum_cons, List.sum_nil, e30, nl, x1]
    rw [← ih (q + 1) (by omega)]
    simp only [cntF, rqF]
    cases ex q <;> simp only [↓reduceIte, Bool.false_eq_true, Bool.true_eq_false]
    · by_cases z : c = Int32.ofNat 1 <;> simp only [z, ↓reduceIte, decide_true, decide_false, Bool.toNat_true, Bool.toNat_false, not_true_eq_false, not_false_eq_true]
    · by_cases z : c = Int32.ofNat 0 <;> simp only [z, ↓reduceIte, decide_true, decide_false, Bool.toNat_true, Bool.toNat_false, not_true_eq_false, not_false_eq_true]
theorem c_rowCount {c : Int32} (h : MK n kd nm ag cv vl us ar) (hr : MR n nq ex lf rt sc ar) (e12 : sc 12 = Int32.ofNat n) : Ev PG (d + 2) 186 [.ref 33, .int c] (mw sc ar la R) K = K (some (.int (Int32.ofNat (rcF n nq ex us kd cv c)))) (mw sc ar la R) := by
  rw [← c_rowCount_q (d := d) (la := la) (R := R) (K := K) h hr e12 nq 0 (by omega), e_186]
  simp (disch := omega) only [wr_all, wr_side, kk_186, B_186_0, io_all, cntF]
theorem c_allRows (h : MK n kd nm ag cv vl us ar) (hr : MR n nq ex lf rt sc ar) (e12 : sc 12 = Int32.ofNat n) : Ev PG (d + 3) 189 [.ref 33] (mw sc ar la R) K
    = K (some (.int (Int32.ofNat (rcF n nq ex us kd cv (Int32.ofNat 0) + rcF n nq ex us kd cv (Int32.ofNat 1) + rcF n nq ex us kd cv (Int32.ofNat 2))))) (mw sc ar la R) := by
  rw [e_189]
  simp (disch := omega) only [↓ c_rowCount h hr e12, wr_all, wr_side, wr_call, qq_all, kk_189, B_189_0, mw_rd, mw_put, nn_clamp, nn_lt, nn_le, nn_eq, nn_lt0, nn_0le, nn_0lt, nn_le0, nn_eq0, nn_eq_1, nn_f1, nn_f0, nn_addn, nn_muln, nn_subn, nn_sub1, nn_nle, bi_1, bi_0, bi_fit, vu, io_all, Nat.reduceDiv, Nat.reduceMod, Nat.reduceBEq, Nat.reduceLeDiff, Nat.reduceEqDiff, Nat.reduceLT, Nat.reduceMul, Nat.reduceAdd, Nat.reduceSub, BEq.rfl, Bool.or_true, Bool.true_or, Bool.true_and, Bool.and_true, Bool.or_false, Bool.false_or, Bool.not_false, Bool.not_true, decide_false, decide_true, true_and, and_true, not_true_eq_false, not_false_eq_true, ↓reduceIte, Option.toList_some, Option.toList_none, List.cons_append, List.nil_append, am_sw, am_lk, List.toList_toArray, Int.reduceAdd, am_cats_cons, List.map_cons, List.map_nil, List.sum_cons, List.sum_nil]
end M8
