/-! THE MODEL's entry, cost, lift, set. -/
section M14
variable {d : Nat} {sc : Nat → Int32} {ar : Nat → Nat → Int32} {la : Nat → Nat → Int64} {R w : am_W} {K : Option Value → am_W → Prop}
variable {n nq : Nat} {kd nm lf rt : Nat → Nat} {ag : Nat → Nat → Nat} {up dn ex us : Nat → Bool} {cv bl : Nat → Nat} {vl gv ow ch lin lin' : Nat → Int} {go : Option Nat} {st : Bool}
def chC (n : Nat) (us : Nat → Bool) (kd cv : Nat → Nat) (c : Int32) (k : Nat) : Int := if oi (plF n us kd cv k) = c then 1 else 0
theorem MI.expand {c : Int32} (h : MI n kd nm ag gv up dn cv bl vl go nq ex lf rt true sc ar) (hc : ¬ c = -2) (L : ∀ k, k < n → lin k = lnF us kd cv ag vl (chC n us kd cv c) lin k) :
    Ev PG (d + 4) 190 [.ref 33, .int c] (mw sc (mkA n up dn cv bl vl us ar) la R) K = K none (mw sc (mkA n up dn cv bl vl us ar) (va_up la 20 (ovL n lin (la 20))) R) :=
  c_expand h.mk h.2.1 h.leaf (fun k hk la K => c_chosen_col hc h.mk h.2.1 hk) L
theorem c_entry {r c : Int32} {rv : (Nat → Int) → Int} (h : MI n kd nm ag gv up dn cv bl vl go nq ex lf rt true sc ar) (hu : us = usF n kd ag go nq lf rt) (y1 : ¬ r < -1) (y2 : ¬ Int32.ofNat (arF n nq ex us kd cv) ≤ r) (y3 : ¬ c < -1) (y4 : ¬ Int32.ofNat (ncF n us kd cv) ≤ c)
    (hrv : ∀ lin la, (∀ i, i < n → la 20 i = Int64.ofInt (lin i)) → ∀ K, Ev PG (d + 8) 192 [.ref 33, .int r] (mw sc (mkA n up dn cv bl vl us ar) la R) K = K (some (.long (Int64.ofInt (rv lin)))) (mw sc (mkA n up dn cv bl vl us ar) la R))
    (L0 : ∀ k, k < n → lin k = lnF us kd cv ag vl (chC n us kd cv (-1)) lin k) (L1 : ∀ k, k < n → lin' k = lnF us kd cv ag vl (chC n us kd cv c) lin' k) :
    Ev PG (d + 9) 188 [.ref 33, .int r, .int c] (mw sc ar la R) K = if c = -1 then K (some (.int (Int32.ofInt (rv lin)))) (mw sc (mkA n up dn cv bl vl us ar) (va_up la 20 (ovL n lin (la 20))) R)
      else K (some (.int (Int32.ofInt (rv lin' - rv lin)))) (mw sc (mkA n up dn cv bl vl us ar) (va_up la 20 (ovL n lin' (ovL n lin (la 20)))) R) := by
  have e34 := h.2.2.2.2.2.2.2
  have c2 : ¬ c = -2 := fun e => y3 (by rw [e]; decide)
  have r0 := hrv lin (va_up la 20 (ovL n lin (la 20))) (fun i hi => by simp [vu, ovL, hi])
  have r1 := hrv lin' (va_up la 20 (ovL n lin' (ovL n lin (la 20)))) (fun i hi => by simp [vu, ovL, hi])
  have x1 := fun K => MI.expand (d := d + 4) (c := -1) (la := la) (R := R) (K := K) h (by decide) L0
  have x2 := fun K => MI.expand (d := d + 4) (la := va_up la 20 (ovL n lin (la 20))) (R := R) (K := K) h c2 L1
  simp only [uu_5, vu, ↓reduceIte] at x2
  have y2' := y2
  have y4' : c < Int32.ofNat (cntF (fun q => vaF us kd q || auF us kd cv q) n) := by rw [ncF] at y4; grind
  rw [arF] at y2'
  have mm : Ev PG (d + 8) 179 [.ref 33] (mw sc ar la R) = fun K => K none (mw sc (mkA n up dn cv bl vl us ar) la R) := by funext K; rw [hu]; exact h.mark
  have m1 := fun K => c_allRows (d := d + 5) (sc := sc) (la := la) (R := R) (K := K) (h.mk (us := us)) (h.mr (us := us)) h.2.1
  have m2 := fun K => c_columns (d := d + 6) (sc := sc) (la := la) (R := R) (K := K) (h.mk (us := us)) h.2.1
  rw [e_188]
  simp (disch := omega) only [↓ mm, ↓ m1, ↓ m2, ↓ r0, ↓ r1, ↓ x1, ↓ x2, wr_all, wr_side, wr_call, qq_all, kk_188, B_188_0, B_188_1, B_188_2, B_188_3, B_188_4, mw_rd, mw_put, nn_clamp, nn_lt, nn_le, nn_eq, nn_lt0, nn_0le, nn_0lt, nn_le0, nn_eq0, nn_eq_1, nn_f1, nn_f0, nn_addn, nn_muln, nn_subn, nn_sub1, nn_nle, bi_1, bi_0, bi_fit, vu, io_all, Nat.reduceDiv, Nat.reduceMod, Nat.reduceBEq, Nat.reduceLeDiff, Nat.reduceEqDiff, Nat.reduceLT, Nat.reduceMul, Nat.reduceAdd, Nat.reduceSub, BEq.rfl, Bool.or_true, Bool.true_or, Bool.true_and, Bool.and_true, Bool.or_false, Bool.false_or, Bool.not_false, Bool.not_true, decide_false, decide_true, true_and, and_true, not_true_eq_false, not_false_eq_true, ↓reduceIte, Option.toList_some, Option.toList_none, List.cons_append, List.nil_append, am_sw, am_lk, List.toList_toArray, Int.reduceAdd, am_cats_cons, List.map_cons, List.map_nil, List.sum_cons, List.sum_nil, e34, Bool.true_eq_false, y1, y2', y3, y4', nl_sub, l2i_of]
  by_cases z : c = -1 <;> simp only [z, ↓reduceIte, not_true_eq_false, not_false_eq_true]
theorem c_cost {g : Nat} {le : Bool} (h : MI n kd nm ag gv up dn cv bl vl (some g) nq ex lf rt true sc ar) (hu : us = usF n kd ag (some g) nq lf rt) (e29 : sc 29 = bi le)
    (hgv : ∀ k, k < n → -2147483648 ≤ gv k ∧ gv k < 2147483648) (ho : ∀ k, k < n → ar 24 k = Int32.ofInt (ow k) ∧ -2147483648 ≤ ow k ∧ ow k < 2147483648)
    (L : ∀ k, k < n → lin k = lnF us kd cv ag vl (fun k => if vaF us kd k = true then gv k else ow k) lin k) :
    Ev PG (d + 9) 198 [.ref 33] (mw sc ar la R) K = K (some (.long (Int64.ofInt (if le = true then lin g else - lin g)))) (mw sc (mkA n up dn cv bl vl us ar) (va_up la 20 (ovL n lin (la 20))) R) := by
  have e34 := h.2.2.2.2.2.2.2
  have mm : Ev PG (d + 8) 179 [.ref 33] (mw sc ar la R) = fun K => K none (mw sc (mkA n up dn cv bl vl us ar) la R) := by funext K; rw [hu]; exact h.mark
  have xe := fun K => c_expand (d := d + 4) (c := -2) (sc := sc) (la := la) (R := R) (K := K) (h.mk (us := us)) h.2.1 h.leaf (fun k hk la K => c_chosen_own h.mk hk ⟨h.2.2.1 k hk, hgv k hk⟩ (ho k hk)) L
  have rv := fun K => c_rowValue_goal (d := d + 6) (ar := mkA n up dn cv bl vl us ar) (la := va_up la 20 (ovL n lin (la 20))) (R := R) (K := K) (sc := sc) (le := le) h.1.1 (show sc 28 = Int32.ofNat g from h.2.2.2.2.1) e29 (h.2.2.2.2.2.1 g rfl) (lin := lin) (fun i hi => by simp [vu, ovL, hi])
  rw [e_198]
  simp (disch := omega) only [↓ mm, ↓ xe, ↓ rv, wr_all, wr_side, wr_call, qq_all, kk_198, B_198_0, B_198_1, mw_rd, mw_put, nn_clamp, nn_lt, nn_le, nn_eq, nn_lt0, nn_0le, nn_0lt, nn_le0, nn_eq0, nn_eq_1, nn_f1, nn_f0, nn_addn, nn_muln, nn_subn, nn_sub1, nn_nle, bi_1, bi_0, bi_fit, vu, io_all, Nat.reduceDiv, Nat.reduceMod, Nat.reduceBEq, Nat.reduceLeDiff, Nat.reduceEqDiff, Nat.reduceLT, Nat.reduceMul, Nat.reduceAdd, Nat.reduceSub, BEq.rfl, Bool.or_true, Bool.true_or, Bool.true_and, Bool.and_true, Bool.or_false, Bool.false_or, Bool.not_false, Bool.not_true, decide_false, decide_true, true_and, and_true, not_true_eq_false, not_false_eq_true, ↓reduceIte, Option.toList_some, Option.toList_none, List.cons_append, List.nil_append, am_sw, am_lk, List.toList_toArray, Int.reduceAdd, am_cats_cons, List.map_cons, List.map_nil, List.sum_cons, List.sum_nil, e34, Bool.true_eq_false]
theorem c_cost_no (h : MI n kd nm ag gv up dn cv bl vl go nq ex lf rt false sc ar) : Ev PG (d + 9) 198 [.ref 33] (mw sc ar la R) K = K (some (.long (Int64.ofInt 0))) (mw sc ar la R) := by
  have e34 := h.2.2.2.2.2.2.2
  rw [e_198]
  simp (disch := omega) only [wr_all, wr_side, wr_call, qq_all, kk_198, B_198_0, B_198_1, mw_rd, mw_put, nn_clamp, nn_lt, nn_le, nn_eq, nn_lt0, nn_0le, nn_0lt, nn_le0, nn_eq0, nn_eq_1, nn_f1, nn_f0, nn_addn, nn_muln, nn_subn, nn_sub1, nn_nle, bi_1, bi_0, bi_fit, vu, io_all, Nat.reduceDiv, Nat.reduceMod, Nat.reduceBEq, Nat.reduceLeDiff, Nat.reduceEqDiff, Nat.reduceLT, Nat.reduceMul, Nat.reduceAdd, Nat.reduceSub, BEq.rfl, Bool.or_true, Bool.true_or, Bool.true_and, Bool.and_true, Bool.or_false, Bool.false_or, Bool.not_false, Bool.not_true, decide_false, decide_true, true_and, and_true, not_true_eq_false, not_false_eq_true, ↓reduceIte, Option.toList_some, Option.toList_none, List.cons_append, List.nil_append, am_sw, am_lk, List.toList_toArray, Int.reduceAdd, am_cats_cons, List.map_cons, List.map_nil, List.sum_cons, List.sum_nil, e34]
theorem c_lift_l (h1 : n ≤ 36) (e12 : sc 12 = Int32.ofNat n) (hv : ∀ i, i < n → ar 15 i = Int32.ofInt (vl i)) :
    ∀ (m k : Nat), k + m = n → Wp PG d cd_195 B_195_2 [.ref 33, .int (Int32.ofNat k)] [] (mw sc (va_up ar 24 (ovB k (fun i => Int32.ofInt (vl i)) (ar 24))) la R) K = K (some (.int (bi true))) (mw sc (va_up ar 24 (ovB n (fun i => Int32.ofInt (vl i)) (ar 24))) la R) := by
  intro m
  induction m with
  | zero =>
    intro k e
    obtain rfl : k = n := by omega
    rw [B_195_2]
    simp (disch := omega) only [wr_all, wr_side, wr_call, qq_all, kk_195, B_195_0, B_195_1, B_195_3, mw_rd, mw_put, nn_clamp, nn_lt, nn_le, nn_eq, nn_lt0, nn_0le, nn_0lt, nn_le0, nn_eq0, nn_eq_1, nn_f1, nn_f0, nn_addn, nn_muln, nn_subn, nn_sub1, nn_nle, bi_1, bi_0, bi_fit, vu, io_all, Nat.reduceDiv, Nat.reduceMod, Nat.reduceBEq, Nat.reduceLeDiff, Nat.reduceEqDiff, Nat.reduceLT, Nat.reduceMul, Nat.reduceAdd, Nat.reduceSub, BEq.rfl, Bool.or_true, Bool.true_or, Bool.true_and, Bool.and_true, Bool.or_false, Bool.false_or, Bool.not_false, Bool.not_true, decide_false, decide_true, true_and, and_true, not_true_eq_false, not_false_eq_true, ↓reduceIte, Option.toList_some, Option.toList_none, List.cons_append, List.nil_append, am_sw, am_lk, List.toList_toArray, Int.reduceAdd, am_cats_cons, List.map_cons, List.map_nil, List.sum_cons, List.sum_nil, e12, Nat.le_refl]
    rfl
  | succ m ih =>
    intro k e
    have nl : ¬ n ≤ k := by omega
    rw [B_195_2]
    simp (disch := omega) only [wr_all, wr_side, wr_call, qq_all, kk_195, B_195_0, B_195_1, B_195_3, mw_rd, mw_put, nn_clamp, nn_lt, nn_le, nn_eq, nn_lt0, nn_0le, nn_0lt, nn_le0, nn_eq0, nn_eq_1, nn_f1, nn_f0, nn_addn, nn_muln, nn_subn, nn_sub1, nn_nle, bi_1, bi_0, bi_fit, vu, io_all, Nat.reduceDiv, Nat.reduceMod, Nat.reduceBEq, Nat.reduceLeDiff, Nat.reduceEqDiff, Nat.reduceLT, Nat.reduceMul, Nat.reduceAdd, Nat.reduceSub, BEq.rfl, Bool.or_true, Bool.true_or, Bool.true_and, Bool.and_true, Bool.or_false, Bool.false_or, Bool.not_false, Bool.not_true, decide_false, decide_true, true_and, and_true, not_true_eq_false, not_false_eq_true, ↓reduceIte, Option.toList_some, Option.toList_none, List.cons_append, List.nil_append, am_sw, am_lk, List.toList_toArray, Int.reduceAdd, am_cats_cons, List.map_cons, List.map_nil, List.sum_cons, List.sum_nil, e12, nl, hv, uu_1]
    rw [← ih (k + 1) (by omega), ← ovB_s]
theorem c_lift (h : MI n kd nm ag gv up dn cv bl vl go nq ex lf rt true sc ar) : Ev PG (d + 6) 195 [.ref 33] (mw sc ar la R) K = K (some (.int (bi true))) (mw sc (va_up (ovA n up dn cv bl vl ar) 24 (ovB n (fun i => Int32.ofInt (vl i)) (ar 24))) la R) := by
  have e34 := h.2.2.2.2.2.2.2
  have q := c_lift_l (d := d + 5) (sc := sc) (la := la) (R := R) (K := K) (ar := ovA n up dn cv bl vl ar) h.1.1 h.2.1 (fun i hi => (ovA_rd hi).2.2.2.2) n 0 (by omega)
  refine Eq.trans ?_ q
  rw [e_195, ovB_0, uu_4]
  simp (disch := omega) only [↓ c_work h.1 h.2.1 h.2.2.1 h.2.2.2.1, wr_all, wr_side, wr_call, qq_all, mw_rd, kk_195, B_195_0, B_195_1, bi_0, io_all, Nat.reduceDiv, Nat.reduceMod, Nat.reduceBEq, Nat.reduceLeDiff, Nat.reduceEqDiff, Nat.reduceLT, Nat.reduceMul, Nat.reduceAdd, Nat.reduceSub, BEq.rfl, Bool.or_true, Bool.true_or, Bool.true_and, Bool.and_true, Bool.or_false, Bool.false_or, Bool.not_false, Bool.not_true, decide_false, decide_true, true_and, and_true, not_true_eq_false, not_false_eq_true, ↓reduceIte, Option.toList_some, Option.toList_none, List.cons_append, List.nil_append, am_sw, am_lk, List.toList_toArray, Int.reduceAdd, am_cats_cons, List.map_cons, List.map_nil, List.sum_cons, List.sum_nil, e34, Bool.true_eq_false]
theorem c_lift_no (h : MI n kd nm ag gv up dn cv bl vl go nq ex lf rt false sc ar) : Ev PG (d + 6) 195 [.ref 33] (mw sc ar la R) K = K (some (.int (bi false))) (mw sc ar la R) := by
  have e34 := h.2.2.2.2.2.2.2
  rw [e_195]
  simp (disch := omega) only [wr_all, wr_side, wr_call, qq_all, kk_195, B_195_0, B_195_1, B_195_3, mw_rd, mw_put, nn_clamp, nn_lt, nn_le, nn_eq, nn_lt0, nn_0le, nn_0lt, nn_le0, nn_eq0, nn_eq_1, nn_f1, nn_f0, nn_addn, nn_muln, nn_subn, nn_sub1, nn_nle, bi_1, bi_0, bi_fit, vu, io_all, Nat.reduceDiv, Nat.reduceMod, Nat.reduceBEq, Nat.reduceLeDiff, Nat.reduceEqDiff, Nat.reduceLT, Nat.reduceMul, Nat.reduceAdd, Nat.reduceSub, BEq.rfl, Bool.or_true, Bool.true_or, Bool.true_and, Bool.and_true, Bool.or_false, Bool.false_or, Bool.not_false, Bool.not_true, decide_false, decide_true, true_and, and_true, not_true_eq_false, not_false_eq_true, ↓reduceIte, Option.toList_some, Option.toList_none, List.cons_append, List.nil_append, am_sw, am_lk, List.toList_toArray, Int.reduceAdd, am_cats_cons, List.map_cons, List.map_nil, List.sum_cons, List.sum_nil, e34]
  rfl
end M14
