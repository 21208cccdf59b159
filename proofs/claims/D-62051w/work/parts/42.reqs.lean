/-! THE MODEL's requirements, the wrong part. -/
section M12
variable {d : Nat} {sc : Nat → Int32} {ar : Nat → Nat → Int32} {la : Nat → Nat → Int64} {R w : am_W} {K : Option Value → am_W → Prop}
variable {n nq : Nat} {kd nm lf rt : Nat → Nat} {ag : Nat → Nat → Nat} {up dn ex us : Nat → Bool} {cv bl : Nat → Nat} {vl gv ow ch lin : Nat → Int} {go : Option Nat} {st : Bool}
theorem c_require {a b : Nat} {s : Bool} (h1 : n ≤ 36) (e12 : sc 12 = Int32.ofNat n) (e30 : sc 30 = Int32.ofNat nq) (hq : nq < 6) (ha : a < n) (hb : b < n) :
    Ev PG (d + 2) 173 [.ref 33, .int (bi s), .int (Int32.ofNat a), .int (Int32.ofNat b)] (mw sc ar la R) K = K (some (.int (bi true))) (mw (upd (upd sc 30 (Int32.ofNat (nq + 1))) 34 (bi false)) (va_up (va_up (va_up ar 21 (upd (ar 21) nq (bi s))) 22 (upd (ar 22) nq (Int32.ofNat a))) 23 (upd (ar 23) nq (Int32.ofNat b))) la R) := by
  have n6 : ¬ nq = 6 := by omega
  rw [e_173]
  simp (disch := omega) only [↓ c_isn h1 e12 ha, ↓ c_isn h1 e12 hb, wr_all, wr_side, wr_call, qq_all, kk_173, B_173_0, B_173_1, B_173_2, mw_rd, mw_put, nn_clamp, nn_lt, nn_le, nn_eq, nn_lt0, nn_0le, nn_0lt, nn_le0, nn_eq0, nn_eq_1, nn_f1, nn_f0, nn_addn, nn_muln, nn_subn, nn_sub1, nn_nle, bi_1, bi_0, bi_fit, vu, io_all, Nat.reduceDiv, Nat.reduceMod, Nat.reduceBEq, Nat.reduceLeDiff, Nat.reduceEqDiff, Nat.reduceLT, Nat.reduceMul, Nat.reduceAdd, Nat.reduceSub, BEq.rfl, Bool.or_true, Bool.true_or, Bool.true_and, Bool.and_true, Bool.or_false, Bool.false_or, Bool.not_false, Bool.not_true, decide_false, decide_true, true_and, and_true, not_true_eq_false, not_false_eq_true, ↓reduceIte, Option.toList_some, Option.toList_none, List.cons_append, List.nil_append, am_sw, am_lk, List.toList_toArray, Int.reduceAdd, am_cats_cons, List.map_cons, List.map_nil, List.sum_cons, List.sum_nil, e30, n6, Bool.true_eq_false, nb_bi]
  rfl
theorem c_require_full {a b : Nat} {s : Bool} (h1 : n ≤ 36) (e12 : sc 12 = Int32.ofNat n) (e30 : sc 30 = Int32.ofNat 6) (ha : a < n) (hb : b < n) :
    Ev PG (d + 2) 173 [.ref 33, .int (bi s), .int (Int32.ofNat a), .int (Int32.ofNat b)] (mw sc ar la R) K = K (some (.int (bi false))) (mw sc ar la R) := by
  rw [e_173]
  simp (disch := omega) only [↓ c_isn h1 e12 ha, ↓ c_isn h1 e12 hb, wr_all, wr_side, wr_call, qq_all, kk_173, B_173_0, B_173_1, B_173_2, mw_rd, mw_put, nn_clamp, nn_lt, nn_le, nn_eq, nn_lt0, nn_0le, nn_0lt, nn_le0, nn_eq0, nn_eq_1, nn_f1, nn_f0, nn_addn, nn_muln, nn_subn, nn_sub1, nn_nle, bi_1, bi_0, bi_fit, vu, io_all, Nat.reduceDiv, Nat.reduceMod, Nat.reduceBEq, Nat.reduceLeDiff, Nat.reduceEqDiff, Nat.reduceLT, Nat.reduceMul, Nat.reduceAdd, Nat.reduceSub, BEq.rfl, Bool.or_true, Bool.true_or, Bool.true_and, Bool.and_true, Bool.or_false, Bool.false_or, Bool.not_false, Bool.not_true, decide_false, decide_true, true_and, and_true, not_true_eq_false, not_false_eq_true, ↓reduceIte, Option.toList_some, Option.toList_none, List.cons_append, List.nil_append, am_sw, am_lk, List.toList_toArray, Int.reduceAdd, am_cats_cons, List.map_cons, List.map_nil, List.sum_cons, List.sum_nil, e30, Bool.true_eq_false]
  rfl
theorem c_require_no1 {x y : Int32} {s : Bool} (h1 : n ≤ 36) (e12 : sc 12 = Int32.ofNat n) (hx : ¬ (0 ≤ x ∧ x < Int32.ofNat n)) :
    Ev PG (d + 2) 173 [.ref 33, .int (bi s), .int x, .int y] (mw sc ar la R) K = K (some (.int (bi false))) (mw sc ar la R) := by
  rw [e_173]
  simp (disch := omega) only [↓ c_isno h1 e12 hx, wr_all, wr_side, wr_call, qq_all, kk_173, B_173_0, B_173_1, B_173_2, mw_rd, mw_put, nn_clamp, nn_lt, nn_le, nn_eq, nn_lt0, nn_0le, nn_0lt, nn_le0, nn_eq0, nn_eq_1, nn_f1, nn_f0, nn_addn, nn_muln, nn_subn, nn_sub1, nn_nle, bi_1, bi_0, bi_fit, vu, io_all, Nat.reduceDiv, Nat.reduceMod, Nat.reduceBEq, Nat.reduceLeDiff, Nat.reduceEqDiff, Nat.reduceLT, Nat.reduceMul, Nat.reduceAdd, Nat.reduceSub, BEq.rfl, Bool.or_true, Bool.true_or, Bool.true_and, Bool.and_true, Bool.or_false, Bool.false_or, Bool.not_false, Bool.not_true, decide_false, decide_true, true_and, and_true, not_true_eq_false, not_false_eq_true, ↓reduceIte, Option.toList_some, Option.toList_none, List.cons_append, List.nil_append, am_sw, am_lk, List.toList_toArray, Int.reduceAdd, am_cats_cons, List.map_cons, List.map_nil, List.sum_cons, List.sum_nil, Bool.true_eq_false]
  rfl
theorem c_require_no2 {a : Nat} {y : Int32} {s : Bool} (h1 : n ≤ 36) (e12 : sc 12 = Int32.ofNat n) (ha : a < n) (hy : ¬ (0 ≤ y ∧ y < Int32.ofNat n)) :
    Ev PG (d + 2) 173 [.ref 33, .int (bi s), .int (Int32.ofNat a), .int y] (mw sc ar la R) K = K (some (.int (bi false))) (mw sc ar la R) := by
  rw [e_173]
  simp (disch := omega) only [↓ c_isn h1 e12 ha, ↓ c_isno h1 e12 hy, wr_all, wr_side, wr_call, qq_all, kk_173, B_173_0, B_173_1, B_173_2, mw_rd, mw_put, nn_clamp, nn_lt, nn_le, nn_eq, nn_lt0, nn_0le, nn_0lt, nn_le0, nn_eq0, nn_eq_1, nn_f1, nn_f0, nn_addn, nn_muln, nn_subn, nn_sub1, nn_nle, bi_1, bi_0, bi_fit, vu, io_all, Nat.reduceDiv, Nat.reduceMod, Nat.reduceBEq, Nat.reduceLeDiff, Nat.reduceEqDiff, Nat.reduceLT, Nat.reduceMul, Nat.reduceAdd, Nat.reduceSub, BEq.rfl, Bool.or_true, Bool.true_or, Bool.true_and, Bool.and_true, Bool.or_false, Bool.false_or, Bool.not_false, Bool.not_true, decide_false, decide_true, true_and, and_true, not_true_eq_false, not_false_eq_true, ↓reduceIte, Option.toList_some, Option.toList_none, List.cons_append, List.nil_append, am_sw, am_lk, List.toList_toArray, Int.reduceAdd, am_cats_cons, List.map_cons, List.map_nil, List.sum_cons, List.sum_nil, Bool.true_eq_false]
  rfl
theorem c_withdraw_l {j : Nat} (hj : j < nq) (hq : nq ≤ 6) (e30 : sc 30 = Int32.ofNat (nq - 1)) (hex : ∀ i, i < nq → ar 21 i = bi (ex i)) : ∀ (m q : Nat), q + m = nq - 1 → j ≤ q → Wp PG d cd_174 B_174_3 [.ref 33, .int (Int32.ofNat j), .int (Int32.ofNat q)] [] (mw sc (va_up (va_up (va_up ar 21 (shA j q (ar 21))) 22 (shA j q (ar 22))) 23 (shA j q (ar 23))) la R) K
      = K (some (.int (bi true))) (mw (upd sc 34 (bi false)) (va_up (va_up (va_up ar 21 (shA j (nq - 1) (ar 21))) 22 (shA j (nq - 1) (ar 22))) 23 (shA j (nq - 1) (ar 23))) la R) := by
  intro m
  induction m with
  | zero =>
    intro q e hjq
    obtain rfl : q = nq - 1 := by omega
    rw [B_174_3]
    simp (disch := omega) only [wr_all, wr_side, wr_call, qq_all, kk_174, B_174_0, B_174_1, B_174_2, B_174_4, mw_rd, mw_put, nn_clamp, nn_lt, nn_le, nn_eq, nn_lt0, nn_0le, nn_0lt, nn_le0, nn_eq0, nn_eq_1, nn_f1, nn_f0, nn_addn, nn_muln, nn_subn, nn_sub1, nn_nle, bi_1, bi_0, bi_fit, vu, io_all, Nat.reduceDiv, Nat.reduceMod, Nat.reduceBEq, Nat.reduceLeDiff, Nat.reduceEqDiff, Nat.reduceLT, Nat.reduceMul, Nat.reduceAdd, Nat.reduceSub, BEq.rfl, Bool.or_true, Bool.true_or, Bool.true_and, Bool.and_true, Bool.or_false, Bool.false_or, Bool.not_false, Bool.not_true, decide_false, decide_true, true_and, and_true, not_true_eq_false, not_false_eq_true, ↓reduceIte, Option.toList_some, Option.toList_none, List.cons_append, List.nil_append, am_sw, am_lk, List.toList_toArray, Int.reduceAdd, am_cats_cons, List.map_cons, List.map_nil, List.sum_cons, List.sum_nil, e30, Nat.le_refl]
    rfl
  | succ m ih =>
    intro q e hjq
    have nl : ¬ nq - 1 ≤ q := by omega
    rw [B_174_3]
    simp (disch := omega) only [wr_all, wr_side, wr_call, qq_all, kk_174, B_174_0, B_174_1, B_174_2, B_174_4, mw_rd, mw_put, nn_clamp, nn_lt, nn_le, nn_eq, nn_lt0, nn_0le, nn_0lt, nn_le0, nn_eq0, nn_eq_1, nn_f1, nn_f0, nn_addn, nn_muln, nn_subn, nn_sub1, nn_nle, bi_1, bi_0, bi_fit, vu, io_all, Nat.reduceDiv, Nat.reduceMod, Nat.reduceBEq, Nat.reduceLeDiff, Nat.reduceEqDiff, Nat.reduceLT, Nat.reduceMul, Nat.reduceAdd, Nat.reduceSub, BEq.rfl, Bool.or_true, Bool.true_or, Bool.true_and, Bool.and_true, Bool.or_false, Bool.false_or, Bool.not_false, Bool.not_true, decide_false, decide_true, true_and, and_true, not_true_eq_false, not_false_eq_true, ↓reduceIte, Option.toList_some, Option.toList_none, List.cons_append, List.nil_append, am_sw, am_lk, List.toList_toArray, Int.reduceAdd, am_cats_cons, List.map_cons, List.map_nil, List.sum_cons, List.sum_nil, e30, nl, shA_n, hex, nb_bi]
    rw [← ih (q + 1) (by omega) (by omega), ← shA_s _ hjq, ← shA_s _ hjq, ← shA_s _ hjq, hex _ (by omega)]
    congr 2
    funext i
    simp only [va_up]
    (repeat' split) <;> first | rfl | omega
theorem c_withdraw {j : Nat} (hj : j < nq) (hq : nq ≤ 6) (e30 : sc 30 = Int32.ofNat nq) (hex : ∀ i, i < nq → ar 21 i = bi (ex i)) : Ev PG (d + 1) 174 [.ref 33, .int (Int32.ofNat j)] (mw sc ar la R) K
      = K (some (.int (bi true))) (mw (upd (upd sc 30 (Int32.ofNat (nq - 1))) 34 (bi false)) (va_up (va_up (va_up ar 21 (shA j (nq - 1) (ar 21))) 22 (shA j (nq - 1) (ar 22))) 23 (shA j (nq - 1) (ar 23))) la R) := by
  have nl : ¬ nq ≤ j := by omega
  rw [← c_withdraw_l (d := d) (sc := upd sc 30 (Int32.ofNat (nq - 1))) (la := la) (R := R) (K := K) hj hq (by simp [upd]) hex (nq - 1 - j) j (by omega) (Nat.le_refl j), e_174]
  simp (disch := omega) only [wr_all, wr_side, wr_call, qq_all, kk_174, B_174_0, B_174_1, B_174_2, B_174_4, mw_rd, mw_put, nn_clamp, nn_lt, nn_le, nn_eq, nn_lt0, nn_0le, nn_0lt, nn_le0, nn_eq0, nn_eq_1, nn_f1, nn_f0, nn_addn, nn_muln, nn_subn, nn_sub1, nn_nle, bi_1, bi_0, bi_fit, vu, io_all, Nat.reduceDiv, Nat.reduceMod, Nat.reduceBEq, Nat.reduceLeDiff, Nat.reduceEqDiff, Nat.reduceLT, Nat.reduceMul, Nat.reduceAdd, Nat.reduceSub, BEq.rfl, Bool.or_true, Bool.true_or, Bool.true_and, Bool.and_true, Bool.or_false, Bool.false_or, Bool.not_false, Bool.not_true, decide_false, decide_true, true_and, and_true, not_true_eq_false, not_false_eq_true, ↓reduceIte, Option.toList_some, Option.toList_none, List.cons_append, List.nil_append, am_sw, am_lk, List.toList_toArray, Int.reduceAdd, am_cats_cons, List.map_cons, List.map_nil, List.sum_cons, List.sum_nil, e30, shA_0, uu_4, hj]
theorem c_withdraw_no {x : Int32} (hx : ¬ (0 ≤ x ∧ x < sc 30)) : Ev PG (d + 1) 174 [.ref 33, .int x] (mw sc ar la R) K = K (some (.int (bi false))) (mw sc ar la R) := by
  rw [e_174]
  simp (disch := omega) only [wr_all, wr_side, wr_call, qq_all, kk_174, B_174_0, B_174_1, B_174_2, B_174_4, mw_rd, mw_put, nn_clamp, nn_lt, nn_le, nn_eq, nn_lt0, nn_0le, nn_0lt, nn_le0, nn_eq0, nn_eq_1, nn_f1, nn_f0, nn_addn, nn_muln, nn_subn, nn_sub1, nn_nle, bi_1, bi_0, bi_fit, vu, io_all, Nat.reduceDiv, Nat.reduceMod, Nat.reduceBEq, Nat.reduceLeDiff, Nat.reduceEqDiff, Nat.reduceLT, Nat.reduceMul, Nat.reduceAdd, Nat.reduceSub, BEq.rfl, Bool.or_true, Bool.true_or, Bool.true_and, Bool.and_true, Bool.or_false, Bool.false_or, Bool.not_false, Bool.not_true, decide_false, decide_true, true_and, and_true, not_true_eq_false, not_false_eq_true, ↓reduceIte, Option.toList_some, Option.toList_none, List.cons_append, List.nil_append, am_sw, am_lk, List.toList_toArray, Int.reduceAdd, am_cats_cons, List.map_cons, List.map_nil, List.sum_cons, List.sum_nil]
  by_cases y : x < 0
  · simp only [y, ↓reduceIte]; rfl
  · have : ¬ x < sc 30 := fun z => hx ⟨by grind, z⟩
    simp only [y, this, ↓reduceIte]; rfl
theorem c_good {k wt : Nat} (h1 : n ≤ 36) (hc : ∀ i, i < n → ar 13 i = Int32.ofNat (cv i) ∧ cv i < 5) (hk : k < n) (hw : wt < 5) : Ev PG (d + 1) 178 [.ref 33, .int (Int32.ofNat k), .int (Int32.ofNat wt)] (mw sc ar la R) K = K (some (.int (bi (gdF cv k wt)))) (mw sc ar la R) := by
  obtain ⟨c1, c2⟩ := hc k hk
  rw [e_178]
  simp (disch := omega) only [wr_all, wr_side, wr_call, qq_all, kk_178, B_178_0, B_178_1, B_178_2, B_178_3, mw_rd, mw_put, nn_clamp, nn_lt, nn_le, nn_eq, nn_lt0, nn_0le, nn_0lt, nn_le0, nn_eq0, nn_eq_1, nn_f1, nn_f0, nn_addn, nn_muln, nn_subn, nn_sub1, nn_nle, bi_1, bi_0, bi_fit, vu, io_all, Nat.reduceDiv, Nat.reduceMod, Nat.reduceBEq, Nat.reduceLeDiff, Nat.reduceEqDiff, Nat.reduceLT, Nat.reduceMul, Nat.reduceAdd, Nat.reduceSub, BEq.rfl, Bool.or_true, Bool.true_or, Bool.true_and, Bool.and_true, Bool.or_false, Bool.false_or, Bool.not_false, Bool.not_true, decide_false, decide_true, true_and, and_true, not_true_eq_false, not_false_eq_true, ↓reduceIte, Option.toList_some, Option.toList_none, List.cons_append, List.nil_append, am_sw, am_lk, List.toList_toArray, Int.reduceAdd, am_cats_cons, List.map_cons, List.map_nil, List.sum_cons, List.sum_nil, c1]
  unfold gdF
  by_cases y0 : cv k = 0
  · simp only [y0, ↓reduceIte, true_or, decide_true]; rfl
  · by_cases y1 : cv k = 1
    · simp only [y1, ↓reduceIte, true_or, or_true, decide_true, Nat.reduceEqDiff]; rfl
    · by_cases y2 : cv k = wt
      · simp only [y0, y1, y2, ↓reduceIte, false_or, or_true, decide_true, not_true_eq_false]; simp only [y2 ▸ y0, y2 ▸ y1, ↓reduceIte]; rfl
      · simp only [y0, y1, y2, ↓reduceIte, or_self, decide_false, not_false_eq_true]; rfl
theorem c_wrongPart_l (h1 : n ≤ 36) (hr : MR n nq ex lf rt sc ar) (hc : ∀ i, i < n → ar 13 i = Int32.ofNat (cv i) ∧ cv i < 5) :
    ∀ (m q : Nat), q + m = nq → Wp PG (d + 1) cd_177 B_177_4 [.ref 33, .int (Int32.ofNat q)] [] (mw sc ar la R) K = K (some (.int (oi (wpQ cv ex lf rt nq m)))) (mw sc ar la R) := by
  obtain ⟨h6, e30, hq⟩ := hr
  intro m
  induction m with
  | zero =>
    intro q e
    obtain rfl : q = nq := by omega
    rw [B_177_4]
    simp (disch := omega) only [wr_all, wr_side, wr_call, qq_all, kk_177, B_177_0, B_177_1, B_177_2, B_177_3, B_177_5, B_177_6, B_177_7, B_177_8, B_177_9, B_177_10, B_177_11, mw_rd, mw_put, nn_clamp, nn_lt, nn_le, nn_eq, nn_lt0, nn_0le, nn_0lt, nn_le0, nn_eq0, nn_eq_1, nn_f1, nn_f0, nn_addn, nn_muln, nn_subn, nn_sub1, nn_nle, bi_1, bi_0, bi_fit, vu, io_all, Nat.reduceDiv, Nat.reduceMod, Nat.reduceBEq, Nat.reduceLeDiff, Nat.reduceEqDiff, Nat.reduceLT, Nat.reduceMul, Nat.reduceAdd, Nat.reduceSub, BEq.rfl, Bool.or_true, Bool.true_or, Bool.true_and, Bool.and_true, Bool.or_false, Bool.false_or, Bool.not_false, Bool.not_true, decide_false, decide_true, true_and, and_true, not_true_eq_false, not_false_eq_true, ↓reduceIte, Option.toList_some, Option.toList_none, List.cons_append, List.nil_append, am_sw, am_lk, List.toList_toArray, Int.reduceAdd, am_cats_cons, List.map_cons, List.map_nil, List.sum_cons, List.sum_nil, e30, Nat.le_refl]
    rfl
  | succ m ih =>
    intro q e
    have nl : ¬ nq ≤ q := by omega
    obtain ⟨x1, x2, x3, x4, x5⟩ := hq q (by omega)
    have kx : nq - (m + 1) = q := by omega
    have i1 := ih (q + 1) (by omega)
    have l1 := fun K => c_good (d := d) (sc := sc) (la := la) (R := R) (K := K) h1 hc x4 (show 1 < 5 by omega)
    have l2 := fun K => c_good (d := d) (sc := sc) (la := la) (R := R) (K := K) h1 hc x4 (show 2 < 5 by omega)
    have r1 := fun K => c_good (d := d) (sc := sc) (la := la) (R := R) (K := K) h1 hc x5 (show 1 < 5 by omega)
    have r3 := fun K => c_good (d := d) (sc := sc) (la := la) (R := R) (K := K) h1 hc x5 (show 3 < 5 by omega)
    rw [B_177_4]
    simp (disch := omega) only [↓ l1, ↓ l2, ↓ r1, ↓ r3, wr_all, wr_side, wr_call, qq_all, kk_177, B_177_0, B_177_1, B_177_2, B_177_3, B_177_5, B_177_6, B_177_7, B_177_8, B_177_9, B_177_10, B_177_11, mw_rd, mw_put, nn_clamp, nn_lt, nn_le, nn_eq, nn_lt0, nn_0le, nn_0lt, nn_le0, nn_eq0, nn_eq_1, nn_f1, nn_f0, nn_addn, nn_muln, nn_subn, nn_sub1, nn_nle, bi_1, bi_0, bi_fit, vu, io_all, Nat.reduceDiv, Nat.reduceMod, Nat.reduceBEq, Nat.reduceLeDiff, Nat.reduceEqDiff, Nat.reduceLT, Nat.reduceMul, Nat.reduceAdd, Nat.reduceSub, BEq.rfl, Bool.or_true, Bool.true_or, Bool.true_and, Bool.and_true, Bool.or_false, Bool.false_or, Bool.not_false, Bool.not_true, decide_false, decide_true, true_and, and_true, not_true_eq_false, not_false_eq_true, ↓reduceIte, Option.toList_some, Option.toList_none, List.cons_append, List.nil_append, am_sw, am_lk, List.toList_toArray, Int.reduceAdd, am_cats_cons, List.map_cons, List.map_nil, List.sum_cons, List.sum_nil, e30, nl, x1, x2, x3, i1]
    rw [wpQ, kx]
    cases ex q <;> simp only [↓reduceIte, Bool.true_eq_false, Bool.false_eq_true]
    · cases gdF cv (lf q) 2 <;> cases gdF cv (rt q) 3 <;> rfl
    · cases gdF cv (lf q) 1 <;> cases gdF cv (rt q) 1 <;> rfl
theorem c_wrongPart {g : Nat} {le : Bool} (h1 : n ≤ 36) (hr : MR n nq ex lf rt sc ar) (hc : ∀ i, i < n → ar 13 i = Int32.ofNat (cv i) ∧ cv i < 5) (e28 : sc 28 = Int32.ofNat g) (hg : g < n) (e29 : sc 29 = bi le) :
    Ev PG (d + 2) 177 [.ref 33] (mw sc ar la R) K = K (some (.int (oi (wpF cv ex lf rt nq g le)))) (mw sc ar la R) := by
  have l1 := fun K => c_good (d := d) (sc := sc) (la := la) (R := R) (K := K) h1 hc hg (show 2 < 5 by omega)
  have l2 := fun K => c_good (d := d) (sc := sc) (la := la) (R := R) (K := K) h1 hc hg (show 3 < 5 by omega)
  have q := c_wrongPart_l (d := d) (sc := sc) (la := la) (R := R) (K := K) h1 hr hc nq 0 (by omega)
  rw [e_177]
  simp (disch := omega) only [↓ l1, ↓ l2, wr_all, wr_side, wr_call, qq_all, kk_177, B_177_0, B_177_1, B_177_2, B_177_3, B_177_5, B_177_6, B_177_7, B_177_8, B_177_9, B_177_10, B_177_11, mw_rd, mw_put, nn_clamp, nn_lt, nn_le, nn_eq, nn_lt0, nn_0le, nn_0lt, nn_le0, nn_eq0, nn_eq_1, nn_f1, nn_f0, nn_addn, nn_muln, nn_subn, nn_sub1, nn_nle, bi_1, bi_0, bi_fit, vu, io_all, Nat.reduceDiv, Nat.reduceMod, Nat.reduceBEq, Nat.reduceLeDiff, Nat.reduceEqDiff, Nat.reduceLT, Nat.reduceMul, Nat.reduceAdd, Nat.reduceSub, BEq.rfl, Bool.or_true, Bool.true_or, Bool.true_and, Bool.and_true, Bool.or_false, Bool.false_or, Bool.not_false, Bool.not_true, decide_false, decide_true, true_and, and_true, not_true_eq_false, not_false_eq_true, ↓reduceIte, Option.toList_some, Option.toList_none, List.cons_append, List.nil_append, am_sw, am_lk, List.toList_toArray, Int.reduceAdd, am_cats_cons, List.map_cons, List.map_nil, List.sum_cons, List.sum_nil, e28, e29, q]
  unfold wpF
  cases le <;> simp only [↓reduceIte, Bool.true_eq_false, Bool.false_eq_true]
  · cases gdF cv g 3 <;> rfl
  · cases gdF cv g 2 <;> rfl
end M12
