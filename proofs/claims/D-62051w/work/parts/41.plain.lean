/-! THE MODEL's plain questions. -/
theorem nd_cases (n : Nat) (x : Int32) (h : n < 1000) : (∃ k, k < n ∧ x = Int32.ofNat k) ∨ ¬ (0 ≤ x ∧ x < Int32.ofNat n) := by
  by_cases e : 0 ≤ x ∧ x < Int32.ofNat n
  · left
    obtain ⟨a, b⟩ := e
    rw [Int32.le_iff_toInt_le] at a
    rw [Int32.lt_iff_toInt_lt, nn_toInt (by omega)] at b
    have a' : 0 ≤ x.toInt := a
    refine ⟨x.toInt.toNat, by omega, ?_⟩
    rw [← Int32.toInt_inj, nn_toInt (by omega)]
    omega
  · exact Or.inr e
def fsF (ex : Nat → Bool) (lf rt : Nat → Nat) (vl : Nat → Int) : Nat → Bool
  | 0 => true
  | q + 1 => fsF ex lf rt vl q && (if ex q = true then decide (vl (lf q) = vl (rt q)) else decide (vl (lf q) ≤ vl (rt q)))
def gdF (cv : Nat → Nat) (k w : Nat) : Bool := decide (cv k = 0 ∨ cv k = 1 ∨ cv k = w)
def wpQ (cv : Nat → Nat) (ex : Nat → Bool) (lf rt : Nat → Nat) (nq : Nat) : Nat → Option Nat
  | 0 => none
  | m + 1 => if gdF cv (lf (nq - (m + 1))) (if ex (nq - (m + 1)) = true then 1 else 2) = false then some (lf (nq - (m + 1))) else if gdF cv (rt (nq - (m + 1))) (if ex (nq - (m + 1)) = true then 1 else 3) = false then some (rt (nq - (m + 1))) else wpQ cv ex lf rt nq m
def wpF (cv : Nat → Nat) (ex : Nat → Bool) (lf rt : Nat → Nat) (nq g : Nat) (le : Bool) : Option Nat := if gdF cv g (if le = true then 2 else 3) = false then some g else wpQ cv ex lf rt nq nq
def shA (j q : Nat) (f : Nat → Int32) : Nat → Int32 := fun i => if j ≤ i ∧ i < q then f (i + 1) else f i
theorem shA_0 (j : Nat) (f : Nat → Int32) : shA j j f = f := by funext i; simp only [shA]; rw [if_neg (by omega)]
theorem shA_s {j q : Nat} (f : Nat → Int32) (h : j ≤ q) : upd (shA j q f) q (f (q + 1)) = shA j (q + 1) f := by
  funext i
  simp only [upd, shA]
  by_cases e : i = q
  · subst e; rw [if_pos rfl, if_pos (by omega)]
  · rw [if_neg e]
    by_cases g : j ≤ i ∧ i < q
    · rw [if_pos g, if_pos (by omega)]
    · rw [if_neg g, if_neg (by omega)]
theorem shA_n {j q : Nat} (f : Nat → Int32) : shA j q f (q + 1) = f (q + 1) := by simp only [shA]; rw [if_neg (by omega)]
section M11
variable {d : Nat} {sc : Nat → Int32} {ar : Nat → Nat → Int32} {la : Nat → Nat → Int64} {R w : am_W} {K : Option Value → am_W → Prop}
variable {n nq : Nat} {kd nm lf rt : Nat → Nat} {ag : Nat → Nat → Nat} {up dn ex us : Nat → Bool} {cv bl : Nat → Nat} {vl gv ow ch lin : Nat → Int} {go : Option Nat} {st : Bool}
theorem c_nodes : Ev PG (d + 1) 155 [.ref 33] (mw sc ar la R) K = K (some (.int (sc 12))) (mw sc ar la R) := by
  rw [e_155]
  simp (disch := omega) only [wr_all, wr_side, wr_call, qq_all, kk_155, B_155_0, mw_rd, mw_put, nn_clamp, nn_lt, nn_le, nn_eq, nn_lt0, nn_0le, nn_0lt, nn_le0, nn_eq0, nn_eq_1, nn_f1, nn_f0, nn_addn, nn_muln, nn_subn, nn_sub1, nn_nle, bi_1, bi_0, bi_fit, vu, io_all, Nat.reduceDiv, Nat.reduceMod, Nat.reduceBEq, Nat.reduceLeDiff, Nat.reduceEqDiff, Nat.reduceLT, Nat.reduceMul, Nat.reduceAdd, Nat.reduceSub, BEq.rfl, Bool.or_true, Bool.true_or, Bool.true_and, Bool.and_true, Bool.or_false, Bool.false_or, Bool.not_false, Bool.not_true, decide_false, decide_true, true_and, and_true, not_true_eq_false, not_false_eq_true, ↓reduceIte, Option.toList_some, Option.toList_none, List.cons_append, List.nil_append, am_sw, am_lk, List.toList_toArray, Int.reduceAdd, am_cats_cons, List.map_cons, List.map_nil, List.sum_cons, List.sum_nil]
theorem c_isn {k : Nat} (h1 : n ≤ 36) (e12 : sc 12 = Int32.ofNat n) (hk : k < n) : Ev PG (d + 1) 167 [.ref 33, .int (Int32.ofNat k)] (mw sc ar la R) K = K (some (.int (bi true))) (mw sc ar la R) := by
  rw [c_isNode (n := n) (k := k) (by omega) e12, show decide (0 ≤ Int32.ofNat k ∧ Int32.ofNat k < Int32.ofNat n) = true from by simp (disch := omega) only [nn_0le, nn_lt, hk, and_self, decide_true]]
theorem c_isno {x : Int32} (h1 : n ≤ 36) (e12 : sc 12 = Int32.ofNat n) (hx : ¬ (0 ≤ x ∧ x < Int32.ofNat n)) : Ev PG (d + 1) 167 [.ref 33, .int x] (mw sc ar la R) K = K (some (.int (bi false))) (mw sc ar la R) := by
  rw [c_isNode (n := n) (k := 0) (by omega) e12, show decide (0 ≤ x ∧ x < Int32.ofNat n) = false from by simp only [hx, decide_false]]
theorem c_attributes {k : Nat} (h : MS n kd nm ag ar) (e12 : sc 12 = Int32.ofNat n) (hg : ∀ k, k < n → ar 10 k = Int32.ofInt (gv k)) (F : AF n kd nm ag gv up dn cv bl vl) (hk : k < n) :
    Ev PG (d + 6) 156 [.ref 33, .int (Int32.ofNat k)] (mw sc ar la R) K = K (some (.int (Int32.ofNat ((up k).toNat + 2 * (dn k).toNat + 4 * cv k + 32 * bl k)))) (mw sc (ovA n up dn cv bl vl ar) la R) := by
  have h1 := h.1
  obtain ⟨r1, r2, r3, r4, r5⟩ := ovA_rd (up := up) (dn := dn) (cv := cv) (bl := bl) (vl := vl) (ar := ar) hk
  rw [e_156]
  simp (disch := omega) only [↓ c_work h e12 hg F, ↓ c_isn h1 e12 hk, wr_all, wr_side, wr_call, qq_all, kk_156, B_156_0, B_156_1, B_156_2, B_156_3, B_156_4, B_156_5, B_156_6, mw_rd, mw_put, nn_clamp, nn_lt, nn_le, nn_eq, nn_lt0, nn_0le, nn_0lt, nn_le0, nn_eq0, nn_eq_1, nn_f1, nn_f0, nn_addn, nn_muln, nn_subn, nn_sub1, nn_nle, bi_1, bi_0, bi_fit, vu, io_all, Nat.reduceDiv, Nat.reduceMod, Nat.reduceBEq, Nat.reduceLeDiff, Nat.reduceEqDiff, Nat.reduceLT, Nat.reduceMul, Nat.reduceAdd, Nat.reduceSub, BEq.rfl, Bool.or_true, Bool.true_or, Bool.true_and, Bool.and_true, Bool.or_false, Bool.false_or, Bool.not_false, Bool.not_true, decide_false, decide_true, true_and, and_true, not_true_eq_false, not_false_eq_true, ↓reduceIte, Option.toList_some, Option.toList_none, List.cons_append, List.nil_append, am_sw, am_lk, List.toList_toArray, Int.reduceAdd, am_cats_cons, List.map_cons, List.map_nil, List.sum_cons, List.sum_nil, r1, r2, r3, r4, Bool.true_eq_false]
  cases up k <;> cases dn k <;> rfl
theorem c_attributes_no {x : Int32} (h : MS n kd nm ag ar) (e12 : sc 12 = Int32.ofNat n) (hg : ∀ k, k < n → ar 10 k = Int32.ofInt (gv k)) (F : AF n kd nm ag gv up dn cv bl vl) (hx : ¬ (0 ≤ x ∧ x < Int32.ofNat n)) :
    Ev PG (d + 6) 156 [.ref 33, .int x] (mw sc ar la R) K = K (some (.int (-1))) (mw sc (ovA n up dn cv bl vl ar) la R) := by
  rw [e_156]
  simp (disch := omega) only [↓ c_work h e12 hg F, ↓ c_isno h.1 e12 hx, wr_all, wr_side, wr_call, qq_all, kk_156, B_156_0, B_156_1, B_156_2, B_156_3, B_156_4, B_156_5, B_156_6, mw_rd, mw_put, nn_clamp, nn_lt, nn_le, nn_eq, nn_lt0, nn_0le, nn_0lt, nn_le0, nn_eq0, nn_eq_1, nn_f1, nn_f0, nn_addn, nn_muln, nn_subn, nn_sub1, nn_nle, bi_1, bi_0, bi_fit, vu, io_all, Nat.reduceDiv, Nat.reduceMod, Nat.reduceBEq, Nat.reduceLeDiff, Nat.reduceEqDiff, Nat.reduceLT, Nat.reduceMul, Nat.reduceAdd, Nat.reduceSub, BEq.rfl, Bool.or_true, Bool.true_or, Bool.true_and, Bool.and_true, Bool.or_false, Bool.false_or, Bool.not_false, Bool.not_true, decide_false, decide_true, true_and, and_true, not_true_eq_false, not_false_eq_true, ↓reduceIte, Option.toList_some, Option.toList_none, List.cons_append, List.nil_append, am_sw, am_lk, List.toList_toArray, Int.reduceAdd, am_cats_cons, List.map_cons, List.map_nil, List.sum_cons, List.sum_nil]
theorem c_reach {k : Nat} {re : Nat → Int} (h1 : n ≤ 36) (e12 : sc 12 = Int32.ofNat n) (hr : ∀ k, k < n → la 9 k = Int64.ofInt (re k)) (hk : k < n) : Ev PG (d + 2) 168 [.ref 33, .int (Int32.ofNat k)] (mw sc ar la R) K = K (some (.int (Int32.ofInt (re k)))) (mw sc ar la R) := by
  rw [e_168]
  simp (disch := omega) only [↓ c_isn h1 e12 hk, wr_all, wr_side, wr_call, qq_all, kk_168, B_168_0, B_168_1, B_168_2, mw_rd, mw_put, nn_clamp, nn_lt, nn_le, nn_eq, nn_lt0, nn_0le, nn_0lt, nn_le0, nn_eq0, nn_eq_1, nn_f1, nn_f0, nn_addn, nn_muln, nn_subn, nn_sub1, nn_nle, bi_1, bi_0, bi_fit, vu, io_all, Nat.reduceDiv, Nat.reduceMod, Nat.reduceBEq, Nat.reduceLeDiff, Nat.reduceEqDiff, Nat.reduceLT, Nat.reduceMul, Nat.reduceAdd, Nat.reduceSub, BEq.rfl, Bool.or_true, Bool.true_or, Bool.true_and, Bool.and_true, Bool.or_false, Bool.false_or, Bool.not_false, Bool.not_true, decide_false, decide_true, true_and, and_true, not_true_eq_false, not_false_eq_true, ↓reduceIte, Option.toList_some, Option.toList_none, List.cons_append, List.nil_append, am_sw, am_lk, List.toList_toArray, Int.reduceAdd, am_cats_cons, List.map_cons, List.map_nil, List.sum_cons, List.sum_nil, hr, Bool.true_eq_false, Int64.toInt32_ofInt]
theorem c_reach_no {x : Int32} (h1 : n ≤ 36) (e12 : sc 12 = Int32.ofNat n) (hx : ¬ (0 ≤ x ∧ x < Int32.ofNat n)) : Ev PG (d + 2) 168 [.ref 33, .int x] (mw sc ar la R) K = K (some (.int (Int32.ofNat 0))) (mw sc ar la R) := by
  rw [e_168]
  simp (disch := omega) only [↓ c_isno h1 e12 hx, wr_all, wr_side, wr_call, qq_all, kk_168, B_168_0, B_168_1, B_168_2, mw_rd, mw_put, nn_clamp, nn_lt, nn_le, nn_eq, nn_lt0, nn_0le, nn_0lt, nn_le0, nn_eq0, nn_eq_1, nn_f1, nn_f0, nn_addn, nn_muln, nn_subn, nn_sub1, nn_nle, bi_1, bi_0, bi_fit, vu, io_all, Nat.reduceDiv, Nat.reduceMod, Nat.reduceBEq, Nat.reduceLeDiff, Nat.reduceEqDiff, Nat.reduceLT, Nat.reduceMul, Nat.reduceAdd, Nat.reduceSub, BEq.rfl, Bool.or_true, Bool.true_or, Bool.true_and, Bool.and_true, Bool.or_false, Bool.false_or, Bool.not_false, Bool.not_true, decide_false, decide_true, true_and, and_true, not_true_eq_false, not_false_eq_true, ↓reduceIte, Option.toList_some, Option.toList_none, List.cons_append, List.nil_append, am_sw, am_lk, List.toList_toArray, Int.reduceAdd, am_cats_cons, List.map_cons, List.map_nil, List.sum_cons, List.sum_nil]
theorem c_value {k : Nat} (h : MS n kd nm ag ar) (e12 : sc 12 = Int32.ofNat n) (hg : ∀ k, k < n → ar 10 k = Int32.ofInt (gv k)) (F : AF n kd nm ag gv up dn cv bl vl) (hk : k < n) :
    Ev PG (d + 6) 169 [.ref 33, .int (Int32.ofNat k)] (mw sc ar la R) K = K (some (.int (Int32.ofInt (vl k)))) (mw sc (ovA n up dn cv bl vl ar) la R) := by
  have h1 := h.1
  obtain ⟨r1, r2, r3, r4, r5⟩ := ovA_rd (up := up) (dn := dn) (cv := cv) (bl := bl) (vl := vl) (ar := ar) hk
  rw [e_169]
  simp (disch := omega) only [↓ c_work h e12 hg F, ↓ c_isn h1 e12 hk, wr_all, wr_side, wr_call, qq_all, kk_169, B_169_0, B_169_1, B_169_2, mw_rd, mw_put, nn_clamp, nn_lt, nn_le, nn_eq, nn_lt0, nn_0le, nn_0lt, nn_le0, nn_eq0, nn_eq_1, nn_f1, nn_f0, nn_addn, nn_muln, nn_subn, nn_sub1, nn_nle, bi_1, bi_0, bi_fit, vu, io_all, Nat.reduceDiv, Nat.reduceMod, Nat.reduceBEq, Nat.reduceLeDiff, Nat.reduceEqDiff, Nat.reduceLT, Nat.reduceMul, Nat.reduceAdd, Nat.reduceSub, BEq.rfl, Bool.or_true, Bool.true_or, Bool.true_and, Bool.and_true, Bool.or_false, Bool.false_or, Bool.not_false, Bool.not_true, decide_false, decide_true, true_and, and_true, not_true_eq_false, not_false_eq_true, ↓reduceIte, Option.toList_some, Option.toList_none, List.cons_append, List.nil_append, am_sw, am_lk, List.toList_toArray, Int.reduceAdd, am_cats_cons, List.map_cons, List.map_nil, List.sum_cons, List.sum_nil, r5, Bool.true_eq_false]
theorem c_value_no {x : Int32} (h : MS n kd nm ag ar) (e12 : sc 12 = Int32.ofNat n) (hg : ∀ k, k < n → ar 10 k = Int32.ofInt (gv k)) (F : AF n kd nm ag gv up dn cv bl vl) (hx : ¬ (0 ≤ x ∧ x < Int32.ofNat n)) :
    Ev PG (d + 6) 169 [.ref 33, .int x] (mw sc ar la R) K = K (some (.int (Int32.ofNat 0))) (mw sc (ovA n up dn cv bl vl ar) la R) := by
  rw [e_169]
  simp (disch := omega) only [↓ c_work h e12 hg F, ↓ c_isno h.1 e12 hx, wr_all, wr_side, wr_call, qq_all, kk_169, B_169_0, B_169_1, B_169_2, mw_rd, mw_put, nn_clamp, nn_lt, nn_le, nn_eq, nn_lt0, nn_0le, nn_0lt, nn_le0, nn_eq0, nn_eq_1, nn_f1, nn_f0, nn_addn, nn_muln, nn_subn, nn_sub1, nn_nle, bi_1, bi_0, bi_fit, vu, io_all, Nat.reduceDiv, Nat.reduceMod, Nat.reduceBEq, Nat.reduceLeDiff, Nat.reduceEqDiff, Nat.reduceLT, Nat.reduceMul, Nat.reduceAdd, Nat.reduceSub, BEq.rfl, Bool.or_true, Bool.true_or, Bool.true_and, Bool.and_true, Bool.or_false, Bool.false_or, Bool.not_false, Bool.not_true, decide_false, decide_true, true_and, and_true, not_true_eq_false, not_false_eq_true, ↓reduceIte, Option.toList_some, Option.toList_none, List.cons_append, List.nil_append, am_sw, am_lk, List.toList_toArray, Int.reduceAdd, am_cats_cons, List.map_cons, List.map_nil, List.sum_cons, List.sum_nil]
theorem c_objective {x : Int32} {b : Bool} {k : Nat} (h1 : n ≤ 36) (e12 : sc 12 = Int32.ofNat n) (hk : k < n) : Ev PG (d + 2) 172 [.ref 33, .int (Int32.ofNat k), .int (bi b)] (mw sc ar la R) K = K (some (.int (bi true))) (mw (upd (upd (upd sc 28 (Int32.ofNat k)) 29 (bi b)) 34 (bi false)) ar la R) := by
  rw [e_172]
  simp (disch := omega) only [↓ c_isn h1 e12 hk, wr_all, wr_side, wr_call, qq_all, kk_172, B_172_0, B_172_1, mw_rd, mw_put, nn_clamp, nn_lt, nn_le, nn_eq, nn_lt0, nn_0le, nn_0lt, nn_le0, nn_eq0, nn_eq_1, nn_f1, nn_f0, nn_addn, nn_muln, nn_subn, nn_sub1, nn_nle, bi_1, bi_0, bi_fit, vu, io_all, Nat.reduceDiv, Nat.reduceMod, Nat.reduceBEq, Nat.reduceLeDiff, Nat.reduceEqDiff, Nat.reduceLT, Nat.reduceMul, Nat.reduceAdd, Nat.reduceSub, BEq.rfl, Bool.or_true, Bool.true_or, Bool.true_and, Bool.and_true, Bool.or_false, Bool.false_or, Bool.not_false, Bool.not_true, decide_false, decide_true, true_and, and_true, not_true_eq_false, not_false_eq_true, ↓reduceIte, Option.toList_some, Option.toList_none, List.cons_append, List.nil_append, am_sw, am_lk, List.toList_toArray, Int.reduceAdd, am_cats_cons, List.map_cons, List.map_nil, List.sum_cons, List.sum_nil, Bool.true_eq_false]
  rfl
theorem c_objective_no {x : Int32} {b : Bool} (h1 : n ≤ 36) (e12 : sc 12 = Int32.ofNat n) (hx : ¬ (0 ≤ x ∧ x < Int32.ofNat n)) : Ev PG (d + 2) 172 [.ref 33, .int x, .int (bi b)] (mw sc ar la R) K = K (some (.int (bi false))) (mw sc ar la R) := by
  rw [e_172]
  simp (disch := omega) only [↓ c_isno h1 e12 hx, wr_all, wr_side, wr_call, qq_all, kk_172, B_172_0, B_172_1, mw_rd, mw_put, nn_clamp, nn_lt, nn_le, nn_eq, nn_lt0, nn_0le, nn_0lt, nn_le0, nn_eq0, nn_eq_1, nn_f1, nn_f0, nn_addn, nn_muln, nn_subn, nn_sub1, nn_nle, bi_1, bi_0, bi_fit, vu, io_all, Nat.reduceDiv, Nat.reduceMod, Nat.reduceBEq, Nat.reduceLeDiff, Nat.reduceEqDiff, Nat.reduceLT, Nat.reduceMul, Nat.reduceAdd, Nat.reduceSub, BEq.rfl, Bool.or_true, Bool.true_or, Bool.true_and, Bool.and_true, Bool.or_false, Bool.false_or, Bool.not_false, Bool.not_true, decide_false, decide_true, true_and, and_true, not_true_eq_false, not_false_eq_true, ↓reduceIte, Option.toList_some, Option.toList_none, List.cons_append, List.nil_append, am_sw, am_lk, List.toList_toArray, Int.reduceAdd, am_cats_cons, List.map_cons, List.map_nil, List.sum_cons, List.sum_nil]
  rfl
theorem c_feasible_l (h : MS n kd nm ag ar) (hr : MR n nq ex lf rt sc ar) (hv : ∀ i, i < n → ar 15 i = Int32.ofInt (vl i) ∧ -1000000 ≤ vl i ∧ vl i ≤ 1000000) :
    ∀ (m q : Nat) (u3 u4 : Value), q + m = nq → Wp PG d cd_175 B_175_1 [.ref 33, .int (bi (fsF ex lf rt vl q)), .int (Int32.ofNat q), u3, u4] [] (mw sc ar la R) K = K (some (.int (bi (fsF ex lf rt vl nq)))) (mw sc ar la R) := by
  have h1 := h.1
  obtain ⟨h6, e30, hq⟩ := hr
  intro m
  induction m with
  | zero =>
    intro q u3 u4 e
    obtain rfl : q = nq := by omega
    rw [B_175_1]
    simp (disch := omega) only [wr_all, wr_side, wr_call, qq_all, kk_175, B_175_0, B_175_2, B_175_3, B_175_4, B_175_5, B_175_6, mw_rd, mw_put, nn_clamp, nn_lt, nn_le, nn_eq, nn_lt0, nn_0le, nn_0lt, nn_le0, nn_eq0, nn_eq_1, nn_f1, nn_f0, nn_addn, nn_muln, nn_subn, nn_sub1, nn_nle, bi_1, bi_0, bi_fit, vu, io_all, Nat.reduceDiv, Nat.reduceMod, Nat.reduceBEq, Nat.reduceLeDiff, Nat.reduceEqDiff, Nat.reduceLT, Nat.reduceMul, Nat.reduceAdd, Nat.reduceSub, BEq.rfl, Bool.or_true, Bool.true_or, Bool.true_and, Bool.and_true, Bool.or_false, Bool.false_or, Bool.not_false, Bool.not_true, decide_false, decide_true, true_and, and_true, not_true_eq_false, not_false_eq_true, ↓reduceIte, Option.toList_some, Option.toList_none, List.cons_append, List.nil_append, am_sw, am_lk, List.toList_toArray, Int.reduceAdd, am_cats_cons, List.map_cons, List.map_nil, List.sum_cons, List.sum_nil, e30, Nat.le_refl]
  | succ m ih =>
    intro q u3 u4 e
    have nl : ¬ nq ≤ q := by omega
    obtain ⟨x1, x2, x3, x4, x5⟩ := hq q (by omega)
    obtain ⟨y1, y2, y3⟩ := hv _ x4
    obtain ⟨z1, z2, z3⟩ := hv _ x5
    have i1 := ih (q + 1) (.int (Int32.ofInt (vl (lf q)))) (.int (Int32.ofInt (vl (rt q)))) (by omega)
    rw [B_175_1]
    simp (disch := omega) only [wr_all, wr_side, wr_call, qq_all, kk_175, B_175_0, B_175_2, B_175_3, B_175_4, B_175_5, B_175_6, mw_rd, mw_put, nn_clamp, nn_lt, nn_le, nn_eq, nn_lt0, nn_0le, nn_0lt, nn_le0, nn_eq0, nn_eq_1, nn_f1, nn_f0, nn_addn, nn_muln, nn_subn, nn_sub1, nn_nle, bi_1, bi_0, bi_fit, vu, io_all, Nat.reduceDiv, Nat.reduceMod, Nat.reduceBEq, Nat.reduceLeDiff, Nat.reduceEqDiff, Nat.reduceLT, Nat.reduceMul, Nat.reduceAdd, Nat.reduceSub, BEq.rfl, Bool.or_true, Bool.true_or, Bool.true_and, Bool.and_true, Bool.or_false, Bool.false_or, Bool.not_false, Bool.not_true, decide_false, decide_true, true_and, and_true, not_true_eq_false, not_false_eq_true, ↓reduceIte, Option.toList_some, Option.toList_none, List.cons_append, List.nil_append, am_sw, am_lk, List.toList_toArray, Int.reduceAdd, am_cats_cons, List.map_cons, List.map_nil, List.sum_cons, List.sum_nil, e30, nl, x1, x2, x3, y1, z1, nz_eq, nz_lt]
    rw [← i1]
    simp only [fsF]
    rw [show decide (vl (lf q) ≤ vl (rt q)) = !decide (vl (rt q) < vl (lf q)) from by rw [← decide_not]; exact decide_eq_decide.mpr (by omega)]
    by_cases t1 : vl (lf q) = vl (rt q) <;> by_cases t2 : vl (rt q) < vl (lf q)
    · omega
    · have t3 : ¬ (vl (rt q) < vl (rt q)) := by omega
      cases fsF ex lf rt vl q <;> cases ex q <;> (try simp only [t1, t3, ↓reduceIte, Bool.true_eq_false, Bool.false_eq_true, not_true_eq_false, not_false_eq_true, decide_true, decide_false]) <;> rfl
    · cases fsF ex lf rt vl q <;> cases ex q <;> (try simp only [t1, t2, ↓reduceIte, Bool.true_eq_false, Bool.false_eq_true, not_true_eq_false, not_false_eq_true, decide_true, decide_false]) <;> rfl
    · cases fsF ex lf rt vl q <;> cases ex q <;> (try simp only [t1, t2, ↓reduceIte, Bool.true_eq_false, Bool.false_eq_true, not_true_eq_false, not_false_eq_true, decide_true, decide_false]) <;> rfl
theorem c_feasible (h : MS n kd nm ag ar) (hr : MR n nq ex lf rt sc ar) (e12 : sc 12 = Int32.ofNat n) (hg : ∀ k, k < n → ar 10 k = Int32.ofInt (gv k)) (F : AF n kd nm ag gv up dn cv bl vl) :
    Ev PG (d + 6) 175 [.ref 33] (mw sc ar la R) K = K (some (.int (bi (fsF ex lf rt vl nq)))) (mw sc (ovA n up dn cv bl vl ar) la R) := by
  rw [← c_feasible_l (d := d + 5) (sc := sc) (la := la) (R := R) (K := K) (ovA_ms (up := up) (dn := dn) (cv := cv) (bl := bl) (vl := vl) (m := n) h) ⟨hr.1, hr.2.1, hr.2.2⟩ (fun i hi => ⟨(ovA_rd hi).2.2.2.2, (F i hi).2.2.2.2.2⟩) nq 0 am_J am_J (by omega), e_175]
  simp (disch := omega) only [↓ c_work h e12 hg F, wr_all, wr_side, wr_call, qq_all, mw_rd, kk_175, B_175_0, io_all, Nat.reduceDiv, Nat.reduceMod, Nat.reduceBEq, Nat.reduceLeDiff, Nat.reduceEqDiff, Nat.reduceLT, Nat.reduceMul, Nat.reduceAdd, Nat.reduceSub, BEq.rfl, Bool.or_true, Bool.true_or, Bool.true_and, Bool.and_true, Bool.or_false, Bool.false_or, Bool.not_false, Bool.not_true, decide_false, decide_true, true_and, and_true, not_true_eq_false, not_false_eq_true, ↓reduceIte, Option.toList_some, Option.toList_none, List.cons_append, List.nil_append, am_sw, am_lk, List.toList_toArray, Int.reduceAdd, am_cats_cons, List.map_cons, List.map_nil, List.sum_cons, List.sum_nil]
  rfl
end M11
