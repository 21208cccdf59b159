/-! THE MODEL's make. -/
def reF (t v : Nat) (r : Nat → Nat) : Nat := match t with
  | 0 => if 1 < v then v else 1 | 1 => 20 | 2 => 9 | 3 => r 0 + r 1 | 4 => r 0 + r 1 | 6 => r 0 * r 1 | 7 => if r 1 < r 0 then r 0 else r 1 | 8 => if r 1 < r 0 then r 0 else r 1 | 10 => r 0 * r 0 | 11 => r 0 + r 1 + r 2 | _ => r 0
/-- an argument as the model keeps it -/
def gi (t : Nat) (a : Nat → Nat) (j : Nat) : Int32 := if j < ary t then Int32.ofNat (a j) else -1
def nl_n (n : Nat) : Int64 := Int64.ofInt n
section M23
variable {d : Nat} {sc : Nat → Int32} {ar : Nat → Nat → Int32} {la : Nat → Nat → Int64} {R w : am_W} {K : Option Value → am_W → Prop}
variable {n : Nat} {kd nm re : Nat → Nat} {ag : Nat → Nat → Nat} {t v : Nat} {a : Nat → Nat}
theorem c_reachOf (h1 : n ≤ 36) (ht : t < 12) (hv : v < 1000) (ha : ∀ j, j < ary t → a j < n) (hr : ∀ k, k < n → la 9 k = Int64.ofInt (re k) ∧ re k ≤ 1000000) :
    Ev PG (d + 1) 154 [.ref 33, .int (Int32.ofNat t), .int (Int32.ofNat v), .int (gi t a 0), .int (gi t a 1), .int (gi t a 2)] (mw sc ar la R) K = K (some (.long (Int64.ofInt (reF t v (fun j => re (a j)))))) (mw sc ar la R) := by
  have g0 := ha 0
  have g1 := ha 1
  have g2 := ha 2
  have r0 := hr (a 0)
  have r1 := hr (a 1)
  have r2 := hr (a 2)
  have cz : (Int32.ofNat v).toInt64 = Int64.ofInt (v : Int) := by rw [nz_nat, nl_of (by omega) (by omega)]
  rw [e_154]
  rcases n12 ht with e | e | e | e | e | e | e | e | e | e | e | e <;> subst e <;> (try simp only [ary_all, Nat.reduceLT, forall_const] at g0 g1 g2) <;> simp only [gi, ary_all, Nat.reduceLT, ↓reduceIte] <;> (try simp only [g0, forall_const] at r0) <;> (try simp only [g1, forall_const] at r1) <;> (try simp only [g2, forall_const] at r2)
  all_goals simp (disch := omega) only [wr_all, wr_side, wr_call, qq_all, kk_154, B_154_0, B_154_1, B_154_2, B_154_3, B_154_4, B_154_5, B_154_6, B_154_7, B_154_8, B_154_9, B_154_10, B_154_11, B_154_12, B_154_13, mw_rd, mw_put, nn_clamp, nn_lt, nn_le, nn_eq, nn_lt0, nn_0le, nn_0lt, nn_le0, nn_eq0, nn_eq_1, nn_f1, nn_f0, nn_addn, nn_muln, nn_subn, nn_sub1, nn_nle, bi_1, bi_0, bi_fit, vu, io_all, Nat.reduceDiv, Nat.reduceMod, Nat.reduceBEq, Nat.reduceLeDiff, Nat.reduceEqDiff, Nat.reduceLT, Nat.reduceMul, Nat.reduceAdd, Nat.reduceSub, BEq.rfl, Bool.or_true, Bool.true_or, Bool.true_and, Bool.and_true, Bool.or_false, Bool.false_or, Bool.not_false, Bool.not_true, decide_false, decide_true, true_and, and_true, not_true_eq_false, not_false_eq_true, ↓reduceIte, Option.toList_some, Option.toList_none, List.cons_append, List.nil_append, am_sw, am_lk, List.toList_toArray, Int.reduceAdd, am_cats_cons, List.map_cons, List.map_nil, List.sum_cons, List.sum_nil, r0, r1, r2, nl_add, nl_mul, cz, reF]
  case inl =>
    by_cases y : v ≤ 1
    · rw [if_pos y, if_neg (by omega)]; rfl
    · rw [if_neg y, if_pos (by omega)]
  case inr.inl => rfl
  case inr.inr.inl => rfl
  all_goals try (simp only [Int.natCast_add, Int.natCast_mul]; done)
  all_goals
    have k1 : (Int64.ofInt (re (a 0) : Int) ≤ Int64.ofInt (re (a 1) : Int)) = (re (a 0) ≤ re (a 1)) := by
      rw [nl_le ⟨by omega, by omega⟩ ⟨by omega, by omega⟩]; simp
    simp only [lc_le, k1]
    by_cases y : re (a 0) ≤ re (a 1)
    · simp only [y, show ¬ re (a 1) < re (a 0) by omega, ↓reduceIte]
    · simp only [y, show re (a 1) < re (a 0) by omega, ↓reduceIte]
def smF (kd nm : Nat → Nat) (ag : Nat → Nat → Nat) (t v : Nat) (a : Nat → Nat) (k : Nat) : Prop := kd k = t ∧ nm k = v ∧ ∀ j, j < ary t → ag k j = a j
theorem gi_eq {t j : Nat} {x y : Nat → Nat} (hx : j < ary t → x j < 1000) (hy : j < ary t → y j < 1000) : (gi t x j = gi t y j) = (j < ary t → x j = y j) := by
  unfold gi
  by_cases e : j < ary t
  · have := hx e
    have := hy e
    simp only [e, ↓reduceIte, forall_const]
    rw [nn_eq (by omega) (by omega)]
  · simp only [e, ↓reduceIte, false_imp_iff]
theorem MS.gi {k j : Nat} (h : MS n kd nm ag ar) (hk : k < n) (hj : j < 3) : ar 8 (3 * k + j) = gi (kd k) (ag k) j := (h.2.1 k hk).2.2.2.2 j hj
/-- the search: the first equal node, or none -/
theorem c_make_l (h : MS n kd nm ag ar) (e12 : sc 12 = Int32.ofNat n) (ht : t < 12) (hv : v < 1000) (ha : ∀ j, j < ary t → a j < n)
    (qs : ∀ k, k < n → smF kd nm ag t v a k → (∀ i, i < k → ¬ smF kd nm ag t v a i) → K (some (.int (Int32.ofNat k))) (mw sc ar la R))
    (qn : (∀ i, i < n → ¬ smF kd nm ag t v a i) → ∀ u6 u7 : Value, Wp PG d cd_153 B_153_3 [.ref 33, .int (Int32.ofNat t), .int (Int32.ofNat v), .int (gi t a 0), .int (gi t a 1), .int (gi t a 2), u6, u7] [] (mw sc ar la R) K) :
    ∀ (m k : Nat) (u7 : Value), k + m = n → (∀ i, i < k → ¬ smF kd nm ag t v a i) → Wp PG d cd_153 B_153_1 [.ref 33, .int (Int32.ofNat t), .int (Int32.ofNat v), .int (gi t a 0), .int (gi t a 1), .int (gi t a 2), .int (Int32.ofNat k), u7] [] (mw sc ar la R) K := by
  have h1 := h.1
  intro m
  induction m with
  | zero =>
    intro k u7 e hn
    obtain rfl : k = n := by omega
    rw [B_153_1]
    simp (disch := omega) only [wr_all, wr_side, kk_153, mw_rd, nn_le, io_all, Nat.reduceDiv, Nat.reduceMod, Nat.reduceBEq, Nat.reduceLeDiff, Nat.reduceEqDiff, Nat.reduceLT, Nat.reduceMul, Nat.reduceAdd, Nat.reduceSub, BEq.rfl, Bool.or_true, Bool.true_or, Bool.true_and, Bool.and_true, Bool.or_false, Bool.false_or, Bool.not_false, Bool.not_true, decide_false, decide_true, true_and, and_true, not_true_eq_false, not_false_eq_true, ↓reduceIte, Option.toList_some, Option.toList_none, List.cons_append, List.nil_append, am_sw, am_lk, List.toList_toArray, Int.reduceAdd, am_cats_cons, List.map_cons, List.map_nil, List.sum_cons, List.sum_nil, e12, Nat.le_refl]
    exact qn hn _ _
  | succ m ih =>
    intro k u7 e hn
    have hk : k < n := by omega
    have nl : ¬ n ≤ k := by omega
    have htk := (h.2.1 k hk).1
    have hnk := (h.2.1 k hk).2.1
    have e6 := (h.2.1 k hk).2.2.1
    have e7 := (h.2.1 k hk).2.2.2.1
    have e0 := h.gi hk (j := 0) (by omega)
    have e1 := h.gi hk (j := 1) (by omega)
    have e2 := h.gi hk (j := 2) (by omega)
    rw [Nat.add_zero] at e0
    have go : ¬ smF kd nm ag t v a k → Wp PG d cd_153 B_153_1 [.ref 33, .int (Int32.ofNat t), .int (Int32.ofNat v), .int (gi t a 0), .int (gi t a 1), .int (gi t a 2), .int (Int32.ofNat (k + 1)), u7] [] (mw sc ar la R) K := fun ns => ih (k + 1) u7 (by omega) (fun i hi => by
      rcases Nat.lt_or_eq_of_le (Nat.le_of_lt_succ hi) with x | x
      · exact hn i x
      · rw [x]; exact ns)
    rw [B_153_1]
    by_cases y1 : kd k = t
    · have q := fun j => gi_eq (t := t) (j := j) (x := ag k) (y := a) (fun hj => by have := h.2.2 k hk j (by rw [y1]; exact hj); omega) (fun hj => by have := ha j hj; omega)
      rw [y1] at e0 e1 e2
      have y1' : (kd k = t) = True := by simp [y1]
      by_cases y2 : nm k = v
      · have y2' : (nm k = v) = True := by simp [y2]
        by_cases y3 : gi t (ag k) 0 = gi t a 0 <;> by_cases y4 : gi t (ag k) 1 = gi t a 1 <;> by_cases y5 : gi t (ag k) 2 = gi t a 2
        · rw [y3] at e0
          rw [y4] at e1
          rw [y5] at e2
          simp (disch := omega) only [wr_all, wr_side, kk_153, B_153_2, mw_rd, nn_le, nn_eq, nn_clamp, nn_lt0, nn_nle, nn_addn, nn_muln, io_all, Nat.reduceDiv, Nat.reduceMod, Nat.reduceBEq, Nat.reduceLeDiff, Nat.reduceEqDiff, Nat.reduceLT, Nat.reduceMul, Nat.reduceAdd, Nat.reduceSub, BEq.rfl, Bool.or_true, Bool.true_or, Bool.true_and, Bool.and_true, Bool.or_false, Bool.false_or, Bool.not_false, Bool.not_true, decide_false, decide_true, true_and, and_true, not_true_eq_false, not_false_eq_true, ↓reduceIte, Option.toList_some, Option.toList_none, List.cons_append, List.nil_append, am_sw, am_lk, List.toList_toArray, Int.reduceAdd, am_cats_cons, List.map_cons, List.map_nil, List.sum_cons, List.sum_nil, e12, nl, e6, e7, e0, e1, e2, y1', y2']
          refine qs k hk ⟨y1, y2, fun j hj => ?_⟩ hn
          have a3 := ary_3 t
          rw [q] at y3 y4 y5
          rcases (by omega : j = 0 ∨ j = 1 ∨ j = 2) with rfl | rfl | rfl
          · exact y3 hj
          · exact y4 hj
          · exact y5 hj
        all_goals
          simp (disch := omega) only [wr_all, wr_side, kk_153, B_153_2, mw_rd, nn_le, nn_eq, nn_clamp, nn_lt0, nn_nle, nn_addn, nn_muln, io_all, Nat.reduceDiv, Nat.reduceMod, Nat.reduceBEq, Nat.reduceLeDiff, Nat.reduceEqDiff, Nat.reduceLT, Nat.reduceMul, Nat.reduceAdd, Nat.reduceSub, BEq.rfl, Bool.or_true, Bool.true_or, Bool.true_and, Bool.and_true, Bool.or_false, Bool.false_or, Bool.not_false, Bool.not_true, decide_false, decide_true, true_and, and_true, not_true_eq_false, not_false_eq_true, ↓reduceIte, Option.toList_some, Option.toList_none, List.cons_append, List.nil_append, am_sw, am_lk, List.toList_toArray, Int.reduceAdd, am_cats_cons, List.map_cons, List.map_nil, List.sum_cons, List.sum_nil, e12, nl, e6, e7, e0, e1, e2, y1', y2', y3, y4, y5]
          refine go (fun sm => ?_)
          rw [q] at y3 y4 y5
          first | exact y3 (fun hj => sm.2.2 0 hj) | exact y4 (fun hj => sm.2.2 1 hj) | exact y5 (fun hj => sm.2.2 2 hj)
      · simp (disch := omega) only [wr_all, wr_side, kk_153, B_153_2, mw_rd, nn_le, nn_eq, nn_clamp, nn_lt0, nn_nle, nn_addn, nn_muln, io_all, Nat.reduceDiv, Nat.reduceMod, Nat.reduceBEq, Nat.reduceLeDiff, Nat.reduceEqDiff, Nat.reduceLT, Nat.reduceMul, Nat.reduceAdd, Nat.reduceSub, BEq.rfl, Bool.or_true, Bool.true_or, Bool.true_and, Bool.and_true, Bool.or_false, Bool.false_or, Bool.not_false, Bool.not_true, decide_false, decide_true, true_and, and_true, not_true_eq_false, not_false_eq_true, ↓reduceIte, Option.toList_some, Option.toList_none, List.cons_append, List.nil_append, am_sw, am_lk, List.toList_toArray, Int.reduceAdd, am_cats_cons, List.map_cons, List.map_nil, List.sum_cons, List.sum_nil, e12, nl, e6, e7, y1', y2]
        exact go (fun sm => y2 sm.2.1)
    · simp (disch := omega) only [wr_all, wr_side, kk_153, B_153_2, mw_rd, nn_le, nn_eq, nn_clamp, nn_lt0, nn_nle, nn_addn, nn_muln, io_all, Nat.reduceDiv, Nat.reduceMod, Nat.reduceBEq, Nat.reduceLeDiff, Nat.reduceEqDiff, Nat.reduceLT, Nat.reduceMul, Nat.reduceAdd, Nat.reduceSub, BEq.rfl, Bool.or_true, Bool.true_or, Bool.true_and, Bool.and_true, Bool.or_false, Bool.false_or, Bool.not_false, Bool.not_true, decide_false, decide_true, true_and, and_true, not_true_eq_false, not_false_eq_true, ↓reduceIte, Option.toList_some, Option.toList_none, List.cons_append, List.nil_append, am_sw, am_lk, List.toList_toArray, Int.reduceAdd, am_cats_cons, List.map_cons, List.map_nil, List.sum_cons, List.sum_nil, e12, nl, e6, e7, y1]
      exact go (fun sm => y1 sm.1)
/-- the arrays with one node more -/
def adA (n t v : Nat) (a : Nat → Nat) (ar : Nat → Nat → Int32) : Nat → Nat → Int32 := va_up (va_up (va_up (va_up (va_up ar 6 (upd (ar 6) n (Int32.ofNat t))) 7 (upd (ar 7) n (Int32.ofNat v))) 8 (upd (upd (upd (ar 8) (3 * n) (gi t a 0)) (3 * n + 1) (gi t a 1)) (3 * n + 2) (gi t a 2))) 10 (upd (ar 10) n (Int32.ofNat 0))) 24 (upd (ar 24) n (Int32.ofNat 0))
theorem c_make (h : MS n kd nm ag ar) (e12 : sc 12 = Int32.ofNat n) (ht : t < 12) (hv : v < 1000) (ha : ∀ j, j < ary t → a j < n) (hr : ∀ k, k < n → la 9 k = Int64.ofInt (re k) ∧ re k ≤ 1000000)
    (qs : ∀ k, k < n → smF kd nm ag t v a k → (∀ i, i < k → ¬ smF kd nm ag t v a i) → K (some (.int (Int32.ofNat k))) (mw sc ar la R))
    (ql : (∀ i, i < n → ¬ smF kd nm ag t v a i) → 1000000 < reF t v (fun j => re (a j)) → K (some (.int (-101))) (mw sc ar la R))
    (qf : (∀ i, i < n → ¬ smF kd nm ag t v a i) → reF t v (fun j => re (a j)) ≤ 1000000 → n = 36 → K (some (.int (-102))) (mw sc ar la R))
    (qa : (∀ i, i < n → ¬ smF kd nm ag t v a i) → reF t v (fun j => re (a j)) ≤ 1000000 → n < 36 → K (some (.int (Int32.ofNat n))) (mw (upd sc 12 (Int32.ofNat (n + 1))) (adA n t v a ar) (va_up la 9 (vp_updL (la 9) n (Int64.ofInt (reF t v (fun j => re (a j)))))) R))
    (hbig : reF t v (fun j => re (a j)) ≤ 2000000000000) :
    Ev PG (d + 2) 153 [.ref 33, .int (Int32.ofNat t), .int (Int32.ofNat v), .int (gi t a 0), .int (gi t a 1), .int (gi t a 2)] (mw sc ar la R) K := by
  have h1 := h.1
  rw [e_153]
  simp (disch := omega) only [wr_all, wr_side, kk_153, B_153_0, io_all]
  refine c_make_l h e12 ht hv ha qs (fun hn u6 u7 => ?_) n 0 _ (by omega) (by omega)
  have k1 : (Int64.ofInt (reF t v (fun j => re (a j)) : Int) ≤ Int64.ofInt 1000000) = (reF t v (fun j => re (a j)) ≤ 1000000) := by
    rw [nl_le ⟨by omega, by omega⟩ ⟨by omega, by omega⟩]; simp only [eq_iff_iff]; omega
  rw [B_153_3]
  by_cases y : reF t v (fun j => re (a j)) ≤ 1000000
  · by_cases z : n = 36
    · have z' : (n = 36) = True := by simp [z]
      simp (disch := omega) only [↓ c_reachOf h1 ht hv ha hr, wr_all, wr_side, wr_call, qq_all, kk_153, B_153_4, mw_rd, nn_eq, lc_le, io_all, Nat.reduceDiv, Nat.reduceMod, Nat.reduceBEq, Nat.reduceLeDiff, Nat.reduceEqDiff, Nat.reduceLT, Nat.reduceMul, Nat.reduceAdd, Nat.reduceSub, BEq.rfl, Bool.or_true, Bool.true_or, Bool.true_and, Bool.and_true, Bool.or_false, Bool.false_or, Bool.not_false, Bool.not_true, decide_false, decide_true, true_and, and_true, not_true_eq_false, not_false_eq_true, ↓reduceIte, Option.toList_some, Option.toList_none, List.cons_append, List.nil_append, am_sw, am_lk, List.toList_toArray, Int.reduceAdd, am_cats_cons, List.map_cons, List.map_nil, List.sum_cons, List.sum_nil, k1, y, e12, z']
      exact qf hn y z
    · simp (disch := omega) only [↓ c_reachOf h1 ht hv ha hr, wr_all, wr_side, wr_call, qq_all, kk_153, B_153_0, B_153_2, B_153_4, B_153_5, mw_rd, mw_put, nn_clamp, nn_lt, nn_le, nn_eq, nn_lt0, nn_0le, nn_0lt, nn_le0, nn_eq0, nn_eq_1, nn_f1, nn_f0, nn_addn, nn_muln, nn_subn, nn_sub1, nn_nle, bi_1, bi_0, bi_fit, vu, io_all, Nat.reduceDiv, Nat.reduceMod, Nat.reduceBEq, Nat.reduceLeDiff, Nat.reduceEqDiff, Nat.reduceLT, Nat.reduceMul, Nat.reduceAdd, Nat.reduceSub, BEq.rfl, Bool.or_true, Bool.true_or, Bool.true_and, Bool.and_true, Bool.or_false, Bool.false_or, Bool.not_false, Bool.not_true, decide_false, decide_true, true_and, and_true, not_true_eq_false, not_false_eq_true, ↓reduceIte, Option.toList_some, Option.toList_none, List.cons_append, List.nil_append, am_sw, am_lk, List.toList_toArray, Int.reduceAdd, am_cats_cons, List.map_cons, List.map_nil, List.sum_cons, List.sum_nil, lc_le, k1, y, e12, z, uu_3, us_ne, Nat.add_sub_cancel, uu_1]
      exact qa hn y (by omega)
  · simp (disch := omega) only [↓ c_reachOf h1 ht hv ha hr, wr_all, wr_side, wr_call, qq_all, kk_153, mw_rd, lc_le, io_all, Nat.reduceDiv, Nat.reduceMod, Nat.reduceBEq, Nat.reduceLeDiff, Nat.reduceEqDiff, Nat.reduceLT, Nat.reduceMul, Nat.reduceAdd, Nat.reduceSub, BEq.rfl, Bool.or_true, Bool.true_or, Bool.true_and, Bool.and_true, Bool.or_false, Bool.false_or, Bool.not_false, Bool.not_true, decide_false, decide_true, true_and, and_true, not_true_eq_false, not_false_eq_true, ↓reduceIte, Option.toList_some, Option.toList_none, List.cons_append, List.nil_append, am_sw, am_lk, List.toList_toArray, Int.reduceAdd, am_cats_cons, List.map_cons, List.map_nil, List.sum_cons, List.sum_nil, k1, y]
    exact ql hn (by omega)
end M23
