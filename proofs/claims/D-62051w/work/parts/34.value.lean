/-! THE MODEL's values. -/
def vlF (t v : Nat) (g : Int) (x : Nat → Int) : Int := match t with
  | 0 => v | 1 => g | 2 => g | 3 => x 0 + x 1 | 4 => x 0 - x 1 | 5 => - x 0 | 6 => x 0 * x 1 | 7 => max (x 0) (x 1) | 8 => min (x 0) (x 1) | 9 => max (x 0) (- x 0) | 10 => x 0 * x 0 | _ => x 0 + x 1 + x 2 - min (x 0) (min (x 1) (x 2))
section M4
variable {d : Nat} {sc : Nat → Int32} {ar : Nat → Nat → Int32} {la : Nat → Nat → Int64} {R w : am_W} {K : Option Value → am_W → Prop}
variable {n : Nat} {kd nm : Nat → Nat} {ag : Nat → Nat → Nat} {up dn : Nat → Bool} {cv bl : Nat → Nat} {vl gv : Nat → Int}
theorem c_greater {x y : Int} (h : -2147483648 ≤ x) (h' : x < 2147483648) (g : -2147483648 ≤ y) (g' : y < 2147483648) : Ev PG (d + 1) 160 [.int (Int32.ofInt x), .int (Int32.ofInt y)] w K = K (some (.int (Int32.ofInt (max x y)))) w := by
  rw [e_160]
  simp (disch := omega) only [wr_all, wr_side, wr_call, qq_all, kk_160, B_160_0, B_160_1, B_160_2, mw_rd, mw_put, nn_clamp, nn_lt, nn_le, nn_eq, nn_lt0, nn_0le, nn_0lt, nn_le0, nn_eq0, nn_eq_1, nn_f1, nn_f0, nn_addn, nn_muln, nn_subn, nn_sub1, nn_nle, bi_1, bi_0, bi_fit, vu, io_all, Nat.reduceDiv, Nat.reduceMod, Nat.reduceBEq, Nat.reduceLeDiff, Nat.reduceEqDiff, Nat.reduceLT, Nat.reduceMul, Nat.reduceAdd, Nat.reduceSub, BEq.rfl, Bool.or_true, Bool.true_or, Bool.true_and, Bool.and_true, Bool.or_false, Bool.false_or, Bool.not_false, Bool.not_true, decide_false, decide_true, true_and, and_true, not_true_eq_false, not_false_eq_true, ↓reduceIte, Option.toList_some, Option.toList_none, List.cons_append, List.nil_append, am_sw, am_lk, List.toList_toArray, Int.reduceAdd, am_cats_cons, List.map_cons, List.map_nil, List.sum_cons, List.sum_nil, nz_le]
  by_cases e : x ≤ y
  · rw [if_pos e, show max x y = y by omega]
  · rw [if_neg e, show max x y = x by omega]
theorem c_worthOf {k : Nat} (h : MS n kd nm ag ar) (hk : k < n) (hg : ar 10 k = Int32.ofInt (gv k)) (hv : ∀ i, i < k → ar 15 i = Int32.ofInt (vl i) ∧ -1000000 ≤ vl i ∧ vl i ≤ 1000000) :
    Ev PG (d + 2) 159 [.ref 33, .int (Int32.ofNat k), .int (ar 8 (3 * k)), .int (ar 8 (3 * k + 1)), .int (ar 8 (3 * k + 2))] (mw sc ar la R) K
      = K (some (.int (Int32.ofInt (vlF (kd k) (nm k) (gv k) (fun i => vl (ag k i)))))) (mw sc ar la R) := by
  have h1 := h.1
  have ht := (h.2.1 k hk).1
  have hn := (h.2.1 k hk).2.1
  have e6 := (h.2.1 k hk).2.2.1
  have e7 := (h.2.1 k hk).2.2.2.1
  have a0 := h.a0 hk
  have a1 := h.a1 hk
  have a2 := h.a2 hk
  have g0 := h.2.2 k hk 0
  have g1 := h.2.2 k hk 1
  have g2 := h.2.2 k hk 2
  have v0 := hv (ag k 0)
  have v1 := hv (ag k 1)
  have v2 := hv (ag k 2)
  rw [e_159]
  rcases n12 ht with e | e | e | e | e | e | e | e | e | e | e | e <;> rw [e] at e6 a0 a1 a2 g0 g1 g2 <;> simp [ary_all] at a0 a1 a2 g0 g1 g2 <;> rw [e] <;> (try simp only [g0, forall_const] at v0) <;> (try simp only [g1, forall_const] at v1) <;> (try simp only [g2, forall_const] at v2)
  all_goals simp (maxSteps := 1000000) (disch := omega) only [↓ c_greater, wr_all, wr_side, wr_call, qq_all, kk_159, B_159_0, B_159_1, B_159_2, B_159_3, B_159_4, B_159_5, B_159_6, B_159_7, B_159_8, B_159_9, B_159_10, B_159_11, mw_rd, mw_put, nn_clamp, nn_lt, nn_le, nn_eq, nn_lt0, nn_0le, nn_0lt, nn_le0, nn_eq0, nn_eq_1, nn_f1, nn_f0, nn_addn, nn_muln, nn_subn, nn_sub1, nn_nle, bi_1, bi_0, bi_fit, vu, io_all, Nat.reduceDiv, Nat.reduceMod, Nat.reduceBEq, Nat.reduceLeDiff, Nat.reduceEqDiff, Nat.reduceLT, Nat.reduceMul, Nat.reduceAdd, Nat.reduceSub, BEq.rfl, Bool.or_true, Bool.true_or, Bool.true_and, Bool.and_true, Bool.or_false, Bool.false_or, Bool.not_false, Bool.not_true, decide_false, decide_true, true_and, and_true, not_true_eq_false, not_false_eq_true, ↓reduceIte, Option.toList_some, Option.toList_none, List.cons_append, List.nil_append, am_sw, am_lk, List.toList_toArray, Int.reduceAdd, am_cats_cons, List.map_cons, List.map_nil, List.sum_cons, List.sum_nil, e6, e7, a0, a1, a2, hg, v0, v1, v2, nz_add, nz_sub, nz_mul, nz_neg, vlF]
  all_goals try (congr 4; omega)
  rw [nz_nat]
end M4
