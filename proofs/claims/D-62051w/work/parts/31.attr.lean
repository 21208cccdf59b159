/-! THE MODEL's attributes. -/
def upF (t v : Nat) (u d : Nat → Bool) : Bool := match t with
  | 0 => decide (v ≠ 0) | 1 => true | 2 => decide (v ≠ 113) | 3 => u 0 || u 1 | 4 => u 0 || d 1 | 5 => d 0 | 6 => u 0 && u 1 || d 0 && d 1 | 7 => u 0 || u 1 | 8 => u 0 && u 1 | 11 => u 0 || u 1 || u 2 | _ => u 0 || d 0
def dnF (t v : Nat) (u d : Nat → Bool) : Bool := match t with
  | 0 => false | 1 => true | 2 => decide (v ≠ 112) | 3 => d 0 || d 1 | 4 => d 0 || u 1 | 5 => u 0 | 6 => u 0 && d 1 || d 0 && u 1 | 7 => d 0 && d 1 | 8 => d 0 || d 1 | 11 => d 0 && d 1 || d 0 && d 2 || d 1 && d 2 | _ => false
def trF (t j : Nat) (u d : Nat → Bool) : Int32 :=
  if t = 3 ∨ t = 7 ∨ t = 8 ∨ t = 11 then 1 else if t = 4 ∨ t = 5 then (if t = 4 ∧ j = 0 then 1 else -1) else if d (if t = 6 then 1 - j else 0) = false then 1 else if u (if t = 6 then 1 - j else 0) = false then -1 else 0
def adF (c w : Nat) (way : Int32) : Bool := decide (c = 0 ∨ c = 1 ∨ (c ≠ 4 ∧ if c = w then way = 1 else way = -1))
def MS (n : Nat) (kd nm : Nat → Nat) (ag : Nat → Nat → Nat) (ar : Nat → Nat → Int32) : Prop :=
  n ≤ 36 ∧ (∀ k, k < n → kd k < 12 ∧ nm k < 1000 ∧ ar 6 k = Int32.ofNat (kd k) ∧ ar 7 k = Int32.ofNat (nm k) ∧ ∀ j, j < 3 → ar 8 (3 * k + j) = if j < ary (kd k) then Int32.ofNat (ag k j) else -1) ∧ ∀ k, k < n → ∀ j, j < ary (kd k) → ag k j < k
section M1
variable {d : Nat} {sc : Nat → Int32} {ar : Nat → Nat → Int32} {la : Nat → Nat → Int64} {R w : am_W} {K : Option Value → am_W → Prop}
variable {n : Nat} {kd nm : Nat → Nat} {ag : Nat → Nat → Nat} {up dn : Nat → Bool} {cv bl : Nat → Nat}
theorem MS.arg {k j : Nat} (h : MS n kd nm ag ar) (hk : k < n) (hj : j < ary (kd k)) : ar 8 (3 * k + j) = Int32.ofNat (ag k j) := by
  have := (h.2.1 k hk).2.2.2.2 j (by have := ary_3 (kd k); omega)
  rw [this, if_pos hj]
theorem MS.a0 {k : Nat} (h : MS n kd nm ag ar) (hk : k < n) (hj : 0 < ary (kd k)) : ar 8 (3 * k) = Int32.ofNat (ag k 0) := h.arg hk hj
theorem MS.a1 {k : Nat} (h : MS n kd nm ag ar) (hk : k < n) (hj : 1 < ary (kd k)) : ar 8 (3 * k + 1) = Int32.ofNat (ag k 1) := h.arg hk hj
theorem MS.a2 {k : Nat} (h : MS n kd nm ag ar) (hk : k < n) (hj : 2 < ary (kd k)) : ar 8 (3 * k + 2) = Int32.ofNat (ag k 2) := h.arg hk hj
theorem c_trend {k j : Nat} (h : MS n kd nm ag ar) (hk : k < n) (hj : j < ary (kd k)) (hu : ∀ i, i < k → ar 11 i = bi (up i)) (hd : ∀ i, i < k → ar 12 i = bi (dn i)) :
    Ev PG (d + 1) 165 [.ref 33, .int (Int32.ofNat k), .int (Int32.ofNat j)] (mw sc ar la R) K = K (some (.int (trF (kd k) j (fun i => up (ag k i)) (fun i => dn (ag k i))))) (mw sc ar la R) := by
  have h1 := h.1
  have ht := (h.2.1 k hk).1
  have e6 := (h.2.1 k hk).2.2.1
  have a0 := h.a0 hk
  have a1 := h.a1 hk
  have g0 := h.2.2 k hk 0
  have g1 := h.2.2 k hk 1
  rw [e_165]
  rcases n12 ht with e | e | e | e | e | e | e | e | e | e | e | e <;> rw [e] at hj e6 a0 a1 g0 g1 <;> simp [ary] at hj a0 a1 g0 g1 <;> rw [e]
  case inr.inr.inr.inr.inr.inr.inl =>
    rcases (by omega : j = 0 ∨ j = 1) with rfl | rfl <;>
    simp (disch := omega) only [wr_all, wr_side, wr_call, qq_all, kk_165, B_165_0, B_165_1, B_165_2, B_165_3, B_165_4, B_165_5, B_165_6, B_165_7, B_165_8, B_165_9, B_165_10, B_165_11, mw_rd, mw_put, nn_clamp, nn_lt, nn_le, nn_eq, nn_lt0, nn_0le, nn_0lt, nn_le0, nn_eq0, nn_eq_1, nn_f1, nn_f0, nn_addn, nn_muln, nn_subn, nn_sub1, nn_nle, bi_1, bi_0, bi_fit, vu, io_all, Nat.reduceDiv, Nat.reduceMod, Nat.reduceBEq, Nat.reduceLeDiff, Nat.reduceEqDiff, Nat.reduceLT, Nat.reduceMul, Nat.reduceAdd, Nat.reduceSub, BEq.rfl, Bool.or_true, Bool.true_or, Bool.true_and, Bool.and_true, Bool.or_false, Bool.false_or, Bool.not_false, Bool.not_true, decide_false, decide_true, true_and, and_true, not_true_eq_false, not_false_eq_true, ↓reduceIte, Option.toList_some, Option.toList_none, List.cons_append, List.nil_append, am_sw, am_lk, List.toList_toArray, Int.reduceAdd, am_cats_cons, List.map_cons, List.map_nil, List.sum_cons, List.sum_nil, e6, a0, a1, hu, hd, Nat.sub_zero, Nat.add_sub_cancel] <;> simp [trF] <;> split <;> (try split) <;> simp_all
  case inr.inr.inr.inr.inl =>
    rcases (by omega : j = 0 ∨ j = 1) with rfl | rfl <;>
    simp (disch := omega) only [wr_all, wr_side, wr_call, qq_all, kk_165, B_165_0, B_165_1, B_165_2, B_165_3, B_165_4, B_165_5, B_165_6, B_165_7, B_165_8, B_165_9, B_165_10, B_165_11, mw_rd, mw_put, nn_clamp, nn_lt, nn_le, nn_eq, nn_lt0, nn_0le, nn_0lt, nn_le0, nn_eq0, nn_eq_1, nn_f1, nn_f0, nn_addn, nn_muln, nn_subn, nn_sub1, nn_nle, bi_1, bi_0, bi_fit, vu, io_all, Nat.reduceDiv, Nat.reduceMod, Nat.reduceBEq, Nat.reduceLeDiff, Nat.reduceEqDiff, Nat.reduceLT, Nat.reduceMul, Nat.reduceAdd, Nat.reduceSub, BEq.rfl, Bool.or_true, Bool.true_or, Bool.true_and, Bool.and_true, Bool.or_false, Bool.false_or, Bool.not_false, Bool.not_true, decide_false, decide_true, true_and, and_true, not_true_eq_false, not_false_eq_true, ↓reduceIte, Option.toList_some, Option.toList_none, List.cons_append, List.nil_append, am_sw, am_lk, List.toList_toArray, Int.reduceAdd, am_cats_cons, List.map_cons, List.map_nil, List.sum_cons, List.sum_nil, e6, a0, a1, hu, hd] <;> simp [trF]
  all_goals
    simp (disch := omega) only [wr_all, wr_side, wr_call, qq_all, kk_165, B_165_0, B_165_1, B_165_2, B_165_3, B_165_4, B_165_5, B_165_6, B_165_7, B_165_8, B_165_9, B_165_10, B_165_11, mw_rd, mw_put, nn_clamp, nn_lt, nn_le, nn_eq, nn_lt0, nn_0le, nn_0lt, nn_le0, nn_eq0, nn_eq_1, nn_f1, nn_f0, nn_addn, nn_muln, nn_subn, nn_sub1, nn_nle, bi_1, bi_0, bi_fit, vu, io_all, Nat.reduceDiv, Nat.reduceMod, Nat.reduceBEq, Nat.reduceLeDiff, Nat.reduceEqDiff, Nat.reduceLT, Nat.reduceMul, Nat.reduceAdd, Nat.reduceSub, BEq.rfl, Bool.or_true, Bool.true_or, Bool.true_and, Bool.and_true, Bool.or_false, Bool.false_or, Bool.not_false, Bool.not_true, decide_false, decide_true, true_and, and_true, not_true_eq_false, not_false_eq_true, ↓reduceIte, Option.toList_some, Option.toList_none, List.cons_append, List.nil_append, am_sw, am_lk, List.toList_toArray, Int.reduceAdd, am_cats_cons, List.map_cons, List.map_nil, List.sum_cons, List.sum_nil, e6, a0, a1, hu, hd, Nat.sub_zero, Nat.add_sub_cancel]
  all_goals try (simp [trF]; done)
  all_goals (simp [trF]; split <;> (try split) <;> simp_all)
theorem c_admits {k j wt : Nat} (h : MS n kd nm ag ar) (hk : k < n) (hj : j < ary (kd k)) (hw : wt < 5) (hu : ∀ i, i < k → ar 11 i = bi (up i)) (hd : ∀ i, i < k → ar 12 i = bi (dn i)) (hc : ∀ i, i < k → ar 13 i = Int32.ofNat (cv i) ∧ cv i < 5) :
    Ev PG (d + 2) 164 [.ref 33, .int (Int32.ofNat k), .int (Int32.ofNat j), .int (Int32.ofNat wt)] (mw sc ar la R) K = K (some (.int (bi (adF (cv (ag k j)) wt (trF (kd k) j (fun i => up (ag k i)) (fun i => dn (ag k i))))))) (mw sc ar la R) := by
  have h1 := h.1
  have hg := h.2.2 k hk j hj
  have a := h.arg hk hj
  have a3 := ary_3 (kd k)
  obtain ⟨c1, c2⟩ := hc _ hg
  rw [e_164]
  simp (disch := omega) only [wr_all, wr_side, wr_call, qq_all, kk_164, B_164_0, B_164_1, B_164_2, B_164_3, B_164_4, B_164_5, B_164_6, mw_rd, mw_put, nn_clamp, nn_lt, nn_le, nn_eq, nn_lt0, nn_0le, nn_0lt, nn_le0, nn_eq0, nn_eq_1, nn_f1, nn_f0, nn_addn, nn_muln, nn_subn, nn_sub1, nn_nle, bi_1, bi_0, bi_fit, vu, io_all, Nat.reduceDiv, Nat.reduceMod, Nat.reduceBEq, Nat.reduceLeDiff, Nat.reduceEqDiff, Nat.reduceLT, Nat.reduceMul, Nat.reduceAdd, Nat.reduceSub, BEq.rfl, Bool.or_true, Bool.true_or, Bool.true_and, Bool.and_true, Bool.or_false, Bool.false_or, Bool.not_false, Bool.not_true, decide_false, decide_true, true_and, and_true, not_true_eq_false, not_false_eq_true, ↓reduceIte, Option.toList_some, Option.toList_none, List.cons_append, List.nil_append, am_sw, am_lk, List.toList_toArray, Int.reduceAdd, am_cats_cons, List.map_cons, List.map_nil, List.sum_cons, List.sum_nil, ↓ c_trend h hk hj hu hd, a, c1]
  generalize trF _ _ _ _ = tr
  generalize cv (ag k j) = c at c2
  rcases (by omega : c = 0 ∨ c = 1 ∨ c = 2 ∨ c = 3 ∨ c = 4) with rfl | rfl | rfl | rfl | rfl <;> rcases (by omega : wt = 0 ∨ wt = 1 ∨ wt = 2 ∨ wt = 3 ∨ wt = 4) with rfl | rfl | rfl | rfl | rfl <;> simp [adF, bi]
  all_goals (split <;> simp_all)
end M1
