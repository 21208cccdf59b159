/-! THE MODEL's columns. -/
/-- what the arrays say behind mark -/
def MK (n : Nat) (kd nm : Nat → Nat) (ag : Nat → Nat → Nat) (cv : Nat → Nat) (vl : Nat → Int) (us : Nat → Bool) (ar : Nat → Nat → Int32) : Prop :=
  MS n kd nm ag ar ∧ (∀ i, i < n → ar 13 i = Int32.ofNat (cv i) ∧ cv i < 5) ∧ (∀ i, i < n → ar 15 i = Int32.ofInt (vl i) ∧ -1000000 ≤ vl i ∧ vl i ≤ 1000000) ∧ ∀ i, i < n → ar 16 i = bi (us i)
def vaF (us : Nat → Bool) (kd : Nat → Nat) (k : Nat) : Bool := us k && decide (kd k = 1)
def auF (us : Nat → Bool) (kd cv : Nat → Nat) (k : Nat) : Bool := us k && decide (7 ≤ kd k) && decide (cv k ≠ 0)
/-- how many of the first m have a property -/
def cntF (p : Nat → Bool) : Nat → Nat
  | 0 => 0
  | m + 1 => cntF p m + (p m).toNat
theorem cntF_le (p : Nat → Bool) : ∀ m, cntF p m ≤ m
  | 0 => Nat.le_refl 0
  | m + 1 => by have := cntF_le p m; have := Bool.toNat_le (p m); unfold cntF; omega
def plF (n : Nat) (us : Nat → Bool) (kd cv : Nat → Nat) (k : Nat) : Option Nat :=
  if vaF us kd k = true then some (cntF (fun q => vaF us kd q && decide (q < k)) n) else if auF us kd cv k = true then some (cntF (fun q => vaF us kd q || (auF us kd cv q && decide (q < k))) n) else none
section M7
variable {d : Nat} {sc : Nat → Int32} {ar : Nat → Nat → Int32} {la : Nat → Nat → Int64} {R w : am_W} {K : Option Value → am_W → Prop}
variable {n nq : Nat} {kd nm lf rt : Nat → Nat} {ag : Nat → Nat → Nat} {up dn ex us : Nat → Bool} {cv bl : Nat → Nat} {vl gv : Nat → Int} {go : Option Nat}
theorem MK_mark (h : MS n kd nm ag ar) (F : AF n kd nm ag gv up dn cv bl vl) : MK n kd nm ag cv vl us (va_up (ovA n up dn cv bl vl ar) 16 (ovB n (fun i => bi (us i)) (ar 16))) :=
  ⟨h.congr rfl rfl rfl, fun i hi => ⟨by simp [vu, ovA, hi], by rw [(F i hi).2.2.1]; exact cvF_lt⟩, fun i hi => ⟨by simp [vu, ovA, hi], (F i hi).2.2.2.2.2⟩, fun i hi => by simp [vu, ovB, hi]⟩
theorem c_variable {k : Nat} (h : MK n kd nm ag cv vl us ar) (hk : k < n) : Ev PG (d + 1) 181 [.ref 33, .int (Int32.ofNat k)] (mw sc ar la R) K = K (some (.int (bi (vaF us kd k)))) (mw sc ar la R) := by
  have h1 := h.1.1
  have ht := (h.1.2.1 k hk).1
  have e6 := (h.1.2.1 k hk).2.2.1
  have eu := h.2.2.2 k hk
  rw [e_181]
  simp (disch := omega) only [wr_all, wr_side, wr_call, qq_all, kk_181, B_181_0, B_181_1, B_181_2, mw_rd, mw_put, nn_clamp, nn_lt, nn_le, nn_eq, nn_lt0, nn_0le, nn_0lt, nn_le0, nn_eq0, nn_eq_1, nn_f1, nn_f0, nn_addn, nn_muln, nn_subn, nn_sub1, nn_nle, bi_1, bi_0, bi_fit, vu, io_all, Nat.reduceDiv, Nat.reduceMod, Nat.reduceBEq, Nat.reduceLeDiff, Nat.reduceEqDiff, Nat.reduceLT, Nat.reduceMul, Nat.reduceAdd, Nat.reduceSub, BEq.rfl, Bool.or_true, Bool.true_or, Bool.true_and, Bool.and_true, Bool.or_false, Bool.false_or, Bool.not_false, Bool.not_true, decide_false, decide_true, true_and, and_true, not_true_eq_false, not_false_eq_true, ↓reduceIte, Option.toList_some, Option.toList_none, List.cons_append, List.nil_append, am_sw, am_lk, List.toList_toArray, Int.reduceAdd, am_cats_cons, List.map_cons, List.map_nil, List.sum_cons, List.sum_nil, e6, eu]
  unfold vaF
  cases us k <;> by_cases y : kd k = 1 <;> simp [y, bi]
theorem c_auxiliary {k : Nat} (h : MK n kd nm ag cv vl us ar) (hk : k < n) : Ev PG (d + 1) 182 [.ref 33, .int (Int32.ofNat k)] (mw sc ar la R) K = K (some (.int (bi (auF us kd cv k)))) (mw sc ar la R) := by
  have h1 := h.1.1
  have ht := (h.1.2.1 k hk).1
  have e6 := (h.1.2.1 k hk).2.2.1
  have eu := h.2.2.2 k hk
  obtain ⟨ec, hc⟩ := h.2.1 k hk
  rw [e_182]
  simp (disch := omega) only [wr_all, wr_side, wr_call, qq_all, kk_182, B_182_0, B_182_1, B_182_2, mw_rd, mw_put, nn_clamp, nn_lt, nn_le, nn_eq, nn_lt0, nn_0le, nn_0lt, nn_le0, nn_eq0, nn_eq_1, nn_f1, nn_f0, nn_addn, nn_muln, nn_subn, nn_sub1, nn_nle, bi_1, bi_0, bi_fit, vu, io_all, Nat.reduceDiv, Nat.reduceMod, Nat.reduceBEq, Nat.reduceLeDiff, Nat.reduceEqDiff, Nat.reduceLT, Nat.reduceMul, Nat.reduceAdd, Nat.reduceSub, BEq.rfl, Bool.or_true, Bool.true_or, Bool.true_and, Bool.and_true, Bool.or_false, Bool.false_or, Bool.not_false, Bool.not_true, decide_false, decide_true, true_and, and_true, not_true_eq_false, not_false_eq_true, ↓reduceIte, Option.toList_some, Option.toList_none, List.cons_append, List.nil_append, am_sw, am_lk, List.toList_toArray, Int.reduceAdd, am_cats_cons, List.map_cons, List.map_nil, List.sum_cons, List.sum_nil, e6, eu, ec]
  unfold auF
  cases us k <;> by_cases y : kd k < 7 <;> by_cases z : cv k = 0 <;> simp [y, z, bi, show (7 ≤ kd k) = ¬ (kd k < 7) from by simp]
theorem c_columns_l (h : MK n kd nm ag cv vl us ar) (e12 : sc 12 = Int32.ofNat n) : ∀ (m k : Nat), k + m = n → Wp PG (d + 1) cd_180 B_180_1 [.ref 33, .int (Int32.ofNat (cntF (fun q => vaF us kd q || auF us kd cv q) k)), .int (Int32.ofNat k)] [] (mw sc ar la R) K
      = K (some (.int (Int32.ofNat (cntF (fun q => vaF us kd q || auF us kd cv q) n)))) (mw sc ar la R) := by
  have h1 := h.1.1
  intro m
  induction m with
  | zero =>
    intro k e
    obtain rfl : k = n := by omega
    rw [B_180_1]
    simp (disch := omega) only [wr_all, wr_side, wr_call, qq_all, kk_180, B_180_0, B_180_2, B_180_3, B_180_4, B_180_5, mw_rd, mw_put, nn_clamp, nn_lt, nn_le, nn_eq, nn_lt0, nn_0le, nn_0lt, nn_le0, nn_eq0, nn_eq_1, nn_f1, nn_f0, nn_addn, nn_muln, nn_subn, nn_sub1, nn_nle, bi_1, bi_0, bi_fit, vu, io_all, Nat.reduceDiv, Nat.reduceMod, Nat.reduceBEq, Nat.reduceLeDiff, Nat.reduceEqDiff, Nat.reduceLT, Nat.reduceMul, Nat.reduceAdd, Nat.reduceSub, BEq.rfl, Bool.or_true, Bool.true_or, Bool.true_and, Bool.and_true, Bool.or_false, Bool.false_or, Bool.not_false, Bool.not_true, decide_false, decide_true, true_and, and_true, not_true_eq_false, not_false_eq_true, ↓reduceIte, Option.toList_some, Option.toList_none, List.cons_append, List.nil_append, am_sw, am_lk, List.toList_toArray, Int.reduceAdd, am_cats_cons, List.map_cons, List.map_nil, List.sum_cons, List.sum_nil, e12, Nat.le_refl]
  | succ m ih =>
    intro k e
    have nl : ¬ n ≤ k := by omega
    have hk : k < n := by omega
    rw [B_180_1]
    simp (disch := omega) only [↓ c_variable h hk, ↓ c_auxiliary h hk, wr_all, wr_side, wr_call, qq_all, kk_180, B_180_0, B_180_2, B_180_3, B_180_4, B_180_5, mw_rd, mw_put, nn_clamp, nn_lt, nn_le, nn_eq, nn_lt0, nn_0le, nn_0lt, nn_le0, nn_eq0, nn_eq_1, nn_f1, nn_f0, nn_addn, nn_muln, nn_subn, nn_sub1, nn_nle, bi_1, bi_0, bi_fit, vu, io_all, Nat.reduceDiv, Nat.reduceMod, Nat.reduceBEq, Nat.reduceLeDiff, Nat.reduceEqDiff, Nat.reduceLT, Nat.reduceMul, Nat.reduceAdd, Nat.reduceSub, BEq.rfl, Bool.or_true, Bool.true_or, Bool.true_and, Bool.and_true, Bool.or_false, Bool.false_or, Bool.not_false, Bool.not_true, decide_false, decide_true, true_and, and_true, not_true_eq_false, not_false_eq_true, ↓reduceIte, Option.toList_some, Option.toList_none, List.cons_append, List.nil_append, am_sw, am_lk, List.toList_toArray, Int.reduceAdd, am_cats_cons, List.map_cons, List.map_nil, List.sum_cons, List.sum_nil, e12, nl]
    rw [← ih (k + 1) (by omega)]
    simp only [cntF]
    cases vaF us kd k <;> cases auF us kd cv k <;> rfl
theorem c_columns (h : MK n kd nm ag cv vl us ar) (e12 : sc 12 = Int32.ofNat n) : Ev PG (d + 2) 180 [.ref 33] (mw sc ar la R) K = K (some (.int (Int32.ofNat (cntF (fun q => vaF us kd q || auF us kd cv q) n)))) (mw sc ar la R) := by
  rw [← c_columns_l (d := d) (la := la) (R := R) (K := K) h e12 n 0 (by omega), e_180]
  simp (disch := omega) only [wr_all, wr_side, kk_180, B_180_0, io_all, cntF]
theorem c_place_l {k : Nat} (h : MK n kd nm ag cv vl us ar) (e12 : sc 12 = Int32.ofNat n) (hk : k < n) (p : Nat → Bool) (hp : ∀ q, p q = if vaF us kd k = true then vaF us kd q && decide (q < k) else vaF us kd q || (auF us kd cv q && decide (q < k))) :
    ∀ (m q : Nat) (u : Value), q + m = n → Wp PG (d + 1) cd_184 B_184_2 [.ref 33, .int (Int32.ofNat k), .int (Int32.ofNat (cntF p q)), .int (Int32.ofNat q), u] [] (mw sc ar la R) K
      = K (some (.int (Int32.ofNat (cntF p n)))) (mw sc ar la R) := by
  have h1 := h.1.1
  intro m
  induction m with
  | zero =>
    intro q u e
    obtain rfl : q = n := by omega
    rw [B_184_2]
    simp (disch := omega) only [wr_all, wr_side, wr_call, qq_all, kk_184, B_184_0, B_184_1, B_184_3, B_184_4, B_184_5, B_184_6, B_184_7, B_184_8, B_184_9, B_184_10, mw_rd, mw_put, nn_clamp, nn_lt, nn_le, nn_eq, nn_lt0, nn_0le, nn_0lt, nn_le0, nn_eq0, nn_eq_1, nn_f1, nn_f0, nn_addn, nn_muln, nn_subn, nn_sub1, nn_nle, bi_1, bi_0, bi_fit, vu, io_all, Nat.reduceDiv, Nat.reduceMod, Nat.reduceBEq, Nat.reduceLeDiff, Nat.reduceEqDiff, Nat.reduceLT, Nat.reduceMul, Nat.reduceAdd, Nat.reduceSub, BEq.rfl, Bool.or_true, Bool.true_or, Bool.true_and, Bool.and_true, Bool.or_false, Bool.false_or, Bool.not_false, Bool.not_true, decide_false, decide_true, true_and, and_true, not_true_eq_false, not_false_eq_true, ↓reduceIte, Option.toList_some, Option.toList_none, List.cons_append, List.nil_append, am_sw, am_lk, List.toList_toArray, Int.reduceAdd, am_cats_cons, List.map_cons, List.map_nil, List.sum_cons, List.sum_nil, e12, Nat.le_refl]
  | succ m ih =>
    intro q u e
    have nl : ¬ n ≤ q := by omega
    have hq : q < n := by omega
    have hpq := hp q
    rw [B_184_2]
    simp (disch := omega) only [↓ c_variable h hk, ↓ c_auxiliary h hk, ↓ c_variable h hq, ↓ c_auxiliary h hq, wr_all, wr_side, wr_call, qq_all, kk_184, B_184_0, B_184_1, B_184_3, B_184_4, B_184_5, B_184_6, B_184_7, B_184_8, B_184_9, B_184_10, mw_rd, mw_put, nn_clamp, nn_lt, nn_le, nn_eq, nn_lt0, nn_0le, nn_0lt, nn_le0, nn_eq0, nn_eq_1, nn_f1, nn_f0, nn_addn, nn_muln, nn_subn, nn_sub1, nn_nle, bi_1, bi_0, bi_fit, vu, io_all, Nat.reduceDiv, Nat.reduceMod, Nat.reduceBEq, Nat.reduceLeDiff, Nat.reduceEqDiff, Nat.reduceLT, Nat.reduceMul, Nat.reduceAdd, Nat.reduceSub, BEq.rfl, Bool.or_true, Bool.true_or, Bool.true_and, Bool.and_true, Bool.or_false, Bool.false_or, Bool.not_false, Bool.not_true, decide_false, decide_true, true_and, and_true, not_true_eq_false, not_false_eq_true, ↓reduceIte, Option.toList_some, Option.toList_none, List.cons_append, List.nil_append, am_sw, am_lk, List.toList_toArray, Int.reduceAdd, am_cats_cons, List.map_cons, List.map_nil, List.sum_cons, List.sum_nil, e12, nl]
    rw [← ih (q + 1) (.int (bi (p q))) (by omega)]
    simp only [cntF]
    cases y1 : vaF us kd k <;> cases y2 : vaF us kd q <;> cases y3 : auF us kd cv q <;> by_cases y4 : q < k <;> simp [y1, y2, y3, y4] at hpq <;> simp only [y4, hpq, bi, ↓reduceIte, show (k ≤ q) = ¬ (q < k) from by simp, Bool.toNat_true, Bool.toNat_false, Nat.add_zero, not_true_eq_false, not_false_eq_true, Bool.true_eq_false]
theorem c_place {k : Nat} (h : MK n kd nm ag cv vl us ar) (e12 : sc 12 = Int32.ofNat n) (hk : k < n) : Ev PG (d + 2) 184 [.ref 33, .int (Int32.ofNat k)] (mw sc ar la R) K = K (some (.int (oi (plF n us kd cv k)))) (mw sc ar la R) := by
  rw [e_184]
  have q := fun p hp u => c_place_l (d := d) (sc := sc) (la := la) (R := R) (K := K) h e12 hk p hp n 0 u (by omega)
  simp only [cntF] at q
  simp (disch := omega) only [↓ c_variable h hk, ↓ c_auxiliary h hk, wr_all, wr_side, wr_call, qq_all, kk_184, B_184_0, B_184_1, B_184_3, B_184_4, B_184_5, B_184_6, B_184_7, B_184_8, B_184_9, B_184_10, mw_rd, mw_put, nn_clamp, nn_lt, nn_le, nn_eq, nn_lt0, nn_0le, nn_0lt, nn_le0, nn_eq0, nn_eq_1, nn_f1, nn_f0, nn_addn, nn_muln, nn_subn, nn_sub1, nn_nle, bi_1, bi_0, bi_fit, vu, io_all, Nat.reduceDiv, Nat.reduceMod, Nat.reduceBEq, Nat.reduceLeDiff, Nat.reduceEqDiff, Nat.reduceLT, Nat.reduceMul, Nat.reduceAdd, Nat.reduceSub, BEq.rfl, Bool.or_true, Bool.true_or, Bool.true_and, Bool.and_true, Bool.or_false, Bool.false_or, Bool.not_false, Bool.not_true, decide_false, decide_true, true_and, and_true, not_true_eq_false, not_false_eq_true, ↓reduceIte, Option.toList_some, Option.toList_none, List.cons_append, List.nil_append, am_sw, am_lk, List.toList_toArray, Int.reduceAdd, am_cats_cons, List.map_cons, List.map_nil, List.sum_cons, List.sum_nil]
  unfold plF
  cases y1 : vaF us kd k <;> cases y2 : auF us kd cv k <;> simp only [oi, ↓reduceIte, not_true_eq_false, not_false_eq_true, Bool.true_eq_false, Bool.false_eq_true]
  · rw [q (fun q => vaF us kd q || (auF us kd cv q && decide (q < k))) (fun q => by simp [y1])]
  · rw [q (fun q => vaF us kd q && decide (q < k)) (fun q => by simp [y1])]
  · rw [q (fun q => vaF us kd q && decide (q < k)) (fun q => by simp [y1])]
end M7
