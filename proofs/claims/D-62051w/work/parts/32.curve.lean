/-! THE MODEL's curvature and blame. -/
def hvF (c : Nat → Nat) (lo hi : Nat) : Nat → Nat
  | 0 => 0
  | m + 1 => hvF c lo hi m + (if lo ≤ c m ∧ c m ≤ hi then 1 else 0)
def fnF (ad : Nat → Bool) : Nat → Nat → Nat
  | 0, f => f
  | m + 1, f => fnF ad m (if ad m = true then f else m + 1)
def cvF (t : Nat) (c : Nat → Nat) (u d : Nat → Bool) : Nat :=
  if ary t = 0 then (if t = 1 then 1 else 0) else if hvF c 0 0 (ary t) = ary t then 0 else if t = 6 ∧ hvF c 0 0 (ary t) = 0 then 4
  else if t ≤ 6 ∧ hvF c 0 1 (ary t) = ary t then 1 else if t ≠ 8 ∧ fnF (fun j => adF (c j) 2 (trF t j u d)) (ary t) 0 = 0 then 2
  else if (t ≤ 6 ∨ t = 8) ∧ fnF (fun j => adF (c j) 3 (trF t j u d)) (ary t) 0 = 0 then 3 else 4
def blF (t k : Nat) (c : Nat → Nat) (u d : Nat → Bool) : Nat :=
  if k ≠ 4 ∨ 0 < hvF c 4 4 (ary t) then 0 else if t = 6 ∧ hvF c 0 0 (ary t) = 0 then 4 else if t ≤ 6 then (if 1 < c 1 then 2 else 1)
  else fnF (fun j => adF (c j) (if t = 8 then 3 else 2) (trF t j u d)) (ary t) 0
theorem hvF_le (c : Nat → Nat) (lo hi : Nat) : ∀ m, hvF c lo hi m ≤ m
  | 0 => Nat.le_refl 0
  | m + 1 => by have := hvF_le c lo hi m; unfold hvF; split <;> omega
theorem fnF_le (ad : Nat → Bool) : ∀ m f, fnF ad m f ≤ max m f
  | 0, f => by simp [fnF]
  | m + 1, f => by have := fnF_le ad m (if ad m = true then f else m + 1); unfold fnF; split at this <;> split <;> simp_all <;> omega
section M2
variable {d : Nat} {sc : Nat → Int32} {ar : Nat → Nat → Int32} {la : Nat → Nat → Int64} {R w : am_W} {K : Option Value → am_W → Prop}
variable {n : Nat} {kd nm : Nat → Nat} {ag : Nat → Nat → Nat} {up dn : Nat → Bool} {cv bl : Nat → Nat}
theorem c_having_l {k lo hi : Nat} (h : MS n kd nm ag ar) (hk : k < n) (hlo : lo < 5) (hhi : hi < 5) (hc : ∀ i, i < k → ar 13 i = Int32.ofNat (cv i) ∧ cv i < 5) :
    ∀ (m j : Nat) (u : Value), j + m = ary (kd k) → Wp PG (d + 1) cd_162 B_162_1 [.ref 33, .int (Int32.ofNat k), .int (Int32.ofNat lo), .int (Int32.ofNat hi), .int (Int32.ofNat (hvF (fun i => cv (ag k i)) lo hi j)), .int (Int32.ofNat j), u] [] (mw sc ar la R) K
      = K (some (.int (Int32.ofNat (hvF (fun i => cv (ag k i)) lo hi (ary (kd k)))))) (mw sc ar la R) := by
  have h1 := h.1
  have ht := (h.2.1 k hk).1
  have e6 := (h.2.1 k hk).2.2.1
  have a3 := ary_3 (kd k)
  intro m
  induction m with
  | zero =>
    intro j u hj
    obtain rfl : j = ary (kd k) := by omega
    rw [B_162_1]
    simp (disch := omega) only [wr_all, wr_side, wr_call, qq_all, kk_162, B_162_0, B_162_2, B_162_3, B_162_4, mw_rd, mw_put, nn_clamp, nn_lt, nn_le, nn_eq, nn_lt0, nn_0le, nn_0lt, nn_le0, nn_eq0, nn_eq_1, nn_f1, nn_f0, nn_addn, nn_muln, nn_subn, nn_sub1, nn_nle, bi_1, bi_0, bi_fit, vu, io_all, Nat.reduceDiv, Nat.reduceMod, Nat.reduceBEq, Nat.reduceLeDiff, Nat.reduceEqDiff, Nat.reduceLT, Nat.reduceMul, Nat.reduceAdd, Nat.reduceSub, BEq.rfl, Bool.or_true, Bool.true_or, Bool.true_and, Bool.and_true, Bool.or_false, Bool.false_or, Bool.not_false, Bool.not_true, decide_false, decide_true, true_and, and_true, not_true_eq_false, not_false_eq_true, ↓reduceIte, Option.toList_some, Option.toList_none, List.cons_append, List.nil_append, am_sw, am_lk, List.toList_toArray, Int.reduceAdd, am_cats_cons, List.map_cons, List.map_nil, List.sum_cons, List.sum_nil, ↓ c_arity, e6, Nat.le_refl]
  | succ m ih =>
    intro j u hj
    have hg := h.2.2 k hk j (by omega)
    have a := h.arg hk (j := j) (by omega)
    obtain ⟨c1, c2⟩ := hc _ hg
    have hv := hvF_le (fun i => cv (ag k i)) lo hi j
    have q := fun u => ih (j + 1) u (by omega)
    rw [B_162_1]
    have nl : ¬ ary (kd k) ≤ j := by omega
    simp (disch := omega) only [wr_all, wr_side, wr_call, qq_all, kk_162, B_162_0, B_162_2, B_162_3, B_162_4, mw_rd, mw_put, nn_clamp, nn_lt, nn_le, nn_eq, nn_lt0, nn_0le, nn_0lt, nn_le0, nn_eq0, nn_eq_1, nn_f1, nn_f0, nn_addn, nn_muln, nn_subn, nn_sub1, nn_nle, bi_1, bi_0, bi_fit, vu, io_all, Nat.reduceDiv, Nat.reduceMod, Nat.reduceBEq, Nat.reduceLeDiff, Nat.reduceEqDiff, Nat.reduceLT, Nat.reduceMul, Nat.reduceAdd, Nat.reduceSub, BEq.rfl, Bool.or_true, Bool.true_or, Bool.true_and, Bool.and_true, Bool.or_false, Bool.false_or, Bool.not_false, Bool.not_true, decide_false, decide_true, true_and, and_true, not_true_eq_false, not_false_eq_true, ↓reduceIte, Option.toList_some, Option.toList_none, List.cons_append, List.nil_append, am_sw, am_lk, List.toList_toArray, Int.reduceAdd, am_cats_cons, List.map_cons, List.map_nil, List.sum_cons, List.sum_nil, ↓ c_arity, e6, a, c1, nl, if_neg]
    have f1 : hvF (fun i => cv (ag k i)) lo hi (j + 1) = hvF (fun i => cv (ag k i)) lo hi j + (if lo ≤ cv (ag k j) ∧ cv (ag k j) ≤ hi then 1 else 0) := rfl
    by_cases x1 : cv (ag k j) < lo
    · rw [if_neg (by omega)] at f1
      rw [if_pos x1, ← q, f1]
    · rw [if_neg x1]
      by_cases x2 : hi < cv (ag k j)
      · rw [if_neg (by omega)] at f1
        rw [if_pos x2, ← q, f1]
      · rw [if_pos (by omega)] at f1
        rw [if_neg x2, ← q, f1]
theorem c_having {k lo hi : Nat} (h : MS n kd nm ag ar) (hk : k < n) (hlo : lo < 5) (hhi : hi < 5) (hc : ∀ i, i < k → ar 13 i = Int32.ofNat (cv i) ∧ cv i < 5) :
    Ev PG (d + 2) 162 [.ref 33, .int (Int32.ofNat k), .int (Int32.ofNat lo), .int (Int32.ofNat hi)] (mw sc ar la R) K = K (some (.int (Int32.ofNat (hvF (fun i => cv (ag k i)) lo hi (ary (kd k)))))) (mw sc ar la R) := by
  refine Eq.trans ?_ (c_having_l (d := d) h hk hlo hhi hc (ary (kd k)) 0 am_J (by omega))
  rw [e_162]
  simp (disch := omega) only [wr_all, wr_side, kk_162, B_162_0, io_all, hvF]
theorem c_firstNot_l {k wt : Nat} (h : MS n kd nm ag ar) (hk : k < n) (hw : wt < 5) (hu : ∀ i, i < k → ar 11 i = bi (up i)) (hd : ∀ i, i < k → ar 12 i = bi (dn i)) (hc : ∀ i, i < k → ar 13 i = Int32.ofNat (cv i) ∧ cv i < 5) :
    ∀ (m f : Nat), m ≤ ary (kd k) → f ≤ 3 → Wp PG (d + 2) cd_163 B_163_1 [.ref 33, .int (Int32.ofNat k), .int (Int32.ofNat wt), .int (Int32.ofNat f), .int (Int32.ofNat m + -1)] [] (mw sc ar la R) K
      = K (some (.int (Int32.ofNat (fnF (fun j => adF (cv (ag k j)) wt (trF (kd k) j (fun i => up (ag k i)) (fun i => dn (ag k i)))) m f)))) (mw sc ar la R) := by
  have h1 := h.1
  have a3 := ary_3 (kd k)
  intro m
  induction m with
  | zero =>
    intro f hm hf
    rw [B_163_1, show Int32.ofNat 0 + -1 = -1 from by decide]
    simp (disch := omega) only [wr_all, wr_side, wr_call, qq_all, kk_163, B_163_0, B_163_2, B_163_3, B_163_4, mw_rd, mw_put, nn_clamp, nn_lt, nn_le, nn_eq, nn_lt0, nn_0le, nn_0lt, nn_le0, nn_eq0, nn_eq_1, nn_f1, nn_f0, nn_addn, nn_muln, nn_subn, nn_sub1, nn_nle, bi_1, bi_0, bi_fit, vu, io_all, Nat.reduceDiv, Nat.reduceMod, Nat.reduceBEq, Nat.reduceLeDiff, Nat.reduceEqDiff, Nat.reduceLT, Nat.reduceMul, Nat.reduceAdd, Nat.reduceSub, BEq.rfl, Bool.or_true, Bool.true_or, Bool.true_and, Bool.and_true, Bool.or_false, Bool.false_or, Bool.not_false, Bool.not_true, decide_false, decide_true, true_and, and_true, not_true_eq_false, not_false_eq_true, ↓reduceIte, Option.toList_some, Option.toList_none, List.cons_append, List.nil_append, am_sw, am_lk, List.toList_toArray, Int.reduceAdd, am_cats_cons, List.map_cons, List.map_nil, List.sum_cons, List.sum_nil, show ((-1 : Int32) < 0) = True from by decide, fnF]
  | succ m ih =>
    intro f hm hf
    have q := ih (if adF (cv (ag k m)) wt (trF (kd k) m (fun i => up (ag k i)) (fun i => dn (ag k i))) = true then f else m + 1) (by omega) (by split <;> omega)
    rw [B_163_1, show Int32.ofNat (m + 1) + -1 = Int32.ofNat m from nn_sub1 (by omega)]
    simp (disch := omega) only [↓ c_admits h hk (j := m) (by omega) hw hu hd hc, wr_all, wr_side, wr_call, qq_all, kk_163, B_163_2, B_163_3, B_163_4, mw_rd, io_all, nn_lt0, nn_addn, bi_0, ↓reduceIte, true_and, fnF, Nat.reduceDiv, Nat.reduceMod, Option.toList_some, List.cons_append, List.nil_append]
    rw [← q]
    cases adF (cv (ag k m)) wt (trF (kd k) m (fun i => up (ag k i)) (fun i => dn (ag k i))) <;> simp
theorem c_firstNot {k wt : Nat} (h : MS n kd nm ag ar) (hk : k < n) (hw : wt < 5) (hu : ∀ i, i < k → ar 11 i = bi (up i)) (hd : ∀ i, i < k → ar 12 i = bi (dn i)) (hc : ∀ i, i < k → ar 13 i = Int32.ofNat (cv i) ∧ cv i < 5) :
    Ev PG (d + 3) 163 [.ref 33, .int (Int32.ofNat k), .int (Int32.ofNat wt)] (mw sc ar la R) K
      = K (some (.int (Int32.ofNat (fnF (fun j => adF (cv (ag k j)) wt (trF (kd k) j (fun i => up (ag k i)) (fun i => dn (ag k i)))) (ary (kd k)) 0)))) (mw sc ar la R) := by
  have h1 := h.1
  have ht := (h.2.1 k hk).1
  have e6 := (h.2.1 k hk).2.2.1
  refine Eq.trans ?_ (c_firstNot_l (d := d) h hk hw hu hd hc (ary (kd k)) 0 (by omega) (by omega))
  rw [e_163]
  simp (disch := omega) only [↓ c_arity, e6, wr_all, wr_side, wr_call, qq_all, kk_163, B_163_0, mw_rd, io_all, nn_clamp, nn_lt0, nn_nle, BEq.rfl, Nat.reduceDiv, Nat.reduceMod, decide_false, Bool.or_false, Bool.not_false, Bool.and_true, Bool.or_true, true_and, Option.toList_some, List.cons_append, List.nil_append, Int32.sub_eq_add_neg]
  rfl
theorem c_curveOf {k : Nat} (h : MS n kd nm ag ar) (hk : k < n) (hu : ∀ i, i < k → ar 11 i = bi (up i)) (hd : ∀ i, i < k → ar 12 i = bi (dn i)) (hc : ∀ i, i < k → ar 13 i = Int32.ofNat (cv i) ∧ cv i < 5) :
    Ev PG (d + 4) 161 [.ref 33, .int (Int32.ofNat k)] (mw sc ar la R) K = K (some (.int (Int32.ofNat (cvF (kd k) (fun i => cv (ag k i)) (fun i => up (ag k i)) (fun i => dn (ag k i)))))) (mw sc ar la R) := by
  have h1 := h.1
  have ht := (h.2.1 k hk).1
  have e6 := (h.2.1 k hk).2.2.1
  have a3 := ary_3 (kd k)
  have v1 := hvF_le (fun i => cv (ag k i)) 0 0 (ary (kd k))
  have v2 := hvF_le (fun i => cv (ag k i)) 0 1 (ary (kd k))
  have v3 := fnF_le (fun j => adF (cv (ag k j)) 2 (trF (kd k) j (fun i => up (ag k i)) (fun i => dn (ag k i)))) (ary (kd k)) 0
  have v4 := fnF_le (fun j => adF (cv (ag k j)) 3 (trF (kd k) j (fun i => up (ag k i)) (fun i => dn (ag k i)))) (ary (kd k)) 0
  rw [e_161]
  rcases n12 ht with e | e | e | e | e | e | e | e | e | e | e | e
  all_goals simp (maxSteps := 1000000) (disch := omega) only [↓ c_arity, ↓ c_having h hk (lo := 0) (hi := 0) (by omega) (by omega) hc, ↓ c_having h hk (lo := 0) (hi := 1) (by omega) (by omega) hc, ↓ c_firstNot h hk (wt := 2) (by omega) hu hd hc, ↓ c_firstNot h hk (wt := 3) (by omega) hu hd hc, wr_all, wr_side, wr_call, qq_all, kk_161, B_161_0, B_161_1, B_161_2, B_161_3, B_161_4, B_161_5, B_161_6, B_161_7, B_161_8, B_161_9, B_161_10, mw_rd, mw_put, nn_clamp, nn_lt, nn_le, nn_eq, nn_lt0, nn_0le, nn_0lt, nn_le0, nn_eq0, nn_eq_1, nn_f1, nn_f0, nn_addn, nn_muln, nn_subn, nn_sub1, nn_nle, bi_1, bi_0, bi_fit, vu, io_all, Nat.reduceDiv, Nat.reduceMod, Nat.reduceBEq, Nat.reduceLeDiff, Nat.reduceEqDiff, Nat.reduceLT, Nat.reduceMul, Nat.reduceAdd, Nat.reduceSub, BEq.rfl, Bool.or_true, Bool.true_or, Bool.true_and, Bool.and_true, Bool.or_false, Bool.false_or, Bool.not_false, Bool.not_true, decide_false, decide_true, true_and, and_true, not_true_eq_false, not_false_eq_true, ↓reduceIte, Option.toList_some, Option.toList_none, List.cons_append, List.nil_append, am_sw, am_lk, List.toList_toArray, Int.reduceAdd, am_cats_cons, List.map_cons, List.map_nil, List.sum_cons, List.sum_nil, e6, e, ary_all] at v1 v2 v3 v4 ⊢
  all_goals simp only [cvF, ary_all, Nat.reduceEqDiff, Nat.reduceLeDiff, ↓reduceIte, true_and, false_and, and_true, true_or, or_true, ne_eq, not_true_eq_false, not_false_eq_true]
  all_goals simp (disch := omega) only [nn_eq, nn_eq0]
  all_goals (repeat' split) <;> first | rfl | (simp_all; done)
end M2
