/-! THE MODEL's rows, their values. -/
def roF (t i : Nat) (s a b c : Int) : Int :=
  if t = 7 then (if i = 0 then s - a else s - b) else if t = 8 then (if i = 0 then a - s else b - s) else if t = 9 then (if i = 0 then s - a else s + a)
  else if t = 10 then (if i = 0 then 1 + s else if i = 1 then 1 - s else 2 * a) else if i = 0 then s - a - b else if i = 1 then s - a - c else s - b - c
/-- a row: the requirement q as (q, 3), row i of the auxiliary k as (k, i) -/
def rvD (ex : Nat → Bool) (lf rt kd : Nat → Nat) (ag : Nat → Nat → Nat) (lin : Nat → Int) (p : Nat × Nat) : Int :=
  if p.2 = 3 then (if ex p.1 = true then lin (lf p.1) - lin (rt p.1) else lin (rt p.1) - lin (lf p.1)) else roF (kd p.1) p.2 (lin p.1) (lin (ag p.1 0)) (lin (ag p.1 1)) (lin (ag p.1 2))
def rvAt (ex : Nat → Bool) (lf rt kd : Nat → Nat) (ag : Nat → Nat → Nat) (lin : Nat → Int) (l : List (Nat × Nat)) (x : Nat) : Int := match l[x]? with | some p => rvD ex lf rt kd ag lin p | none => 0
def rlQ (ex : Nat → Bool) (c nq : Nat) : Nat → List (Nat × Nat)
  | 0 => []
  | m + 1 => if (if ex (nq - (m + 1)) = true then 0 else 1) = c then (nq - (m + 1), 3) :: rlQ ex c nq m else rlQ ex c nq m
def rk3 (t k : Nat) : List (Nat × Nat) := if rwF t = 3 then [(k, 0), (k, 1), (k, 2)] else [(k, 0), (k, 1)]
def rlK (us : Nat → Bool) (kd cv : Nat → Nat) (c n : Nat) : Nat → List (Nat × Nat)
  | 0 => []
  | m + 1 => if auF us kd cv (n - (m + 1)) = true ∧ (if kd (n - (m + 1)) = 10 then 2 else 1) = c then rk3 (kd (n - (m + 1))) (n - (m + 1)) ++ rlK us kd cv c n m else rlK us kd cv c n m
def rlC (n nq : Nat) (ex us : Nat → Bool) (kd cv : Nat → Nat) (c : Nat) : List (Nat × Nat) := rlQ ex c nq nq ++ rlK us kd cv c n n
def rlA (n nq : Nat) (ex us : Nat → Bool) (kd cv : Nat → Nat) : List (Nat × Nat) := rlC n nq ex us kd cv 0 ++ (rlC n nq ex us kd cv 1 ++ rlC n nq ex us kd cv 2)
theorem rk3_len (t k : Nat) : (rk3 t k).length = rwF t := by unfold rk3 rwF; (repeat' split) <;> simp_all
theorem rk3_at {t k i : Nat} (h : i < rwF t) (l : List (Nat × Nat)) : (rk3 t k ++ l)[i]? = some (k, i) := by
  rw [List.getElem?_append_left (by rw [rk3_len]; exact h)]
  unfold rwF at h
  unfold rk3 rwF
  split at h
  · rename_i x; simp only [x, ↓reduceIte]
    rcases (by omega : i = 0 ∨ i = 1 ∨ i = 2) with rfl | rfl | rfl <;> rfl
  · rename_i x; simp only [x, ↓reduceIte]
    rcases (by omega : i = 0 ∨ i = 1) with rfl | rfl <;> rfl
section M10
variable {d : Nat} {sc : Nat → Int32} {ar : Nat → Nat → Int32} {la : Nat → Nat → Int64} {R w : am_W} {K : Option Value → am_W → Prop}
variable {n nq : Nat} {kd nm lf rt : Nat → Nat} {ag : Nat → Nat → Nat} {up dn ex us : Nat → Bool} {cv bl : Nat → Nat} {vl gv ow ch lin : Nat → Int} {go : Option Nat}
theorem c_rowOf {k i : Nat} (h : MS n kd nm ag ar) (hk : k < n) (h7 : 7 ≤ kd k) (hi : i < 3) (hl : ∀ i, i < n → la 20 i = Int64.ofInt (lin i)) :
    Ev PG (d + 1) 193 [.ref 33, .int (Int32.ofNat k), .int (Int32.ofNat i)] (mw sc ar la R) K = K (some (.long (Int64.ofInt (roF (kd k) i (lin k) (lin (ag k 0)) (lin (ag k 1)) (lin (ag k 2)))))) (mw sc ar la R) := by
  have h1 := h.1
  have ht := (h.2.1 k hk).1
  have e6 := (h.2.1 k hk).2.2.1
  have e8 := (h.2.1 k hk).2.2.2.2 1
  have a0 := h.a0 hk
  have a1 := h.a1 hk
  have a2 := h.a2 hk
  have g0 := h.2.2 k hk 0
  have g1 := h.2.2 k hk 1
  have g2 := h.2.2 k hk 2
  rw [e_193]
  have m1 : ¬ ((0 : Int32) ≤ -1) := by decide
  rcases (by omega : kd k = 7 ∨ kd k = 8 ∨ kd k = 9 ∨ kd k = 10 ∨ kd k = 11) with e | e | e | e | e <;> rw [e] at e6 e8 a0 a1 a2 g0 g1 g2 <;> simp [ary_all] at e8 a0 a1 a2 g0 g1 g2 <;> rw [e]
  all_goals simp (maxSteps := 1000000) (disch := omega) only [wr_all, wr_side, wr_call, qq_all, kk_193, B_193_0, B_193_1, B_193_2, B_193_3, B_193_4, B_193_5, B_193_6, B_193_7, B_193_8, B_193_9, B_193_10, B_193_11, B_193_12, B_193_13, B_193_14, B_193_15, B_193_16, B_193_17, B_193_18, B_193_19, mw_rd, mw_put, nn_clamp, nn_lt, nn_le, nn_eq, nn_lt0, nn_0le, nn_0lt, nn_le0, nn_eq0, nn_eq_1, nn_f1, nn_f0, nn_addn, nn_muln, nn_subn, nn_sub1, nn_nle, bi_1, bi_0, bi_fit, vu, io_all, Nat.reduceDiv, Nat.reduceMod, Nat.reduceBEq, Nat.reduceLeDiff, Nat.reduceEqDiff, Nat.reduceLT, Nat.reduceMul, Nat.reduceAdd, Nat.reduceSub, BEq.rfl, Bool.or_true, Bool.true_or, Bool.true_and, Bool.and_true, Bool.or_false, Bool.false_or, Bool.not_false, Bool.not_true, decide_false, decide_true, true_and, and_true, not_true_eq_false, not_false_eq_true, ↓reduceIte, Option.toList_some, Option.toList_none, List.cons_append, List.nil_append, am_sw, am_lk, List.toList_toArray, Int.reduceAdd, am_cats_cons, List.map_cons, List.map_nil, List.sum_cons, List.sum_nil, e6, e8, a0, a1, a2, hl, nl_add, nl_sub, nl_mul, m1]
  all_goals rcases (by omega : i = 0 ∨ i = 1 ∨ i = 2) with rfl | rfl | rfl <;> simp [roF]
theorem c_rowValue_k {c : Nat} {rest : List (Nat × Nat)} {r : Int32} (hc : c < 3) (h : MK n kd nm ag cv vl us ar) (e12 : sc 12 = Int32.ofNat n) (hl : ∀ i, i < n → la 20 i = Int64.ofInt (lin i))
    (hx : ∀ x u4 u5, x < 1000 → Wp PG (d + 1) cd_192 B_192_4 [.ref 33, .int r, .int (Int32.ofNat x), .int (Int32.ofNat (c + 1)), u4, u5] [] (mw sc ar la R) K = K (some (.long (Int64.ofInt (rvAt ex lf rt kd ag lin rest x)))) (mw sc ar la R)) :
    ∀ (m k x : Nat) (u5 : Value), k + m = n → x < 1000 → Wp PG (d + 1) cd_192 B_192_13 [.ref 33, .int r, .int (Int32.ofNat x), .int (Int32.ofNat c), .int (Int32.ofNat k), u5] [] (mw sc ar la R) K
      = K (some (.long (Int64.ofInt (rvAt ex lf rt kd ag lin (rlK us kd cv c n m ++ rest) x)))) (mw sc ar la R) := by
  have h1 := h.1.1
  intro m
  induction m with
  | zero =>
    intro k x u5 e hx9
    obtain rfl : k = n := by omega
    rw [B_192_13]
    simp (disch := omega) only [wr_all, wr_side, wr_call, qq_all, kk_192, B_192_0, B_192_1, B_192_2, B_192_3, B_192_6, B_192_7, B_192_8, B_192_9, B_192_10, B_192_11, B_192_12, B_192_14, B_192_15, B_192_16, B_192_17, B_192_18, B_192_19, mw_rd, mw_put, nn_clamp, nn_lt, nn_le, nn_eq, nn_lt0, nn_0le, nn_0lt, nn_le0, nn_eq0, nn_eq_1, nn_f1, nn_f0, nn_addn, nn_muln, nn_subn, nn_sub1, nn_nle, bi_1, bi_0, bi_fit, vu, io_all, Nat.reduceDiv, Nat.reduceMod, Nat.reduceBEq, Nat.reduceLeDiff, Nat.reduceEqDiff, Nat.reduceLT, Nat.reduceMul, Nat.reduceAdd, Nat.reduceSub, BEq.rfl, Bool.or_true, Bool.true_or, Bool.true_and, Bool.and_true, Bool.or_false, Bool.false_or, Bool.not_false, Bool.not_true, decide_false, decide_true, true_and, and_true, not_true_eq_false, not_false_eq_true, ↓reduceIte, Option.toList_some, Option.toList_none, List.cons_append, List.nil_append, am_sw, am_lk, List.toList_toArray, Int.reduceAdd, am_cats_cons, List.map_cons, List.map_nil, List.sum_cons, List.sum_nil, e12, Nat.le_refl, hx, rlK, List.nil_append]
  | succ m ih =>
    intro k x u5 e hx9
    have nl : ¬ n ≤ k := by omega
    have hk : k < n := by omega
    have ht := (h.1.2.1 k hk).1
    have e6 := (h.1.2.1 k hk).2.2.1
    have rw3 : rwF (kd k) ≤ 3 := by unfold rwF; split <;> omega
    have kx : n - (m + 1) = k := by omega
    rw [B_192_13]
    simp (disch := omega) only [↓ c_auxiliary h hk, ↓ c_rowsOf, wr_all, wr_side, wr_call, qq_all, kk_192, B_192_0, B_192_1, B_192_2, B_192_3, B_192_6, B_192_7, B_192_8, B_192_9, B_192_10, B_192_11, B_192_12, B_192_14, B_192_15, B_192_16, B_192_17, B_192_18, B_192_19, mw_rd, mw_put, nn_clamp, nn_lt, nn_le, nn_eq, nn_lt0, nn_0le, nn_0lt, nn_le0, nn_eq0, nn_eq_1, nn_f1, nn_f0, nn_addn, nn_muln, nn_subn, nn_sub1, nn_nle, bi_1, bi_0, bi_fit, vu, io_all, Nat.reduceDiv, Nat.reduceMod, Nat.reduceBEq, Nat.reduceLeDiff, Nat.reduceEqDiff, Nat.reduceLT, Nat.reduceMul, Nat.reduceAdd, Nat.reduceSub, BEq.rfl, Bool.or_true, Bool.true_or, Bool.true_and, Bool.and_true, Bool.or_false, Bool.false_or, Bool.not_false, Bool.not_true, decide_false, decide_true, true_and, and_true, not_true_eq_false, not_false_eq_true, ↓reduceIte, Option.toList_some, Option.toList_none, List.cons_append, List.nil_append, am_sw, am_lk, List.toList_toArray, Int.reduceAdd, am_cats_cons, List.map_cons, List.map_nil, List.sum_cons, List.sum_nil, e12, e6, nl]
    rw [rlK, kx]
    cases y : auF us kd cv k
    · simp only [↓reduceIte, Bool.false_eq_true, false_and]
      rw [ih (k + 1) x _ (by omega) hx9]
    · have h7 : 7 ≤ kd k := by simp [auF] at y; omega
      have go : (if (if kd k = 10 then 2 else 1) = c then rk3 (kd k) k ++ rlK us kd cv c n m else rlK us kd cv c n m) = (if c = (if kd k = 10 then 2 else 1) then rk3 (kd k) k ++ rlK us kd cv c n m else rlK us kd cv c n m) := by congr 1; exact propext eq_comm
      simp only [true_and, go]
      have pos : c = (if kd k = 10 then 2 else 1) → (if rwF (kd k) ≤ x then Wp PG (d + 1) cd_192 B_192_13 [.ref 33, .int r, .int (Int32.ofNat (x - rwF (kd k))), .int (Int32.ofNat c), .int (Int32.ofNat (k + 1)), .int (Int32.ofNat (rwF (kd k)))] [] (mw sc ar la R) K
          else Ev PG (d + 1) 193 [.ref 33, .int (Int32.ofNat k), .int (Int32.ofNat x)] (mw sc ar la R) fun q w1 => Wp PG (d + 1) cd_192 [.lreturn] [.ref 33, .int r, .int (Int32.ofNat x), .int (Int32.ofNat c), .int (Int32.ofNat k), .int (Int32.ofNat (rwF (kd k)))] (q.toList ++ []) w1 K)
          = K (some (.long (Int64.ofInt (rvAt ex lf rt kd ag lin (rk3 (kd k) k ++ rlK us kd cv c n m ++ rest) x)))) (mw sc ar la R) := by
        intro _
        by_cases v : rwF (kd k) ≤ x
        · rw [if_pos v, ih (k + 1) (x - rwF (kd k)) _ (by omega) (by omega), rvAt, rvAt, List.append_assoc, List.getElem?_append_right (l₁ := rk3 (kd k) k) (by rw [rk3_len]; exact v), rk3_len]
        · rw [if_neg v]
          simp only [↓ c_rowOf h.1 hk h7 (show x < 3 by omega) hl, wr_all, Option.toList_some, List.cons_append, List.nil_append]
          rw [rvAt, List.append_assoc, rk3_at (by omega)]
          simp only [rvD, show ¬ x = 3 by omega, ↓reduceIte]
      by_cases z : kd k = 10
      · have z1 : (kd k = 10) = True := by simp [z]
        simp only [z1, ↓reduceIte] at pos
        simp only [z1, ↓reduceIte, Bool.true_eq_false, not_true_eq_false, not_false_eq_true]
        by_cases w : c = 2
        · simp only [w, ↓reduceIte, not_true_eq_false] at pos ⊢
          exact pos trivial
        · simp only [w, ↓reduceIte, not_false_eq_true]
          rw [ih (k + 1) x _ (by omega) hx9]
      · have z1 : (kd k = 10) = False := by simp [z]
        simp only [z1, ↓reduceIte] at pos
        simp only [z1, ↓reduceIte, Bool.true_eq_false, not_true_eq_false, not_false_eq_true]
        by_cases w : c = 1
        · simp only [w, ↓reduceIte, not_true_eq_false] at pos ⊢
          exact pos trivial
        · simp only [w, ↓reduceIte, not_false_eq_true]
          rw [ih (k + 1) x _ (by omega) hx9]
theorem c_rowValue_q {c : Nat} {rest : List (Nat × Nat)} {r : Int32} (hc : c < 3) (h : MK n kd nm ag cv vl us ar) (hr : MR n nq ex lf rt sc ar) (e12 : sc 12 = Int32.ofNat n) (hl : ∀ i, i < n → la 20 i = Int64.ofInt (lin i))
    (hx : ∀ x u4 u5, x < 1000 → Wp PG (d + 1) cd_192 B_192_4 [.ref 33, .int r, .int (Int32.ofNat x), .int (Int32.ofNat (c + 1)), u4, u5] [] (mw sc ar la R) K = K (some (.long (Int64.ofInt (rvAt ex lf rt kd ag lin rest x)))) (mw sc ar la R)) :
    ∀ (m q x : Nat) (u5 : Value), q + m = nq → x < 1000 → Wp PG (d + 1) cd_192 B_192_5 [.ref 33, .int r, .int (Int32.ofNat x), .int (Int32.ofNat c), .int (Int32.ofNat q), u5] [] (mw sc ar la R) K
      = K (some (.long (Int64.ofInt (rvAt ex lf rt kd ag lin (rlQ ex c nq m ++ (rlK us kd cv c n n ++ rest)) x)))) (mw sc ar la R) := by
  have h1 := h.1.1
  obtain ⟨h6, e30, hq⟩ := hr
  intro m
  induction m with
  | zero =>
    intro q x u5 e hx9
    obtain rfl : q = nq := by omega
    rw [B_192_5]
    simp (disch := omega) only [wr_all, wr_side, kk_192, B_192_12, mw_rd, nn_le, io_all, Nat.reduceDiv, Nat.reduceMod, Nat.reduceBEq, Nat.reduceLeDiff, Nat.reduceEqDiff, Nat.reduceLT, Nat.reduceMul, Nat.reduceAdd, Nat.reduceSub, BEq.rfl, Bool.or_true, Bool.true_or, Bool.true_and, Bool.and_true, Bool.or_false, Bool.false_or, Bool.not_false, Bool.not_true, decide_false, decide_true, true_and, and_true, not_true_eq_false, not_false_eq_true, ↓reduceIte, Option.toList_some, Option.toList_none, List.cons_append, List.nil_append, am_sw, am_lk, List.toList_toArray, Int.reduceAdd, am_cats_cons, List.map_cons, List.map_nil, List.sum_cons, List.sum_nil, e30, Nat.le_refl, rlQ]
    rw [c_rowValue_k hc h e12 hl hx n 0 x u5 (by omega) hx9]
  | succ m ih =>
    intro q x u5 e hx9
    have nl : ¬ nq ≤ q := by omega
    obtain ⟨x1, x2, x3, x4, x5⟩ := hq q (by omega)
    have kx : nq - (m + 1) = q := by omega
    rw [B_192_5]
    simp (disch := omega) only [wr_all, wr_side, wr_call, qq_all, kk_192, B_192_0, B_192_1, B_192_2, B_192_3, B_192_6, B_192_7, B_192_8, B_192_9, B_192_10, B_192_11, B_192_12, B_192_14, B_192_15, B_192_16, B_192_17, B_192_18, B_192_19, mw_rd, mw_put, nn_clamp, nn_lt, nn_le, nn_eq, nn_lt0, nn_0le, nn_0lt, nn_le0, nn_eq0, nn_eq_1, nn_f1, nn_f0, nn_addn, nn_muln, nn_subn, nn_sub1, nn_nle, bi_1, bi_0, bi_fit, vu, io_all, Nat.reduceDiv, Nat.reduceMod, Nat.reduceBEq, Nat.reduceLeDiff, Nat.reduceEqDiff, Nat.reduceLT, Nat.reduceMul, Nat.reduceAdd, Nat.reduceSub, BEq.rfl, Bool.or_true, Bool.true_or, Bool.true_and, Bool.and_true, Bool.or_false, Bool.false_or, Bool.not_false, Bool.not_true, decide_false, decide_true, true_and, and_true, not_true_eq_false, not_false_eq_true, ↓reduceIte, Option.toList_some, Option.toList_none, List.cons_append, List.nil_append, am_sw, am_lk, List.toList_toArray, Int.reduceAdd, am_cats_cons, List.map_cons, List.map_nil, List.sum_cons, List.sum_nil, e30, nl, x1, x2, x3, hl, nl_sub]
    rw [rlQ, kx]
    have z0 : ∀ l, rvAt ex lf rt kd ag lin ((q, 3) :: l) 0 = rvD ex lf rt kd ag lin (q, 3) := fun l => rfl
    have zs : ∀ l, ¬ x = 0 → rvAt ex lf rt kd ag lin ((q, 3) :: l) x = rvAt ex lf rt kd ag lin l (x - 1) := fun l hx0 => by
      obtain ⟨y, rfl⟩ : ∃ y, x = y + 1 := ⟨x - 1, by omega⟩
      rfl
    have i1 := fun u5 => ih (q + 1) x u5 (by omega) hx9
    have i2 := fun u5 => ih (q + 1) (x - 1) u5 (by omega) (by omega)
    cases y : ex q <;> simp only [↓reduceIte, Bool.true_eq_false, Bool.false_eq_true, not_true_eq_false, not_false_eq_true]
    · by_cases w : c = 1
      · simp only [w, ↓reduceIte, not_true_eq_false, List.cons_append] at i2 ⊢
        by_cases v : x = 0
        · subst v
          rw [z0]
          simp only [rvD, y, ↓reduceIte, not_true_eq_false, Bool.false_eq_true]
        · rw [zs _ v]
          simp (disch := omega) only [v, ↓reduceIte, not_false_eq_true, nn_sub1, i2]
      · simp only [w, show ¬ 1 = c from fun a => w a.symm, ↓reduceIte, not_false_eq_true, i1]
    · by_cases w : c = 0
      · simp only [w, ↓reduceIte, not_true_eq_false, List.cons_append] at i2 ⊢
        by_cases v : x = 0
        · subst v
          rw [z0]
          simp only [rvD, y, ↓reduceIte, not_true_eq_false, Bool.false_eq_true]
        · rw [zs _ v]
          simp (disch := omega) only [v, ↓reduceIte, not_false_eq_true, nn_sub1, i2]
      · simp only [w, show ¬ 0 = c from fun a => w a.symm, ↓reduceIte, not_false_eq_true, i1]
theorem c_rowValue_c {r : Int32} (h : MK n kd nm ag cv vl us ar) (hr : MR n nq ex lf rt sc ar) (e12 : sc 12 = Int32.ofNat n) (hl : ∀ i, i < n → la 20 i = Int64.ofInt (lin i)) :
    (∀ x u4 u5, x < 1000 → Wp PG (d + 1) cd_192 B_192_4 [.ref 33, .int r, .int (Int32.ofNat x), .int (Int32.ofNat 0), u4, u5] [] (mw sc ar la R) K = K (some (.long (Int64.ofInt (rvAt ex lf rt kd ag lin (rlA n nq ex us kd cv) x)))) (mw sc ar la R)) := by
  have h3 : ∀ x u4 u5, x < 1000 → Wp PG (d + 1) cd_192 B_192_4 [.ref 33, .int r, .int (Int32.ofNat x), .int (Int32.ofNat 3), u4, u5] [] (mw sc ar la R) K = K (some (.long (Int64.ofInt (rvAt ex lf rt kd ag lin [] x)))) (mw sc ar la R) := fun x u4 u5 hx => by
    rw [B_192_4]
    simp (disch := omega) only [wr_all, wr_side, wr_call, qq_all, kk_192, B_192_0, B_192_1, B_192_2, B_192_3, B_192_6, B_192_7, B_192_8, B_192_9, B_192_10, B_192_11, B_192_12, B_192_14, B_192_15, B_192_16, B_192_17, B_192_18, B_192_19, mw_rd, mw_put, nn_clamp, nn_lt, nn_le, nn_eq, nn_lt0, nn_0le, nn_0lt, nn_le0, nn_eq0, nn_eq_1, nn_f1, nn_f0, nn_addn, nn_muln, nn_subn, nn_sub1, nn_nle, bi_1, bi_0, bi_fit, vu, io_all, Nat.reduceDiv, Nat.reduceMod, Nat.reduceBEq, Nat.reduceLeDiff, Nat.reduceEqDiff, Nat.reduceLT, Nat.reduceMul, Nat.reduceAdd, Nat.reduceSub, BEq.rfl, Bool.or_true, Bool.true_or, Bool.true_and, Bool.and_true, Bool.or_false, Bool.false_or, Bool.not_false, Bool.not_true, decide_false, decide_true, true_and, and_true, not_true_eq_false, not_false_eq_true, ↓reduceIte, Option.toList_some, Option.toList_none, List.cons_append, List.nil_append, am_sw, am_lk, List.toList_toArray, Int.reduceAdd, am_cats_cons, List.map_cons, List.map_nil, List.sum_cons, List.sum_nil, Nat.le_refl]
    rfl
  have st : ∀ (c : Nat) (rest : List (Nat × Nat)), c < 3 → (∀ x u4 u5, x < 1000 → Wp PG (d + 1) cd_192 B_192_4 [.ref 33, .int r, .int (Int32.ofNat x), .int (Int32.ofNat (c + 1)), u4, u5] [] (mw sc ar la R) K = K (some (.long (Int64.ofInt (rvAt ex lf rt kd ag lin rest x)))) (mw sc ar la R)) →
      ∀ x u4 u5, x < 1000 → Wp PG (d + 1) cd_192 B_192_4 [.ref 33, .int r, .int (Int32.ofNat x), .int (Int32.ofNat c), u4, u5] [] (mw sc ar la R) K = K (some (.long (Int64.ofInt (rvAt ex lf rt kd ag lin (rlC n nq ex us kd cv c ++ rest) x)))) (mw sc ar la R) := fun c rest hc hx x u4 u5 hx9 => by
    have nl : ¬ 3 ≤ c := by omega
    rw [rlC, List.append_assoc, ← c_rowValue_q hc h hr e12 hl hx nq 0 x u5 (by omega) hx9, B_192_4]
    simp (disch := omega) only [wr_all, wr_side, kk_192, nn_le, io_all, Nat.reduceDiv, Nat.reduceMod, Nat.reduceBEq, Nat.reduceLeDiff, Nat.reduceEqDiff, Nat.reduceLT, Nat.reduceMul, Nat.reduceAdd, Nat.reduceSub, BEq.rfl, Bool.or_true, Bool.true_or, Bool.true_and, Bool.and_true, Bool.or_false, Bool.false_or, Bool.not_false, Bool.not_true, decide_false, decide_true, true_and, and_true, not_true_eq_false, not_false_eq_true, ↓reduceIte, Option.toList_some, Option.toList_none, List.cons_append, List.nil_append, am_sw, am_lk, List.toList_toArray, Int.reduceAdd, am_cats_cons, List.map_cons, List.map_nil, List.sum_cons, List.sum_nil, nl]
  have h2 := st 2 [] (by omega) h3
  have h1 := st 1 _ (by omega) h2
  have h0 := st 0 _ (by omega) h1
  simp only [List.append_nil] at h0
  exact h0
theorem c_rowValue {x : Nat} (h : MK n kd nm ag cv vl us ar) (hr : MR n nq ex lf rt sc ar) (e12 : sc 12 = Int32.ofNat n) (hl : ∀ i, i < n → la 20 i = Int64.ofInt (lin i)) (hx : x < 1000) :
    Ev PG (d + 2) 192 [.ref 33, .int (Int32.ofNat x)] (mw sc ar la R) K = K (some (.long (Int64.ofInt (rvAt ex lf rt kd ag lin (rlA n nq ex us kd cv) x)))) (mw sc ar la R) := by
  rw [← c_rowValue_c (r := Int32.ofNat x) (d := d) (R := R) (K := K) h hr e12 hl x am_J am_J hx, e_192]
  simp (disch := omega) only [wr_all, wr_side, kk_192, B_192_0, B_192_3, nn_eq_1, io_all, Nat.reduceDiv, Nat.reduceMod, Nat.reduceBEq, Nat.reduceLeDiff, Nat.reduceEqDiff, Nat.reduceLT, Nat.reduceMul, Nat.reduceAdd, Nat.reduceSub, BEq.rfl, Bool.or_true, Bool.true_or, Bool.true_and, Bool.and_true, Bool.or_false, Bool.false_or, Bool.not_false, Bool.not_true, decide_false, decide_true, true_and, and_true, not_true_eq_false, not_false_eq_true, ↓reduceIte, Option.toList_some, Option.toList_none, List.cons_append, List.nil_append, am_sw, am_lk, List.toList_toArray, Int.reduceAdd, am_cats_cons, List.map_cons, List.map_nil, List.sum_cons, List.sum_nil]
theorem c_rowValue_goal {g : Nat} {le : Bool} (h1 : n ≤ 36) (e28 : sc 28 = Int32.ofNat g) (e29 : sc 29 = bi le) (hg : g < n) (hl : ∀ i, i < n → la 20 i = Int64.ofInt (lin i)) :
    Ev PG (d + 2) 192 [.ref 33, .int (-1)] (mw sc ar la R) K = K (some (.long (Int64.ofInt (if le = true then lin g else - lin g)))) (mw sc ar la R) := by
  rw [e_192]
  simp (disch := omega) only [wr_all, wr_side, wr_call, qq_all, kk_192, B_192_0, B_192_1, B_192_2, B_192_3, B_192_6, B_192_7, B_192_8, B_192_9, B_192_10, B_192_11, B_192_12, B_192_14, B_192_15, B_192_16, B_192_17, B_192_18, B_192_19, mw_rd, mw_put, nn_clamp, nn_lt, nn_le, nn_eq, nn_lt0, nn_0le, nn_0lt, nn_le0, nn_eq0, nn_eq_1, nn_f1, nn_f0, nn_addn, nn_muln, nn_subn, nn_sub1, nn_nle, bi_1, bi_0, bi_fit, vu, io_all, Nat.reduceDiv, Nat.reduceMod, Nat.reduceBEq, Nat.reduceLeDiff, Nat.reduceEqDiff, Nat.reduceLT, Nat.reduceMul, Nat.reduceAdd, Nat.reduceSub, BEq.rfl, Bool.or_true, Bool.true_or, Bool.true_and, Bool.and_true, Bool.or_false, Bool.false_or, Bool.not_false, Bool.not_true, decide_false, decide_true, true_and, and_true, not_true_eq_false, not_false_eq_true, ↓reduceIte, Option.toList_some, Option.toList_none, List.cons_append, List.nil_append, am_sw, am_lk, List.toList_toArray, Int.reduceAdd, am_cats_cons, List.map_cons, List.map_nil, List.sum_cons, List.sum_nil, e28, e29, hl, nl_neg]
  cases le <;> rfl
end M10
