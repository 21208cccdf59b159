/-! THE MODEL's mark: which nodes are in use. -/
def oi (o : Option Nat) : Int32 := match o with | none => -1 | some g => Int32.ofNat g
def uQ (go : Option Nat) (lf rt : Nat → Nat) (k : Nat) : Nat → Bool
  | 0 => decide (go = some k)
  | q + 1 => uQ go lf rt k q || decide (lf q = k) || decide (rt q = k)
def add1 (u : Nat → Bool) (i : Nat) : Nat → Bool := fun x => if x = i then true else u x
def uaF (u : Nat → Bool) (a : Nat → Nat) : Nat → Nat → Bool
  | 0 => u
  | m + 1 => add1 (uaF u a m) (a m)
def usR (kd : Nat → Nat) (ag : Nat → Nat → Nat) : Nat → (Nat → Bool) → Nat → Bool
  | 0, u => u
  | k + 1, u => usR kd ag k (if u k = true then uaF u (ag k) (ary (kd k)) else u)
def usF (n : Nat) (kd : Nat → Nat) (ag : Nat → Nat → Nat) (go : Option Nat) (nq : Nat) (lf rt : Nat → Nat) : Nat → Bool := usR kd ag n (fun k => uQ go lf rt k nq)
def ovB (m : Nat) (f g : Nat → Int32) : Nat → Int32 := fun i => if i < m then f i else g i
theorem ovB_0 (f g : Nat → Int32) : ovB 0 f g = g := by funext i; simp [ovB]
theorem ovB_s (k : Nat) (f g : Nat → Int32) : upd (ovB k f g) k (f k) = ovB (k + 1) f g := by
  funext i
  simp only [upd, ovB]
  rcases Nat.lt_trichotomy i k with e | e | e
  · simp [show ¬ i = k by omega, show i < k + 1 by omega, e]
  · simp [e]
  · simp [show ¬ i = k by omega, show ¬ i < k + 1 by omega, show ¬ i < k by omega]
theorem ovB_u {n i : Nat} (u : Nat → Bool) (g : Nat → Int32) (h : i < n) : upd (ovB n (fun k => bi (u k)) g) i (Int32.ofNat 1) = ovB n (fun k => bi (add1 u i k)) g := by
  funext k
  simp only [upd, ovB, add1]
  by_cases e : k = i
  · subst e; simp [h, bi]
  · simp [e]
theorem uu_1 (ar : Nat → Nat → Int32) (k : Nat) (v w : Nat → Int32) : va_up (va_up ar k v) k w = va_up ar k w := by funext j; simp only [va_up]; split <;> rfl
theorem uu_2 (f : Nat → Int32) (k : Nat) (v w : Int32) : upd (upd f k v) k w = upd f k w := by funext j; simp only [upd]; split <;> rfl
theorem uu_3 (f : Nat → Int32) (k : Nat) (v : Int32) : upd f k v k = v := by simp [upd]
theorem uu_4 (ar : Nat → Nat → Int32) (k : Nat) : va_up ar k (ar k) = ar := by funext j; simp only [va_up]; split <;> simp_all
theorem oi_eq {k n : Nat} {o : Option Nat} (hk : k < n) (hn : n ≤ 36) (h : ∀ g, o = some g → g < n) : (Int32.ofNat k = oi o) = (o = some k) := by
  cases o with
  | none => simp only [oi, nn_eq_1 (show k < 2147483648 by omega)]; simp
  | some g => have := h g rfl; simp only [oi, nn_eq (show k < 2147483648 by omega) (show g < 2147483648 by omega)]; simp only [Option.some.injEq, eq_iff_iff]; omega
/-- the requirements -/
def MR (n nq : Nat) (ex : Nat → Bool) (lf rt : Nat → Nat) (sc : Nat → Int32) (ar : Nat → Nat → Int32) : Prop := nq ≤ 6 ∧ sc 30 = Int32.ofNat nq ∧ ∀ q, q < nq → ar 21 q = bi (ex q) ∧ ar 22 q = Int32.ofNat (lf q) ∧ ar 23 q = Int32.ofNat (rt q) ∧ lf q < n ∧ rt q < n
section M6
variable {d : Nat} {sc : Nat → Int32} {ar : Nat → Nat → Int32} {la : Nat → Nat → Int64} {R w : am_W} {K : Option Value → am_W → Prop}
variable {n nq : Nat} {kd nm lf rt : Nat → Nat} {ag : Nat → Nat → Nat} {up dn ex us : Nat → Bool} {cv bl : Nat → Nat} {vl gv : Nat → Int} {go : Option Nat}
theorem c_mark_q {k : Nat} (hk : k < n) (hn : n ≤ 36) (h : MR n nq ex lf rt sc ar) :
    ∀ (m q : Nat), q + m = nq → Wp PG d cd_179 B_179_4 [.ref 33, .int (Int32.ofNat k), .int (Int32.ofNat q)] [] (mw sc (va_up ar 16 (upd (ar 16) k (bi (uQ go lf rt k q)))) la R) K
      = Wp PG d cd_179 B_179_1 [.ref 33, .int (Int32.ofNat (k + 1)), .int (Int32.ofNat nq)] [] (mw sc (va_up ar 16 (upd (ar 16) k (bi (uQ go lf rt k nq)))) la R) K := by
  obtain ⟨h6, e30, hq⟩ := h
  intro m
  induction m with
  | zero =>
    intro q e
    obtain rfl : q = nq := by omega
    rw [B_179_4]
    simp (disch := omega) only [wr_all, wr_side, wr_call, qq_all, kk_179, B_179_0, B_179_2, B_179_3, B_179_5, B_179_6, B_179_7, B_179_8, B_179_9, B_179_12, B_179_13, mw_rd, mw_put, nn_clamp, nn_lt, nn_le, nn_eq, nn_lt0, nn_0le, nn_0lt, nn_le0, nn_eq0, nn_eq_1, nn_f1, nn_f0, nn_addn, nn_muln, nn_subn, nn_sub1, nn_nle, bi_1, bi_0, bi_fit, vu, io_all, Nat.reduceDiv, Nat.reduceMod, Nat.reduceBEq, Nat.reduceLeDiff, Nat.reduceEqDiff, Nat.reduceLT, Nat.reduceMul, Nat.reduceAdd, Nat.reduceSub, BEq.rfl, Bool.or_true, Bool.true_or, Bool.true_and, Bool.and_true, Bool.or_false, Bool.false_or, Bool.not_false, Bool.not_true, decide_false, decide_true, true_and, and_true, not_true_eq_false, not_false_eq_true, ↓reduceIte, Option.toList_some, Option.toList_none, List.cons_append, List.nil_append, am_sw, am_lk, List.toList_toArray, Int.reduceAdd, am_cats_cons, List.map_cons, List.map_nil, List.sum_cons, List.sum_nil, e30, Nat.le_refl]
  | succ m ih =>
    intro q e
    have q1 : q < nq := by omega
    obtain ⟨x1, x2, x3, x4, x5⟩ := hq q q1
    have nl : ¬ nq ≤ q := by omega
    rw [B_179_4]
    simp (disch := omega) only [wr_all, wr_side, wr_call, qq_all, kk_179, B_179_0, B_179_2, B_179_3, B_179_5, B_179_6, B_179_7, B_179_8, B_179_9, B_179_12, B_179_13, mw_rd, mw_put, nn_clamp, nn_lt, nn_le, nn_eq, nn_lt0, nn_0le, nn_0lt, nn_le0, nn_eq0, nn_eq_1, nn_f1, nn_f0, nn_addn, nn_muln, nn_subn, nn_sub1, nn_nle, bi_1, bi_0, bi_fit, vu, io_all, Nat.reduceDiv, Nat.reduceMod, Nat.reduceBEq, Nat.reduceLeDiff, Nat.reduceEqDiff, Nat.reduceLT, Nat.reduceMul, Nat.reduceAdd, Nat.reduceSub, BEq.rfl, Bool.or_true, Bool.true_or, Bool.true_and, Bool.and_true, Bool.or_false, Bool.false_or, Bool.not_false, Bool.not_true, decide_false, decide_true, true_and, and_true, not_true_eq_false, not_false_eq_true, ↓reduceIte, Option.toList_some, Option.toList_none, List.cons_append, List.nil_append, am_sw, am_lk, List.toList_toArray, Int.reduceAdd, am_cats_cons, List.map_cons, List.map_nil, List.sum_cons, List.sum_nil, e30, nl, uu_1, uu_2, uu_3, x2, x3, nb_1, nb_0]
    rw [← ih (q + 1) (by omega)]
    have f : uQ go lf rt k (q + 1) = (uQ go lf rt k q || decide (lf q = k) || decide (rt q = k)) := rfl
    rw [f]
    cases uQ go lf rt k q <;> by_cases y1 : lf q = k <;> by_cases y2 : rt q = k <;> simp [y1, y2, bi]
theorem uaF_ge {u : Nat → Bool} {a : Nat → Nat} {k : Nat} : ∀ {m : Nat}, (∀ j, j < m → a j < k) → uaF u a m k = u k
  | 0, _ => rfl
  | m + 1, h => by
    have := uaF_ge (u := u) (m := m) (fun j hj => h j (by omega))
    have h2 := h m (by omega)
    simp only [uaF, add1]
    rw [if_neg (by omega), this]
/-- the arguments of a node in use -/
theorem c_mark_j {k : Nat} {u : Nat → Bool} {g : Nat → Int32} (h : MS n kd nm ag ar) (hk : k < n) (hu : u k = true) :
    ∀ (m j : Nat), j + m = ary (kd k) → Wp PG (d + 1) cd_179 B_179_11 [.ref 33, .int (Int32.ofNat k), .int (Int32.ofNat j)] [] (mw sc (va_up ar 16 (ovB n (fun i => bi (uaF u (ag k) j i)) g)) la R) K
      = Wp PG (d + 1) cd_179 B_179_10 [.ref 33, .int (Int32.ofNat k + -1), .int (Int32.ofNat (ary (kd k)))] [] (mw sc (va_up ar 16 (ovB n (fun i => bi (uaF u (ag k) (ary (kd k)) i)) g)) la R) K := by
  have h1 := h.1
  have ht := (h.2.1 k hk).1
  have e6 := (h.2.1 k hk).2.2.1
  have a3 := ary_3 (kd k)
  have ob : ∀ j, j ≤ ary (kd k) → ovB n (fun i => bi (uaF u (ag k) j i)) g k = bi true := fun j hj => by
    simp only [ovB]
    rw [if_pos hk, uaF_ge (fun i hi => h.2.2 k hk i (by omega)), hu]
  intro m
  induction m with
  | zero =>
    intro j e
    obtain rfl : j = ary (kd k) := by omega
    rw [B_179_11]
    simp (disch := omega) only [↓ c_arity, wr_all, wr_side, wr_call, qq_all, kk_179, B_179_12, mw_rd, mw_put, nn_clamp, nn_lt, nn_le, nn_lt0, nn_nle, bi_0, vu, io_all, Nat.reduceDiv, Nat.reduceMod, Nat.reduceBEq, Nat.reduceLeDiff, Nat.reduceEqDiff, Nat.reduceLT, Nat.reduceMul, Nat.reduceAdd, Nat.reduceSub, BEq.rfl, Bool.or_true, Bool.true_or, Bool.true_and, Bool.and_true, Bool.or_false, Bool.false_or, Bool.not_false, Bool.not_true, decide_false, decide_true, true_and, and_true, not_true_eq_false, not_false_eq_true, ↓reduceIte, Option.toList_some, Option.toList_none, List.cons_append, List.nil_append, am_sw, am_lk, List.toList_toArray, Int.reduceAdd, am_cats_cons, List.map_cons, List.map_nil, List.sum_cons, List.sum_nil, e6, Nat.le_refl, ob, Bool.true_eq_false]
  | succ m ih =>
    intro j e
    have nl : ¬ ary (kd k) ≤ j := by omega
    have gj := h.2.2 k hk j (by omega)
    have a := h.arg hk (j := j) (by omega)
    rw [B_179_11]
    simp (disch := omega) only [↓ c_arity, wr_all, wr_side, wr_call, qq_all, kk_179, B_179_12, mw_rd, mw_put, nn_clamp, nn_lt, nn_le, nn_lt0, nn_nle, nn_addn, nn_muln, bi_0, vu, io_all, Nat.reduceDiv, Nat.reduceMod, Nat.reduceBEq, Nat.reduceLeDiff, Nat.reduceEqDiff, Nat.reduceLT, Nat.reduceMul, Nat.reduceAdd, Nat.reduceSub, BEq.rfl, Bool.or_true, Bool.true_or, Bool.true_and, Bool.and_true, Bool.or_false, Bool.false_or, Bool.not_false, Bool.not_true, decide_false, decide_true, true_and, and_true, not_true_eq_false, not_false_eq_true, ↓reduceIte, Option.toList_some, Option.toList_none, List.cons_append, List.nil_append, am_sw, am_lk, List.toList_toArray, Int.reduceAdd, am_cats_cons, List.map_cons, List.map_nil, List.sum_cons, List.sum_nil, e6, nl, ob, Bool.true_eq_false, a, nb_1, uu_1, ovB_u]
    exact ih (j + 1) (by omega)
theorem c_mark_2 {g : Nat → Int32} (h : MS n kd nm ag ar) : ∀ (k : Nat) (u : Nat → Bool) (v : Value), k ≤ n → Wp PG (d + 1) cd_179 B_179_10 [.ref 33, .int (Int32.ofNat k + -1), v] [] (mw sc (va_up ar 16 (ovB n (fun i => bi (u i)) g)) la R) K
      = K none (mw sc (va_up ar 16 (ovB n (fun i => bi (usR kd ag k u i)) g)) la R) := by
  have h1 := h.1
  intro k
  induction k with
  | zero =>
    intro u v hk
    rw [B_179_10, show Int32.ofNat 0 + -1 = -1 from by decide]
    simp (disch := omega) only [wr_all, wr_side, wr_call, qq_all, kk_179, B_179_0, B_179_1, B_179_2, B_179_3, B_179_4, B_179_5, B_179_6, B_179_7, B_179_8, B_179_9, B_179_12, B_179_13, mw_rd, mw_put, nn_clamp, nn_lt, nn_le, nn_eq, nn_lt0, nn_0le, nn_0lt, nn_le0, nn_eq0, nn_eq_1, nn_f1, nn_f0, nn_addn, nn_muln, nn_subn, nn_sub1, nn_nle, bi_1, bi_0, bi_fit, vu, io_all, Nat.reduceDiv, Nat.reduceMod, Nat.reduceBEq, Nat.reduceLeDiff, Nat.reduceEqDiff, Nat.reduceLT, Nat.reduceMul, Nat.reduceAdd, Nat.reduceSub, BEq.rfl, Bool.or_true, Bool.true_or, Bool.true_and, Bool.and_true, Bool.or_false, Bool.false_or, Bool.not_false, Bool.not_true, decide_false, decide_true, true_and, and_true, not_true_eq_false, not_false_eq_true, ↓reduceIte, Option.toList_some, Option.toList_none, List.cons_append, List.nil_append, am_sw, am_lk, List.toList_toArray, Int.reduceAdd, am_cats_cons, List.map_cons, List.map_nil, List.sum_cons, List.sum_nil, show ((-1 : Int32) < 0) = True from by decide, usR]
  | succ k ih =>
    intro u v hk
    rw [B_179_10, show Int32.ofNat (k + 1) + -1 = Int32.ofNat k from nn_sub1 (by omega)]
    simp (disch := omega) only [wr_all, wr_side, wr_call, qq_all, kk_179, B_179_0, B_179_1, B_179_2, B_179_3, B_179_4, B_179_5, B_179_6, B_179_7, B_179_8, B_179_9, B_179_12, B_179_13, mw_rd, mw_put, nn_clamp, nn_lt, nn_le, nn_eq, nn_lt0, nn_0le, nn_0lt, nn_le0, nn_eq0, nn_eq_1, nn_f1, nn_f0, nn_addn, nn_muln, nn_subn, nn_sub1, nn_nle, bi_1, bi_0, bi_fit, vu, io_all, Nat.reduceDiv, Nat.reduceMod, Nat.reduceBEq, Nat.reduceLeDiff, Nat.reduceEqDiff, Nat.reduceLT, Nat.reduceMul, Nat.reduceAdd, Nat.reduceSub, BEq.rfl, Bool.or_true, Bool.true_or, Bool.true_and, Bool.and_true, Bool.or_false, Bool.false_or, Bool.not_false, Bool.not_true, decide_false, decide_true, true_and, and_true, not_true_eq_false, not_false_eq_true, ↓reduceIte, Option.toList_some, Option.toList_none, List.cons_append, List.nil_append, am_sw, am_lk, List.toList_toArray, Int.reduceAdd, am_cats_cons, List.map_cons, List.map_nil, List.sum_cons, List.sum_nil]
    by_cases hu : u k = true
    · rw [usR, if_pos hu, ← ih _ (.int (Int32.ofNat (ary (kd k)))) (by omega), ← c_mark_j h (by omega) hu (ary (kd k)) 0 (by omega)]
      rfl
    · have ob : ovB n (fun i => bi (u i)) g k = bi false := by
        simp only [ovB]
        rw [if_pos (by omega)]
        simp at hu
        rw [hu]
      rw [usR, if_neg hu, ← ih _ (.int (Int32.ofNat 0)) (by omega), B_179_11]
      simp (disch := omega) only [wr_all, wr_side, wr_call, qq_all, kk_179, B_179_12, mw_rd, mw_put, nn_clamp, nn_lt, nn_le, nn_lt0, nn_nle, bi_0, vu, io_all, Nat.reduceDiv, Nat.reduceMod, Nat.reduceBEq, Nat.reduceLeDiff, Nat.reduceEqDiff, Nat.reduceLT, Nat.reduceMul, Nat.reduceAdd, Nat.reduceSub, BEq.rfl, Bool.or_true, Bool.true_or, Bool.true_and, Bool.and_true, Bool.or_false, Bool.false_or, Bool.not_false, Bool.not_true, decide_false, decide_true, true_and, and_true, not_true_eq_false, not_false_eq_true, ↓reduceIte, Option.toList_some, Option.toList_none, List.cons_append, List.nil_append, am_sw, am_lk, List.toList_toArray, Int.reduceAdd, am_cats_cons, List.map_cons, List.map_nil, List.sum_cons, List.sum_nil, ob]
theorem c_mark_1 (h : MS n kd nm ag ar) (hr : MR n nq ex lf rt sc ar) (e12 : sc 12 = Int32.ofNat n) (e28 : sc 28 = oi go) (hgo : ∀ g, go = some g → g < n) :
    ∀ (m k : Nat) (u : Value), k + m = n → Wp PG (d + 1) cd_179 B_179_1 [.ref 33, .int (Int32.ofNat k), u] [] (mw sc (va_up ar 16 (ovB k (fun i => bi (uQ go lf rt i nq)) (ar 16))) la R) K
      = K none (mw sc (va_up ar 16 (ovB n (fun i => bi (usF n kd ag go nq lf rt i)) (ar 16))) la R) := by
  have h1 := h.1
  intro m
  induction m with
  | zero =>
    intro k u e
    obtain rfl : k = n := by omega
    rw [usF, ← c_mark_2 (d := d) (sc := sc) (la := la) (R := R) (K := K) h k _ u (Nat.le_refl k), B_179_1]
    simp (disch := omega) only [wr_all, wr_side, wr_call, qq_all, kk_179, B_179_9, mw_rd, mw_put, nn_clamp, nn_lt, nn_le, nn_lt0, nn_nle, bi_0, vu, io_all, Nat.reduceDiv, Nat.reduceMod, Nat.reduceBEq, Nat.reduceLeDiff, Nat.reduceEqDiff, Nat.reduceLT, Nat.reduceMul, Nat.reduceAdd, Nat.reduceSub, BEq.rfl, Bool.or_true, Bool.true_or, Bool.true_and, Bool.and_true, Bool.or_false, Bool.false_or, Bool.not_false, Bool.not_true, decide_false, decide_true, true_and, and_true, not_true_eq_false, not_false_eq_true, ↓reduceIte, Option.toList_some, Option.toList_none, List.cons_append, List.nil_append, am_sw, am_lk, List.toList_toArray, Int.reduceAdd, am_cats_cons, List.map_cons, List.map_nil, List.sum_cons, List.sum_nil, e12, Nat.le_refl, Int32.sub_eq_add_neg]
    rfl
  | succ m ih =>
    intro k u e
    have nl : ¬ n ≤ k := by omega
    have hk : k < n := by omega
    have q := c_mark_q (d := d + 1) (sc := sc) (la := la) (R := R) (K := K) (ar := va_up ar 16 (ovB k (fun i => bi (uQ go lf rt i nq)) (ar 16))) (go := go) hk h1 ⟨hr.1, hr.2.1, hr.2.2⟩ nq 0 (by omega)
    simp only [uu_1, vu, ↓reduceIte, uQ] at q
    rw [B_179_1]
    simp (disch := omega) only [wr_all, wr_side, wr_call, qq_all, kk_179, B_179_0, B_179_2, B_179_3, B_179_5, B_179_6, B_179_7, B_179_8, B_179_9, B_179_12, B_179_13, mw_rd, mw_put, nn_clamp, nn_lt, nn_le, nn_eq, nn_lt0, nn_0le, nn_0lt, nn_le0, nn_eq0, nn_eq_1, nn_f1, nn_f0, nn_addn, nn_muln, nn_subn, nn_sub1, nn_nle, bi_1, bi_0, bi_fit, vu, io_all, Nat.reduceDiv, Nat.reduceMod, Nat.reduceBEq, Nat.reduceLeDiff, Nat.reduceEqDiff, Nat.reduceLT, Nat.reduceMul, Nat.reduceAdd, Nat.reduceSub, BEq.rfl, Bool.or_true, Bool.true_or, Bool.true_and, Bool.and_true, Bool.or_false, Bool.false_or, Bool.not_false, Bool.not_true, decide_false, decide_true, true_and, and_true, not_true_eq_false, not_false_eq_true, ↓reduceIte, Option.toList_some, Option.toList_none, List.cons_append, List.nil_append, am_sw, am_lk, List.toList_toArray, Int.reduceAdd, am_cats_cons, List.map_cons, List.map_nil, List.sum_cons, List.sum_nil, e12, e28, nl, oi_eq hk h1 hgo, nb_1, nb_0, uu_1]
    rw [← ih (k + 1) (.int (Int32.ofNat nq)) (by omega), ← ovB_s k (fun i => bi (uQ go lf rt i nq)) (ar 16), ← q]
    by_cases y : go = some k <;> simp [y, bi]
theorem c_mark (h : MS n kd nm ag ar) (hr : MR n nq ex lf rt sc ar) (e12 : sc 12 = Int32.ofNat n) (hg : ∀ k, k < n → ar 10 k = Int32.ofInt (gv k)) (F : AF n kd nm ag gv up dn cv bl vl) (e28 : sc 28 = oi go) (hgo : ∀ g, go = some g → g < n) :
    Ev PG (d + 6) 179 [.ref 33] (mw sc ar la R) K = K none (mw sc (va_up (ovA n up dn cv bl vl ar) 16 (ovB n (fun i => bi (usF n kd ag go nq lf rt i)) (ar 16))) la R) := by
  have q := c_mark_1 (d := d + 4) (sc := sc) (la := la) (R := R) (K := K) (ar := ovA n up dn cv bl vl ar) (go := go) (ovA_ms h) ⟨hr.1, hr.2.1, hr.2.2⟩ e12 e28 hgo n 0 am_J (by omega)
  refine Eq.trans ?_ q
  rw [e_179, ovB_0, uu_4]
  simp (disch := omega) only [↓ c_work h e12 hg F, wr_all, wr_side, wr_call, qq_all, mw_rd, kk_179, B_179_0, io_all, Nat.reduceDiv, Nat.reduceMod, Nat.reduceBEq, Nat.reduceLeDiff, Nat.reduceEqDiff, Nat.reduceLT, Nat.reduceMul, Nat.reduceAdd, Nat.reduceSub, BEq.rfl, Bool.or_true, Bool.true_or, Bool.true_and, Bool.and_true, Bool.or_false, Bool.false_or, Bool.not_false, Bool.not_true, decide_false, decide_true, true_and, and_true, not_true_eq_false, not_false_eq_true, ↓reduceIte, Option.toList_some, Option.toList_none, List.cons_append, List.nil_append, am_sw, am_lk, List.toList_toArray, Int.reduceAdd, am_cats_cons, List.map_cons, List.map_nil, List.sum_cons, List.sum_nil]
end M6
