/-! THE MODEL's fits. -/
theorem lc_eq (x y : Int64) : (am_lc x y = 0) = (x = y) := by unfold am_lc; grind
theorem lc_lt (x y : Int64) : (am_lc x y < 0) = (x < y) := by unfold am_lc; grind
theorem lc_le (x y : Int64) : (am_lc x y ≤ 0) = (x ≤ y) := by unfold am_lc; grind
theorem lc_gt (x y : Int64) : (0 < am_lc x y) = (y < x) := by unfold am_lc; grind
theorem lc_ge (x y : Int64) : (0 ≤ am_lc x y) = (y ≤ x) := by unfold am_lc; grind
def LB (x : Int) : Prop := -4000000000000000000 ≤ x ∧ x ≤ 4000000000000000000
theorem nl_toInt {x : Int} (h : LB x) : (Int64.ofInt x).toInt = x := by
  have h1 := h.1
  have h2 := h.2
  exact Int64.toInt_ofInt_of_le (by omega) (by omega)
theorem nl_lt {x y : Int} (h : LB x) (g : LB y) : (Int64.ofInt x < Int64.ofInt y) = (x < y) := by rw [Int64.lt_iff_toInt_lt, nl_toInt h, nl_toInt g]
theorem nl_le {x y : Int} (h : LB x) (g : LB y) : (Int64.ofInt x ≤ Int64.ofInt y) = (x ≤ y) := by rw [Int64.le_iff_toInt_le, nl_toInt h, nl_toInt g]
theorem nl_eq {x y : Int} (h : LB x) (g : LB y) : (Int64.ofInt x = Int64.ofInt y) = (x = y) := by rw [← Int64.toInt_inj, nl_toInt h, nl_toInt g]
theorem sq_le {g : Int} {b : Nat} (h1 : -(b : Int) ≤ g) (h2 : g ≤ (b : Int)) : 0 ≤ g * g ∧ g * g ≤ (b : Int) * b := by
  have a : g.natAbs ≤ b := by omega
  have := Nat.mul_le_mul a a
  rw [← Int.natAbs_mul_self]
  constructor
  · omega
  · exact_mod_cast this
def inF (f g h : Int) : Bool := decide (0 ≤ f ∧ g ≤ f ∧ -g ≤ f ∧ h ≤ f ∧ -h ≤ f ∧ g * g + h * h ≤ f * f)
def f1F (rv : Nat → Int) (Z P : Nat) : Nat → Bool
  | 0 => true
  | m + 1 => decide (if P - (m + 1) < Z then rv (P - (m + 1)) = 0 else 0 ≤ rv (P - (m + 1))) && f1F rv Z P m
def f2F (rv : Nat → Int) (A : Nat) : Nat → Bool
  | 0 => true
  | m + 1 => inF (rv (A - 3 * (m + 1))) (rv (A - 3 * (m + 1) + 1)) (rv (A - 3 * (m + 1) + 2)) && f2F rv A m
section M16
variable {d : Nat} {sc : Nat → Int32} {ar : Nat → Nat → Int32} {la : Nat → Nat → Int64} {R w : am_W} {K : Option Value → am_W → Prop}
variable {n nq : Nat} {kd nm lf rt : Nat → Nat} {ag : Nat → Nat → Nat} {up dn ex us : Nat → Bool} {cv bl : Nat → Nat} {vl gv ow ch lin lin' : Nat → Int} {go : Option Nat} {st : Bool} {z : Int}
theorem c_inside {f g h : Int} (hf : -100000000000000 ≤ f ∧ f ≤ 2000000) (hg : -100000000000000 ≤ g ∧ g ≤ 100000000000000) (hh : -100000000000000 ≤ h ∧ h ≤ 100000000000000) :
    Ev PG (d + 1) 197 [.long (Int64.ofInt f), .long (Int64.ofInt g), .long (Int64.ofInt h)] w K = K (some (.int (bi (inF f g h)))) w := by
  obtain ⟨f1, f2⟩ := hf
  obtain ⟨g1, g2⟩ := hg
  obtain ⟨h1, h2⟩ := hh
  rw [e_197]
  simp (disch := (unfold LB; omega)) only [wr_all, wr_side, kk_197, B_197_0, B_197_1, B_197_2, B_197_3, B_197_4, io_all, Nat.reduceDiv, Nat.reduceMod, Nat.reduceBEq, Nat.reduceLeDiff, Nat.reduceEqDiff, Nat.reduceLT, Nat.reduceMul, Nat.reduceAdd, Nat.reduceSub, BEq.rfl, Bool.or_true, Bool.true_or, Bool.true_and, Bool.and_true, Bool.or_false, Bool.false_or, Bool.not_false, Bool.not_true, decide_false, decide_true, true_and, and_true, not_true_eq_false, not_false_eq_true, ↓reduceIte, Option.toList_some, Option.toList_none, List.cons_append, List.nil_append, am_sw, am_lk, List.toList_toArray, Int.reduceAdd, am_cats_cons, List.map_cons, List.map_nil, List.sum_cons, List.sum_nil, nn_f0, nn_f1, lc_eq, lc_lt, lc_le, lc_gt, lc_ge, nl_lt, nl_le, nl_eq, nl_neg, nl_mul, nl_add]
  unfold inF
  by_cases y1 : f < 0
  · simp only [y1, ↓reduceIte, show ¬ 0 ≤ f by omega, false_and, decide_false]; rfl
  by_cases y2 : f < g
  · simp only [y1, y2, ↓reduceIte, show ¬ g ≤ f by omega, false_and, and_false, decide_false]; rfl
  by_cases y3 : f < -g
  · simp only [y1, y2, y3, ↓reduceIte, show ¬ -g ≤ f by omega, false_and, and_false, decide_false]; rfl
  by_cases y4 : f < h
  · simp only [y1, y2, y3, y4, ↓reduceIte, show ¬ h ≤ f by omega, false_and, and_false, decide_false]; rfl
  by_cases y5 : -h ≤ f
  · have b : ((2000000 : Nat) : Int) = 2000000 := rfl
    obtain ⟨p1, p2⟩ := sq_le (g := f) (b := 2000000) (by omega) (by omega)
    obtain ⟨q1, q2⟩ := sq_le (g := g) (b := 2000000) (by omega) (by omega)
    obtain ⟨r1, r2⟩ := sq_le (g := h) (b := 2000000) (by omega) (by omega)
    rw [b] at p2 q2 r2
    have kk : (Int64.ofInt (f * f) < Int64.ofInt (g * g + h * h)) = (f * f < g * g + h * h) := nl_lt ⟨by omega, by omega⟩ ⟨by omega, by omega⟩
    simp only [kk]
    by_cases y6 : f * f < g * g + h * h
    · simp only [y1, y2, y3, y4, y5, y6, ↓reduceIte, show ¬ g * g + h * h ≤ f * f by omega, and_false, decide_false]; rfl
    · simp only [y1, y2, y3, y4, y5, y6, ↓reduceIte, show g * g + h * h ≤ f * f by omega, show 0 ≤ f by omega, show g ≤ f by omega, show -g ≤ f by omega, show h ≤ f by omega, and_self, decide_true]; rfl
  · simp only [y1, y2, y3, y4, y5, ↓reduceIte, false_and, and_false, decide_false]; rfl
theorem c_fits_2 {rv : Nat → Int} {A P Z T : Nat} {u1 : Int32} (hA : A = P + 3 * T) (hA9 : A < 900) (hrv : ∀ x, x < A → ∀ K, Ev PG (d + 1) 192 [.ref 33, .int (Int32.ofNat x)] (mw sc ar la R) K = K (some (.long (Int64.ofInt (rv x)))) (mw sc ar la R))
    (hb : ∀ x, x < A → -100000000000000 ≤ rv x ∧ rv x ≤ 100000000000000) (hf : ∀ t, t < T → rv (P + 3 * t) ≤ 2000000) :
    ∀ (m t : Nat) (u5 u6 u7 u8 u9 u10 : Value), t + m = T → Wp PG (d + 1) cd_196 B_196_7 [.ref 33, .int u1, .int (Int32.ofNat P), .int (Int32.ofNat A), .int (Int32.ofNat (P + 3 * t)), u5, u6, u7, u8, u9, u10] [] (mw sc ar la R) K = K (some (.int (bi (f2F rv A m)))) (mw sc ar la R) := by
  intro m
  induction m with
  | zero =>
    intro t u5 u6 u7 u8 u9 u10 e
    rw [B_196_7]
    have l : A ≤ P + 3 * t := by omega
    simp (disch := omega) only [wr_all, wr_side, wr_call, qq_all, kk_196, B_196_0, B_196_1, B_196_3, B_196_4, B_196_5, B_196_6, B_196_8, B_196_9, mw_rd, mw_put, nn_clamp, nn_lt, nn_le, nn_eq, nn_lt0, nn_0le, nn_0lt, nn_le0, nn_eq0, nn_eq_1, nn_f1, nn_f0, nn_addn, nn_muln, nn_subn, nn_sub1, nn_nle, bi_1, bi_0, bi_fit, vu, io_all, Nat.reduceDiv, Nat.reduceMod, Nat.reduceBEq, Nat.reduceLeDiff, Nat.reduceEqDiff, Nat.reduceLT, Nat.reduceMul, Nat.reduceAdd, Nat.reduceSub, BEq.rfl, Bool.or_true, Bool.true_or, Bool.true_and, Bool.and_true, Bool.or_false, Bool.false_or, Bool.not_false, Bool.not_true, decide_false, decide_true, true_and, and_true, not_true_eq_false, not_false_eq_true, ↓reduceIte, Option.toList_some, Option.toList_none, List.cons_append, List.nil_append, am_sw, am_lk, List.toList_toArray, Int.reduceAdd, am_cats_cons, List.map_cons, List.map_nil, List.sum_cons, List.sum_nil, l, f2F]
    rfl
  | succ m ih =>
    intro t u5 u6 u7 u8 u9 u10 e
    have l : ¬ A ≤ P + 3 * t := by omega
    have r0 := hrv (P + 3 * t) (by omega)
    have r1 := hrv (P + 3 * t + 1) (by omega)
    have r2 := hrv (P + 3 * t + 2) (by omega)
    have b0 := hb (P + 3 * t) (by omega)
    have b1 := hb (P + 3 * t + 1) (by omega)
    have b2 := hb (P + 3 * t + 2) (by omega)
    have f0 := hf t (by omega)
    have ins := fun K => c_inside (d := d) (w := mw sc ar la R) (K := K) ⟨b0.1, f0⟩ b1 b2
    have i1 := fun u5 u6 u7 u8 u9 u10 => ih (t + 1) u5 u6 u7 u8 u9 u10 (by omega)
    have ex : A - 3 * (m + 1) = P + 3 * t := by omega
    rw [show P + 3 * (t + 1) = P + 3 * t + 3 by omega] at i1
    rw [B_196_7]
    simp (disch := omega) only [↓ r0, ↓ r1, ↓ r2, ↓ ins, wr_all, wr_side, wr_call, qq_all, kk_196, B_196_0, B_196_1, B_196_3, B_196_4, B_196_5, B_196_6, B_196_8, B_196_9, mw_rd, mw_put, nn_clamp, nn_lt, nn_le, nn_eq, nn_lt0, nn_0le, nn_0lt, nn_le0, nn_eq0, nn_eq_1, nn_f1, nn_f0, nn_addn, nn_muln, nn_subn, nn_sub1, nn_nle, bi_1, bi_0, bi_fit, vu, io_all, Nat.reduceDiv, Nat.reduceMod, Nat.reduceBEq, Nat.reduceLeDiff, Nat.reduceEqDiff, Nat.reduceLT, Nat.reduceMul, Nat.reduceAdd, Nat.reduceSub, BEq.rfl, Bool.or_true, Bool.true_or, Bool.true_and, Bool.and_true, Bool.or_false, Bool.false_or, Bool.not_false, Bool.not_true, decide_false, decide_true, true_and, and_true, not_true_eq_false, not_false_eq_true, ↓reduceIte, Option.toList_some, Option.toList_none, List.cons_append, List.nil_append, am_sw, am_lk, List.toList_toArray, Int.reduceAdd, am_cats_cons, List.map_cons, List.map_nil, List.sum_cons, List.sum_nil, l, f2F, ex, i1]
    cases inF (rv (P + 3 * t)) (rv (P + 3 * t + 1)) (rv (P + 3 * t + 2)) <;> rfl
theorem c_fits_1 {rv : Nat → Int} {A P Z T : Nat} (hA : A = P + 3 * T) (hA9 : A < 900) (hZ : Z ≤ P) (hrv : ∀ x, x < A → ∀ K, Ev PG (d + 1) 192 [.ref 33, .int (Int32.ofNat x)] (mw sc ar la R) K = K (some (.long (Int64.ofInt (rv x)))) (mw sc ar la R))
    (hb : ∀ x, x < A → -100000000000000 ≤ rv x ∧ rv x ≤ 100000000000000) (hf : ∀ t, t < T → rv (P + 3 * t) ≤ 2000000) :
    ∀ (m r : Nat) (u5 u6 u7 u8 u9 u10 : Value), r + m = P → Wp PG (d + 1) cd_196 B_196_2 [.ref 33, .int (Int32.ofNat Z), .int (Int32.ofNat P), .int (Int32.ofNat A), .int (Int32.ofNat r), u5, u6, u7, u8, u9, u10] [] (mw sc ar la R) K = K (some (.int (bi (f1F rv Z P m && f2F rv A T)))) (mw sc ar la R) := by
  intro m
  induction m with
  | zero =>
    intro r u5 u6 u7 u8 u9 u10 e
    have q := fun u5 u6 u7 u8 u9 u10 => c_fits_2 (d := d) (sc := sc) (ar := ar) (la := la) (R := R) (K := K) (u1 := Int32.ofNat Z) (Z := Z) hA hA9 hrv hb hf T 0 u5 u6 u7 u8 u9 u10 (by omega)
    rw [show P + 3 * 0 = P by omega] at q
    have l : P ≤ r := by omega
    rw [B_196_2]
    simp (disch := omega) only [wr_all, wr_side, wr_call, qq_all, kk_196, B_196_0, B_196_1, B_196_3, B_196_4, B_196_5, B_196_6, B_196_8, B_196_9, mw_rd, mw_put, nn_clamp, nn_lt, nn_le, nn_eq, nn_lt0, nn_0le, nn_0lt, nn_le0, nn_eq0, nn_eq_1, nn_f1, nn_f0, nn_addn, nn_muln, nn_subn, nn_sub1, nn_nle, bi_1, bi_0, bi_fit, vu, io_all, Nat.reduceDiv, Nat.reduceMod, Nat.reduceBEq, Nat.reduceLeDiff, Nat.reduceEqDiff, Nat.reduceLT, Nat.reduceMul, Nat.reduceAdd, Nat.reduceSub, BEq.rfl, Bool.or_true, Bool.true_or, Bool.true_and, Bool.and_true, Bool.or_false, Bool.false_or, Bool.not_false, Bool.not_true, decide_false, decide_true, true_and, and_true, not_true_eq_false, not_false_eq_true, ↓reduceIte, Option.toList_some, Option.toList_none, List.cons_append, List.nil_append, am_sw, am_lk, List.toList_toArray, Int.reduceAdd, am_cats_cons, List.map_cons, List.map_nil, List.sum_cons, List.sum_nil, l, f1F, q]
  | succ m ih =>
    intro r u5 u6 u7 u8 u9 u10 e
    have l : ¬ P ≤ r := by omega
    have r0 := hrv r (by omega)
    have b0 := hb r (by omega)
    have ex : P - (m + 1) = r := by omega
    have i1 := fun u5 u6 u7 u8 u9 u10 => ih (r + 1) u5 u6 u7 u8 u9 u10 (by omega)
    have k1 : (Int64.ofInt (rv r) = Int64.ofInt 0) = (rv r = 0) := nl_eq ⟨by omega, by omega⟩ ⟨by omega, by omega⟩
    have k2 : (Int64.ofInt 0 ≤ Int64.ofInt (rv r)) = (0 ≤ rv r) := nl_le ⟨by omega, by omega⟩ ⟨by omega, by omega⟩
    rw [B_196_2]
    simp (disch := omega) only [↓ r0, wr_all, wr_side, wr_call, qq_all, kk_196, B_196_0, B_196_1, B_196_3, B_196_4, B_196_5, B_196_6, B_196_8, B_196_9, mw_rd, mw_put, nn_clamp, nn_lt, nn_le, nn_eq, nn_lt0, nn_0le, nn_0lt, nn_le0, nn_eq0, nn_eq_1, nn_f1, nn_f0, nn_addn, nn_muln, nn_subn, nn_sub1, nn_nle, bi_1, bi_0, bi_fit, vu, io_all, Nat.reduceDiv, Nat.reduceMod, Nat.reduceBEq, Nat.reduceLeDiff, Nat.reduceEqDiff, Nat.reduceLT, Nat.reduceMul, Nat.reduceAdd, Nat.reduceSub, BEq.rfl, Bool.or_true, Bool.true_or, Bool.true_and, Bool.and_true, Bool.or_false, Bool.false_or, Bool.not_false, Bool.not_true, decide_false, decide_true, true_and, and_true, not_true_eq_false, not_false_eq_true, ↓reduceIte, Option.toList_some, Option.toList_none, List.cons_append, List.nil_append, am_sw, am_lk, List.toList_toArray, Int.reduceAdd, am_cats_cons, List.map_cons, List.map_nil, List.sum_cons, List.sum_nil, l, lc_eq, lc_ge, k1, k2, i1, f1F, ex]
    by_cases y : Z ≤ r
    · simp only [y, show ¬ r < Z by omega, ↓reduceIte]
      by_cases y2 : 0 ≤ rv r <;> simp only [y2, ↓reduceIte, decide_true, decide_false, Bool.true_and, Bool.false_and]
      rfl
    · simp only [y, show r < Z by omega, ↓reduceIte]
      by_cases y2 : rv r = 0 <;> simp only [y2, ↓reduceIte, decide_true, decide_false, Bool.true_and, Bool.false_and]
      rfl
theorem rc2_3 (h : ∀ k, k < n → kd k < 12) : ∃ T, rcF n nq ex us kd cv (Int32.ofNat 2) = 3 * T := by
  have a : ∀ m, cntF (rqF ex (Int32.ofNat 2)) m = 0 := fun m => by
    induction m with
    | zero => rfl
    | succ m ih => simp only [cntF, ih, rqF]; cases ex m <;> rfl
  have b : ∀ m, ∃ T, sumF (rkF us kd cv (Int32.ofNat 2)) m = 3 * T := fun m => by
    induction m with
    | zero => exact ⟨0, rfl⟩
    | succ m ih =>
      obtain ⟨T, hT⟩ := ih
      simp only [sumF, hT, rkF]
      by_cases y : kd m = 10
      · simp only [y, ↓reduceIte, and_true]
        split
        · exact ⟨T + 1, by rw [show rwF 10 = 3 from rfl]; omega⟩
        · exact ⟨T, by omega⟩
      · simp only [y, ↓reduceIte]
        rw [if_neg (by rintro ⟨_, e⟩; exact absurd e (by decide))]
        exact ⟨T, by omega⟩
  obtain ⟨T, hT⟩ := b n
  exact ⟨T, by rw [rcF, a, hT]; omega⟩
theorem c_fits_no (h : MI n kd nm ag gv up dn cv bl vl go nq ex lf rt false sc ar) : Ev PG (d + 9) 196 [.ref 33] (mw sc ar la R) K = K (some (.int (bi false))) (mw sc ar la R) := by
  have e34 := h.2.2.2.2.2.2.2
  rw [e_196]
  simp (disch := omega) only [wr_all, wr_side, wr_call, qq_all, kk_196, B_196_0, B_196_1, B_196_3, B_196_4, B_196_5, B_196_6, B_196_8, B_196_9, mw_rd, mw_put, nn_clamp, nn_lt, nn_le, nn_eq, nn_lt0, nn_0le, nn_0lt, nn_le0, nn_eq0, nn_eq_1, nn_f1, nn_f0, nn_addn, nn_muln, nn_subn, nn_sub1, nn_nle, bi_1, bi_0, bi_fit, vu, io_all, Nat.reduceDiv, Nat.reduceMod, Nat.reduceBEq, Nat.reduceLeDiff, Nat.reduceEqDiff, Nat.reduceLT, Nat.reduceMul, Nat.reduceAdd, Nat.reduceSub, BEq.rfl, Bool.or_true, Bool.true_or, Bool.true_and, Bool.and_true, Bool.or_false, Bool.false_or, Bool.not_false, Bool.not_true, decide_false, decide_true, true_and, and_true, not_true_eq_false, not_false_eq_true, ↓reduceIte, Option.toList_some, Option.toList_none, List.cons_append, List.nil_append, am_sw, am_lk, List.toList_toArray, Int.reduceAdd, am_cats_cons, List.map_cons, List.map_nil, List.sum_cons, List.sum_nil, e34]
  rfl
theorem c_fits {Z P A T : Nat} (h : MI n kd nm ag gv up dn cv bl vl go nq ex lf rt true sc ar) (hu : us = usF n kd ag go nq lf rt)
    (hgv : ∀ k, k < n → -2147483648 ≤ gv k ∧ gv k < 2147483648) (ho : ∀ k, k < n → ar 24 k = Int32.ofInt (ow k) ∧ -2147483648 ≤ ow k ∧ ow k < 2147483648)
    (L : ∀ k, k < n → lin k = lnF us kd cv ag vl (fun k => if vaF us kd k = true then gv k else ow k) lin k)
    (hZ : Z = rcF n nq ex us kd cv (Int32.ofNat 0)) (hP : P = Z + rcF n nq ex us kd cv (Int32.ofNat 1)) (hA : A = arF n nq ex us kd cv) (hT : A = P + 3 * T)
    (hb : ∀ x, x < A → -100000000000000 ≤ rvAt ex lf rt kd ag lin (rlA n nq ex us kd cv) x ∧ rvAt ex lf rt kd ag lin (rlA n nq ex us kd cv) x ≤ 100000000000000) (hf : ∀ t, t < T → rvAt ex lf rt kd ag lin (rlA n nq ex us kd cv) (P + 3 * t) ≤ 2000000) :
    Ev PG (d + 9) 196 [.ref 33] (mw sc ar la R) K = K (some (.int (bi (f1F (rvAt ex lf rt kd ag lin (rlA n nq ex us kd cv)) Z P P && f2F (rvAt ex lf rt kd ag lin (rlA n nq ex us kd cv)) A T)))) (mw sc (mkA n up dn cv bl vl us ar) (va_up la 20 (ovL n lin (la 20))) R) := by
  have e34 := h.2.2.2.2.2.2.2
  have q6 := h.2.2.2.2.2.2.1.1
  have A9 : A < 900 := by
    have a := rcF_le (ex := ex) (us := us) (kd := kd) (cv := cv) (c := Int32.ofNat 0) h.1.1 q6
    have b := rcF_le (ex := ex) (us := us) (kd := kd) (cv := cv) (c := Int32.ofNat 1) h.1.1 q6
    have c := rcF_le (ex := ex) (us := us) (kd := kd) (cv := cv) (c := Int32.ofNat 2) h.1.1 q6
    rw [hA, arF]; omega
  have mm : Ev PG (d + 8) 179 [.ref 33] (mw sc ar la R) = fun K => K none (mw sc (mkA n up dn cv bl vl us ar) la R) := by funext K; rw [hu]; exact h.mark
  have xe := fun K => c_expand (d := d + 4) (c := -2) (sc := sc) (la := la) (R := R) (K := K) (h.mk (us := us)) h.2.1 h.leaf (fun k hk la K => c_chosen_own h.mk hk ⟨h.2.2.1 k hk, hgv k hk⟩ (ho k hk)) L
  have m0 := fun K => c_rowCount (d := d + 6) (c := Int32.ofNat 0) (sc := sc) (la := va_up la 20 (ovL n lin (la 20))) (R := R) (K := K) (h.mk (us := us)) (h.mr (us := us)) h.2.1
  have m1 := fun K => c_rowCount (d := d + 6) (c := Int32.ofNat 1) (sc := sc) (la := va_up la 20 (ovL n lin (la 20))) (R := R) (K := K) (h.mk (us := us)) (h.mr (us := us)) h.2.1
  have m2 := fun K => c_allRows (d := d + 5) (sc := sc) (la := va_up la 20 (ovL n lin (la 20))) (R := R) (K := K) (h.mk (us := us)) (h.mr (us := us)) h.2.1
  rw [← hZ] at m0
  have hA' := hA
  rw [arF] at hA'
  rw [← hA'] at m2
  have q := c_fits_1 (d := d + 7) (sc := sc) (ar := mkA n up dn cv bl vl us ar) (la := va_up la 20 (ovL n lin (la 20))) (R := R) (K := K) hT A9 (show Z ≤ P by omega) (fun x hx K => c_rowValue (d := d + 6) (h.mk (us := us)) (h.mr (us := us)) h.2.1 (lin := lin) (fun i hi => by simp [vu, ovL, hi]) (by omega)) hb hf P 0 am_J am_J am_J am_J am_J am_J (by omega)
  rw [← q, e_196]
  simp (disch := omega) only [↓ mm, ↓ xe, ↓ m0, ↓ m1, ↓ m2, wr_all, wr_side, wr_call, qq_all, kk_196, B_196_0, B_196_1, B_196_3, B_196_4, B_196_5, B_196_6, B_196_8, B_196_9, mw_rd, mw_put, nn_clamp, nn_lt, nn_le, nn_eq, nn_lt0, nn_0le, nn_0lt, nn_le0, nn_eq0, nn_eq_1, nn_f1, nn_f0, nn_addn, nn_muln, nn_subn, nn_sub1, nn_nle, bi_1, bi_0, bi_fit, vu, io_all, Nat.reduceDiv, Nat.reduceMod, Nat.reduceBEq, Nat.reduceLeDiff, Nat.reduceEqDiff, Nat.reduceLT, Nat.reduceMul, Nat.reduceAdd, Nat.reduceSub, BEq.rfl, Bool.or_true, Bool.true_or, Bool.true_and, Bool.and_true, Bool.or_false, Bool.false_or, Bool.not_false, Bool.not_true, decide_false, decide_true, true_and, and_true, not_true_eq_false, not_false_eq_true, ↓reduceIte, Option.toList_some, Option.toList_none, List.cons_append, List.nil_append, am_sw, am_lk, List.toList_toArray, Int.reduceAdd, am_cats_cons, List.map_cons, List.map_nil, List.sum_cons, List.sum_nil, e34, Bool.true_eq_false, ← hP]
end M16
