/-! THE MODEL's expansions. -/
theorem nl_add (x y : Int) : Int64.ofInt x + Int64.ofInt y = Int64.ofInt (x + y) := (Int64.ofInt_add x y).symm
theorem nl_sub (x y : Int) : Int64.ofInt x - Int64.ofInt y = Int64.ofInt (x - y) := (Int64.ofInt_sub x y).symm
theorem nl_mul (x y : Int) : Int64.ofInt x * Int64.ofInt y = Int64.ofInt (x * y) := (Int64.ofInt_mul x y).symm
theorem nl_neg (x : Int) : -Int64.ofInt x = Int64.ofInt (-x) := (Int64.ofInt_neg x).symm
theorem nl_of {x : Int} (h : -2147483648 ≤ x) (h' : x < 2147483648) : (Int32.ofInt x).toInt64 = Int64.ofInt x := by
  rw [← Int64.toInt_inj, Int32.toInt_toInt64, nz_toInt h h', Int64.toInt_ofInt_of_le (by omega) (by omega)]
def lnF (us : Nat → Bool) (kd cv : Nat → Nat) (ag : Nat → Nat → Nat) (vl ch x : Nat → Int) (k : Nat) : Int :=
  if us k = false then 0 else if cv k = 0 then vl k else if vaF us kd k = true ∨ auF us kd cv k = true then ch k else if kd k = 3 then x (ag k 0) + x (ag k 1) else if kd k = 4 then x (ag k 0) - x (ag k 1) else if kd k = 5 then - x (ag k 0)
  else if cv (ag k 0) = 0 then vl (ag k 0) * x (ag k 1) else vl (ag k 1) * x (ag k 0)
def ovL (m : Nat) (f : Nat → Int) (g : Nat → Int64) : Nat → Int64 := fun i => if i < m then Int64.ofInt (f i) else g i
theorem ovL_0 (f : Nat → Int) (g : Nat → Int64) : ovL 0 f g = g := by funext i; simp [ovL]
theorem ovL_s (k : Nat) (f : Nat → Int) (g : Nat → Int64) : vp_updL (ovL k f g) k (Int64.ofInt (f k)) = ovL (k + 1) f g := by
  funext i
  simp only [vp_updL, ovL]
  rcases Nat.lt_trichotomy i k with e | e | e
  · simp [show ¬ i = k by omega, show i < k + 1 by omega, e]
  · simp [e]
  · simp [show ¬ i = k by omega, show ¬ i < k + 1 by omega, show ¬ i < k by omega]
theorem ovL_rd {m i : Nat} {f : Nat → Int} {g : Nat → Int64} (h : i < m) : ovL m f g i = Int64.ofInt (f i) := by simp [ovL, h]
theorem uu_5 (ar : Nat → Nat → Int64) (k : Nat) (v w : Nat → Int64) : va_up (va_up ar k v) k w = va_up ar k w := by funext j; simp only [va_up]; split <;> rfl
theorem uu_6 (ar : Nat → Nat → Int64) (k : Nat) : va_up ar k (ar k) = ar := by funext j; simp only [va_up]; split <;> simp_all
section M9
variable {d : Nat} {sc : Nat → Int32} {ar : Nat → Nat → Int32} {la : Nat → Nat → Int64} {R w : am_W} {K : Option Value → am_W → Prop}
variable {n nq : Nat} {kd nm lf rt : Nat → Nat} {ag : Nat → Nat → Nat} {up dn ex us : Nat → Bool} {cv bl : Nat → Nat} {vl gv ow ch lin : Nat → Int} {go : Option Nat}
theorem c_chosen_own {k : Nat} (h : MK n kd nm ag cv vl us ar) (hk : k < n) (hg : ar 10 k = Int32.ofInt (gv k) ∧ -2147483648 ≤ gv k ∧ gv k < 2147483648) (ho : ar 24 k = Int32.ofInt (ow k) ∧ -2147483648 ≤ ow k ∧ ow k < 2147483648) :
    Ev PG (d + 2) 191 [.ref 33, .int (Int32.ofNat k), .int (-2)] (mw sc ar la R) K = K (some (.long (Int64.ofInt (if vaF us kd k = true then gv k else ow k)))) (mw sc ar la R) := by
  have h1 := h.1.1
  rw [e_191]
  simp (disch := omega) only [↓ c_variable h hk, wr_all, wr_side, wr_call, qq_all, kk_191, B_191_0, B_191_1, B_191_2, B_191_3, B_191_4, B_191_5, mw_rd, mw_put, nn_clamp, nn_lt, nn_le, nn_eq, nn_lt0, nn_0le, nn_0lt, nn_le0, nn_eq0, nn_eq_1, nn_f1, nn_f0, nn_addn, nn_muln, nn_subn, nn_sub1, nn_nle, bi_1, bi_0, bi_fit, vu, io_all, Nat.reduceDiv, Nat.reduceMod, Nat.reduceBEq, Nat.reduceLeDiff, Nat.reduceEqDiff, Nat.reduceLT, Nat.reduceMul, Nat.reduceAdd, Nat.reduceSub, BEq.rfl, Bool.or_true, Bool.true_or, Bool.true_and, Bool.and_true, Bool.or_false, Bool.false_or, Bool.not_false, Bool.not_true, decide_false, decide_true, true_and, and_true, not_true_eq_false, not_false_eq_true, ↓reduceIte, Option.toList_some, Option.toList_none, List.cons_append, List.nil_append, am_sw, am_lk, List.toList_toArray, Int.reduceAdd, am_cats_cons, List.map_cons, List.map_nil, List.sum_cons, List.sum_nil, hg.1, ho.1, nl_of]
  cases vaF us kd k <;> rfl
theorem c_chosen_col {k : Nat} {c : Int32} (hc : ¬ c = -2) (h : MK n kd nm ag cv vl us ar) (e12 : sc 12 = Int32.ofNat n) (hk : k < n) :
    Ev PG (d + 3) 191 [.ref 33, .int (Int32.ofNat k), .int c] (mw sc ar la R) K = K (some (.long (Int64.ofInt (if oi (plF n us kd cv k) = c then 1 else 0)))) (mw sc ar la R) := by
  have h1 := h.1.1
  rw [e_191]
  simp (disch := omega) only [↓ c_place h e12 hk, wr_all, wr_side, wr_call, qq_all, kk_191, B_191_0, B_191_1, B_191_2, B_191_3, B_191_4, B_191_5, mw_rd, mw_put, nn_clamp, nn_lt, nn_le, nn_eq, nn_lt0, nn_0le, nn_0lt, nn_le0, nn_eq0, nn_eq_1, nn_f1, nn_f0, nn_addn, nn_muln, nn_subn, nn_sub1, nn_nle, bi_1, bi_0, bi_fit, vu, io_all, Nat.reduceDiv, Nat.reduceMod, Nat.reduceBEq, Nat.reduceLeDiff, Nat.reduceEqDiff, Nat.reduceLT, Nat.reduceMul, Nat.reduceAdd, Nat.reduceSub, BEq.rfl, Bool.or_true, Bool.true_or, Bool.true_and, Bool.and_true, Bool.or_false, Bool.false_or, Bool.not_false, Bool.not_true, decide_false, decide_true, true_and, and_true, not_true_eq_false, not_false_eq_true, ↓reduceIte, Option.toList_some, Option.toList_none, List.cons_append, List.nil_append, am_sw, am_lk, List.toList_toArray, Int.reduceAdd, am_cats_cons, List.map_cons, List.map_nil, List.sum_cons, List.sum_nil, hc]
  by_cases y : oi (plF n us kd cv k) = c <;> simp [y]
theorem c_expand_l {c : Int32} (h : MK n kd nm ag cv vl us ar) (e12 : sc 12 = Int32.ofNat n) (hl : ∀ k, k < n → (kd k = 0 ∨ kd k = 2) → cv k = 0) (hch : ∀ k, k < n → ∀ la K, Ev PG (d + 3) 191 [.ref 33, .int (Int32.ofNat k), .int c] (mw sc ar la R) K = K (some (.long (Int64.ofInt (ch k)))) (mw sc ar la R))
    (LF : ∀ k, k < n → lin k = lnF us kd cv ag vl ch lin k) : ∀ (m k : Nat) (u3 u4 : Value), k + m = n → Wp PG (d + 3) cd_190 B_190_1 [.ref 33, .int c, .int (Int32.ofNat k), u3, u4] [] (mw sc ar (va_up la 20 (ovL k lin (la 20))) R) K
      = K none (mw sc ar (va_up la 20 (ovL n lin (la 20))) R) := by
  have h1 := h.1.1
  intro m
  induction m with
  | zero =>
    intro k u3 u4 e
    obtain rfl : k = n := by omega
    rw [B_190_1]
    simp (disch := omega) only [wr_all, wr_side, wr_call, qq_all, kk_190, B_190_0, B_190_2, B_190_3, B_190_4, B_190_5, B_190_6, B_190_7, B_190_8, B_190_9, B_190_10, B_190_11, B_190_12, mw_rd, mw_put, nn_clamp, nn_lt, nn_le, nn_eq, nn_lt0, nn_0le, nn_0lt, nn_le0, nn_eq0, nn_eq_1, nn_f1, nn_f0, nn_addn, nn_muln, nn_subn, nn_sub1, nn_nle, bi_1, bi_0, bi_fit, vu, io_all, Nat.reduceDiv, Nat.reduceMod, Nat.reduceBEq, Nat.reduceLeDiff, Nat.reduceEqDiff, Nat.reduceLT, Nat.reduceMul, Nat.reduceAdd, Nat.reduceSub, BEq.rfl, Bool.or_true, Bool.true_or, Bool.true_and, Bool.and_true, Bool.or_false, Bool.false_or, Bool.not_false, Bool.not_true, decide_false, decide_true, true_and, and_true, not_true_eq_false, not_false_eq_true, ↓reduceIte, Option.toList_some, Option.toList_none, List.cons_append, List.nil_append, am_sw, am_lk, List.toList_toArray, Int.reduceAdd, am_cats_cons, List.map_cons, List.map_nil, List.sum_cons, List.sum_nil, e12, Nat.le_refl]
  | succ m ih =>
    intro k u3 u4 e
    have nl : ¬ n ≤ k := by omega
    have hk : k < n := by omega
    have ht := (h.1.2.1 k hk).1
    have e6 := (h.1.2.1 k hk).2.2.1
    have eu := h.2.2.2 k hk
    obtain ⟨ec, hc⟩ := h.2.1 k hk
    obtain ⟨ev, hv1, hv2⟩ := h.2.2.1 k hk
    have a0 := h.1.a0 hk
    have a1 := h.1.a1 hk
    have g0 := h.1.2.2 k hk 0
    have g1 := h.1.2.2 k hk 1
    have c0 := h.2.1 (ag k 0)
    have v0 := h.2.2.1 (ag k 0)
    have v1 := h.2.2.1 (ag k 1)
    have L := LF k hk
    have hlk := hl k hk
    rw [B_190_1]
    simp (maxSteps := 1000000) (disch := omega) only [↓ hch k hk, ↓ c_variable h hk, ↓ c_auxiliary h hk, wr_all, wr_side, wr_call, qq_all, kk_190, B_190_0, B_190_2, B_190_3, B_190_4, B_190_5, B_190_6, B_190_7, B_190_8, B_190_9, B_190_10, B_190_11, B_190_12, mw_rd, mw_put, nn_clamp, nn_lt, nn_le, nn_eq, nn_lt0, nn_0le, nn_0lt, nn_le0, nn_eq0, nn_eq_1, nn_f1, nn_f0, nn_addn, nn_muln, nn_subn, nn_sub1, nn_nle, bi_1, bi_0, bi_fit, vu, io_all, Nat.reduceDiv, Nat.reduceMod, Nat.reduceBEq, Nat.reduceLeDiff, Nat.reduceEqDiff, Nat.reduceLT, Nat.reduceMul, Nat.reduceAdd, Nat.reduceSub, BEq.rfl, Bool.or_true, Bool.true_or, Bool.true_and, Bool.and_true, Bool.or_false, Bool.false_or, Bool.not_false, Bool.not_true, decide_false, decide_true, true_and, and_true, not_true_eq_false, not_false_eq_true, ↓reduceIte, Option.toList_some, Option.toList_none, List.cons_append, List.nil_append, am_sw, am_lk, List.toList_toArray, Int.reduceAdd, am_cats_cons, List.map_cons, List.map_nil, List.sum_cons, List.sum_nil, e12, e6, eu, ec, ev, nl, nl_of, uu_5]
    rw [← ih (k + 1) (.int (ar 8 (3 * k))) (.int (ar 8 (3 * k + 1))) (by omega), ← ovL_s, L, lnF]
    cases u : us k
    · simp only [not_true_eq_false, ↓reduceIte]
    by_cases z : cv k = 0
    · simp only [z, Bool.true_eq_false, not_true_eq_false, not_false_eq_true, ↓reduceIte]
    cases y1 : vaF us kd k
    · cases y2 : auF us kd cv k
      · have k1 : kd k ≠ 1 := fun x => by simp [vaF, u, x] at y1
        have k7 : kd k < 7 := by
          simp only [auF, u, Bool.true_and, Bool.and_eq_false_iff, decide_eq_false_iff_not] at y2
          omega
        have kk : kd k = 3 ∨ kd k = 4 ∨ kd k = 5 ∨ kd k = 6 := by omega
        simp only [z, Bool.true_eq_false, Bool.false_eq_true, or_self, not_true_eq_false, not_false_eq_true, ↓reduceIte]
        rcases kk with x | x | x | x <;> rw [x] at a0 a1 g0 g1 <;> simp only [ary_all, Nat.reduceLT, forall_const] at a0 a1 g0 g1 <;> simp only [x, Nat.reduceEqDiff, ↓reduceIte, not_true_eq_false, not_false_eq_true]
        · simp (disch := omega) only [a0, a1, nn_clamp, nn_lt0, nn_nle, ovL_rd, nl_add, decide_false, Bool.or_false, Bool.not_false, true_and]
        · simp (disch := omega) only [a0, a1, nn_clamp, nn_lt0, nn_nle, ovL_rd, nl_sub, decide_false, Bool.or_false, Bool.not_false, true_and]
        · simp (disch := omega) only [a0, nn_clamp, nn_lt0, nn_nle, ovL_rd, nl_neg, decide_false, Bool.or_false, Bool.not_false, true_and]
        · obtain ⟨c1, c2⟩ := c0 (by omega)
          obtain ⟨w1, w2, w3⟩ := v0 (by omega)
          obtain ⟨w4, w5, w6⟩ := v1 (by omega)
          simp (disch := omega) only [a0, a1, nn_clamp, nn_lt0, nn_nle, nn_eq0, c1, w1, w4, nl_of, ovL_rd, nl_mul, decide_false, Bool.or_false, Bool.not_false, true_and]
          by_cases q : cv (ag k 0) = 0 <;> simp only [q, ↓reduceIte, not_true_eq_false, not_false_eq_true]
      · simp only [z, Bool.true_eq_false, Bool.false_eq_true, or_true, not_true_eq_false, not_false_eq_true, ↓reduceIte]
    · simp only [z, Bool.true_eq_false, true_or, not_true_eq_false, not_false_eq_true, ↓reduceIte]
theorem c_expand {c : Int32} (h : MK n kd nm ag cv vl us ar) (e12 : sc 12 = Int32.ofNat n) (hl : ∀ k, k < n → (kd k = 0 ∨ kd k = 2) → cv k = 0) (hch : ∀ k, k < n → ∀ la K, Ev PG (d + 3) 191 [.ref 33, .int (Int32.ofNat k), .int c] (mw sc ar la R) K = K (some (.long (Int64.ofInt (ch k)))) (mw sc ar la R))
    (LF : ∀ k, k < n → lin k = lnF us kd cv ag vl ch lin k) : Ev PG (d + 4) 190 [.ref 33, .int c] (mw sc ar la R) K = K none (mw sc ar (va_up la 20 (ovL n lin (la 20))) R) := by
  rw [← c_expand_l (d := d) (sc := sc) (la := la) (R := R) (K := K) h e12 hl hch LF n 0 am_J am_J (by omega), e_190, ovL_0, uu_6]
  simp (disch := omega) only [wr_all, wr_side, kk_190, B_190_0, io_all]
end M9
