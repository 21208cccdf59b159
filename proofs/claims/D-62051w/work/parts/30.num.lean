/-! NUMBERS: small naturals as ints. -/
theorem nn_clamp {n : Nat} (h : n < 2147483648) : (Int32.ofNat n).toNatClampNeg = n := by
  have := Int32.toInt_ofNat_of_lt (n := n) (by omega)
  rw [Int32.toNatClampNeg, this]; omega
theorem nn_toInt {n : Nat} (h : n < 2147483648) : (Int32.ofNat n).toInt = n := Int32.toInt_ofNat_of_lt h
theorem nn_lt {n m : Nat} (h : n < 2147483648) (h' : m < 2147483648) : (Int32.ofNat n < Int32.ofNat m) = (n < m) := by
  rw [Int32.lt_iff_toInt_lt, nn_toInt h, nn_toInt h']; simp
theorem nn_le {n m : Nat} (h : n < 2147483648) (h' : m < 2147483648) : (Int32.ofNat n ≤ Int32.ofNat m) = (n ≤ m) := by
  rw [Int32.le_iff_toInt_le, nn_toInt h, nn_toInt h']; simp
theorem nn_eq {n m : Nat} (h : n < 2147483648) (h' : m < 2147483648) : (Int32.ofNat n = Int32.ofNat m) = (n = m) := by
  rw [← Int32.toInt_inj, nn_toInt h, nn_toInt h']; simp only [eq_iff_iff]; omega
theorem nn_addn (n m : Nat) : Int32.ofNat n + Int32.ofNat m = Int32.ofNat (n + m) := (Int32.ofNat_add n m).symm
theorem nn_muln (n m : Nat) : Int32.ofNat n * Int32.ofNat m = Int32.ofNat (n * m) := (Int32.ofNat_mul n m).symm
theorem nn_subn {n m : Nat} (h : m ≤ n) : Int32.ofNat n - Int32.ofNat m = Int32.ofNat (n - m) := by
  obtain ⟨k, rfl⟩ := Nat.le.dest h
  rw [Nat.add_sub_cancel_left, Int32.ofNat_add]
  grind
theorem nn_sub1 {n : Nat} (h : 1 ≤ n) : Int32.ofNat n + (-1 : Int32) = Int32.ofNat (n - 1) := by
  have := nn_subn h
  rw [← this, Int32.sub_eq_add_neg]; rfl
theorem nn_lt0 {n : Nat} (h : n < 2147483648) : (Int32.ofNat n < 0) = False := by rw [show (0:Int32) = Int32.ofNat 0 from rfl, nn_lt h (by omega)]; simp
theorem nn_0le {n : Nat} (h : n < 2147483648) : (0 ≤ Int32.ofNat n) = True := by rw [show (0:Int32) = Int32.ofNat 0 from rfl, nn_le (by omega) h]; simp
theorem nn_0lt {n : Nat} (h : n < 2147483648) : (0 < Int32.ofNat n) = (0 < n) := nn_lt (n := 0) (by omega) h
theorem nn_le0 {n : Nat} (h : n < 2147483648) : (Int32.ofNat n ≤ 0) = (n = 0) := by rw [show (0:Int32) = Int32.ofNat 0 from rfl, nn_le h (by omega)]; simp
theorem nn_eq0 {n : Nat} (h : n < 2147483648) : (Int32.ofNat n = 0) = (n = 0) := nn_eq (m := 0) h (by omega)
theorem nn_eq_1 {n : Nat} (h : n < 2147483648) : (Int32.ofNat n = -1) = False := by
  rw [← Int32.toInt_inj, nn_toInt h, show (-1 : Int32).toInt = -1 from by decide]; simp only [eq_iff_iff, iff_false]; omega
theorem nn_f1 : (Int32.ofNat 1 == 0 || Int32.ofNat 1 == 1) = true := by decide
theorem nn_f0 : (Int32.ofNat 0 == 0 || Int32.ofNat 0 == 1) = true := by decide
theorem nn_nle {k n : Nat} (h : k < n) : decide (n ≤ k) = false := by simp; omega
theorem nn_ifp {α : Type} {c : Prop} [Decidable c] (h : c) (a b : α) : (if c then a else b) = a := if_pos h
/-- the index is within -/
theorem nn_ix {n i : Nat} (h : i < n) (hn : i < 2147483648) : (!(decide (Int32.ofNat i < 0) || decide (n ≤ (Int32.ofNat i).toNatClampNeg))) = true := by
  have h0 : ¬ (Int32.ofNat i < 0) := by rw [show (0:Int32) = Int32.ofNat 0 from rfl, nn_lt hn (by omega)]; omega
  rw [nn_clamp hn]; simp [h0]; omega
theorem io_all : (Int32.ofInt 0 = Int32.ofNat 0) ∧ (Int32.ofInt 1 = Int32.ofNat 1) ∧ (Int32.ofInt 2 = Int32.ofNat 2) ∧ (Int32.ofInt 3 = Int32.ofNat 3) ∧ (Int32.ofInt 4 = Int32.ofNat 4) ∧ (Int32.ofInt 5 = Int32.ofNat 5) ∧ (Int32.ofInt 6 = Int32.ofNat 6) ∧ (Int32.ofInt 7 = Int32.ofNat 7) ∧ (Int32.ofInt 8 = Int32.ofNat 8) ∧ (Int32.ofInt 9 = Int32.ofNat 9) ∧ (Int32.ofInt 10 = Int32.ofNat 10) ∧ (Int32.ofInt 11 = Int32.ofNat 11) ∧ (Int32.ofInt 12 = Int32.ofNat 12) ∧ (Int32.ofInt 13 = Int32.ofNat 13) ∧ (Int32.ofInt 14 = Int32.ofNat 14) ∧ (Int32.ofInt 15 = Int32.ofNat 15) ∧ (Int32.ofInt 16 = Int32.ofNat 16) ∧ (Int32.ofInt 17 = Int32.ofNat 17) ∧ (Int32.ofInt 18 = Int32.ofNat 18) ∧ (Int32.ofInt 19 = Int32.ofNat 19) ∧ (Int32.ofInt 20 = Int32.ofNat 20) ∧ (Int32.ofInt 31 = Int32.ofNat 31) ∧ (Int32.ofInt 32 = Int32.ofNat 32) ∧ (Int32.ofInt 33 = Int32.ofNat 33) ∧ (Int32.ofInt 35 = Int32.ofNat 35) ∧ (Int32.ofInt 36 = Int32.ofNat 36) ∧ (Int32.ofInt 40 = Int32.ofNat 40) ∧ (Int32.ofInt 41 = Int32.ofNat 41) ∧ (Int32.ofInt 42 = Int32.ofNat 42) ∧ (Int32.ofInt 43 = Int32.ofNat 43) ∧ (Int32.ofInt 44 = Int32.ofNat 44) ∧ (Int32.ofInt 45 = Int32.ofNat 45) ∧ (Int32.ofInt 48 = Int32.ofNat 48) ∧ (Int32.ofInt 57 = Int32.ofNat 57) ∧ (Int32.ofInt 65 = Int32.ofNat 65) ∧ (Int32.ofInt 76 = Int32.ofNat 76) ∧ (Int32.ofInt 77 = Int32.ofNat 77) ∧ (Int32.ofInt 80 = Int32.ofNat 80) ∧ (Int32.ofInt 83 = Int32.ofNat 83) ∧ (Int32.ofInt 108 = Int32.ofNat 108) ∧ (Int32.ofInt 111 = Int32.ofNat 111) ∧ (Int32.ofInt 112 = Int32.ofNat 112) ∧ (Int32.ofInt 113 = Int32.ofNat 113) ∧ (Int32.ofInt 114 = Int32.ofNat 114) ∧ (Int32.ofInt 117 = Int32.ofNat 117) ∧ (Int32.ofInt 122 = Int32.ofNat 122) ∧ (Int32.ofInt 126 = Int32.ofNat 126) ∧ (Int32.ofInt 255 = Int32.ofNat 255) ∧ (Int32.ofInt 1000 = Int32.ofNat 1000) ∧ (Int32.ofInt 1000000 = Int32.ofNat 1000000) ∧ (Int32.ofInt 2147483639 = Int32.ofNat 2147483639) ∧ (Int32.ofInt 2147483647 = Int32.ofNat 2147483647) ∧ (Int32.ofInt (-102) = -102) ∧ (Int32.ofInt (-101) = -101) ∧ (Int32.ofInt (-100) = -100) ∧ (Int32.ofInt (-2) = -2) ∧ (Int32.ofInt (-1) = -1) := ⟨by decide, by decide, by decide, by decide, by decide, by decide, by decide, by decide, by decide, by decide, by decide, by decide, by decide, by decide, by decide, by decide, by decide, by decide, by decide, by decide, by decide, by decide, by decide, by decide, by decide, by decide, by decide, by decide, by decide, by decide, by decide, by decide, by decide, by decide, by decide, by decide, by decide, by decide, by decide, by decide, by decide, by decide, by decide, by decide, by decide, by decide, by decide, by decide, by decide, by decide, by decide, by decide, by decide, by decide, by decide, by decide, by decide⟩
theorem nz_toInt {x : Int} (h : -2147483648 ≤ x) (h' : x < 2147483648) : (Int32.ofInt x).toInt = x := Int32.toInt_ofInt_of_le h h'
theorem nz_lt {x y : Int} (h : -2147483648 ≤ x) (h' : x < 2147483648) (g : -2147483648 ≤ y) (g' : y < 2147483648) : (Int32.ofInt x < Int32.ofInt y) = (x < y) := by
  rw [Int32.lt_iff_toInt_lt, nz_toInt h h', nz_toInt g g']
theorem nz_le {x y : Int} (h : -2147483648 ≤ x) (h' : x < 2147483648) (g : -2147483648 ≤ y) (g' : y < 2147483648) : (Int32.ofInt x ≤ Int32.ofInt y) = (x ≤ y) := by
  rw [Int32.le_iff_toInt_le, nz_toInt h h', nz_toInt g g']
theorem nz_eq {x y : Int} (h : -2147483648 ≤ x) (h' : x < 2147483648) (g : -2147483648 ≤ y) (g' : y < 2147483648) : (Int32.ofInt x = Int32.ofInt y) = (x = y) := by
  rw [← Int32.toInt_inj, nz_toInt h h', nz_toInt g g']
theorem nz_add (x y : Int) : Int32.ofInt x + Int32.ofInt y = Int32.ofInt (x + y) := (Int32.ofInt_add x y).symm
theorem nz_sub (x y : Int) : Int32.ofInt x - Int32.ofInt y = Int32.ofInt (x - y) := (Int32.ofInt_sub x y).symm
theorem nz_mul (x y : Int) : Int32.ofInt x * Int32.ofInt y = Int32.ofInt (x * y) := (Int32.ofInt_mul x y).symm
theorem nz_neg (x : Int) : -Int32.ofInt x = Int32.ofInt (-x) := (Int32.ofInt_neg x).symm
theorem nz_nat (n : Nat) : Int32.ofNat n = Int32.ofInt n := by
  rw [← Int32.toInt_inj]; simp [Int32.ofNat, Int32.ofInt]
def bi (b : Bool) : Int32 := Int32.ofNat b.toNat
def ary (t : Nat) : Nat := if t < 3 ∨ t = 12 then 0 else if t = 11 then 3 else if t = 5 ∨ t = 9 ∨ t = 10 then 1 else 2
theorem vu {α : Type} (f : Nat → α) (k : Nat) (v : α) (j : Nat) : va_up f k v j = if j = k then v else f j := rfl
theorem n13 {t : Nat} (h : t < 13) : t = 0 ∨ t = 1 ∨ t = 2 ∨ t = 3 ∨ t = 4 ∨ t = 5 ∨ t = 6 ∨ t = 7 ∨ t = 8 ∨ t = 9 ∨ t = 10 ∨ t = 11 ∨ t = 12 := by omega
theorem n12 {t : Nat} (h : t < 12) : t = 0 ∨ t = 1 ∨ t = 2 ∨ t = 3 ∨ t = 4 ∨ t = 5 ∨ t = 6 ∨ t = 7 ∨ t = 8 ∨ t = 9 ∨ t = 10 ∨ t = 11 := by omega
section M1
variable {d : Nat} {sc : Nat → Int32} {ar : Nat → Nat → Int32} {la : Nat → Nat → Int64} {R w : am_W} {K : Option Value → am_W → Prop}
theorem bi_1 (b : Bool) : (bi b = 1) = (b = true) := by cases b <;> simp [bi]
theorem bi_0 (b : Bool) : (bi b = 0) = (b = false) := by cases b <;> simp [bi]
theorem bi_fit (b : Bool) : (bi b == 0 || bi b == 1) = true := by cases b <;> rfl
theorem ary_all : ary 0 = 0 ∧ ary 1 = 0 ∧ ary 2 = 0 ∧ ary 3 = 2 ∧ ary 4 = 2 ∧ ary 5 = 1 ∧ ary 6 = 2 ∧ ary 7 = 2 ∧ ary 8 = 2 ∧ ary 9 = 1 ∧ ary 10 = 1 ∧ ary 11 = 3 := by decide
theorem ary_3 (t : Nat) : ary t ≤ 3 := by unfold ary; (repeat' split) <;> omega
theorem c_arity {t : Nat} (h : t < 13) : Ev PG (d + 1) 152 [.int (Int32.ofNat t)] w K = K (some (.int (Int32.ofNat (ary t)))) w := by
  rw [e_152]
  simp (disch := omega) only [wr_all, wr_side, wr_call, qq_all, kk_152, B_152_0, B_152_1, B_152_2, B_152_3, B_152_4, B_152_5, B_152_6, mw_rd, mw_put, nn_clamp, nn_lt, nn_le, nn_eq, nn_lt0, nn_0le, nn_0lt, nn_le0, nn_eq0, nn_eq_1, nn_f1, nn_f0, nn_addn, nn_muln, nn_subn, nn_sub1, nn_nle, bi_1, bi_0, bi_fit, vu, io_all, Nat.reduceDiv, Nat.reduceMod, Nat.reduceBEq, Nat.reduceLeDiff, Nat.reduceEqDiff, Nat.reduceLT, Nat.reduceMul, Nat.reduceAdd, Nat.reduceSub, BEq.rfl, Bool.or_true, Bool.true_or, Bool.true_and, Bool.and_true, Bool.or_false, Bool.false_or, Bool.not_false, Bool.not_true, decide_false, decide_true, true_and, and_true, not_true_eq_false, not_false_eq_true, ↓reduceIte, Option.toList_some, Option.toList_none, List.cons_append, List.nil_append, am_sw, am_lk, List.toList_toArray, Int.reduceAdd, am_cats_cons, List.map_cons, List.map_nil, List.sum_cons, List.sum_nil]
  rcases n13 h with rfl|rfl|rfl|rfl|rfl|rfl|rfl|rfl|rfl|rfl|rfl|rfl|rfl <;> rfl
theorem c_isNode {n k : Nat} (h : n < 1000) (e : sc 12 = Int32.ofNat n) {x : Int32} : Ev PG (d + 1) 167 [.ref 33, .int x] (mw sc ar la R) K = K (some (.int (bi (decide (0 ≤ x ∧ x < Int32.ofNat n))))) (mw sc ar la R) := by
  rw [e_167]
  simp (disch := omega) only [wr_all, wr_side, wr_call, qq_all, kk_167, B_167_0, B_167_1, B_167_2, mw_rd, mw_put, nn_clamp, nn_lt, nn_le, nn_eq, nn_lt0, nn_0le, nn_0lt, nn_le0, nn_eq0, nn_eq_1, nn_f1, nn_f0, nn_addn, nn_muln, nn_subn, nn_sub1, nn_nle, bi_1, bi_0, bi_fit, vu, io_all, Nat.reduceDiv, Nat.reduceMod, Nat.reduceBEq, Nat.reduceLeDiff, Nat.reduceEqDiff, Nat.reduceLT, Nat.reduceMul, Nat.reduceAdd, Nat.reduceSub, BEq.rfl, Bool.or_true, Bool.true_or, Bool.true_and, Bool.and_true, Bool.or_false, Bool.false_or, Bool.not_false, Bool.not_true, decide_false, decide_true, true_and, and_true, not_true_eq_false, not_false_eq_true, ↓reduceIte, Option.toList_some, Option.toList_none, List.cons_append, List.nil_append, am_sw, am_lk, List.toList_toArray, Int.reduceAdd, am_cats_cons, List.map_cons, List.map_nil, List.sum_cons, List.sum_nil, e]
  have e2 : decide (0 ≤ x ∧ x < Int32.ofNat n) = (!decide (x < 0) && !decide (Int32.ofNat n ≤ x)) := by grind
  rw [e2]
  by_cases h1 : x < 0 <;> by_cases h2 : Int32.ofNat n ≤ x <;> simp [h1, h2, bi]
end M1
