/-! THE MODEL's read. -/
section M28
variable {d : Nat} {sc : Nat → Int32} {ar : Nat → Nat → Int32} {la : Nat → Nat → Int64} {R w : am_W} {K : Option Value → am_W → Prop} {len : Nat} {ln : Nat → Nat}
theorem i32_nat (x : Int32) : ∃ n : Nat, x = Int32.ofNat n := ⟨x.toUInt32.toNat, by
  apply Int32.toBitVec_inj.1
  simp [Int32.ofNat]⟩
theorem psR_le : ∀ (m : Nat) (p : PT) (k : Nat), psR ln len m p = .inl k → k ≤ len
  | 0, p, k, h => by simp [psR] at h
  | m + 1, p, k, h => by
    unfold psR at h
    split at h
    · cases h; omega
    · exact psR_le m _ k h
theorem paF_le {dg na k : Nat} (h : paF ln len dg na = .inl k) : k ≤ len := by
  unfold paF at h
  split at h
  · rename_i e; cases h; exact psR_le _ _ _ e
  · unfold psE at h
    split at h
    · cases h; exact Nat.le_refl _
    · split at h
      · cases h; exact Nat.le_refl _
      · cases h
theorem c_build {T : NT} {O : List (Nat × Int)} {n0 : Nat} (hM : MT n0 T sc ar la) (hn : O.length ≤ 20) (e8 : sc 8 = Int32.ofNat O.length) (hO : OK O (ar 3) (ar 4)) (hf : fwF O.reverse 0 = some 1)
    (q : ∀ sc' ar' la', MT n0 (bdF T.1 O.reverse T []).2 sc' ar' la' → NX T (bdF T.1 O.reverse T []).2 → BF n0 sc ar la sc' ar' la' → (0 ≤ (bdF T.1 O.reverse T []).1 → (bdF T.1 O.reverse T []).1.toNat < (bdF T.1 O.reverse T []).2.1) → -1000 ≤ (bdF T.1 O.reverse T []).1 → (bdF T.1 O.reverse T []).1 < 1000 → K (some (.int (Int32.ofInt (bdF T.1 O.reverse T []).1))) (mw sc' ar' la' R)) :
    Ev PG (d + 3) 151 [.ref 33, .int (Int32.ofNat T.1)] (mw sc ar la R) K := by
  rw [e_151]
  simp (disch := omega) only [wr_all, wr_side, kk_151, B_151_0, io_all]
  exact c_build_l (n1 := O.length) O.reverse T [] 0 sc ar la _ _ _ _ _ _ (by simp) hn (Nat.le_refl _) hM e8 (OK_LA hO) trivial (by simp) (by simp) hf q
theorem MT.fr {T : NT} {n0 : Nat} {sc' : Nat → Int32} {ar' : Nat → Nat → Int32} (h : MT n0 T sc ar la) (f : Fr sc ar sc' ar') : MT n0 T sc' ar' la :=
  ⟨h.1, h.2.1.congr (f.2 6 (by omega)) (f.2 7 (by omega)) (f.2 8 (by omega)), (f.1 12 (by omega)).trans h.2.2.1, h.2.2.2.1, h.2.2.2.2.1, fun i h1 h2 => by rw [f.2 10 (by omega), f.2 24 (by omega)]; exact h.2.2.2.2.2 i h1 h2⟩
/-- what read leaves alone: numbers but 1 (the line) and 12 (the count), arrays but the line's signs and the nodes' from n0 on -/
def RF (n0 : Nat) (sc : Nat → Int32) (ar : Nat → Nat → Int32) (sc' : Nat → Int32) (ar' : Nat → Nat → Int32) : Prop :=
  (∀ j, ¬ (j = 1 ∨ (2 ≤ j ∧ j ≤ 8) ∨ j = 12) → sc' j = sc j) ∧ (∀ j, ¬ ((1 ≤ j ∧ j ≤ 8) ∨ j = 10 ∨ j = 24) → ar' j = ar j) ∧ ∀ i, i < n0 → ar' 10 i = ar 10 i ∧ ar' 24 i = ar 24 i
theorem BF.rr {n0 : Nat} {sc' sc'' : Nat → Int32} {ar' ar'' : Nat → Nat → Int32} {la' : Nat → Nat → Int64} (f : Fr sc ar sc' ar') (g : BF n0 sc' ar' la sc'' ar'' la') : RF n0 sc ar sc'' ar'' :=
  ⟨fun j hj => (g.1 j (by omega)).trans (f.1 j (by omega)), fun j hj => (g.2.1 j (by omega)).trans (f.2 j (by omega)), fun i hi => ⟨(g.2.2.1 i hi).1.trans (by rw [f.2 10 (by omega)]), (g.2.2.1 i hi).2.trans (by rw [f.2 24 (by omega)])⟩⟩
theorem Fr.rr {n0 : Nat} {sc' : Nat → Int32} {ar' : Nat → Nat → Int32} (f : Fr sc ar sc' ar') : RF n0 sc ar sc' ar' := BF.rr (la := fun _ _ => 0) f BF.rf
theorem RF.u {n0 i : Nat} {v : Int32} {sc' : Nat → Int32} {ar' : Nat → Nat → Int32} (h : RF n0 sc ar sc' ar') (hi : i = 1 ∨ i = 12) : RF n0 sc ar (upd sc' i v) ar' := ⟨fun j hj => by rw [us_ne' (by omega)]; exact h.1 j hj, h.2.1, h.2.2⟩
/-- the table with fewer nodes is held too -/
theorem MT.back {T T' : NT} {sc' : Nat → Int32} (h : MT T.1 T' sc ar la) (hx : NX T T') (hT : NO T) (e : sc' 12 = Int32.ofNat T.1) : MT T.1 T sc' ar la :=
  ⟨hT, ⟨hT.1, fun k hk => by
      have a := h.2.1.2.1 k (by have := hx.1; omega)
      have b := hx.2 k hk
      rw [b.1, b.2.1, b.2.2.1] at a
      exact a, fun k hk j hj => (hT.2 k hk).2.2.1 j hj⟩, e, fun k hk => by rw [h.2.2.2.1 k (by have := hx.1; omega), (hx.2 k hk).2.2.2], Nat.le_refl _, fun i h1 h2 => by omega⟩
theorem c_read {T : NT} (hlen : len ≤ 20) (hln : ∀ i, i < len → ln i < 1000) (e1 : sc 1 = Int32.ofNat len) (ha : ∀ i, i < len → ar 0 i = Int32.ofNat (ln i)) (hM : MT T.1 T sc ar la)
    (q1 : ∀ j, scF ln len = .inl j → ∀ sc' ar', MT T.1 T sc' ar' la → RF T.1 sc ar sc' ar' → sc' 1 = sc 1 → K (some (.int (Int32.ofInt (-1 - (j : Int))))) (mw sc' ar' la R))
    (q2 : ∀ O, scF ln len = .inr O → (bdF T.1 O.reverse T []).1 < 0 → -1000 ≤ (bdF T.1 O.reverse T []).1 → ∀ sc' ar' la', MT T.1 T sc' ar' la' → RF T.1 sc ar sc' ar' → sc' 1 = sc 1 → K (some (.int (Int32.ofInt (bdF T.1 O.reverse T []).1))) (mw sc' ar' la' R))
    (q3 : ∀ O, scF ln len = .inr O → 0 ≤ (bdF T.1 O.reverse T []).1 → (bdF T.1 O.reverse T []).1.toNat < (bdF T.1 O.reverse T []).2.1 → ∀ sc' ar' la', MT T.1 (bdF T.1 O.reverse T []).2 sc' ar' la' → NX T (bdF T.1 O.reverse T []).2 → RF T.1 sc ar sc' ar' → sc' 1 = Int32.ofNat 0 → K (some (.int (Int32.ofInt (bdF T.1 O.reverse T []).1))) (mw sc' ar' la' R)) :
    Ev PG (d + 7) 140 [.ref 33] (mw sc ar la R) K := by
  obtain ⟨dg, e3⟩ := i32_nat (sc 3)
  obtain ⟨na, e4⟩ := i32_nat (sc 4)
  have n36 := hM.1.1
  rw [e_140]
  simp (disch := omega) only [wr_all, wr_side, wr_call, qq_all, kk_140, B_140_0, mw_rd, io_all, Nat.reduceDiv, Nat.reduceMod, Nat.reduceBEq, Nat.reduceLeDiff, Nat.reduceEqDiff, Nat.reduceLT, Nat.reduceMul, Nat.reduceAdd, Nat.reduceSub, BEq.rfl, Bool.or_true, Bool.true_or, Bool.true_and, Bool.and_true, Bool.or_false, Bool.false_or, Bool.not_false, Bool.not_true, decide_false, decide_true, true_and, and_true, not_true_eq_false, not_false_eq_true, ↓reduceIte, Option.toList_some, Option.toList_none, List.cons_append, List.nil_append, am_sw, am_lk, List.toList_toArray, Int.reduceAdd, am_cats_cons, List.map_cons, List.map_nil, List.sum_cons, List.sum_nil]
  refine c_parse (d := d) hlen hln e1 ha e3 e4 (fun j hj sc' ar' f' => ?_) (fun O hO sc' ar' f' e8 ok l20 => ?_)
  · have jl := paF_le hj
    rw [sc_pa] at hj
    have := q1 j hj sc' ar' (hM.fr f') f'.rr (f'.1 1 (by omega))
    simp (disch := omega) only [wr_all, wr_side, wr_call, qq_all, kk_140, B_140_0, B_140_1, B_140_2, mw_rd, mw_put, nn_clamp, nn_lt, nn_le, nn_eq, nn_lt0, nn_0le, nn_0lt, nn_le0, nn_eq0, nn_eq_1, nn_f1, nn_f0, nn_addn, nn_muln, nn_subn, nn_sub1, nn_nle, bi_1, bi_0, bi_fit, vu, io_all, Nat.reduceDiv, Nat.reduceMod, Nat.reduceBEq, Nat.reduceLeDiff, Nat.reduceEqDiff, Nat.reduceLT, Nat.reduceMul, Nat.reduceAdd, Nat.reduceSub, BEq.rfl, Bool.or_true, Bool.true_or, Bool.true_and, Bool.and_true, Bool.or_false, Bool.false_or, Bool.not_false, Bool.not_true, decide_false, decide_true, true_and, and_true, not_true_eq_false, not_false_eq_true, ↓reduceIte, Option.toList_some, Option.toList_none, List.cons_append, List.nil_append, am_sw, am_lk, List.toList_toArray, Int.reduceAdd, am_cats_cons, List.map_cons, List.map_nil, List.sum_cons, List.sum_nil]
    rw [show (-1 : Int32) - Int32.ofNat j = Int32.ofInt (-1 - (j : Int)) from by rw [nz_nat, show (-1 : Int32) = Int32.ofInt (-1) from rfl, nz_sub]]
    exact this
  · rw [sc_pa] at hO
    have wf := sc_wf hO
    have m' := hM.fr f'
    have n1 : ((-1 : Int32) < 0) = True := by decide
    simp (disch := omega) only [wr_all, wr_side, wr_call, qq_all, kk_140, B_140_0, B_140_1, B_140_2, mw_rd, mw_put, nn_clamp, nn_lt, nn_le, nn_eq, nn_lt0, nn_0le, nn_0lt, nn_le0, nn_eq0, nn_eq_1, nn_f1, nn_f0, nn_addn, nn_muln, nn_subn, nn_sub1, nn_nle, bi_1, bi_0, bi_fit, vu, io_all, Nat.reduceDiv, Nat.reduceMod, Nat.reduceBEq, Nat.reduceLeDiff, Nat.reduceEqDiff, Nat.reduceLT, Nat.reduceMul, Nat.reduceAdd, Nat.reduceSub, BEq.rfl, Bool.or_true, Bool.true_or, Bool.true_and, Bool.and_true, Bool.or_false, Bool.false_or, Bool.not_false, Bool.not_true, decide_false, decide_true, true_and, and_true, not_true_eq_false, not_false_eq_true, ↓reduceIte, Option.toList_some, Option.toList_none, List.cons_append, List.nil_append, am_sw, am_lk, List.toList_toArray, Int.reduceAdd, am_cats_cons, List.map_cons, List.map_nil, List.sum_cons, List.sum_nil, n1, m'.2.2.1]
    refine c_build (T := T) (O := O) (n0 := T.1) m' l20 e8 ok wf.1 (fun sc'' ar'' la'' r1 r2 r3 r4 r5 r6 => ?_)
    have rf := r3.rr f'
    by_cases y : 0 ≤ (bdF T.1 O.reverse T []).1
    · have z : ((0 : Int32) ≤ Int32.ofInt (bdF T.1 O.reverse T []).1) = True := by
        rw [show (0 : Int32) = Int32.ofInt 0 from rfl, nz_le (by omega) (by omega) (by omega) (by omega)]; simp; omega
      simp (disch := omega) only [wr_all, wr_side, wr_call, qq_all, kk_140, B_140_0, B_140_1, B_140_2, mw_rd, mw_put, nn_clamp, nn_lt, nn_le, nn_eq, nn_lt0, nn_0le, nn_0lt, nn_le0, nn_eq0, nn_eq_1, nn_f1, nn_f0, nn_addn, nn_muln, nn_subn, nn_sub1, nn_nle, bi_1, bi_0, bi_fit, vu, io_all, Nat.reduceDiv, Nat.reduceMod, Nat.reduceBEq, Nat.reduceLeDiff, Nat.reduceEqDiff, Nat.reduceLT, Nat.reduceMul, Nat.reduceAdd, Nat.reduceSub, BEq.rfl, Bool.or_true, Bool.true_or, Bool.true_and, Bool.and_true, Bool.or_false, Bool.false_or, Bool.not_false, Bool.not_true, decide_false, decide_true, true_and, and_true, not_true_eq_false, not_false_eq_true, ↓reduceIte, Option.toList_some, Option.toList_none, List.cons_append, List.nil_append, am_sw, am_lk, List.toList_toArray, Int.reduceAdd, am_cats_cons, List.map_cons, List.map_nil, List.sum_cons, List.sum_nil, z]
      exact q3 O hO y (r4 y) _ _ _ ⟨r1.1, r1.2.1, r1.2.2.1, r1.2.2.2⟩ r2 (rf.u (Or.inl rfl)) rfl
    · have z : ((0 : Int32) ≤ Int32.ofInt (bdF T.1 O.reverse T []).1) = False := by
        rw [show (0 : Int32) = Int32.ofInt 0 from rfl, nz_le (by omega) (by omega) (by omega) (by omega)]; simp; omega
      simp (disch := omega) only [wr_all, wr_side, wr_call, qq_all, kk_140, B_140_0, B_140_1, B_140_2, mw_rd, mw_put, nn_clamp, nn_lt, nn_le, nn_eq, nn_lt0, nn_0le, nn_0lt, nn_le0, nn_eq0, nn_eq_1, nn_f1, nn_f0, nn_addn, nn_muln, nn_subn, nn_sub1, nn_nle, bi_1, bi_0, bi_fit, vu, io_all, Nat.reduceDiv, Nat.reduceMod, Nat.reduceBEq, Nat.reduceLeDiff, Nat.reduceEqDiff, Nat.reduceLT, Nat.reduceMul, Nat.reduceAdd, Nat.reduceSub, BEq.rfl, Bool.or_true, Bool.true_or, Bool.true_and, Bool.and_true, Bool.or_false, Bool.false_or, Bool.not_false, Bool.not_true, decide_false, decide_true, true_and, and_true, not_true_eq_false, not_false_eq_true, ↓reduceIte, Option.toList_some, Option.toList_none, List.cons_append, List.nil_append, am_sw, am_lk, List.toList_toArray, Int.reduceAdd, am_cats_cons, List.map_cons, List.map_nil, List.sum_cons, List.sum_nil, z]
      refine q2 O hO (by omega) r5 _ _ _ (r1.back r2 hM.1 rfl) (rf.u (Or.inr rfl)) ?_
      rw [us_ne' (by omega), r3.1 1 (by omega), f'.1 1 (by omega)]
end M28
