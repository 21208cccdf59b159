/-! THE MODEL's line: the stack and what is to be made, as lists with the latest first. -/
def cmF (c : Nat) : Nat := if c = 77 ∨ c = 76 then 1 else if c = 80 then 2 else 0
theorem cmF_le (c : Nat) : cmF c ≤ 2 := by unfold cmF; (repeat' split) <;> omega
def SK : List (Nat × Nat) → (Nat → Int32) → (Nat → Int32) → Prop
  | [], _, _ => True
  | x :: S, f, g => f S.length = Int32.ofNat x.1 ∧ g S.length = Int32.ofNat x.2 ∧ x.1 < 1000 ∧ x.2 ≤ cmF x.1 ∧ SK S f g
def OK : List (Nat × Int) → (Nat → Int32) → (Nat → Int32) → Prop
  | [], _, _ => True
  | x :: S, f, g => f S.length = Int32.ofNat x.1 ∧ g S.length = Int32.ofInt x.2 ∧ x.1 < 13 ∧ OK S f g
theorem SK_u1 {i : Nat} {v : Int32} : ∀ {S : List (Nat × Nat)} {f g : Nat → Int32}, S.length ≤ i → SK S f g → SK S (upd f i v) g
  | [], _, _, _, _ => trivial
  | x :: S, f, g, hi, ⟨a, b, c, e, h⟩ => by
    simp only [List.length_cons] at hi
    exact ⟨by simp only [upd]; rw [if_neg (by omega)]; exact a, b, c, e, SK_u1 (by omega) h⟩
theorem SK_u2 {i : Nat} {v : Int32} : ∀ {S : List (Nat × Nat)} {f g : Nat → Int32}, S.length ≤ i → SK S f g → SK S f (upd g i v)
  | [], _, _, _, _ => trivial
  | x :: S, f, g, hi, ⟨a, b, c, e, h⟩ => by
    simp only [List.length_cons] at hi
    exact ⟨a, by simp only [upd]; rw [if_neg (by omega)]; exact b, c, e, SK_u2 (by omega) h⟩
theorem OK_u1 {i : Nat} {v : Int32} : ∀ {S : List (Nat × Int)} {f g : Nat → Int32}, S.length ≤ i → OK S f g → OK S (upd f i v) g
  | [], _, _, _, _ => trivial
  | x :: S, f, g, hi, ⟨a, b, c, h⟩ => by
    simp only [List.length_cons] at hi
    exact ⟨by simp only [upd]; rw [if_neg (by omega)]; exact a, b, c, OK_u1 (by omega) h⟩
theorem OK_u2 {i : Nat} {v : Int32} : ∀ {S : List (Nat × Int)} {f g : Nat → Int32}, S.length ≤ i → OK S f g → OK S f (upd g i v)
  | [], _, _, _, _ => trivial
  | x :: S, f, g, hi, ⟨a, b, c, h⟩ => by
    simp only [List.length_cons] at hi
    exact ⟨a, by simp only [upd]; rw [if_neg (by omega)]; exact b, c, OK_u2 (by omega) h⟩
/-- the line's state: stack, what is to be made, and the rest as it was -/
def PS (S : List (Nat × Nat)) (O : List (Nat × Int)) (sc : Nat → Int32) (ar : Nat → Nat → Int32) : Prop := sc 5 = Int32.ofNat S.length ∧ sc 8 = Int32.ofNat O.length ∧ SK S (ar 1) (ar 2) ∧ OK O (ar 3) (ar 4) ∧ S.length + O.length ≤ 20
def Fr (sc : Nat → Int32) (ar : Nat → Nat → Int32) (sc' : Nat → Int32) (ar' : Nat → Nat → Int32) : Prop := (∀ j, ¬ (2 ≤ j ∧ j ≤ 8) → sc' j = sc j) ∧ ∀ j, ¬ (1 ≤ j ∧ j ≤ 4) → ar' j = ar j
theorem Fr.rf {sc : Nat → Int32} {ar : Nat → Nat → Int32} : Fr sc ar sc ar := ⟨fun _ _ => rfl, fun _ _ => rfl⟩
theorem Fr.tr {sc sc' sc'' : Nat → Int32} {ar ar' ar'' : Nat → Nat → Int32} (h : Fr sc ar sc' ar') (g : Fr sc' ar' sc'' ar'') : Fr sc ar sc'' ar'' := ⟨fun j hj => (g.1 j hj).trans (h.1 j hj), fun j hj => (g.2 j hj).trans (h.2 j hj)⟩
theorem Fr.s {sc sc' : Nat → Int32} {ar ar' : Nat → Nat → Int32} {i : Nat} {v : Int32} (hi : 2 ≤ i ∧ i ≤ 8) (h : Fr sc ar sc' ar') : Fr sc ar (upd sc' i v) ar' := ⟨fun j hj => by simp only [upd]; rw [if_neg (by omega)]; exact h.1 j hj, h.2⟩
theorem Fr.a {sc sc' : Nat → Int32} {ar ar' : Nat → Nat → Int32} {i : Nat} {v : Nat → Int32} (hi : 1 ≤ i ∧ i ≤ 4) (h : Fr sc ar sc' ar') : Fr sc ar sc' (va_up ar' i v) := ⟨h.1, fun j hj => by simp only [va_up]; rw [if_neg (by omega)]; exact h.2 j hj⟩
def ngF : List (Nat × Nat) → List (Nat × Int) → List (Nat × Nat) × List (Nat × Int)
  | [], O => ([], O)
  | x :: S, O => if x.1 = 126 then ngF S ((5, 0) :: O) else (x :: S, O)
def opk (c : Nat) : Nat := if c = 42 then 6 else if c = 43 then 3 else 4
def uwF (all : Bool) : List (Nat × Nat) → List (Nat × Int) → List (Nat × Nat) × List (Nat × Int)
  | [], O => ([], O)
  | x :: S, O => if x.1 = 42 ∨ all = true ∧ (x.1 = 43 ∨ x.1 = 45) then uwF all S ((opk x.1, 0) :: O) else (x :: S, O)
section M17
variable {d : Nat} {sc : Nat → Int32} {ar : Nat → Nat → Int32} {la : Nat → Nat → Int64} {R w : am_W} {K : Option Value → am_W → Prop} {S : List (Nat × Nat)} {O : List (Nat × Int)}
theorem c_emit {k : Nat} {v : Int} (h : PS S O sc ar) (hk : k < 13) (hl : S.length + O.length < 20) (q : ∀ sc' ar', PS S ((k, v) :: O) sc' ar' → Fr sc ar sc' ar' → sc' 2 = sc 2 → sc' 3 = sc 3 → sc' 4 = sc 4 → K none (mw sc' ar' la R)) :
    Ev PG (d + 1) 144 [.ref 33, .int (Int32.ofNat k), .int (Int32.ofInt v)] (mw sc ar la R) K := by
  obtain ⟨h5, h8, hs, ho, hb⟩ := h
  rw [e_144]
  simp (disch := omega) only [wr_all, wr_side, wr_call, qq_all, kk_144, B_144_0, mw_rd, mw_put, nn_clamp, nn_lt, nn_le, nn_eq, nn_lt0, nn_0le, nn_0lt, nn_le0, nn_eq0, nn_eq_1, nn_f1, nn_f0, nn_addn, nn_muln, nn_subn, nn_sub1, nn_nle, bi_1, bi_0, bi_fit, vu, io_all, Nat.reduceDiv, Nat.reduceMod, Nat.reduceBEq, Nat.reduceLeDiff, Nat.reduceEqDiff, Nat.reduceLT, Nat.reduceMul, Nat.reduceAdd, Nat.reduceSub, BEq.rfl, Bool.or_true, Bool.true_or, Bool.true_and, Bool.and_true, Bool.or_false, Bool.false_or, Bool.not_false, Bool.not_true, decide_false, decide_true, true_and, and_true, not_true_eq_false, not_false_eq_true, ↓reduceIte, Option.toList_some, Option.toList_none, List.cons_append, List.nil_append, am_sw, am_lk, List.toList_toArray, Int.reduceAdd, am_cats_cons, List.map_cons, List.map_nil, List.sum_cons, List.sum_nil, h8]
  refine q _ _ ⟨?_, ?_, ?_, ?_, ?_⟩ (Fr.s (by omega) (Fr.a (by omega) (Fr.a (by omega) Fr.rf))) rfl rfl rfl
  · exact h5
  · rfl
  · exact hs
  · exact ⟨uu_3 _ _ _, uu_3 _ _ _, hk, OK_u1 (Nat.le_refl _) (OK_u2 (Nat.le_refl _) ho)⟩
  · simp only [List.length_cons]; omega
theorem c_open {c : Nat} (h : PS S O sc ar) (hc : c < 1000) (hl : S.length + O.length < 20) (q : ∀ sc' ar', PS ((c, 0) :: S) O sc' ar' → Fr sc ar sc' ar' → sc' 2 = sc 2 → sc' 3 = sc 3 → sc' 4 = sc 4 → K none (mw sc' ar' la R)) :
    Ev PG (d + 1) 147 [.ref 33, .int (Int32.ofNat c)] (mw sc ar la R) K := by
  obtain ⟨h5, h8, hs, ho, hb⟩ := h
  rw [e_147]
  simp (disch := omega) only [wr_all, wr_side, wr_call, qq_all, kk_147, B_147_0, mw_rd, mw_put, nn_clamp, nn_lt, nn_le, nn_eq, nn_lt0, nn_0le, nn_0lt, nn_le0, nn_eq0, nn_eq_1, nn_f1, nn_f0, nn_addn, nn_muln, nn_subn, nn_sub1, nn_nle, bi_1, bi_0, bi_fit, vu, io_all, Nat.reduceDiv, Nat.reduceMod, Nat.reduceBEq, Nat.reduceLeDiff, Nat.reduceEqDiff, Nat.reduceLT, Nat.reduceMul, Nat.reduceAdd, Nat.reduceSub, BEq.rfl, Bool.or_true, Bool.true_or, Bool.true_and, Bool.and_true, Bool.or_false, Bool.false_or, Bool.not_false, Bool.not_true, decide_false, decide_true, true_and, and_true, not_true_eq_false, not_false_eq_true, ↓reduceIte, Option.toList_some, Option.toList_none, List.cons_append, List.nil_append, am_sw, am_lk, List.toList_toArray, Int.reduceAdd, am_cats_cons, List.map_cons, List.map_nil, List.sum_cons, List.sum_nil, h5]
  refine q _ _ ⟨?_, ?_, ?_, ?_, ?_⟩ (Fr.s (by omega) (Fr.a (by omega) (Fr.a (by omega) Fr.rf))) rfl rfl rfl
  · rfl
  · exact h8
  · exact ⟨uu_3 _ _ _, uu_3 _ _ _, hc, Nat.zero_le _, SK_u1 (Nat.le_refl _) (SK_u2 (Nat.le_refl _) hs)⟩
  · exact ho
  · simp only [List.length_cons]; omega
theorem c_commasOf {c : Nat} (hc : c < 1000) : Ev PG (d + 1) 150 [.int (Int32.ofNat c)] w K = K (some (.int (Int32.ofNat (cmF c)))) w := by
  rw [e_150]
  simp (disch := omega) only [wr_all, wr_side, wr_call, qq_all, kk_150, B_150_0, B_150_1, B_150_2, B_150_3, B_150_4, mw_rd, mw_put, nn_clamp, nn_lt, nn_le, nn_eq, nn_lt0, nn_0le, nn_0lt, nn_le0, nn_eq0, nn_eq_1, nn_f1, nn_f0, nn_addn, nn_muln, nn_subn, nn_sub1, nn_nle, bi_1, bi_0, bi_fit, vu, io_all, Nat.reduceDiv, Nat.reduceMod, Nat.reduceBEq, Nat.reduceLeDiff, Nat.reduceEqDiff, Nat.reduceLT, Nat.reduceMul, Nat.reduceAdd, Nat.reduceSub, BEq.rfl, Bool.or_true, Bool.true_or, Bool.true_and, Bool.and_true, Bool.or_false, Bool.false_or, Bool.not_false, Bool.not_true, decide_false, decide_true, true_and, and_true, not_true_eq_false, not_false_eq_true, ↓reduceIte, Option.toList_some, Option.toList_none, List.cons_append, List.nil_append, am_sw, am_lk, List.toList_toArray, Int.reduceAdd, am_cats_cons, List.map_cons, List.map_nil, List.sum_cons, List.sum_nil]
  unfold cmF
  by_cases y1 : c = 77 <;> by_cases y2 : c = 76 <;> by_cases y3 : c = 80 <;> simp only [y1, y2, y3, ↓reduceIte, true_or, or_true, or_self, not_true_eq_false, not_false_eq_true, Nat.reduceEqDiff, false_or]
theorem c_neg_l (q : ∀ (S' : List (Nat × Nat)) (O' : List (Nat × Int)) sc' ar', (S', O') = ngF S O → PS S' O' sc' ar' → Fr sc ar sc' ar' → sc' 2 = sc 2 → sc' 3 = sc 3 → sc' 4 = sc 4 → K none (mw sc' ar' la R)) (h : PS S O sc ar) :
    Wp PG (d + 1) cd_145 B_145_0 [.ref 33] [] (mw sc ar la R) K := by
  induction S generalizing O sc ar with
  | nil =>
    obtain ⟨h5, h8, hs, ho, hb⟩ := h
    rw [B_145_0]
    simp (disch := omega) only [wr_all, wr_side, wr_call, qq_all, kk_145, B_145_1, mw_rd, mw_put, nn_clamp, nn_lt, nn_le, nn_eq, nn_lt0, nn_0le, nn_0lt, nn_le0, nn_eq0, nn_eq_1, nn_f1, nn_f0, nn_addn, nn_muln, nn_subn, nn_sub1, nn_nle, bi_1, bi_0, bi_fit, vu, io_all, Nat.reduceDiv, Nat.reduceMod, Nat.reduceBEq, Nat.reduceLeDiff, Nat.reduceEqDiff, Nat.reduceLT, Nat.reduceMul, Nat.reduceAdd, Nat.reduceSub, BEq.rfl, Bool.or_true, Bool.true_or, Bool.true_and, Bool.and_true, Bool.or_false, Bool.false_or, Bool.not_false, Bool.not_true, decide_false, decide_true, true_and, and_true, not_true_eq_false, not_false_eq_true, ↓reduceIte, Option.toList_some, Option.toList_none, List.cons_append, List.nil_append, am_sw, am_lk, List.toList_toArray, Int.reduceAdd, am_cats_cons, List.map_cons, List.map_nil, List.sum_cons, List.sum_nil, h5, List.length_nil]
    exact q [] O sc ar rfl ⟨h5, h8, hs, ho, hb⟩ Fr.rf rfl rfl rfl
  | cons x S ih =>
    have h' := h
    obtain ⟨h5, h8, ⟨s1, s2, s3, s4, hs⟩, ho, hb⟩ := h
    simp only [List.length_cons] at h5 hb
    have nz : ¬ S.length + 1 = 0 := by omega
    rw [B_145_0]
    simp (disch := omega) only [wr_all, wr_side, wr_call, qq_all, kk_145, B_145_1, mw_rd, mw_put, nn_clamp, nn_lt, nn_le, nn_eq, nn_lt0, nn_0le, nn_0lt, nn_le0, nn_eq0, nn_eq_1, nn_f1, nn_f0, nn_addn, nn_muln, nn_subn, nn_sub1, nn_nle, bi_1, bi_0, bi_fit, vu, io_all, Nat.reduceDiv, Nat.reduceMod, Nat.reduceBEq, Nat.reduceLeDiff, Nat.reduceEqDiff, Nat.reduceLT, Nat.reduceMul, Nat.reduceAdd, Nat.reduceSub, BEq.rfl, Bool.or_true, Bool.true_or, Bool.true_and, Bool.and_true, Bool.or_false, Bool.false_or, Bool.not_false, Bool.not_true, decide_false, decide_true, true_and, and_true, not_true_eq_false, not_false_eq_true, ↓reduceIte, Option.toList_some, Option.toList_none, List.cons_append, List.nil_append, am_sw, am_lk, List.toList_toArray, Int.reduceAdd, am_cats_cons, List.map_cons, List.map_nil, List.sum_cons, List.sum_nil, h5, nz, Nat.add_sub_cancel, s1]
    by_cases y : x.1 = 126
    · simp only [y, not_true_eq_false, ↓reduceIte]
      refine c_emit (S := S) (O := O) (v := 0) ⟨?_, h8, hs, ho, by omega⟩ (by omega) (by omega) (fun sc' ar' p' f' e2 e3 e4 => ?_)
      · rfl
      · simp only [wr_all, kk_145, Option.toList_none, List.nil_append]
        refine ih (fun S' O' sc'' ar'' e p'' f'' g2 g3 g4 => q S' O' sc'' ar'' ?_ p'' ?_ ?_ ?_ ?_) p'
        · rw [e, ngF, if_pos y]
        · exact (Fr.s (by omega) Fr.rf).tr (f'.tr f'')
        · rw [g2, e2]; rfl
        · rw [g3, e3]; rfl
        · rw [g4, e4]; rfl
    · simp only [y, not_false_eq_true, ↓reduceIte]
      exact q (x :: S) O sc ar (by rw [ngF, if_neg y]) h' Fr.rf rfl rfl rfl
theorem c_negations (h : PS S O sc ar) (q : ∀ (S' : List (Nat × Nat)) (O' : List (Nat × Int)) sc' ar', (S', O') = ngF S O → PS S' O' sc' ar' → Fr sc ar sc' ar' → sc' 2 = sc 2 → sc' 3 = sc 3 → sc' 4 = sc 4 → K none (mw sc' ar' la R)) :
    Ev PG (d + 2) 145 [.ref 33] (mw sc ar la R) K := by
  rw [e_145]
  exact c_neg_l q h
end M17
