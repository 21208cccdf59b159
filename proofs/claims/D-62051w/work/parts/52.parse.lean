/-! THE MODEL's parse. -/
def psR (ln : Nat → Nat) (len : Nat) : Nat → PT → Nat ⊕ PT
  | 0, p => .inr p
  | m + 1, p => match acF (ln (len - (m + 1))) p.1 p.2.1 p.2.2.1 p.2.2.2.1 p.2.2.2.2 with
    | none => .inl (len - (m + 1))
    | some p' => psR ln len m p'
def psE (len : Nat) (p : PT) : Nat ⊕ List (Nat × Int) := if p.1 = 0 ∨ p.1 = 3 ∨ p.1 = 5 then .inl len else if 0 < (uwF true p.2.2.2.1 p.2.2.2.2).1.length then .inl len else .inr (uwF true p.2.2.2.1 p.2.2.2.2).2
def paF (ln : Nat → Nat) (len dg na : Nat) : Nat ⊕ List (Nat × Int) := match psR ln len len (0, dg, na, [], []) with
  | .inl k => .inl k
  | .inr p => psE len p
theorem acF_len {c md dg na : Nat} {S : List (Nat × Nat)} {O : List (Nat × Int)} {p : PT} (h : acF c md dg na S O = some p) : p.2.2.2.1.length + p.2.2.2.2.length ≤ S.length + O.length + 1 ∧ ((p.1 = 2 ∨ p.1 = 4) → p.2.1 ≤ 3) := by
  unfold acF at h
  split at h
  · split at h
    · cases h; exact ⟨by dsimp only; omega, by dsimp only; omega⟩
    · cases h
  · split at h
    · split at h
      · cases h
        have := ngF_len S ((12, (c : Int) - 48) :: O)
        simp only [List.length_cons] at this
        exact ⟨by dsimp only; omega, fun _ => by dsimp only; omega⟩
      · cases h
    · split at h
      · by_cases q : dg + 1 ≤ (if md = 2 then 3 else 2)
        · rw [if_pos q] at h
          cases h
          refine ⟨by dsimp only; rw [updN_len]; omega, fun _ => ?_⟩
          dsimp only
          split at q <;> omega
        · rw [if_neg q] at h
          cases h
      · split at h
        · unfold bgF at h
          split at h
          · cases h
            have := ngF_len S ((0, (c : Int) - 48) :: O)
            simp only [List.length_cons] at this
            exact ⟨by dsimp only; omega, fun _ => by dsimp only; omega⟩
          · split at h
            · cases h
              have := ngF_len S ((if 117 ≤ c then 1 else 2, (c : Int)) :: O)
              simp only [List.length_cons] at this
              exact ⟨by dsimp only; omega, fun x => by dsimp only at x; omega⟩
            · split at h
              · cases h; exact ⟨by dsimp only; omega, fun x => by dsimp only at x; omega⟩
              · split at h
                · cases h; exact ⟨by simp only [List.length_cons]; omega, fun x => by dsimp only at x; omega⟩
                · split at h
                  · cases h; exact ⟨by simp only [List.length_cons]; omega, fun x => by dsimp only at x; omega⟩
                  · cases h
        · unfold foF at h
          split at h
          · cases h
            have := uwF_len (decide (c ≠ 42)) S O
            exact ⟨by simp only [List.length_cons]; omega, fun x => by dsimp only at x; omega⟩
          · split at h
            · cases h
            · unfold clF at h
              have u := uwF_len true S O
              split at h
              · cases h
              · rename_i x S' e
                rw [e] at u
                simp only [List.length_cons] at u
                split at h
                · cases h
                · split at h
                  · cases h; exact ⟨by simp only [List.length_cons]; omega, fun x => by dsimp only at x; omega⟩
                  · cases h
                    have := ngF_len S' (if x.1 = 40 then (uwF true S O).2 else (fkF x.1, 0) :: (uwF true S O).2)
                    refine ⟨?_, fun x => by dsimp only at x; omega⟩
                    dsimp only
                    rw [this]
                    split
                    · omega
                    · simp only [List.length_cons]; omega
section M22
variable {d : Nat} {sc : Nat → Int32} {ar : Nat → Nat → Int32} {la : Nat → Nat → Int64} {R w : am_W} {K : Option Value → am_W → Prop} {S : List (Nat × Nat)} {O : List (Nat × Int)} {c md dg na len : Nat} {ln : Nat → Nat}
theorem c_parse_e {p : PT} {u : Value} (hp : PM p sc ar) (e1 : sc 1 = Int32.ofNat len) (hlen : len ≤ 20) (hl : p.2.2.2.1.length + p.2.2.2.2.length ≤ 20)
    (q0 : ∀ k, psE len p = .inl k → ∀ sc' ar', Fr sc ar sc' ar' → K (some (.int (Int32.ofNat k))) (mw sc' ar' la R)) (q1 : ∀ O, psE len p = .inr O → ∀ sc' ar', Fr sc ar sc' ar' → sc' 8 = Int32.ofNat O.length → OK O (ar' 3) (ar' 4) → O.length ≤ 20 → K (some (.int (-1))) (mw sc' ar' la R)) :
    Wp PG (d + 5) cd_141 B_141_3 [.ref 33, u] [] (mw sc ar la R) K := by
  obtain ⟨md, dg, na, S, O⟩ := p
  obtain ⟨hs, h2, h3, h4, b1, b2, b3, b4⟩ := hp
  dsimp only at hs h2 h3 h4 b1 b2 b3 b4 hl
  rw [B_141_3]
  by_cases m0 : md = 0 ∨ md = 3 ∨ md = 5
  · have e : psE len (md, dg, na, S, O) = .inl len := by rw [psE, if_pos m0]
    have z := q0 len e sc ar Fr.rf
    rcases m0 with m | m | m <;> subst m <;> simp (disch := omega) only [wr_all, wr_side, wr_call, qq_all, kk_141, B_141_0, B_141_2, B_141_3, B_141_4, B_141_5, B_141_6, B_141_7, mw_rd, mw_put, nn_clamp, nn_lt, nn_le, nn_eq, nn_lt0, nn_0le, nn_0lt, nn_le0, nn_eq0, nn_eq_1, nn_f1, nn_f0, nn_addn, nn_muln, nn_subn, nn_sub1, nn_nle, bi_1, bi_0, bi_fit, vu, io_all, Nat.reduceDiv, Nat.reduceMod, Nat.reduceBEq, Nat.reduceLeDiff, Nat.reduceEqDiff, Nat.reduceLT, Nat.reduceMul, Nat.reduceAdd, Nat.reduceSub, BEq.rfl, Bool.or_true, Bool.true_or, Bool.true_and, Bool.and_true, Bool.or_false, Bool.false_or, Bool.not_false, Bool.not_true, decide_false, decide_true, true_and, and_true, not_true_eq_false, not_false_eq_true, ↓reduceIte, Option.toList_some, Option.toList_none, List.cons_append, List.nil_append, am_sw, am_lk, List.toList_toArray, Int.reduceAdd, am_cats_cons, List.map_cons, List.map_nil, List.sum_cons, List.sum_nil, h2, e1] <;> exact z
  · have n0 : ¬ md = 0 := by omega
    have n3 : ¬ md = 3 := by omega
    have n5 : ¬ md = 5 := by omega
    simp (disch := omega) only [wr_all, wr_side, wr_call, qq_all, kk_141, B_141_5, mw_rd, nn_eq, nn_eq0, io_all, Nat.reduceDiv, Nat.reduceMod, Nat.reduceBEq, Nat.reduceLeDiff, Nat.reduceEqDiff, Nat.reduceLT, Nat.reduceMul, Nat.reduceAdd, Nat.reduceSub, BEq.rfl, Bool.or_true, Bool.true_or, Bool.true_and, Bool.and_true, Bool.or_false, Bool.false_or, Bool.not_false, Bool.not_true, decide_false, decide_true, true_and, and_true, not_true_eq_false, not_false_eq_true, ↓reduceIte, Option.toList_some, Option.toList_none, List.cons_append, List.nil_append, am_sw, am_lk, List.toList_toArray, Int.reduceAdd, am_cats_cons, List.map_cons, List.map_nil, List.sum_cons, List.sum_nil, h2, n0, n3, n5]
    refine c_unwind (all := true) hs (fun S' O' sc' ar' e p' f' g2 g3 g4 => ?_)
    have e1' : sc' 1 = Int32.ofNat len := (f'.1 1 (by omega)).trans e1
    have ps : psE len (md, dg, na, S, O) = if 0 < S'.length then .inl len else .inr O' := by rw [psE, if_neg m0, ← e]
    obtain ⟨k5, k8, ks, ko, kb⟩ := p'
    by_cases y : S'.length = 0
    · simp (disch := omega) only [wr_all, wr_side, wr_call, qq_all, kk_141, B_141_0, B_141_2, B_141_3, B_141_4, B_141_5, B_141_6, B_141_7, mw_rd, mw_put, nn_clamp, nn_lt, nn_le, nn_eq, nn_lt0, nn_0le, nn_0lt, nn_le0, nn_eq0, nn_eq_1, nn_f1, nn_f0, nn_addn, nn_muln, nn_subn, nn_sub1, nn_nle, bi_1, bi_0, bi_fit, vu, io_all, Nat.reduceDiv, Nat.reduceMod, Nat.reduceBEq, Nat.reduceLeDiff, Nat.reduceEqDiff, Nat.reduceLT, Nat.reduceMul, Nat.reduceAdd, Nat.reduceSub, BEq.rfl, Bool.or_true, Bool.true_or, Bool.true_and, Bool.and_true, Bool.or_false, Bool.false_or, Bool.not_false, Bool.not_true, decide_false, decide_true, true_and, and_true, not_true_eq_false, not_false_eq_true, ↓reduceIte, Option.toList_some, Option.toList_none, List.cons_append, List.nil_append, am_sw, am_lk, List.toList_toArray, Int.reduceAdd, am_cats_cons, List.map_cons, List.map_nil, List.sum_cons, List.sum_nil, k5, y]
      rw [if_neg (by omega)] at ps
      exact q1 O' ps _ _ f' k8 ko (by omega)
    · simp (disch := omega) only [wr_all, wr_side, wr_call, qq_all, kk_141, B_141_0, B_141_2, B_141_3, B_141_4, B_141_5, B_141_6, B_141_7, mw_rd, mw_put, nn_clamp, nn_lt, nn_le, nn_eq, nn_lt0, nn_0le, nn_0lt, nn_le0, nn_eq0, nn_eq_1, nn_f1, nn_f0, nn_addn, nn_muln, nn_subn, nn_sub1, nn_nle, bi_1, bi_0, bi_fit, vu, io_all, Nat.reduceDiv, Nat.reduceMod, Nat.reduceBEq, Nat.reduceLeDiff, Nat.reduceEqDiff, Nat.reduceLT, Nat.reduceMul, Nat.reduceAdd, Nat.reduceSub, BEq.rfl, Bool.or_true, Bool.true_or, Bool.true_and, Bool.and_true, Bool.or_false, Bool.false_or, Bool.not_false, Bool.not_true, decide_false, decide_true, true_and, and_true, not_true_eq_false, not_false_eq_true, ↓reduceIte, Option.toList_some, Option.toList_none, List.cons_append, List.nil_append, am_sw, am_lk, List.toList_toArray, Int.reduceAdd, am_cats_cons, List.map_cons, List.map_nil, List.sum_cons, List.sum_nil, k5, y, e1']
      rw [if_pos (by omega)] at ps
      exact q0 len ps _ _ f'
theorem c_parse_l (hlen : len ≤ 20) (hln : ∀ i, i < len → ln i < 1000) : ∀ (m : Nat) (p : PT) (k : Nat) (sc : Nat → Int32) (ar : Nat → Nat → Int32), k + m = len → PM p sc ar → sc 1 = Int32.ofNat len → (∀ i, i < len → ar 0 i = Int32.ofNat (ln i)) → p.2.2.2.1.length + p.2.2.2.2.length ≤ k → ((p.1 = 2 ∨ p.1 = 4) → p.2.1 ≤ 3) →
    (∀ j, (∃ p', psR ln len m p = .inl j ∨ psR ln len m p = .inr p' ∧ psE len p' = .inl j) → ∀ sc' ar', Fr sc ar sc' ar' → K (some (.int (Int32.ofNat j))) (mw sc' ar' la R)) → (∀ O p', psR ln len m p = .inr p' → psE len p' = .inr O → ∀ sc' ar', Fr sc ar sc' ar' → sc' 8 = Int32.ofNat O.length → OK O (ar' 3) (ar' 4) → O.length ≤ 20 → K (some (.int (-1))) (mw sc' ar' la R)) →
    Wp PG (d + 5) cd_141 B_141_1 [.ref 33, .int (Int32.ofNat k)] [] (mw sc ar la R) K := by
  intro m
  induction m with
  | zero =>
    intro p k sc ar e hp e1 ha hl hd q0 q1
    obtain rfl : k = len := by omega
    rw [B_141_1]
    simp (disch := omega) only [wr_all, wr_side, kk_141, mw_rd, nn_le, io_all, Nat.reduceDiv, Nat.reduceMod, Nat.reduceBEq, Nat.reduceLeDiff, Nat.reduceEqDiff, Nat.reduceLT, Nat.reduceMul, Nat.reduceAdd, Nat.reduceSub, BEq.rfl, Bool.or_true, Bool.true_or, Bool.true_and, Bool.and_true, Bool.or_false, Bool.false_or, Bool.not_false, Bool.not_true, decide_false, decide_true, true_and, and_true, not_true_eq_false, not_false_eq_true, ↓reduceIte, Option.toList_some, Option.toList_none, List.cons_append, List.nil_append, am_sw, am_lk, List.toList_toArray, Int.reduceAdd, am_cats_cons, List.map_cons, List.map_nil, List.sum_cons, List.sum_nil, e1, Nat.le_refl]
    exact c_parse_e hp e1 hlen (by omega) (fun j ej sc' ar' f' => q0 j ⟨p, Or.inr ⟨rfl, ej⟩⟩ sc' ar' f') (fun O ej => q1 O p rfl ej)
  | succ m ih =>
    intro p k sc ar e hp e1 ha hl hd q0 q1
    have nl : ¬ len ≤ k := by omega
    have ek : len - (m + 1) = k := by omega
    rw [B_141_1]
    simp (disch := omega) only [wr_all, wr_side, wr_call, qq_all, kk_141, mw_rd, nn_le, nn_clamp, nn_lt0, nn_nle, io_all, Nat.reduceDiv, Nat.reduceMod, Nat.reduceBEq, Nat.reduceLeDiff, Nat.reduceEqDiff, Nat.reduceLT, Nat.reduceMul, Nat.reduceAdd, Nat.reduceSub, BEq.rfl, Bool.or_true, Bool.true_or, Bool.true_and, Bool.and_true, Bool.or_false, Bool.false_or, Bool.not_false, Bool.not_true, decide_false, decide_true, true_and, and_true, not_true_eq_false, not_false_eq_true, ↓reduceIte, Option.toList_some, Option.toList_none, List.cons_append, List.nil_append, am_sw, am_lk, List.toList_toArray, Int.reduceAdd, am_cats_cons, List.map_cons, List.map_nil, List.sum_cons, List.sum_nil, e1, nl, ha]
    obtain ⟨md, dg, na, S, O⟩ := p
    dsimp only at hl hd
    have st : psR ln len (m + 1) (md, dg, na, S, O) = match acF (ln k) md dg na S O with | none => .inl k | some p' => psR ln len m p' := by rw [psR, ek]
    refine c_accept hp (hln k (by omega)) (by omega) hd (fun p' sc' ar' e' pm' f' => ?_) (fun e' sc' ar' f' => ?_)
    · simp (disch := omega) only [wr_all, wr_side, kk_141, B_141_2, nn_eq0, nn_addn, io_all, Nat.reduceDiv, Nat.reduceMod, Nat.reduceBEq, Nat.reduceLeDiff, Nat.reduceEqDiff, Nat.reduceLT, Nat.reduceMul, Nat.reduceAdd, Nat.reduceSub, BEq.rfl, Bool.or_true, Bool.true_or, Bool.true_and, Bool.and_true, Bool.or_false, Bool.false_or, Bool.not_false, Bool.not_true, decide_false, decide_true, true_and, and_true, not_true_eq_false, not_false_eq_true, ↓reduceIte, Option.toList_some, Option.toList_none, List.cons_append, List.nil_append, am_sw, am_lk, List.toList_toArray, Int.reduceAdd, am_cats_cons, List.map_cons, List.map_nil, List.sum_cons, List.sum_nil]
      rw [e'] at st
      have al := acF_len e'
      have hp' : PM p' sc' ar' := pm'
      refine ih p' (k + 1) sc' ar' (by omega) hp' ((f'.1 1 (by omega)).trans e1) (fun i hi => by rw [f'.2 0 (by omega)]; exact ha i hi) (by omega) al.2 (fun j hj sc'' ar'' f'' => ?_) (fun O2 p2 r2 r3 sc'' ar'' f'' => ?_)
      · exact q0 j (by rw [st]; exact hj) sc'' ar'' (f'.tr f'')
      · exact q1 O2 p2 (by rw [st]; exact r2) r3 sc'' ar'' (f'.tr f'')
    · simp (disch := omega) only [wr_all, wr_side, kk_141, B_141_2, nn_eq0, nn_addn, io_all, Nat.reduceDiv, Nat.reduceMod, Nat.reduceBEq, Nat.reduceLeDiff, Nat.reduceEqDiff, Nat.reduceLT, Nat.reduceMul, Nat.reduceAdd, Nat.reduceSub, BEq.rfl, Bool.or_true, Bool.true_or, Bool.true_and, Bool.and_true, Bool.or_false, Bool.false_or, Bool.not_false, Bool.not_true, decide_false, decide_true, true_and, and_true, not_true_eq_false, not_false_eq_true, ↓reduceIte, Option.toList_some, Option.toList_none, List.cons_append, List.nil_append, am_sw, am_lk, List.toList_toArray, Int.reduceAdd, am_cats_cons, List.map_cons, List.map_nil, List.sum_cons, List.sum_nil]
      rw [e'] at st
      exact q0 k ⟨(0, 0, 0, [], []), Or.inl st⟩ sc' ar' f'
theorem c_parse (hlen : len ≤ 20) (hln : ∀ i, i < len → ln i < 1000) (e1 : sc 1 = Int32.ofNat len) (ha : ∀ i, i < len → ar 0 i = Int32.ofNat (ln i)) (e3 : sc 3 = Int32.ofNat dg) (e4 : sc 4 = Int32.ofNat na)
    (q0 : ∀ j, paF ln len dg na = .inl j → ∀ sc' ar', Fr sc ar sc' ar' → K (some (.int (Int32.ofNat j))) (mw sc' ar' la R)) (q1 : ∀ O, paF ln len dg na = .inr O → ∀ sc' ar', Fr sc ar sc' ar' → sc' 8 = Int32.ofNat O.length → OK O (ar' 3) (ar' 4) → O.length ≤ 20 → K (some (.int (-1))) (mw sc' ar' la R)) :
    Ev PG (d + 6) 141 [.ref 33] (mw sc ar la R) K := by
  rw [e_141]
  simp (disch := omega) only [wr_all, wr_side, kk_141, B_141_0, mw_rd, mw_put, io_all, Nat.reduceDiv, Nat.reduceMod, Nat.reduceBEq, Nat.reduceLeDiff, Nat.reduceEqDiff, Nat.reduceLT, Nat.reduceMul, Nat.reduceAdd, Nat.reduceSub, BEq.rfl, Bool.or_true, Bool.true_or, Bool.true_and, Bool.and_true, Bool.or_false, Bool.false_or, Bool.not_false, Bool.not_true, decide_false, decide_true, true_and, and_true, not_true_eq_false, not_false_eq_true, ↓reduceIte, Option.toList_some, Option.toList_none, List.cons_append, List.nil_append, am_sw, am_lk, List.toList_toArray, Int.reduceAdd, am_cats_cons, List.map_cons, List.map_nil, List.sum_cons, List.sum_nil]
  refine c_parse_l hlen hln len (0, dg, na, [], []) 0 _ _ (by omega) (PM_i ⟨rfl, rfl, trivial, trivial, by simp⟩ rfl e3 e4 (by omega) (by omega) (by omega) (by omega)) e1 ha (by simp) (by simp) (fun j hj sc' ar' f' => ?_) (fun O2 p2 r2 r3 sc' ar' f' => ?_)
  · refine q0 j ?_ sc' ar' ((Fr.s (by omega) (Fr.s (by omega) (Fr.s (by omega) Fr.rf))).tr f')
    obtain ⟨p', r | ⟨r, r'⟩⟩ := hj
    · rw [paF, r]
    · rw [paF, r]; exact r'
  · exact q1 O2 (by rw [paF, r2]; exact r3) sc' ar' ((Fr.s (by omega) (Fr.s (by omega) (Fr.s (by omega) Fr.rf))).tr f')
end M22
