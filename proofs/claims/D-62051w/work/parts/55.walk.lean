/-! THE MODEL's walk. -/
def dfJ (V : Nat → (Nat → Bool) → Option Nat × (Nat → Bool)) (t k b : Nat) (a : Nat → Nat) : Nat → (Nat → Bool) → Option Nat × (Nat → Bool)
  | 0, met => if 0 < b then (some k, met) else (none, met)
  | m + 1, met => if met (a (ary t - (m + 1))) = true then dfJ V t k b a m met else match V (a (ary t - (m + 1))) (add1 met (a (ary t - (m + 1)))) with
    | (some x, met') => (some x, met')
    | (none, met') => dfJ V t k b a m met'
def dfV (kd bl : Nat → Nat) (ag : Nat → Nat → Nat) : Nat → Nat → (Nat → Bool) → Option Nat × (Nat → Bool)
  | 0, _, met => (none, met)
  | f + 1, k, met => dfJ (dfV kd bl ag f) (kd k) k (bl k) (ag k) (ary (kd k)) met
/-- nodes not met -/
def unm (met : Nat → Bool) : Nat := cntF (fun i => !met i) 36
theorem cntF_add1 {met : Nat → Bool} {i : Nat} (h : met i = false) : ∀ m, cntF (fun k => !add1 met i k) m + (if i < m then 1 else 0) = cntF (fun k => !met k) m
  | 0 => rfl
  | m + 1 => by
    have := cntF_add1 h m
    simp only [cntF, add1] at this ⊢
    by_cases e : m = i
    · subst e
      simp only [h, Nat.lt_irrefl, ↓reduceIte, Nat.lt_succ_self, Bool.not_true, Bool.not_false, Bool.toNat_true, Bool.toNat_false, Nat.add_zero] at this ⊢
      omega
    · simp only [e, ↓reduceIte]
      by_cases g : i < m
      · simp only [g, show i < m + 1 by omega, ↓reduceIte] at this ⊢; omega
      · simp only [g, show ¬ i < m + 1 by omega, ↓reduceIte] at this ⊢; omega
theorem unm_add1 {met : Nat → Bool} {i : Nat} (h : met i = false) (hi : i < 36) : unm (add1 met i) + 1 = unm met := by
  have := cntF_add1 h 36
  rw [if_pos hi] at this
  exact this
/-- the walk's arrays: the set; the stack below D and the rest as they were -/
def WA (met : Nat → Bool) (ar : Nat → Nat → Int32) : Prop := ∀ i, i < 36 → ar 17 i = bi (met i)
def WF (D : Nat) (ar ar' : Nat → Nat → Int32) : Prop := (∀ i, i < D → ar' 18 i = ar 18 i ∧ ar' 19 i = ar 19 i) ∧ ∀ j, ¬ (17 ≤ j ∧ j ≤ 19) → ar' j = ar j
theorem WF.rf {D : Nat} {ar : Nat → Nat → Int32} : WF D ar ar := ⟨fun _ _ => ⟨rfl, rfl⟩, fun _ _ => rfl⟩
theorem WF.tr {D : Nat} {ar ar' ar'' : Nat → Nat → Int32} (h : WF D ar ar') (g : WF D ar' ar'') : WF D ar ar'' := ⟨fun i hi => ⟨(g.1 i hi).1.trans (h.1 i hi).1, (g.1 i hi).2.trans (h.1 i hi).2⟩, fun j hj => (g.2 j hj).trans (h.2 j hj)⟩
theorem WF.lo {D E : Nat} {ar ar' : Nat → Nat → Int32} (h : WF D ar ar') (hE : E ≤ D) : WF E ar ar' := ⟨fun i hi => h.1 i (by omega), h.2⟩
theorem us_ne' {f : Nat → Int32} {k j : Nat} {v : Int32} (h : j ≠ k) : upd f k v j = f j := by simp only [upd]; rw [if_neg h]
section M25
variable {d : Nat} {sc : Nat → Int32} {ar : Nat → Nat → Int32} {la : Nat → Nat → Int64} {R w : am_W} {K : Option Value → am_W → Prop}
variable {n : Nat} {kd nm bl : Nat → Nat} {ag : Nat → Nat → Nat}
theorem c_walk_l {r1 : Int32} (hbl : ∀ k, k < n → bl k < 10) : ∀ (f k m : Nat) (met : Nat → Bool) (ar : Nat → Nat → Int32) (D s : Nat) (u4 u5 u6 : Value), k < n → k ≤ f → m ≤ ary (kd k) → D + k ≤ 35 → MS n kd nm ag ar → (∀ i, i < n → ar 14 i = Int32.ofNat (bl i)) → WA met ar → ar 18 D = Int32.ofNat k → ar 19 D = Int32.ofNat (ary (kd k) - m) →
    s + 4 * unm met + m + 1 < 1000 →
    (∀ x met', dfJ (dfV kd bl ag f) (kd k) k (bl k) (ag k) m met = (some x, met') → ∀ ar', WF 0 ar ar' → K (some (.int (Int32.ofNat x))) (mw sc ar' la R)) →
    (∀ met', dfJ (dfV kd bl ag f) (kd k) k (bl k) (ag k) m met = (none, met') → ∀ ar' s' v4 v5 v6, WA met' ar' → WF D ar ar' → s' + 4 * unm met' ≤ s + 4 * unm met + m + 1 → Wp PG (d + 1) cd_171 B_171_3 [.ref 33, .int r1, .int (Int32.ofNat D), .int (Int32.ofNat s'), v4, v5, v6] [] (mw sc ar' la R) K) →
    Wp PG (d + 1) cd_171 B_171_3 [.ref 33, .int r1, .int (Int32.ofNat (D + 1)), .int (Int32.ofNat s), u4, u5, u6] [] (mw sc ar la R) K := by
  have base : ∀ (f k : Nat) (met : Nat → Bool) (ar : Nat → Nat → Int32) (D s : Nat) (u4 u5 u6 : Value), k < n → D + k ≤ 35 → MS n kd nm ag ar → (∀ i, i < n → ar 14 i = Int32.ofNat (bl i)) → WA met ar → ar 18 D = Int32.ofNat k → ar 19 D = Int32.ofNat (ary (kd k)) → s + 4 * unm met + 1 < 1000 →
    (∀ x met', dfJ (dfV kd bl ag f) (kd k) k (bl k) (ag k) 0 met = (some x, met') → ∀ ar', WF 0 ar ar' → K (some (.int (Int32.ofNat x))) (mw sc ar' la R)) →
    (∀ met', dfJ (dfV kd bl ag f) (kd k) k (bl k) (ag k) 0 met = (none, met') → ∀ ar' s' v4 v5 v6, WA met' ar' → WF D ar ar' → s' + 4 * unm met' ≤ s + 4 * unm met + 1 → Wp PG (d + 1) cd_171 B_171_3 [.ref 33, .int r1, .int (Int32.ofNat D), .int (Int32.ofNat s'), v4, v5, v6] [] (mw sc ar' la R) K) →
    Wp PG (d + 1) cd_171 B_171_3 [.ref 33, .int r1, .int (Int32.ofNat (D + 1)), .int (Int32.ofNat s), u4, u5, u6] [] (mw sc ar la R) K := by
    intro f k met ar D s u4 u5 u6 hk hD h hb hW e18 e19 hs qf qn
    have h1 := h.1
    have ht := (h.2.1 k hk).1
    have e6 := (h.2.1 k hk).2.2.1
    have a3 := ary_3 (kd k)
    have b9 := hbl k hk
    have n1 : ¬ 1000 ≤ s := by omega
    have n2 : ¬ D + 1 = 0 := by omega
    rw [B_171_3]
    by_cases y : bl k = 0
    · simp (disch := omega) only [↓ c_arity, wr_all, wr_side, wr_call, qq_all, kk_171, B_171_4, B_171_6, mw_rd, nn_le, nn_eq, nn_le0, nn_clamp, nn_lt0, nn_nle, nn_addn, nn_subn, nn_sub1, io_all, Nat.reduceDiv, Nat.reduceMod, Nat.reduceBEq, Nat.reduceLeDiff, Nat.reduceEqDiff, Nat.reduceLT, Nat.reduceMul, Nat.reduceAdd, Nat.reduceSub, BEq.rfl, Bool.or_true, Bool.true_or, Bool.true_and, Bool.and_true, Bool.or_false, Bool.false_or, Bool.not_false, Bool.not_true, decide_false, decide_true, true_and, and_true, not_true_eq_false, not_false_eq_true, ↓reduceIte, Option.toList_some, Option.toList_none, List.cons_append, List.nil_append, am_sw, am_lk, List.toList_toArray, Int.reduceAdd, am_cats_cons, List.map_cons, List.map_nil, List.sum_cons, List.sum_nil, n1, n2, Nat.add_sub_cancel, e18, e19, e6, hb, y]
      exact qn met (by simp only [dfJ, y, Nat.lt_irrefl, ↓reduceIte]) ar (s + 1) _ _ _ hW WF.rf (by omega)
    · simp (disch := omega) only [↓ c_arity, wr_all, wr_side, wr_call, qq_all, kk_171, B_171_4, B_171_6, mw_rd, nn_le, nn_eq, nn_le0, nn_clamp, nn_lt0, nn_nle, nn_addn, nn_subn, nn_sub1, io_all, Nat.reduceDiv, Nat.reduceMod, Nat.reduceBEq, Nat.reduceLeDiff, Nat.reduceEqDiff, Nat.reduceLT, Nat.reduceMul, Nat.reduceAdd, Nat.reduceSub, BEq.rfl, Bool.or_true, Bool.true_or, Bool.true_and, Bool.and_true, Bool.or_false, Bool.false_or, Bool.not_false, Bool.not_true, decide_false, decide_true, true_and, and_true, not_true_eq_false, not_false_eq_true, ↓reduceIte, Option.toList_some, Option.toList_none, List.cons_append, List.nil_append, am_sw, am_lk, List.toList_toArray, Int.reduceAdd, am_cats_cons, List.map_cons, List.map_nil, List.sum_cons, List.sum_nil, n1, n2, Nat.add_sub_cancel, e18, e19, e6, hb, y]
      exact qf k met (by simp only [dfJ, show 0 < bl k by omega, ↓reduceIte]) ar WF.rf
  intro f
  induction f with
  | zero =>
    intro k m met ar D s u4 u5 u6 hk hkf hm hD h hb hW e18 e19 hs qf qn
    have z : ary (kd k) = 0 := by
      rcases Nat.eq_zero_or_pos (ary (kd k)) with x | x
      · exact x
      · have := h.2.2 k hk 0 x
        omega
    obtain rfl : m = 0 := by omega
    exact base 0 k met ar D s u4 u5 u6 hk hD h hb hW e18 e19 (by omega) qf (fun met' e ar' s' v4 v5 v6 w1 w2 w3 => qn met' e ar' s' v4 v5 v6 w1 w2 (by omega))
  | succ f ihf =>
    intro k m
    induction m with
    | zero =>
      intro met ar D s u4 u5 u6 hk hkf hm hD h hb hW e18 e19 hs qf qn
      exact base (f + 1) k met ar D s u4 u5 u6 hk hD h hb hW e18 e19 (by omega) qf (fun met' e ar' s' v4 v5 v6 w1 w2 w3 => qn met' e ar' s' v4 v5 v6 w1 w2 (by omega))
    | succ m ihm =>
      intro met ar D s u4 u5 u6 hk hkf hm hD h hb hW e18 e19 hs qf qn
      have h1 := h.1
      have ht := (h.2.1 k hk).1
      have e6 := (h.2.1 k hk).2.2.1
      have a3 := ary_3 (kd k)
      have n1 : ¬ 1000 ≤ s := by omega
      have n2 : ¬ D + 1 = 0 := by omega
      have n3 : ¬ ary (kd k) - (m + 1) = ary (kd k) := by omega
      have gj := h.2.2 k hk (ary (kd k) - (m + 1)) (by omega)
      have aj := h.arg hk (j := ary (kd k) - (m + 1)) (by omega)
      have jj : ary (kd k) - (m + 1) + 1 = ary (kd k) - m := by omega
      generalize hA : ag k (ary (kd k) - (m + 1)) = A at gj aj
      have eW := hW A (by omega)
      have st : dfJ (dfV kd bl ag (f + 1)) (kd k) k (bl k) (ag k) (m + 1) met = if met A = true then dfJ (dfV kd bl ag (f + 1)) (kd k) k (bl k) (ag k) m met else match dfV kd bl ag (f + 1) A (add1 met A) with
        | (some x, met') => (some x, met')
        | (none, met') => dfJ (dfV kd bl ag (f + 1)) (kd k) k (bl k) (ag k) m met' := by rw [dfJ, hA]
      rw [B_171_3]
      cases y : met A
      · rw [y] at eW
        simp (disch := omega) only [↓ c_arity, wr_all, wr_side, wr_call, qq_all, kk_171, B_171_5, B_171_6, mw_rd, mw_put, nn_le, nn_eq, nn_le0, nn_clamp, nn_lt0, nn_nle, nn_addn, nn_muln, nn_subn, nn_sub1, bi_0, vu, nb_1, io_all, Nat.reduceDiv, Nat.reduceMod, Nat.reduceBEq, Nat.reduceLeDiff, Nat.reduceEqDiff, Nat.reduceLT, Nat.reduceMul, Nat.reduceAdd, Nat.reduceSub, BEq.rfl, Bool.or_true, Bool.true_or, Bool.true_and, Bool.and_true, Bool.or_false, Bool.false_or, Bool.not_false, Bool.not_true, decide_false, decide_true, true_and, and_true, not_true_eq_false, not_false_eq_true, ↓reduceIte, Option.toList_some, Option.toList_none, List.cons_append, List.nil_append, am_sw, am_lk, List.toList_toArray, Int.reduceAdd, am_cats_cons, List.map_cons, List.map_nil, List.sum_cons, List.sum_nil, n1, n2, n3, jj, Nat.add_sub_cancel, e18, e19, e6, aj, eW]
        have ua := unm_add1 y (by omega)
        have aA := ary_3 (kd A)
        rw [y, if_neg (by simp)] at st
        refine ihf A (ary (kd A)) (add1 met A) _ (D + 1) (s + 1) _ _ _ (by omega) (by omega) (Nat.le_refl _) (by omega) (h.congr rfl rfl rfl) hb ?_ ?_ ?_ (by omega) ?_ ?_
        · intro i hi
          simp only [vu, Nat.reduceEqDiff, ↓reduceIte, upd, add1]
          by_cases x : i = A
          · simp only [x, ↓reduceIte]; rfl
          · simp only [x, ↓reduceIte]; exact hW i hi
        · simp only [vu, Nat.reduceEqDiff, ↓reduceIte, upd]
        · simp only [vu, Nat.reduceEqDiff, ↓reduceIte, upd]; rw [Nat.sub_self]
        · intro x met' e ar' w
          have e' : dfV kd bl ag (f + 1) A (add1 met A) = (some x, met') := e
          rw [e'] at st
          refine qf x met' st ar' ⟨fun i hi => by omega, fun j hj => ?_⟩
          rw [w.2 j hj]
          simp only [va_up]
          rw [if_neg (by omega), if_neg (by omega), if_neg (by omega), if_neg (by omega)]
        · intro met' e ar' s' v4 v5 v6 w1 w2 w3
          have e' : dfV kd bl ag (f + 1) A (add1 met A) = (none, met') := e
          rw [e'] at st
          have fr : ∀ j, ¬ (17 ≤ j ∧ j ≤ 19) → ar' j = ar j := fun j hj => by
            rw [w2.2 j hj]
            simp only [va_up]
            rw [if_neg (by omega), if_neg (by omega), if_neg (by omega), if_neg (by omega)]
          have lo : ∀ i, i < D + 1 → ar' 18 i = ar 18 i ∧ ar' 19 i = upd (ar 19) D (Int32.ofNat (ary (kd k) - m)) i := fun i hi => by
            rw [(w2.1 i hi).1, (w2.1 i hi).2]
            simp only [vu, Nat.reduceEqDiff, ↓reduceIte]
            exact ⟨us_ne' (by omega), us_ne' (by omega)⟩
          refine ihm met' ar' D s' v4 v5 v6 hk hkf (by omega) hD (h.congr (fr 6 (by omega)) (fr 7 (by omega)) (fr 8 (by omega))) (fun i hi => by rw [fr 14 (by omega)]; exact hb i hi) w1 ((lo D (by omega)).1.trans e18) (by rw [(lo D (by omega)).2, uu_3]) (by omega) ?_ ?_
          · intro x met'' e2 ar'' g
            exact qf x met'' (st.trans e2) ar'' ⟨fun i hi => by omega, fun j hj => (g.2 j hj).trans (fr j hj)⟩
          · intro met'' e2 ar'' s'' t4 t5 t6 g1 g2 g3
            refine qn met'' (st.trans e2) ar'' s'' t4 t5 t6 g1 ⟨fun i hi => ?_, fun j hj => (g2.2 j hj).trans (fr j hj)⟩ (by omega)
            refine ⟨(g2.1 i hi).1.trans (lo i (by omega)).1, (g2.1 i hi).2.trans ((lo i (by omega)).2.trans (us_ne' (by omega)))⟩
      · rw [y] at eW
        simp (disch := omega) only [↓ c_arity, wr_all, wr_side, wr_call, qq_all, kk_171, B_171_5, B_171_6, mw_rd, mw_put, nn_le, nn_eq, nn_le0, nn_clamp, nn_lt0, nn_nle, nn_addn, nn_muln, nn_subn, nn_sub1, bi_0, vu, nb_1, io_all, Nat.reduceDiv, Nat.reduceMod, Nat.reduceBEq, Nat.reduceLeDiff, Nat.reduceEqDiff, Nat.reduceLT, Nat.reduceMul, Nat.reduceAdd, Nat.reduceSub, BEq.rfl, Bool.or_true, Bool.true_or, Bool.true_and, Bool.and_true, Bool.or_false, Bool.false_or, Bool.not_false, Bool.not_true, decide_false, decide_true, true_and, and_true, not_true_eq_false, not_false_eq_true, ↓reduceIte, Option.toList_some, Option.toList_none, List.cons_append, List.nil_append, am_sw, am_lk, List.toList_toArray, Int.reduceAdd, am_cats_cons, List.map_cons, List.map_nil, List.sum_cons, List.sum_nil, n1, n2, n3, jj, Nat.add_sub_cancel, e18, e19, e6, aj, eW, Bool.true_eq_false]
        rw [y, if_pos rfl] at st
        refine ihm met _ D (s + 1) _ _ _ hk hkf (by omega) hD (h.congr rfl rfl rfl) hb (fun i hi => hW i hi) e18 ?_ (by omega) ?_ ?_
        · simp only [vu, ↓reduceIte, uu_3]
        · intro x met'' e2 ar'' g
          refine qf x met'' (st.trans e2) ar'' ⟨fun i hi => by omega, fun j hj => (g.2 j hj).trans ?_⟩
          simp only [va_up]
          rw [if_neg (by omega)]
        · intro met'' e2 ar'' s'' t4 t5 t6 g1 g2 g3
          refine qn met'' (st.trans e2) ar'' s'' t4 t5 t6 g1 ⟨fun i hi => ?_, fun j hj => (g2.2 j hj).trans ?_⟩ (by omega)
          · refine ⟨(g2.1 i hi).1, (g2.1 i hi).2.trans ?_⟩
            simp only [vu, ↓reduceIte]
            exact us_ne' (by omega)
          · simp only [va_up]
            rw [if_neg (by omega)]
theorem unm_le (met : Nat → Bool) : unm met ≤ 36 := cntF_le _ 36
theorem c_walk_0 : ∀ (m k : Nat) (u3 u4 u5 u6 : Value) {r1 : Int32}, k + m = 36 → Wp PG d cd_171 B_171_1 [.ref 33, .int r1, .int (Int32.ofNat k), u3, u4, u5, u6] [] (mw sc (va_up ar 17 (ovB k (fun _ => bi false) (ar 17))) la R) K
      = Wp PG d cd_171 B_171_2 [.ref 33, .int r1, .int (Int32.ofNat 36), u3, u4, u5, u6] [] (mw sc (va_up ar 17 (ovB 36 (fun _ => bi false) (ar 17))) la R) K := by
  intro m
  induction m with
  | zero =>
    intro k u3 u4 u5 u6 r1 e
    obtain rfl : k = 36 := by omega
    rw [B_171_1]
    simp (disch := omega) only [wr_all, wr_side, kk_171, nn_le, io_all, Nat.reduceDiv, Nat.reduceMod, Nat.reduceBEq, Nat.reduceLeDiff, Nat.reduceEqDiff, Nat.reduceLT, Nat.reduceMul, Nat.reduceAdd, Nat.reduceSub, BEq.rfl, Bool.or_true, Bool.true_or, Bool.true_and, Bool.and_true, Bool.or_false, Bool.false_or, Bool.not_false, Bool.not_true, decide_false, decide_true, true_and, and_true, not_true_eq_false, not_false_eq_true, ↓reduceIte, Option.toList_some, Option.toList_none, List.cons_append, List.nil_append, am_sw, am_lk, List.toList_toArray, Int.reduceAdd, am_cats_cons, List.map_cons, List.map_nil, List.sum_cons, List.sum_nil, Nat.le_refl]
  | succ m ih =>
    intro k u3 u4 u5 u6 r1 e
    have nl : ¬ 36 ≤ k := by omega
    rw [B_171_1]
    simp (disch := omega) only [wr_all, wr_side, kk_171, mw_rd, mw_put, nn_le, nn_addn, nn_clamp, nn_lt0, nn_nle, vu, nb_0, uu_1, io_all, Nat.reduceDiv, Nat.reduceMod, Nat.reduceBEq, Nat.reduceLeDiff, Nat.reduceEqDiff, Nat.reduceLT, Nat.reduceMul, Nat.reduceAdd, Nat.reduceSub, BEq.rfl, Bool.or_true, Bool.true_or, Bool.true_and, Bool.and_true, Bool.or_false, Bool.false_or, Bool.not_false, Bool.not_true, decide_false, decide_true, true_and, and_true, not_true_eq_false, not_false_eq_true, ↓reduceIte, Option.toList_some, Option.toList_none, List.cons_append, List.nil_append, am_sw, am_lk, List.toList_toArray, Int.reduceAdd, am_cats_cons, List.map_cons, List.map_nil, List.sum_cons, List.sum_nil, nl]
    rw [← ih (k + 1) u3 u4 u5 u6 (by omega), ← ovB_s]
    rfl
theorem c_walk {k : Nat} (hbl : ∀ k, k < n → bl k < 10) (hk : k < n) (h : MS n kd nm ag ar) (hb : ∀ i, i < n → ar 14 i = Int32.ofNat (bl i))
    (q : ∀ ar', WF 0 ar ar' → K (some (.int (oi (dfV kd bl ag (k + 1) k (fun _ => false)).1))) (mw sc ar' la R)) : Ev PG (d + 2) 171 [.ref 33, .int (Int32.ofNat k)] (mw sc ar la R) K := by
  have h1 := h.1
  have z := c_walk_0 (d := d + 1) (sc := sc) (ar := ar) (la := la) (R := R) (K := K) 36 0 am_J am_J am_J am_J (r1 := Int32.ofNat k) (by omega)
  rw [ovB_0, uu_4] at z
  rw [e_171]
  simp (disch := omega) only [wr_all, wr_side, kk_171, B_171_0, io_all]
  rw [z, B_171_2]
  simp (disch := omega) only [wr_all, wr_side, kk_171, mw_rd, mw_put, nn_clamp, nn_lt0, nn_nle, vu, io_all, Nat.reduceDiv, Nat.reduceMod, Nat.reduceBEq, Nat.reduceLeDiff, Nat.reduceEqDiff, Nat.reduceLT, Nat.reduceMul, Nat.reduceAdd, Nat.reduceSub, BEq.rfl, Bool.or_true, Bool.true_or, Bool.true_and, Bool.and_true, Bool.or_false, Bool.false_or, Bool.not_false, Bool.not_true, decide_false, decide_true, true_and, and_true, not_true_eq_false, not_false_eq_true, ↓reduceIte, Option.toList_some, Option.toList_none, List.cons_append, List.nil_append, am_sw, am_lk, List.toList_toArray, Int.reduceAdd, am_cats_cons, List.map_cons, List.map_nil, List.sum_cons, List.sum_nil]
  have ul := unm_le (fun _ => false)
  have a3 := ary_3 (kd k)
  have fr : ∀ ar' : Nat → Nat → Int32, WF 0 (va_up (va_up (va_up ar 17 (ovB 36 (fun _ => bi false) (ar 17))) 18 (upd (ar 18) 0 (Int32.ofNat k))) 19 (upd (ar 19) 0 (Int32.ofNat 0))) ar' → WF 0 ar ar' := fun ar' w => ⟨fun i hi => by omega, fun j hj => by
    rw [w.2 j hj]
    simp only [va_up]
    rw [if_neg (by omega), if_neg (by omega), if_neg (by omega)]⟩
  refine c_walk_l (r1 := Int32.ofNat k) hbl k k (ary (kd k)) (fun _ => false) _ 0 0 _ _ _ hk (Nat.le_refl k) (Nat.le_refl _) (by omega) (h.congr rfl rfl rfl) hb ?_ ?_ ?_ (by omega) ?_ ?_
  · intro i hi
    simp only [vu, Nat.reduceEqDiff, ↓reduceIte, ovB, hi]
  · simp only [vu, Nat.reduceEqDiff, ↓reduceIte, uu_3]
  · simp only [vu, Nat.reduceEqDiff, ↓reduceIte, uu_3, Nat.sub_self]
  · intro x met' e ar' w
    have e' : dfV kd bl ag (k + 1) k (fun _ => false) = (some x, met') := e
    have := q ar' (fr ar' w)
    rw [e'] at this
    exact this
  · intro met' e ar' s' v4 v5 v6 w1 w2 w3
    have e' : dfV kd bl ag (k + 1) k (fun _ => false) = (none, met') := e
    have t := q ar' (fr ar' w2)
    rw [e'] at t
    rw [B_171_3]
    by_cases y : 1000 ≤ s'
    · simp (disch := omega) only [wr_all, wr_side, kk_171, B_171_7, nn_le, io_all, Nat.reduceDiv, Nat.reduceMod, Nat.reduceBEq, Nat.reduceLeDiff, Nat.reduceEqDiff, Nat.reduceLT, Nat.reduceMul, Nat.reduceAdd, Nat.reduceSub, BEq.rfl, Bool.or_true, Bool.true_or, Bool.true_and, Bool.and_true, Bool.or_false, Bool.false_or, Bool.not_false, Bool.not_true, decide_false, decide_true, true_and, and_true, not_true_eq_false, not_false_eq_true, ↓reduceIte, Option.toList_some, Option.toList_none, List.cons_append, List.nil_append, am_sw, am_lk, List.toList_toArray, Int.reduceAdd, am_cats_cons, List.map_cons, List.map_nil, List.sum_cons, List.sum_nil, y]
      exact t
    · simp (disch := omega) only [wr_all, wr_side, kk_171, B_171_7, nn_le, nn_le0, io_all, Nat.reduceDiv, Nat.reduceMod, Nat.reduceBEq, Nat.reduceLeDiff, Nat.reduceEqDiff, Nat.reduceLT, Nat.reduceMul, Nat.reduceAdd, Nat.reduceSub, BEq.rfl, Bool.or_true, Bool.true_or, Bool.true_and, Bool.and_true, Bool.or_false, Bool.false_or, Bool.not_false, Bool.not_true, decide_false, decide_true, true_and, and_true, not_true_eq_false, not_false_eq_true, ↓reduceIte, Option.toList_some, Option.toList_none, List.cons_append, List.nil_append, am_sw, am_lk, List.toList_toArray, Int.reduceAdd, am_cats_cons, List.map_cons, List.map_nil, List.sum_cons, List.sum_nil, y]
      exact t
end M25
