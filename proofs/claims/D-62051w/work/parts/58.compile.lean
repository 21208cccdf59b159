/-! THE MODEL's culprit and compile. -/
def QF (ar ar' : Nat → Nat → Int32) : Prop := ∀ j, ¬ (1 ≤ j ∧ j ≤ 5) → ¬ (11 ≤ j ∧ j ≤ 20) → ar' j = ar j
theorem QF.rf {ar : Nat → Nat → Int32} : QF ar ar := fun _ _ _ => rfl
theorem QF.tr {ar ar' ar'' : Nat → Nat → Int32} (h : QF ar ar') (g : QF ar' ar'') : QF ar ar'' := fun j h1 h2 => (g j h1 h2).trans (h j h1 h2)
theorem fnF_4 (ad : Nat → Bool) {m : Nat} (h : m ≤ 3) : fnF ad m 0 ≤ 4 := by have := fnF_le ad m 0; omega
theorem blF_le {t k : Nat} {c : Nat → Nat} {u d : Nat → Bool} : blF t k c u d ≤ 4 := by
  have h1 := ary_3 t
  unfold blF
  (repeat' split) <;> first | omega | exact fnF_4 _ h1
section M26
variable {d : Nat} {sc : Nat → Int32} {ar : Nat → Nat → Int32} {la : Nat → Nat → Int64} {R w : am_W} {K : Option Value → am_W → Prop}
variable {n nq : Nat} {kd nm lf rt : Nat → Nat} {ag : Nat → Nat → Nat} {up dn ex us : Nat → Bool} {cv bl : Nat → Nat} {vl gv : Nat → Int} {go : Option Nat} {st : Bool}
theorem MI.qf {ar' : Nat → Nat → Int32} (h : MI n kd nm ag gv up dn cv bl vl go nq ex lf rt st sc ar) (w : QF ar ar') : MI n kd nm ag gv up dn cv bl vl go nq ex lf rt st sc ar' :=
  ⟨h.1.congr (w 6 (by omega) (by omega)) (w 7 (by omega) (by omega)) (w 8 (by omega) (by omega)), h.2.1, fun k hk => by rw [w 10 (by omega) (by omega)]; exact h.2.2.1 k hk, h.2.2.2.1, h.2.2.2.2.1, h.2.2.2.2.2.1, ⟨h.2.2.2.2.2.2.1.1, h.2.2.2.2.2.2.1.2.1, fun q hq => by rw [w 21 (by omega) (by omega), w 22 (by omega) (by omega), w 23 (by omega) (by omega)]; exact h.2.2.2.2.2.2.1.2.2 q hq⟩, h.2.2.2.2.2.2.2⟩
theorem MI.ow {f : Nat → Int32} (h : MI n kd nm ag gv up dn cv bl vl go nq ex lf rt st sc ar) : MI n kd nm ag gv up dn cv bl vl go nq ex lf rt st sc (va_up ar 24 f) := h
theorem MI.sta {b : Bool} (h : MI n kd nm ag gv up dn cv bl vl go nq ex lf rt st sc ar) : MI n kd nm ag gv up dn cv bl vl go nq ex lf rt b (upd sc 34 (bi b)) ar := ⟨h.1, h.2.1, h.2.2.1, h.2.2.2.1, h.2.2.2.2.1, h.2.2.2.2.2.1, ⟨h.2.2.2.2.2.2.1.1, h.2.2.2.2.2.2.1.2.1, h.2.2.2.2.2.2.1.2.2⟩, rfl⟩
theorem ovA_qf {m : Nat} : QF ar (ovA m up dn cv bl vl ar) := fun j h1 h2 => ovA_ne (by omega)
theorem mkA_qf : QF ar (mkA n up dn cv bl vl us ar) := fun j h1 h2 => by
  have : ¬ j = 16 := by omega
  simp only [mkA, va_up, this, ↓reduceIte]
  exact ovA_ne (by omega)
theorem WF.qf {D : Nat} {ar' : Nat → Nat → Int32} (h : WF D ar ar') : QF ar ar' := fun j h1 h2 => h.2 j (by omega)
theorem MI.c5 (h : MI n kd nm ag gv up dn cv bl vl go nq ex lf rt st sc ar) : ∀ k, k < n → cv k < 5 := fun k hk => by rw [(h.2.2.2.1 k hk).2.2.1]; exact cvF_lt
theorem MI.b5 (h : MI n kd nm ag gv up dn cv bl vl go nq ex lf rt st sc ar) : ∀ k, k < n → bl k < 10 := fun k hk => by
  have := blF_le (t := kd k) (k := cv k) (c := fun i => cv (ag k i)) (u := fun i => up (ag k i)) (d := fun i => dn (ag k i))
  rw [(h.2.2.2.1 k hk).2.2.2.1]; omega
/-- what culprit answers -/
def cuF (kd bl cv : Nat → Nat) (ag : Nat → Nat → Nat) (k : Nat) : Int32 := if cv k = 4 then oi (dfV kd bl ag (k + 1) k (fun _ => false)).1 else -1
theorem c_culprit {k : Nat} (h : MI n kd nm ag gv up dn cv bl vl go nq ex lf rt st sc ar) (hk : k < n)
    (q : ∀ ar', QF ar ar' → K (some (.int (cuF kd bl cv ag k))) (mw sc ar' la R)) :
    Ev PG (d + 6) 170 [.ref 33, .int (Int32.ofNat k)] (mw sc ar la R) K := by
  have h1 := h.1.1
  have c5 := h.c5 k hk
  obtain ⟨r1, r2, r3, r4, r5⟩ := ovA_rd (up := up) (dn := dn) (cv := cv) (bl := bl) (vl := vl) (ar := ar) hk
  rw [e_170]
  by_cases y : cv k = 4
  · have y' : (cv k = 4) = True := by simp [y]
    simp (disch := omega) only [↓ c_isn h1 h.2.1 hk, ↓ c_work h.1 h.2.1 h.2.2.1 h.2.2.2.1, wr_all, wr_side, wr_call, qq_all, kk_170, B_170_0, B_170_1, B_170_2, B_170_3, mw_rd, mw_put, nn_clamp, nn_lt, nn_le, nn_eq, nn_lt0, nn_0le, nn_0lt, nn_le0, nn_eq0, nn_eq_1, nn_f1, nn_f0, nn_addn, nn_muln, nn_subn, nn_sub1, nn_nle, bi_1, bi_0, bi_fit, vu, io_all, Nat.reduceDiv, Nat.reduceMod, Nat.reduceBEq, Nat.reduceLeDiff, Nat.reduceEqDiff, Nat.reduceLT, Nat.reduceMul, Nat.reduceAdd, Nat.reduceSub, BEq.rfl, Bool.or_true, Bool.true_or, Bool.true_and, Bool.and_true, Bool.or_false, Bool.false_or, Bool.not_false, Bool.not_true, decide_false, decide_true, true_and, and_true, not_true_eq_false, not_false_eq_true, ↓reduceIte, Option.toList_some, Option.toList_none, List.cons_append, List.nil_append, am_sw, am_lk, List.toList_toArray, Int.reduceAdd, am_cats_cons, List.map_cons, List.map_nil, List.sum_cons, List.sum_nil, r3, y', Bool.true_eq_false]
    refine c_walk (d := d + 3) h.b5 hk (ovA_ms h.1) (fun i hi => (ovA_rd hi).2.2.2.1) (fun ar' w => ?_)
    have := q ar' (ovA_qf.tr w.qf)
    simp only [cuF, y'] at this
    simp (disch := omega) only [wr_all, wr_side, wr_call, qq_all, kk_170, B_170_0, B_170_1, B_170_2, B_170_3, mw_rd, mw_put, nn_clamp, nn_lt, nn_le, nn_eq, nn_lt0, nn_0le, nn_0lt, nn_le0, nn_eq0, nn_eq_1, nn_f1, nn_f0, nn_addn, nn_muln, nn_subn, nn_sub1, nn_nle, bi_1, bi_0, bi_fit, vu, io_all, Nat.reduceDiv, Nat.reduceMod, Nat.reduceBEq, Nat.reduceLeDiff, Nat.reduceEqDiff, Nat.reduceLT, Nat.reduceMul, Nat.reduceAdd, Nat.reduceSub, BEq.rfl, Bool.or_true, Bool.true_or, Bool.true_and, Bool.and_true, Bool.or_false, Bool.false_or, Bool.not_false, Bool.not_true, decide_false, decide_true, true_and, and_true, not_true_eq_false, not_false_eq_true, ↓reduceIte, Option.toList_some, Option.toList_none, List.cons_append, List.nil_append, am_sw, am_lk, List.toList_toArray, Int.reduceAdd, am_cats_cons, List.map_cons, List.map_nil, List.sum_cons, List.sum_nil]
    exact this
  · have := q _ (ovA_qf (m := n) (up := up) (dn := dn) (cv := cv) (bl := bl) (vl := vl))
    simp only [cuF, y] at this
    simp (disch := omega) only [↓ c_isn h1 h.2.1 hk, ↓ c_work h.1 h.2.1 h.2.2.1 h.2.2.2.1, wr_all, wr_side, wr_call, qq_all, kk_170, B_170_0, B_170_1, B_170_2, B_170_3, mw_rd, mw_put, nn_clamp, nn_lt, nn_le, nn_eq, nn_lt0, nn_0le, nn_0lt, nn_le0, nn_eq0, nn_eq_1, nn_f1, nn_f0, nn_addn, nn_muln, nn_subn, nn_sub1, nn_nle, bi_1, bi_0, bi_fit, vu, io_all, Nat.reduceDiv, Nat.reduceMod, Nat.reduceBEq, Nat.reduceLeDiff, Nat.reduceEqDiff, Nat.reduceLT, Nat.reduceMul, Nat.reduceAdd, Nat.reduceSub, BEq.rfl, Bool.or_true, Bool.true_or, Bool.true_and, Bool.and_true, Bool.or_false, Bool.false_or, Bool.not_false, Bool.not_true, decide_false, decide_true, true_and, and_true, not_true_eq_false, not_false_eq_true, ↓reduceIte, Option.toList_some, Option.toList_none, List.cons_append, List.nil_append, am_sw, am_lk, List.toList_toArray, Int.reduceAdd, am_cats_cons, List.map_cons, List.map_nil, List.sum_cons, List.sum_nil, r3, y, Bool.true_eq_false]
    exact this
theorem c_culprit_no {x : Int32} (h : MI n kd nm ag gv up dn cv bl vl go nq ex lf rt st sc ar) (hx : ¬ (0 ≤ x ∧ x < Int32.ofNat n)) :
    Ev PG (d + 6) 170 [.ref 33, .int x] (mw sc ar la R) K = K (some (.int (-2))) (mw sc ar la R) := by
  rw [e_170]
  simp (disch := omega) only [↓ c_isno h.1.1 h.2.1 hx, wr_all, wr_side, wr_call, qq_all, kk_170, B_170_0, B_170_1, B_170_2, B_170_3, mw_rd, mw_put, nn_clamp, nn_lt, nn_le, nn_eq, nn_lt0, nn_0le, nn_0lt, nn_le0, nn_eq0, nn_eq_1, nn_f1, nn_f0, nn_addn, nn_muln, nn_subn, nn_sub1, nn_nle, bi_1, bi_0, bi_fit, vu, io_all, Nat.reduceDiv, Nat.reduceMod, Nat.reduceBEq, Nat.reduceLeDiff, Nat.reduceEqDiff, Nat.reduceLT, Nat.reduceMul, Nat.reduceAdd, Nat.reduceSub, BEq.rfl, Bool.or_true, Bool.true_or, Bool.true_and, Bool.and_true, Bool.or_false, Bool.false_or, Bool.not_false, Bool.not_true, decide_false, decide_true, true_and, and_true, not_true_eq_false, not_false_eq_true, ↓reduceIte, Option.toList_some, Option.toList_none, List.cons_append, List.nil_append, am_sw, am_lk, List.toList_toArray, Int.reduceAdd, am_cats_cons, List.map_cons, List.map_nil, List.sum_cons, List.sum_nil]
theorem wpQ_lt {cv : Nat → Nat} {ex : Nat → Bool} {lf rt : Nat → Nat} {nq : Nat} (hl : ∀ q, q < nq → lf q < n ∧ rt q < n) : ∀ m x, m ≤ nq → wpQ cv ex lf rt nq m = some x → x < n
  | 0, x, _, h => by simp [wpQ] at h
  | m + 1, x, hm, h => by
    have := hl (nq - (m + 1)) (by omega)
    unfold wpQ at h
    (repeat' split at h) <;> first | (cases h; omega) | exact wpQ_lt hl m x (by omega) h
theorem c_compile_l : ∀ (m k : Nat) (u1 : Int32), k + m = 36 → Wp PG d cd_176 B_176_5 [.ref 33, .int u1, .int (Int32.ofNat k)] [] (mw sc (va_up ar 24 (ovB k (fun _ => Int32.ofNat 0) (ar 24))) la R) K
    = Wp PG d cd_176 B_176_6 [.ref 33, .int u1, .int (Int32.ofNat 36)] [] (mw sc (va_up ar 24 (ovB 36 (fun _ => Int32.ofNat 0) (ar 24))) la R) K := by
  intro m
  induction m with
  | zero =>
    intro k u1 hk
    have e : k = 36 := by omega
    subst e
    rw [B_176_5]
    simp (disch := omega) only [wr_all, wr_side, kk_176, nn_le, io_all, Nat.reduceDiv, Nat.reduceMod, Nat.reduceBEq, Nat.reduceLeDiff, Nat.reduceEqDiff, Nat.reduceLT, Nat.reduceMul, Nat.reduceAdd, Nat.reduceSub, BEq.rfl, Bool.or_true, Bool.true_or, Bool.true_and, Bool.and_true, Bool.or_false, Bool.false_or, Bool.not_false, Bool.not_true, decide_false, decide_true, true_and, and_true, not_true_eq_false, not_false_eq_true, ↓reduceIte, Option.toList_some, Option.toList_none, List.cons_append, List.nil_append, am_sw, am_lk, List.toList_toArray, Int.reduceAdd, am_cats_cons, List.map_cons, List.map_nil, List.sum_cons, List.sum_nil]
  | succ m ih =>
    intro k u1 hk
    have nl : (36 ≤ k) = False := by simp; omega
    rw [B_176_5]
    simp (disch := omega) only [wr_all, wr_side, kk_176, mw_rd, mw_put, nn_le, nn_addn, nn_clamp, nn_lt0, nn_nle, vu, uu_1, io_all, Nat.reduceDiv, Nat.reduceMod, Nat.reduceBEq, Nat.reduceLeDiff, Nat.reduceEqDiff, Nat.reduceLT, Nat.reduceMul, Nat.reduceAdd, Nat.reduceSub, BEq.rfl, Bool.or_true, Bool.true_or, Bool.true_and, Bool.and_true, Bool.or_false, Bool.false_or, Bool.not_false, Bool.not_true, decide_false, decide_true, true_and, and_true, not_true_eq_false, not_false_eq_true, ↓reduceIte, Option.toList_some, Option.toList_none, List.cons_append, List.nil_append, am_sw, am_lk, List.toList_toArray, Int.reduceAdd, am_cats_cons, List.map_cons, List.map_nil, List.sum_cons, List.sum_nil, nl]
    rw [← ih (k + 1) u1 (by omega), ← ovB_s]
theorem c_compile {g : Nat} {le : Bool} (h : MI n kd nm ag gv up dn cv bl vl (some g) nq ex lf rt st sc ar) (e29 : sc 29 = bi le) (hu : us = usF n kd ag (some g) nq lf rt)
    (q1 : ∀ x ar', wpF cv ex lf rt nq g le = some x → x < n → QF ar ar' → K (some (.int (Int32.ofInt (-2) - (if cv x = 4 then oi (dfV kd bl ag (x + 1) x (fun _ => false)).1 else Int32.ofNat x)))) (mw sc ar' la R))
    (q2 : ∀ ar', wpF cv ex lf rt nq g le = none → (∀ i, i < 36 → ar' 24 i = Int32.ofNat 0) → QF (va_up ar 24 (ar' 24)) ar' → K (some (.int (Int32.ofNat (ncF n us kd cv)))) (mw (upd sc 34 (bi true)) ar' la R)) :
    Ev PG (d + 7) 176 [.ref 33] (mw sc ar la R) K := by
  have h1 := h.1.1
  have hgo := h.2.2.2.2.2.1 g rfl
  have e28 : sc 28 = Int32.ofNat g := h.2.2.2.2.1
  have hr := h.2.2.2.2.2.2.1
  rw [e_176]
  have wp := fun K => c_wrongPart (d := d + 4) (sc := sc) (la := la) (R := R) (K := K) (ar := ovA n up dn cv bl vl ar) (cv := cv) h1 ⟨hr.1, hr.2.1, hr.2.2⟩ (fun i hi => ⟨(ovA_rd hi).2.2.1, h.c5 i hi⟩) e28 hgo e29
  cases e : wpF cv ex lf rt nq g le with
  | some x =>
    have hx : x < n := by
      unfold wpF at e
      by_cases z : gdF cv g (if le = true then 2 else 3) = false
      · rw [if_pos z] at e; cases e; exact hgo
      · rw [if_neg z] at e; exact wpQ_lt (fun q hq => (hr.2.2 q hq).2.2.2) nq x (Nat.le_refl _) e
    obtain ⟨r1, r2, r3, r4, r5⟩ := ovA_rd (up := up) (dn := dn) (cv := cv) (bl := bl) (vl := vl) (ar := ar) hx
    have c5 := h.c5 x hx
    rw [e] at wp
    simp only [oi] at wp
    by_cases y : cv x = 4
    · have y' : (cv x = 4) = True := by simp [y]
      simp (disch := omega) only [↓ wp, ↓ c_work h.1 h.2.1 h.2.2.1 h.2.2.2.1, wr_all, wr_side, wr_call, qq_all, kk_176, B_176_0, B_176_1, B_176_2, B_176_3, B_176_4, B_176_6, mw_rd, mw_put, nn_clamp, nn_lt, nn_le, nn_eq, nn_lt0, nn_0le, nn_0lt, nn_le0, nn_eq0, nn_eq_1, nn_f1, nn_f0, nn_addn, nn_muln, nn_subn, nn_sub1, nn_nle, bi_1, bi_0, bi_fit, vu, io_all, Nat.reduceDiv, Nat.reduceMod, Nat.reduceBEq, Nat.reduceLeDiff, Nat.reduceEqDiff, Nat.reduceLT, Nat.reduceMul, Nat.reduceAdd, Nat.reduceSub, BEq.rfl, Bool.or_true, Bool.true_or, Bool.true_and, Bool.and_true, Bool.or_false, Bool.false_or, Bool.not_false, Bool.not_true, decide_false, decide_true, true_and, and_true, not_true_eq_false, not_false_eq_true, ↓reduceIte, Option.toList_some, Option.toList_none, List.cons_append, List.nil_append, am_sw, am_lk, List.toList_toArray, Int.reduceAdd, am_cats_cons, List.map_cons, List.map_nil, List.sum_cons, List.sum_nil, e28, r3, y', Bool.true_eq_false]
      refine c_walk (d := d + 4) h.b5 hx (ovA_ms h.1) (fun i hi => (ovA_rd hi).2.2.2.1) (fun ar' w => ?_)
      have := q1 x ar' e hx (ovA_qf.tr w.qf)
      simp only [y'] at this
      simp (disch := omega) only [wr_all, wr_side, wr_call, qq_all, kk_176, B_176_0, B_176_1, B_176_2, B_176_3, B_176_4, B_176_6, mw_rd, mw_put, nn_clamp, nn_lt, nn_le, nn_eq, nn_lt0, nn_0le, nn_0lt, nn_le0, nn_eq0, nn_eq_1, nn_f1, nn_f0, nn_addn, nn_muln, nn_subn, nn_sub1, nn_nle, bi_1, bi_0, bi_fit, vu, io_all, Nat.reduceDiv, Nat.reduceMod, Nat.reduceBEq, Nat.reduceLeDiff, Nat.reduceEqDiff, Nat.reduceLT, Nat.reduceMul, Nat.reduceAdd, Nat.reduceSub, BEq.rfl, Bool.or_true, Bool.true_or, Bool.true_and, Bool.and_true, Bool.or_false, Bool.false_or, Bool.not_false, Bool.not_true, decide_false, decide_true, true_and, and_true, not_true_eq_false, not_false_eq_true, ↓reduceIte, Option.toList_some, Option.toList_none, List.cons_append, List.nil_append, am_sw, am_lk, List.toList_toArray, Int.reduceAdd, am_cats_cons, List.map_cons, List.map_nil, List.sum_cons, List.sum_nil]
      exact this
    · have := q1 x _ e hx (ovA_qf (m := n) (up := up) (dn := dn) (cv := cv) (bl := bl) (vl := vl))
      simp only [y] at this
      simp (disch := omega) only [↓ wp, ↓ c_work h.1 h.2.1 h.2.2.1 h.2.2.2.1, wr_all, wr_side, wr_call, qq_all, kk_176, B_176_0, B_176_1, B_176_2, B_176_3, B_176_4, B_176_6, mw_rd, mw_put, nn_clamp, nn_lt, nn_le, nn_eq, nn_lt0, nn_0le, nn_0lt, nn_le0, nn_eq0, nn_eq_1, nn_f1, nn_f0, nn_addn, nn_muln, nn_subn, nn_sub1, nn_nle, bi_1, bi_0, bi_fit, vu, io_all, Nat.reduceDiv, Nat.reduceMod, Nat.reduceBEq, Nat.reduceLeDiff, Nat.reduceEqDiff, Nat.reduceLT, Nat.reduceMul, Nat.reduceAdd, Nat.reduceSub, BEq.rfl, Bool.or_true, Bool.true_or, Bool.true_and, Bool.and_true, Bool.or_false, Bool.false_or, Bool.not_false, Bool.not_true, decide_false, decide_true, true_and, and_true, not_true_eq_false, not_false_eq_true, ↓reduceIte, Option.toList_some, Option.toList_none, List.cons_append, List.nil_append, am_sw, am_lk, List.toList_toArray, Int.reduceAdd, am_cats_cons, List.map_cons, List.map_nil, List.sum_cons, List.sum_nil, e28, r3, y, Bool.true_eq_false]
      exact this
  | none =>
    rw [e] at wp
    simp only [oi] at wp
    have l := c_compile_l (d := d + 6) (sc := upd sc 34 (Int32.ofNat 1)) (ar := ovA n up dn cv bl vl ar) (la := la) (R := R) (K := K) 36 0 (-1) (by omega)
    rw [ovB_0, uu_4] at l
    have n1 : ((-1 : Int32) < 0) = True := by decide
    simp (disch := omega) only [↓ wp, ↓ c_work h.1 h.2.1 h.2.2.1 h.2.2.2.1, wr_all, wr_side, wr_call, qq_all, kk_176, B_176_0, B_176_1, B_176_2, B_176_3, B_176_4, mw_rd, mw_put, nn_clamp, nn_lt, nn_le, nn_eq, nn_lt0, nn_0le, nn_0lt, nn_le0, nn_eq0, nn_eq_1, nn_f1, nn_f0, nn_addn, nn_muln, nn_subn, nn_sub1, nn_nle, bi_1, bi_0, bi_fit, vu, io_all, Nat.reduceDiv, Nat.reduceMod, Nat.reduceBEq, Nat.reduceLeDiff, Nat.reduceEqDiff, Nat.reduceLT, Nat.reduceMul, Nat.reduceAdd, Nat.reduceSub, BEq.rfl, Bool.or_true, Bool.true_or, Bool.true_and, Bool.and_true, Bool.or_false, Bool.false_or, Bool.not_false, Bool.not_true, decide_false, decide_true, true_and, and_true, not_true_eq_false, not_false_eq_true, ↓reduceIte, Option.toList_some, Option.toList_none, List.cons_append, List.nil_append, am_sw, am_lk, List.toList_toArray, Int.reduceAdd, am_cats_cons, List.map_cons, List.map_nil, List.sum_cons, List.sum_nil, e28, n1, l]
    rw [B_176_6]
    have h' : MI n kd nm ag gv up dn cv bl vl (some g) nq ex lf rt true (upd sc 34 (Int32.ofNat 1)) (va_up (ovA n up dn cv bl vl ar) 24 (ovB 36 (fun _ => Int32.ofNat 0) (ovA n up dn cv bl vl ar 24))) := ((h.qf ovA_qf).sta (b := true)).ow
    simp (disch := omega) only [↓ h'.mark, ↓ c_columns (sc := upd sc 34 (Int32.ofNat 1)) h'.mk h'.2.1, wr_all, wr_side, wr_call, qq_all, kk_176, B_176_0, B_176_1, B_176_2, B_176_3, B_176_4, mw_rd, mw_put, nn_clamp, nn_lt, nn_le, nn_eq, nn_lt0, nn_0le, nn_0lt, nn_le0, nn_eq0, nn_eq_1, nn_f1, nn_f0, nn_addn, nn_muln, nn_subn, nn_sub1, nn_nle, bi_1, bi_0, bi_fit, vu, io_all, Nat.reduceDiv, Nat.reduceMod, Nat.reduceBEq, Nat.reduceLeDiff, Nat.reduceEqDiff, Nat.reduceLT, Nat.reduceMul, Nat.reduceAdd, Nat.reduceSub, BEq.rfl, Bool.or_true, Bool.true_or, Bool.true_and, Bool.and_true, Bool.or_false, Bool.false_or, Bool.not_false, Bool.not_true, decide_false, decide_true, true_and, and_true, not_true_eq_false, not_false_eq_true, ↓reduceIte, Option.toList_some, Option.toList_none, List.cons_append, List.nil_append, am_sw, am_lk, List.toList_toArray, Int.reduceAdd, am_cats_cons, List.map_cons, List.map_nil, List.sum_cons, List.sum_nil]
    subst hu
    refine q2 _ e (fun i hi => ?_) ?_
    · simp only [mkA, va_up, ovA, ovB, hi, Nat.reduceEqDiff, ↓reduceIte, false_and]
    · refine QF.tr ?_ mkA_qf
      intro j j1 j2
      by_cases j24 : j = 24
      · subst j24
        simp only [va_up, ↓reduceIte, mkA, Nat.reduceEqDiff]
        rw [ovA_ne (by omega)]
        rfl
      · simp only [va_up, j24, ↓reduceIte]
        exact ovA_ne (by omega)
theorem c_compile_no (e28 : sc 28 = oi none) : Ev PG (d + 7) 176 [.ref 33] (mw sc ar la R) K = K (some (.int (-1))) (mw sc ar la R) := by
  have n1 : ((0 : Int32) ≤ -1) = False := by decide
  rw [e_176]
  simp only [oi] at e28
  simp (disch := omega) only [wr_all, wr_side, wr_call, qq_all, kk_176, B_176_0, B_176_1, B_176_2, B_176_3, B_176_4, B_176_6, mw_rd, mw_put, nn_clamp, nn_lt, nn_le, nn_eq, nn_lt0, nn_0le, nn_0lt, nn_le0, nn_eq0, nn_eq_1, nn_f1, nn_f0, nn_addn, nn_muln, nn_subn, nn_sub1, nn_nle, bi_1, bi_0, bi_fit, vu, io_all, Nat.reduceDiv, Nat.reduceMod, Nat.reduceBEq, Nat.reduceLeDiff, Nat.reduceEqDiff, Nat.reduceLT, Nat.reduceMul, Nat.reduceAdd, Nat.reduceSub, BEq.rfl, Bool.or_true, Bool.true_or, Bool.true_and, Bool.and_true, Bool.or_false, Bool.false_or, Bool.not_false, Bool.not_true, decide_false, decide_true, true_and, and_true, not_true_eq_false, not_false_eq_true, ↓reduceIte, Option.toList_some, Option.toList_none, List.cons_append, List.nil_append, am_sw, am_lk, List.toList_toArray, Int.reduceAdd, am_cats_cons, List.map_cons, List.map_nil, List.sum_cons, List.sum_nil, e28, n1]
end M26
