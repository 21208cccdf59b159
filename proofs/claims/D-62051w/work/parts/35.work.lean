/-! THE MODEL's work: every attribute anew. -/
def ovA (m : Nat) (up dn : Nat → Bool) (cv bl : Nat → Nat) (vl : Nat → Int) (ar : Nat → Nat → Int32) : Nat → Nat → Int32 := fun j i =>
  if j = 11 then (if i < m then bi (up i) else ar 11 i) else if j = 12 then (if i < m then bi (dn i) else ar 12 i) else if j = 13 then (if i < m then Int32.ofNat (cv i) else ar 13 i)
  else if j = 14 then (if i < m then Int32.ofNat (bl i) else ar 14 i) else if j = 15 then (if i < m then Int32.ofInt (vl i) else ar 15 i) else ar j i
/-- the attributes are what the nodes make them -/
def AF (n : Nat) (kd nm : Nat → Nat) (ag : Nat → Nat → Nat) (gv : Nat → Int) (up dn : Nat → Bool) (cv bl : Nat → Nat) (vl : Nat → Int) : Prop := ∀ k, k < n →
  up k = upF (kd k) (nm k) (fun i => up (ag k i)) (fun i => dn (ag k i)) ∧ dn k = dnF (kd k) (nm k) (fun i => up (ag k i)) (fun i => dn (ag k i)) ∧
  cv k = cvF (kd k) (fun i => cv (ag k i)) (fun i => up (ag k i)) (fun i => dn (ag k i)) ∧ bl k = blF (kd k) (cv k) (fun i => cv (ag k i)) (fun i => up (ag k i)) (fun i => dn (ag k i)) ∧
  vl k = vlF (kd k) (nm k) (gv k) (fun i => vl (ag k i)) ∧ -1000000 ≤ vl k ∧ vl k ≤ 1000000
section M5
variable {d : Nat} {sc : Nat → Int32} {ar : Nat → Nat → Int32} {la : Nat → Nat → Int64} {R w : am_W} {K : Option Value → am_W → Prop}
variable {n : Nat} {kd nm : Nat → Nat} {ag : Nat → Nat → Nat} {up dn : Nat → Bool} {cv bl : Nat → Nat} {vl gv : Nat → Int}
theorem MS.congr {ar' : Nat → Nat → Int32} (h : MS n kd nm ag ar) (h6 : ar' 6 = ar 6) (h7 : ar' 7 = ar 7) (h8 : ar' 8 = ar 8) : MS n kd nm ag ar' := by
  unfold MS
  rw [h6, h7, h8]
  exact h
theorem ovA_0 : ovA 0 up dn cv bl vl ar = ar := by
  funext j i
  unfold ovA
  simp only [Nat.not_lt_zero, ↓reduceIte]
  (repeat' split) <;> simp_all
theorem ovA_step {k : Nat} : va_up (va_up (va_up (va_up (va_up (ovA k up dn cv bl vl ar) 11 (upd (ovA k up dn cv bl vl ar 11) k (bi (up k)))) 12 (upd (ovA k up dn cv bl vl ar 12) k (bi (dn k)))) 15 (upd (ovA k up dn cv bl vl ar 15) k (Int32.ofInt (vl k)))) 13 (upd (ovA k up dn cv bl vl ar 13) k (Int32.ofNat (cv k)))) 14 (upd (ovA k up dn cv bl vl ar 14) k (Int32.ofNat (bl k)))
    = ovA (k + 1) up dn cv bl vl ar := by
  funext j i
  by_cases e11 : j = 11 <;> by_cases e12 : j = 12 <;> by_cases e13 : j = 13 <;> by_cases e14 : j = 14 <;> by_cases e15 : j = 15 <;> (first | omega | skip) <;> (try subst j) <;> simp only [va_up, upd, ovA, *, ↓reduceIte, Nat.reduceEqDiff]
  all_goals
    rcases Nat.lt_trichotomy i k with e | e | e
    · simp [show ¬ i = k by omega, show i < k + 1 by omega, e]
    · simp [e]
    · simp [show ¬ i = k by omega, show ¬ i < k + 1 by omega, show ¬ i < k by omega]
theorem c_work_l (h : MS n kd nm ag ar) (e12 : sc 12 = Int32.ofNat n) (hg : ∀ k, k < n → ar 10 k = Int32.ofInt (gv k)) (F : AF n kd nm ag gv up dn cv bl vl) :
    ∀ (m k : Nat) (u2 u3 u4 : Value), k + m = n → Wp PG (d + 4) cd_157 B_157_1 [.ref 33, .int (Int32.ofNat k), u2, u3, u4] [] (mw sc (ovA k up dn cv bl vl ar) la R) K = K none (mw sc (ovA n up dn cv bl vl ar) la R) := by
  have h1 := h.1
  intro m
  induction m with
  | zero =>
    intro k u2 u3 u4 hk
    obtain rfl : k = n := by omega
    rw [B_157_1]
    simp (disch := omega) only [wr_all, wr_side, wr_call, qq_all, kk_157, B_157_0, B_157_2, mw_rd, mw_put, nn_clamp, nn_lt, nn_le, nn_eq, nn_lt0, nn_0le, nn_0lt, nn_le0, nn_eq0, nn_eq_1, nn_f1, nn_f0, nn_addn, nn_muln, nn_subn, nn_sub1, nn_nle, bi_1, bi_0, bi_fit, vu, io_all, Nat.reduceDiv, Nat.reduceMod, Nat.reduceBEq, Nat.reduceLeDiff, Nat.reduceEqDiff, Nat.reduceLT, Nat.reduceMul, Nat.reduceAdd, Nat.reduceSub, BEq.rfl, Bool.or_true, Bool.true_or, Bool.true_and, Bool.and_true, Bool.or_false, Bool.false_or, Bool.not_false, Bool.not_true, decide_false, decide_true, true_and, and_true, not_true_eq_false, not_false_eq_true, ↓reduceIte, Option.toList_some, Option.toList_none, List.cons_append, List.nil_append, am_sw, am_lk, List.toList_toArray, Int.reduceAdd, am_cats_cons, List.map_cons, List.map_nil, List.sum_cons, List.sum_nil, e12, Nat.le_refl]
  | succ m ih =>
    intro k u2 u3 u4 hk
    have hk' : k < n := by omega
    obtain ⟨f1, f2, f3, f4, f5, f6⟩ := F k hk'
    have A0 : MS n kd nm ag (ovA k up dn cv bl vl ar) := h.congr rfl rfl rfl
    have s1 := fun K => c_signs (d := d + 3) (sc := sc) (la := la) (R := R) (K := K) A0 hk' (up := up) (dn := dn) (fun i hi => by simp [ovA, hi]) (fun i hi => by simp [ovA, hi])
    rw [← f1, ← f2] at s1
    have A1 := A0.congr (ar' := va_up (va_up (ovA k up dn cv bl vl ar) 11 (upd (ovA k up dn cv bl vl ar 11) k (bi (up k)))) 12 (upd (ovA k up dn cv bl vl ar 12) k (bi (dn k)))) rfl rfl rfl
    have s2 := fun K => c_worthOf (d := d + 2) (sc := sc) (la := la) (R := R) (K := K) A1 hk' (gv := gv) (vl := vl) (hg k hk') (fun i hi => by
      have := F i (by omega)
      simp [va_up, ovA, hi]; omega)
    rw [← f5] at s2
    simp only [vu, Nat.reduceEqDiff, ↓reduceIte] at s2
    have A2 := A1.congr (ar' := va_up (va_up (va_up (ovA k up dn cv bl vl ar) 11 (upd (ovA k up dn cv bl vl ar 11) k (bi (up k)))) 12 (upd (ovA k up dn cv bl vl ar 12) k (bi (dn k)))) 15 (upd (ovA k up dn cv bl vl ar 15) k (Int32.ofInt (vl k)))) rfl rfl rfl
    have s3 := fun K => c_curveOf (d := d) (sc := sc) (la := la) (R := R) (K := K) A2 hk' (up := up) (dn := dn) (cv := cv) (fun i hi => by simp [va_up, upd, ovA, hi]; omega) (fun i hi => by simp [va_up, upd, ovA, hi]; omega) (fun i hi => by
      have := F i (by omega)
      refine ⟨by simp [va_up, ovA, hi], by rw [this.2.2.1]; exact cvF_lt⟩)
    rw [← f3] at s3
    have A3 := A2.congr (ar' := va_up (va_up (va_up (va_up (ovA k up dn cv bl vl ar) 11 (upd (ovA k up dn cv bl vl ar 11) k (bi (up k)))) 12 (upd (ovA k up dn cv bl vl ar 12) k (bi (dn k)))) 15 (upd (ovA k up dn cv bl vl ar 15) k (Int32.ofInt (vl k)))) 13 (upd (ovA k up dn cv bl vl ar 13) k (Int32.ofNat (cv k)))) rfl rfl rfl
    have s4 := fun K => c_blameOf (d := d) (sc := sc) (la := la) (R := R) (K := K) A3 hk' (up := up) (dn := dn) (cv := cv) (fun i hi => by simp [va_up, upd, ovA, hi]; omega) (fun i hi => by simp [va_up, upd, ovA, hi]; omega) (fun i hi => by
      have := F i (by omega)
      refine ⟨by simp [va_up, upd, ovA, hi]; omega, by rw [this.2.2.1]; exact cvF_lt⟩) (by simp [va_up, upd]) f3
    rw [← f4] at s4
    have nl : ¬ n ≤ k := by omega
    rw [B_157_1]
    simp (disch := omega) only [↓ s1, ↓ s2, ↓ s3, ↓ s4, wr_all, wr_side, wr_call, qq_all, kk_157, B_157_0, B_157_2, mw_rd, mw_put, nn_clamp, nn_lt, nn_le, nn_eq, nn_lt0, nn_0le, nn_0lt, nn_le0, nn_eq0, nn_eq_1, nn_f1, nn_f0, nn_addn, nn_muln, nn_subn, nn_sub1, nn_nle, bi_1, bi_0, bi_fit, vu, io_all, Nat.reduceDiv, Nat.reduceMod, Nat.reduceBEq, Nat.reduceLeDiff, Nat.reduceEqDiff, Nat.reduceLT, Nat.reduceMul, Nat.reduceAdd, Nat.reduceSub, BEq.rfl, Bool.or_true, Bool.true_or, Bool.true_and, Bool.and_true, Bool.or_false, Bool.false_or, Bool.not_false, Bool.not_true, decide_false, decide_true, true_and, and_true, not_true_eq_false, not_false_eq_true, ↓reduceIte, Option.toList_some, Option.toList_none, List.cons_append, List.nil_append, am_sw, am_lk, List.toList_toArray, Int.reduceAdd, am_cats_cons, List.map_cons, List.map_nil, List.sum_cons, List.sum_nil, e12, nl]
    refine Eq.trans ?_ (ih (k + 1) (.int (ar 8 (3 * k))) (.int (ar 8 (3 * k + 1))) (.int (ar 8 (3 * k + 2))) (by omega))
    clear s1 s2 s3 s4 A0 A1 A2 A3
    rw [← ovA_step]
    rfl
/-- every attribute anew -/
theorem c_work (h : MS n kd nm ag ar) (e12 : sc 12 = Int32.ofNat n) (hg : ∀ k, k < n → ar 10 k = Int32.ofInt (gv k)) (F : AF n kd nm ag gv up dn cv bl vl) :
    Ev PG (d + 5) 157 [.ref 33] (mw sc ar la R) K = K none (mw sc (ovA n up dn cv bl vl ar) la R) := by
  refine Eq.trans ?_ (c_work_l (d := d) (K := K) (sc := sc) (la := la) (R := R) h e12 hg F n 0 am_J am_J am_J (by omega))
  rw [e_157, ovA_0]
  simp (disch := omega) only [wr_all, wr_side, kk_157, B_157_0, io_all]
theorem ovA_ms {m : Nat} (h : MS n kd nm ag ar) : MS n kd nm ag (ovA m up dn cv bl vl ar) := h.congr rfl rfl rfl
/-- arrays that work leaves alone -/
theorem ovA_ne {m j : Nat} (h : j ≠ 11 ∧ j ≠ 12 ∧ j ≠ 13 ∧ j ≠ 14 ∧ j ≠ 15) : ovA m up dn cv bl vl ar j = ar j := by
  funext i; simp [ovA, h]
theorem ovA_rd {m i : Nat} (h : i < m) : ovA m up dn cv bl vl ar 11 i = bi (up i) ∧ ovA m up dn cv bl vl ar 12 i = bi (dn i) ∧ ovA m up dn cv bl vl ar 13 i = Int32.ofNat (cv i) ∧ ovA m up dn cv bl vl ar 14 i = Int32.ofNat (bl i) ∧ ovA m up dn cv bl vl ar 15 i = Int32.ofInt (vl i) := by
  simp [ovA, h]
theorem ovA_ovA {m : Nat} : ovA m up dn cv bl vl (ovA m up dn cv bl vl ar) = ovA m up dn cv bl vl ar := by
  funext j i
  by_cases e11 : j = 11 <;> by_cases e12 : j = 12 <;> by_cases e13 : j = 13 <;> by_cases e14 : j = 14 <;> by_cases e15 : j = 15 <;> simp [ovA, *] <;> intros <;> omega
end M5
