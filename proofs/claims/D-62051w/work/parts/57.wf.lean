/-! THE SCANNER's steps are well formed. -/
def okS (x : Nat × Int) (h : Nat) : Bool := decide (x.1 < 13 ∧ 0 ≤ x.2 ∧ x.2 < 1000 ∧ ary x.1 ≤ h)
/-- the height of the operands behind the steps (latest first) -/
def hgF : List (Nat × Int) → Option Nat
  | [] => some 0
  | x :: O => match hgF O with
    | none => none
    | some h => if okS x h = true then some (h - ary x.1 + 1) else none
def fwF : List (Nat × Int) → Nat → Option Nat
  | [], h => some h
  | x :: l, h => if okS x h = true then fwF l (h - ary x.1 + 1) else none
theorem fw_app : ∀ (l : List (Nat × Int)) (x : Nat × Int) (h : Nat), fwF (l ++ [x]) h = match fwF l h with | none => none | some h => if okS x h = true then some (h - ary x.1 + 1) else none
  | [], x, h => rfl
  | y :: l, x, h => by
    simp only [List.cons_append, fwF]
    split
    · exact fw_app l x _
    · rfl
theorem hg_fw : ∀ O : List (Nat × Int), fwF O.reverse 0 = hgF O
  | [] => rfl
  | x :: O => by rw [List.reverse_cons, fw_app, hg_fw O, hgF]
def hs1 (x : Nat × Nat) : Nat := if x.1 = 42 ∨ x.1 = 43 ∨ x.1 = 45 then 1 else cmF x.1 - x.2
def hs : List (Nat × Nat) → Nat
  | [] => 0
  | x :: S => hs1 x + hs S
theorem rk_cases {l c : Nat} (hl : 1 ≤ l) (h : l ≤ rnF c) : c = 126 ∨ c = 42 ∨ c = 43 ∨ c = 45 := by
  unfold rnF at h
  (repeat' split at h) <;> omega
theorem rd_hg {l : Nat} (hl : 1 ≤ l) : ∀ (S : List (Nat × Nat)) (O : List (Nat × Int)), hgF O = some (hs S + 1) → hgF (rdF l S O).2 = some (hs (rdF l S O).1 + 1)
  | [], O, h => h
  | x :: S, O, h => by
    unfold rdF
    split
    · rename_i hr
      refine rd_hg hl S _ ?_
      have hx : hgF ((koF x.1, 0) :: O) = if okS (koF x.1, 0) (hs (x :: S) + 1) = true then some (hs (x :: S) + 1 - ary (koF x.1) + 1) else none := by rw [hgF, h]
      rw [hx]
      rcases rk_cases hl hr with e | e | e | e
      · simp [okS, koF, e, ary, hs, hs1, cmF]
      · simp [okS, koF, e, ary, hs, hs1]
      · simp [okS, koF, e, ary, hs, hs1]
      · simp [okS, koF, e, ary, hs, hs1]
    · exact h
theorem nu_b {ln : Nat → Nat} {len : Nat} : ∀ (m i : Nat) (v : Int), 0 ≤ v → 0 ≤ (nuF ln len m i v).1 ∧ (nuF ln len m i v).1 < (v + 1) * (10 ^ m : Nat) ∧ i ≤ (nuF ln len m i v).2 ∧ (i ≤ len → (nuF ln len m i v).2 ≤ len)
  | 0, i, v, h => by simp only [nuF]; simp; omega
  | m + 1, i, v, h => by
    by_cases y : dgF ln len i = true
    · have y1 : i < len ∧ 48 ≤ ln i ∧ ln i ≤ 57 := by simpa [dgF] using y
      have ih := nu_b (ln := ln) (len := len) m (i + 1) (10 * v + (ln i : Int) - 48) (by omega)
      simp only [nuF, y, ↓reduceIte]
      refine ⟨ih.1, ?_, by omega, fun hi => ih.2.2.2 (by omega)⟩
      refine Int.lt_of_lt_of_le ih.2.1 ?_
      rw [Nat.pow_succ]
      have : 10 * v + (ln i : Int) - 48 + 1 ≤ (v + 1) * 10 := by omega
      have p : (0 : Int) ≤ ((10 ^ m : Nat) : Int) := Int.natCast_nonneg _
      calc (10 * v + (ln i : Int) - 48 + 1) * ((10 ^ m : Nat) : Int) ≤ (v + 1) * 10 * ((10 ^ m : Nat) : Int) := Int.mul_le_mul_of_nonneg_right this p
        _ = (v + 1) * ((10 ^ m * 10 : Nat) : Int) := by rw [Int.natCast_mul, Int.mul_assoc, Int.mul_comm 10]; rfl
    · simp only [nuF, y, ↓reduceIte, Bool.false_eq_true]
      refine ⟨h, ?_, Nat.le_refl _, fun hi => hi⟩
      have p : (1 : Int) ≤ ((10 ^ (m + 1) : Nat) : Int) := by
        have : 0 < 10 ^ (m + 1) := Nat.pow_pos (by omega)
        omega
      calc v < v + 1 := by omega
        _ = (v + 1) * 1 := by rw [Int.mul_one]
        _ ≤ (v + 1) * ((10 ^ (m + 1) : Nat) : Int) := Int.mul_le_mul_of_nonneg_left p (by omega)
/-- what holds of the scanner's state -/
def SI (len : Nat) (x : CT) : Prop := IS x.2.2.1 ∧ x.1 ≤ len ∧ x.2.2.1.length + x.2.2.2.length ≤ x.1 ∧ hgF x.2.2.2 = some (hs x.2.2.1 + if x.2.1 = true then 0 else 1)
theorem hg_leaf {O : List (Nat × Int)} {t h : Nat} {v : Int} (ho : hgF O = some h) (ht : ary t = 0) (h13 : t < 13) (h0 : 0 ≤ v) (h1 : v < 1000) : hgF ((t, v) :: O) = some (h + 1) := by
  rw [hgF, ho]
  have : okS (t, v) h = true := by simp [okS, h13, h0, h1, ht]
  simp only [this, ↓reduceIte, ht, Nat.sub_zero]
theorem si_first {ln : Nat → Nat} {len i : Nat} {S : List (Nat × Nat)} {O : List (Nat × Int)} (h : SI len (i, true, S, O)) (hi : i < len) (hs' : (fiF ln len i S O).1 = true) : SI len (fiF ln len i S O).2 ∧ i < (fiF ln len i S O).2.1 := by
  obtain ⟨h1, h2, h3, h4⟩ := h
  simp only [↓reduceIte, Nat.add_zero] at h1 h2 h3 h4
  unfold fiF at hs' ⊢
  by_cases y : dgF ln len i = true
  · simp only [y, ↓reduceIte]
    have y1 : i < len ∧ 48 ≤ ln i ∧ ln i ≤ 57 := by simpa [dgF] using y
    have b := nu_b (ln := ln) (len := len) 3 i 0 (by omega)
    have b2 := nu_b (ln := ln) (len := len) 2 (i + 1) (10 * 0 + (ln i : Int) - 48) (by omega)
    have e : nuF ln len 3 i 0 = nuF ln len 2 (i + 1) (10 * 0 + (ln i : Int) - 48) := by rw [nuF]; simp only [y, ↓reduceIte]
    rw [← e] at b2
    refine ⟨⟨h1, b.2.2.2 (by omega), by simp only [List.length_cons]; omega, ?_⟩, by omega⟩
    exact hg_leaf h4 rfl (by omega) b.1 (by have := b.2.1; simpa using this)
  · simp only [y, ↓reduceIte, Bool.false_eq_true] at hs' ⊢
    by_cases c35 : ln i = 35
    · simp only [c35, ↓reduceIte] at hs' ⊢
      by_cases y2 : dgF ln len (i + 1) = true
      · simp only [y2, ↓reduceIte]
        have y1 : i + 1 < len ∧ 48 ≤ ln (i + 1) ∧ ln (i + 1) ≤ 57 := by simpa [dgF] using y2
        have b := nu_b (ln := ln) (len := len) 2 (i + 1) 0 (by omega)
        refine ⟨⟨h1, b.2.2.2 (by omega), by simp only [List.length_cons]; omega, ?_⟩, by omega⟩
        exact hg_leaf h4 rfl (by omega) b.1 (by have := b.2.1; simp at this; omega)
      · simp only [y2, ↓reduceIte, Bool.false_eq_true] at hs'
    · simp only [c35, ↓reduceIte] at hs' ⊢
      by_cases cv : (117 ≤ ln i ∧ ln i ≤ 122) ∨ (112 ≤ ln i ∧ ln i ≤ 114)
      · simp only [cv, ↓reduceIte]
        refine ⟨⟨h1, by simp only; omega, by simp only [List.length_cons]; omega, ?_⟩, by omega⟩
        refine hg_leaf h4 ?_ ?_ (by omega) (by omega)
        · split <;> rfl
        · split <;> omega
      · simp only [cv, ↓reduceIte] at hs' ⊢
        by_cases cb : ln i = 40 ∨ ln i = 45
        · simp only [cb, ↓reduceIte]
          refine ⟨⟨⟨?_, by simp, ?_, h1⟩, by simp only; omega, by simp only [List.length_cons]; omega, ?_⟩, by omega⟩
          · simp only; split <;> omega
          · simp only; split <;> omega
          · simp only [↓reduceIte, Nat.add_zero, h4, hs]
            rcases cb with e | e <;> simp [e, hs1, cmF]
        · simp only [cb, ↓reduceIte] at hs' ⊢
          by_cases cf : isF (ln i) = true
          · simp only [cf, ↓reduceIte] at hs' ⊢
            by_cases y4 : i + 1 < len ∧ ln (i + 1) = 40
            · simp only [y4, and_self, ↓reduceIte]
              refine ⟨⟨⟨?_, by simp, ?_, h1⟩, by simp only; omega, by simp only [List.length_cons]; omega, ?_⟩, by omega⟩
              · simp [isF] at cf; simp only; omega
              · simp [cf]
              · simp [isF] at cf
                have : ¬ (ln i = 42 ∨ ln i = 43 ∨ ln i = 45) := by omega
                simp only [↓reduceIte, Nat.add_zero, h4, hs, hs1, this, Nat.sub_self, Nat.zero_add]
            · simp only [y4, ↓reduceIte, Bool.false_eq_true] at hs'
          · simp only [cf, ↓reduceIte, Bool.false_eq_true] at hs'
theorem isF_ar {c : Nat} (h : isF c = true) : ary (koF c) = cmF c + 1 ∧ koF c < 13 := by
  simp [isF] at h
  rcases h with h | h | h | h | h <;> subst h <;> decide
theorem rd_ni {l : Nat} (hl : l ≤ 1) (S : List (Nat × Nat)) (O : List (Nat × Int)) (h : IS S) {x : Nat × Nat} {S2 : List (Nat × Nat)} (e : (rdF l S O).1 = x :: S2) : ¬ (x.1 = 42 ∨ x.1 = 43 ∨ x.1 = 45 ∨ x.1 = 126) := by
  intro hc
  have hr : l ≤ rnF x.1 := by unfold rnF; (repeat' split) <;> omega
  exact rd_top (x1 := x.1) (x2 := x.2) S O e hr
theorem si_then {len i c : Nat} {S : List (Nat × Nat)} {O : List (Nat × Int)} (h : SI len (i, false, S, O)) (hi : i < len) (hs' : (thF c i S O).1 = true) : SI len (thF c i S O).2 ∧ i < (thF c i S O).2.1 := by
  obtain ⟨h1, h2, h3, h4⟩ := h
  simp only [↓reduceIte, Bool.false_eq_true] at h1 h2 h3 h4
  unfold thF at hs' ⊢
  by_cases c1 : c = 43 ∨ c = 45 ∨ c = 42
  · simp only [c1, ↓reduceIte]
    have l2 : (if c = 42 then 2 else 1) ≤ 2 := by split <;> omega
    have l1 : 1 ≤ (if c = 42 then 2 else 1) := by split <;> omega
    generalize (if c = 42 then 2 else 1) = l at *
    have r1 := rd_is l l2 S O h1
    have r2 := rd_hg l1 S O h4
    have r3 := rd_len l S O
    refine ⟨⟨⟨fun _ => r1.2, by simp, by simp only; omega, r1.1⟩, by simp only; omega, by simp only [List.length_cons]; omega, ?_⟩, by omega⟩
    have : c = 42 ∨ c = 43 ∨ c = 45 := by omega
    simp only [↓reduceIte, Nat.add_zero, r2, hs, hs1, this]
    rw [Nat.add_comm]
  · simp only [c1, ↓reduceIte] at hs' ⊢
    by_cases c2 : c = 44 ∨ c = 41
    · simp only [c2, not_true_eq_false, ↓reduceIte] at hs' ⊢
      have r1 := rd_is 1 (by omega) S O h1
      have r2 := rd_hg (l := 1) (by omega) S O h4
      have r3 := rd_len 1 S O
      have r4 := fun x S2 => rd_ni (l := 1) (by omega) S O h1 (x := x) (S2 := S2)
      generalize rdF 1 S O = q at *
      obtain ⟨S1, O1⟩ := q
      cases S1 with
      | nil => simp [thC] at hs'
      | cons x S2 =>
        obtain ⟨x1, x2⟩ := x
        obtain ⟨j1, j2, j3, j4⟩ := r1.1
        have j5 := r4 (x1, x2) S2 rfl
        simp only at j1 j2 j3 j5 r2 r3
        simp only [List.length_cons] at r3
        simp only [thC] at hs' ⊢
        by_cases z : 0 < x2 ↔ c = 44
        · simp only [z, not_true_eq_false, ↓reduceIte, iff_self] at hs' ⊢
          by_cases c44 : c = 44
          · simp only [c44, ↓reduceIte]
            refine ⟨⟨⟨j1, by simp only; omega, j3, j4⟩, by simp only; omega, by simp only [List.length_cons]; omega, ?_⟩, by omega⟩
            have j6 : ¬ (x1 = 42 ∨ x1 = 43 ∨ x1 = 45) := by omega
            have := z.2 c44
            simp only [hs, hs1, j6, ↓reduceIte] at r2
            simp only [↓reduceIte, Nat.add_zero, r2, hs, hs1, j6]
            congr 1; omega
          · simp only [c44, ↓reduceIte]
            have x0 : x2 = 0 := by
              have : ¬ 0 < x2 := fun hc => c44 (z.1 hc)
              omega
            subst x0
            have j6 : ¬ (x1 = 42 ∨ x1 = 43 ∨ x1 = 45) := by omega
            simp only [hs, hs1, j6, ↓reduceIte, Nat.sub_zero] at r2
            by_cases e40 : x1 = 40
            · simp only [e40, ↓reduceIte]
              refine ⟨⟨j4, by simp only; omega, by simp only; omega, ?_⟩, by omega⟩
              rw [e40] at r2
              simpa [cmF] using r2
            · simp only [e40, ↓reduceIte]
              have j7 : isF x1 = true := by
                rcases j3 with g | g | g | g | g | g
                · omega
                · omega
                · omega
                · omega
                · omega
                · exact g
              have j8 := isF_ar j7
              refine ⟨⟨j4, by simp only; omega, by simp only [List.length_cons]; omega, ?_⟩, by omega⟩
              simp only [Bool.false_eq_true, ↓reduceIte]
              rw [hgF, r2]
              have ok : okS (koF x1, 0) (cmF x1 + hs S2 + 1) = true := by simp [okS, j8]
              simp only [ok, ↓reduceIte, j8]
              congr 1; omega
        · simp [z] at hs'
    · simp [c2] at hs'
theorem sc_sie {len : Nat} {x : CT} {O : List (Nat × Int)} (h : SI len x) (e : seF x = .inr O) : hgF O = some 1 ∧ O.length ≤ len := by
  obtain ⟨i, op, S, O'⟩ := x
  obtain ⟨h1, h2, h3, h4⟩ := h
  simp only at h1 h2 h3 h4
  cases op with
  | true => simp [seF] at e
  | false =>
    simp only [Bool.false_eq_true, ↓reduceIte] at h4
    simp only [seF, Bool.false_eq_true, ↓reduceIte] at e
    have r2 := rd_hg (l := 1) (by omega) S O' h4
    have r3 := rd_len 1 S O'
    split at e
    · rename_i y
      cases e
      rw [y] at r2 r3
      simp only [hs, List.length_nil] at r2 r3
      exact ⟨r2, by omega⟩
    · cases e
theorem sc_si {ln : Nat → Nat} {len : Nat} : ∀ (f : Nat) (x : CT) (O : List (Nat × Int)), SI len x → len ≤ x.1 + f → scR ln len f x = .inr O → hgF O = some 1 ∧ O.length ≤ len
  | 0, x, O, h, hf, e => by
    rw [scR] at e; exact sc_sie h e
  | f + 1, x, O, h, hf, e => by
    rw [scR] at e
    by_cases hx : x.1 < len
    · simp only [hx, ↓reduceIte] at e
      obtain ⟨i, op, S, O'⟩ := x
      simp only at hx hf
      by_cases y : (ssF ln len (i, op, S, O')).1 = true
      · simp only [y, ↓reduceIte] at e
        cases op with
        | true =>
          simp only [ssF, ↓reduceIte] at y e
          have := si_first h hx y
          exact sc_si f _ O this.1 (by omega) e
        | false =>
          simp only [ssF, ↓reduceIte, Bool.false_eq_true] at y e
          have := si_then h hx y
          exact sc_si f _ O this.1 (by omega) e
      · simp [y] at e
    · simp only [hx, ↓reduceIte] at e
      exact sc_sie h e
theorem sc_wf {ln : Nat → Nat} {len : Nat} {O : List (Nat × Int)} (h : scF ln len = .inr O) : fwF O.reverse 0 = some 1 ∧ O.length ≤ len := by
  rw [hg_fw]
  exact sc_si len (0, true, [], []) O ⟨trivial, by simp, by simp, rfl⟩ (by simp) h
