/-! EXPANSIONS, plain: linear forms in the columns. -/
def gnF (us : Nat → Bool) (kd cv : Nat → Nat) (ag : Nat → Nat → Nat) (vl cst ch x : Nat → Int) (k : Nat) : Int :=
  if us k = false then 0 else if cv k = 0 then cst k else if vaF us kd k = true ∨ auF us kd cv k = true then ch k else if kd k = 3 then x (ag k 0) + x (ag k 1) else if kd k = 4 then x (ag k 0) - x (ag k 1) else if kd k = 5 then - x (ag k 0)
  else if cv (ag k 0) = 0 then vl (ag k 0) * x (ag k 1) else vl (ag k 1) * x (ag k 0)
/-- what holds of the nodes in a standing form -/
def FO (n : Nat) (kd cv : Nat → Nat) (ag : Nat → Nat → Nat) (us : Nat → Bool) : Prop := ∀ k, k < n → kd k < 12 ∧ (∀ j, j < ary (kd k) → ag k j < k) ∧ ((kd k = 0 ∨ kd k = 2) → cv k = 0) ∧ (us k = true → (∀ j, j < ary (kd k) → us (ag k j) = true) ∧ (kd k = 6 → ¬ cv k = 0 → cv (ag k 0) = 0 ∨ cv (ag k 1) = 0))
section P5
variable {n : Nat} {kd cv : Nat → Nat} {ag : Nat → Nat → Nat} {us : Nat → Bool} {vl cst ch cst' ch' x y : Nat → Int}
/-- which kinds come to the combinations -/
theorem fo_case {k : Nat} (h : FO n kd cv ag us) (hk : k < n) (hu : us k = true) (hc : ¬ cv k = 0) (hn : ¬ (vaF us kd k = true ∨ auF us kd cv k = true)) : kd k = 3 ∨ kd k = 4 ∨ kd k = 5 ∨ kd k = 6 := by
  obtain ⟨h1, h2, h3, h4⟩ := h k hk
  simp [vaF, auF, hu, hc] at hn
  omega
theorem gn_congr {k : Nat} (h : FO n kd cv ag us) (hk : k < n) (hx : ∀ i, i < k → us i = true → x i = y i) : gnF us kd cv ag vl cst ch x k = gnF us kd cv ag vl cst ch y k := by
  obtain ⟨h1, h2, h3, h4⟩ := h k hk
  unfold gnF
  by_cases hu : us k = true
  · have hu' : ¬ us k = false := by simp [hu]
    by_cases hc : cv k = 0
    · simp only [hc, ↓reduceIte]
    · by_cases hn : vaF us kd k = true ∨ auF us kd cv k = true
      · simp only [hn, ↓reduceIte]
      · have h5 := (h4 hu).1
        have e0 := fun hj => hx (ag k 0) (h2 0 hj) (h5 0 hj)
        have e1 := fun hj => hx (ag k 1) (h2 1 hj) (h5 1 hj)
        simp only [hu', hc, hn, ↓reduceIte]
        rcases fo_case h hk hu hc hn with e | e | e | e <;> rw [e] at e0 e1 <;> simp [ary] at e0 e1 <;> simp [e, e0, e1]
  · have hu' : us k = false := by simpa using hu
    simp only [hu', ↓reduceIte]
def gnT (us : Nat → Bool) (kd cv : Nat → Nat) (ag : Nat → Nat → Nat) (vl cst ch : Nat → Int) : Nat → Nat → Int
  | 0 => fun _ => 0
  | m + 1 => va_up (gnT us kd cv ag vl cst ch m) m (gnF us kd cv ag vl cst ch (gnT us kd cv ag vl cst ch m) m)
theorem gn_st : ∀ m k j, k < m → gnT us kd cv ag vl cst ch (m + j) k = gnT us kd cv ag vl cst ch m k
  | m, k, 0, _ => rfl
  | m, k, j + 1, hk => by
    rw [← Nat.add_assoc, gnT]
    simp only [va_up]
    rw [if_neg (by omega), gn_st m k j hk]
theorem gn_fix (h : FO n kd cv ag us) {k : Nat} (hk : k < n) : gnT us kd cv ag vl cst ch n k = gnF us kd cv ag vl cst ch (gnT us kd cv ag vl cst ch n) k := by
  have e : n = (k + 1) + (n - (k + 1)) := by omega
  have e1 : gnT us kd cv ag vl cst ch n k = gnT us kd cv ag vl cst ch (k + 1) k := by
    rw [e]; exact gn_st (k + 1) k _ (by omega)
  rw [e1, gnT]
  simp only [va_up, ↓reduceIte]
  refine gn_congr h hk (fun i hi _ => ?_)
  have e : n = k + (n - k) := by omega
  rw [e]
  exact (gn_st k i _ hi).symm
/-- one fixed point only, on nodes in use -/
theorem gn_uni (h : FO n kd cv ag us) (hx : ∀ k, k < n → us k = true → x k = gnF us kd cv ag vl cst ch x k) (hy : ∀ k, k < n → us k = true → y k = gnF us kd cv ag vl cst ch y k) : ∀ k, k < n → us k = true → x k = y k := by
  intro k
  induction k using Nat.strongRecOn with
  | ind k ih =>
    intro hk hu
    rw [hx k hk hu, hy k hk hu]
    exact gn_congr h hk (fun i hi hui => ih i hi (by omega) hui)
theorem gn_ch {k : Nat} (h1 : us k = true → cv k = 0 → cst k = cst' k) (h2 : us k = true → (vaF us kd k = true ∨ auF us kd cv k = true) → ch k = ch' k) : gnF us kd cv ag vl cst ch x k = gnF us kd cv ag vl cst' ch' x k := by
  unfold gnF
  by_cases hu : us k = false
  · simp only [hu, ↓reduceIte]
  · have hu' : us k = true := by simpa using hu
    by_cases hc : cv k = 0
    · simp only [hc, ↓reduceIte, h1 hu' hc]
    · by_cases hn : vaF us kd k = true ∨ auF us kd cv k = true
      · simp only [hn, hc, ↓reduceIte, h2 hu' hn]
      · simp only [hn, hc, ↓reduceIte]
/-- combinations of fixed points -/
theorem gn_lin {c : Int} (h : FO n kd cv ag us) {k : Nat} (hk : k < n) : gnF us kd cv ag vl (fun i => cst i + c * cst' i) (fun i => ch i + c * ch' i) (fun i => x i + c * y i) k = gnF us kd cv ag vl cst ch x k + c * gnF us kd cv ag vl cst' ch' y k := by
  unfold gnF
  by_cases hu : us k = false
  · simp [hu]
  · by_cases hc : cv k = 0
    · simp [hu, hc]
    · by_cases hn : vaF us kd k = true ∨ auF us kd cv k = true
      · simp only [hu, hc, hn, ↓reduceIte, Bool.true_eq_false]
      · simp only [hu, hc, hn, ↓reduceIte, Bool.true_eq_false]
        by_cases e3 : kd k = 3
        · simp only [e3, ↓reduceIte, Int.mul_add]; omega
        · by_cases e4 : kd k = 4
          · simp only [e3, e4, ↓reduceIte, Int.mul_sub, Nat.reduceEqDiff]; omega
          · by_cases e5 : kd k = 5
            · simp only [e3, e4, e5, ↓reduceIte, Int.mul_neg, Nat.reduceEqDiff]; omega
            · simp only [e3, e4, e5, ↓reduceIte]
              split
              · rw [Int.mul_add, Int.mul_left_comm]
              · rw [Int.mul_add, Int.mul_left_comm]
def smI (f : Nat → Int) : Nat → Int
  | 0 => 0
  | m + 1 => smI f m + f m
def coF (us : Nat → Bool) (kd cv : Nat → Nat) (k : Nat) : Bool := vaF us kd k || auF us kd cv k
def un1 (m k : Nat) : Int := if k = m then 1 else 0
/-- coefficient of the node m in the expansion of k, and the constant -/
def coE (n : Nat) (us : Nat → Bool) (kd cv : Nat → Nat) (ag : Nat → Nat → Nat) (vl : Nat → Int) (m k : Nat) : Int := gnT us kd cv ag vl (fun _ => 0) (un1 m) n k
def coC (n : Nat) (us : Nat → Bool) (kd cv : Nat → Nat) (ag : Nat → Nat → Nat) (vl : Nat → Int) (k : Nat) : Int := gnT us kd cv ag vl vl (fun _ => 0) n k
def spF (n : Nat) (us : Nat → Bool) (kd cv : Nat → Nat) (ag : Nat → Nat → Nat) (vl ch : Nat → Int) (M k : Nat) : Int := coC n us kd cv ag vl k + smI (fun m => if coF us kd cv m = true then ch m * coE n us kd cv ag vl m k else 0) M
theorem sp_fix (h : FO n kd cv ag us) : ∀ M k, k < n → spF n us kd cv ag vl ch M k = gnF us kd cv ag vl vl (fun i => if i < M ∧ coF us kd cv i = true then ch i else 0) (spF n us kd cv ag vl ch M) k
  | 0, k, hk => by
    have e : spF n us kd cv ag vl ch 0 = gnT us kd cv ag vl vl (fun _ => 0) n := by
      funext i; simp [spF, smI, coC]
    rw [e]
    rw [gn_fix h hk]
    exact gn_ch (fun _ _ => rfl) (fun _ _ => by simp)
  | M + 1, k, hk => by
    have e : spF n us kd cv ag vl ch (M + 1) = fun i => spF n us kd cv ag vl ch M i + (if coF us kd cv M = true then ch M else 0) * coE n us kd cv ag vl M i := by
      funext i
      simp only [spF, smI]
      by_cases y : coF us kd cv M = true
      · simp only [y, ↓reduceIte]; omega
      · simp [y]
    rw [e]
    simp only
    rw [sp_fix h M k hk]
    have f : coE n us kd cv ag vl M k = gnF us kd cv ag vl (fun _ => 0) (un1 M) (coE n us kd cv ag vl M) k := gn_fix h hk
    rw [f, ← gn_lin h hk]
    refine gn_ch (fun _ _ => by simp) (fun _ hcol => ?_)
    have hcol' : coF us kd cv k = true := by simpa [coF] using hcol
    by_cases e1 : k = M
    · subst e1; simp [un1, hcol']
    · simp only [un1, e1, ↓reduceIte, Int.mul_zero, Int.add_zero, hcol', and_true]
      by_cases l : k < M
      · rw [if_pos l, if_pos (by omega)]
      · rw [if_neg l, if_neg (by omega)]
/-- any expansion is that linear form -/
theorem ln_sp (h : FO n kd cv ag us) {lin : Nat → Int} (hl : ∀ k, k < n → lin k = lnF us kd cv ag vl ch lin k) : ∀ k, k < n → us k = true → lin k = spF n us kd cv ag vl ch n k := by
  refine gn_uni h (vl := vl) (cst := vl) (ch := ch) (fun k hk _ => hl k hk) (fun k hk hu => ?_)
  rw [sp_fix h n k hk]
  exact gn_ch (fun _ _ => rfl) (fun _ hcol => by
    have hcol' : coF us kd cv k = true := by simpa [coF] using hcol
    simp [hk, hcol'])
theorem ln_ex (h : FO n kd cv ag us) : ∃ lin : Nat → Int, ∀ k, k < n → lin k = lnF us kd cv ag vl ch lin k := ⟨gnT us kd cv ag vl vl ch n, fun k hk => gn_fix h hk⟩
/-- bounds -/
def RB (n : Nat) (kd : Nat → Nat) (ag : Nat → Nat → Nat) (re : Nat → Nat) (vl : Nat → Int) : Prop := ∀ k, k < n → 1 ≤ re k ∧ (-(re k : Int) ≤ vl k ∧ vl k ≤ (re k : Int)) ∧ (kd k = 3 ∨ kd k = 4 → re k = re (ag k 0) + re (ag k 1)) ∧ (kd k = 5 → re k = re (ag k 0)) ∧ (kd k = 6 → re k = re (ag k 0) * re (ag k 1))
theorem ab_mul {a b : Int} {p q : Nat} (h1 : -(p : Int) ≤ a ∧ a ≤ p) (h2 : -(q : Int) ≤ b ∧ b ≤ q) : -((p * q : Nat) : Int) ≤ a * b ∧ a * b ≤ ((p * q : Nat) : Int) := by
  have : (a * b).natAbs ≤ p * q := by
    rw [Int.natAbs_mul]
    exact Nat.mul_le_mul (by omega) (by omega)
  omega
theorem gn_bd {re : Nat → Nat} {B : Nat} (h : FO n kd cv ag us) (hr : RB n kd ag re vl) (hc : ∀ k, k < n → us k = true → cv k = 0 → -((re k * B : Nat) : Int) ≤ cst k ∧ cst k ≤ ((re k * B : Nat) : Int)) (hh : ∀ k, k < n → (vaF us kd k = true ∨ auF us kd cv k = true) → -((re k * B : Nat) : Int) ≤ ch k ∧ ch k ≤ ((re k * B : Nat) : Int)) (hx : ∀ k, k < n → us k = true → x k = gnF us kd cv ag vl cst ch x k) : ∀ k, k < n → us k = true → -((re k * B : Nat) : Int) ≤ x k ∧ x k ≤ ((re k * B : Nat) : Int) := by
  intro k
  induction k using Nat.strongRecOn with
  | ind k ih =>
    intro hk hu
    obtain ⟨h1, h2, h3, h4⟩ := h k hk
    obtain ⟨r1, r2, r3, r4, r5⟩ := hr k hk
    rw [hx k hk hu]
    have hu' : ¬ us k = false := by simp [hu]
    unfold gnF
    by_cases hcv : cv k = 0
    · simp only [hu', hcv, ↓reduceIte]; exact hc k hk hu hcv
    · by_cases hn : vaF us kd k = true ∨ auF us kd cv k = true
      · simp only [hu', hcv, hn, ↓reduceIte]; exact hh k hk hn
      · have i0 := fun hj => ih (ag k 0) (h2 0 hj) (by have := h2 0 hj; omega) ((h4 hu).1 0 hj)
        have i1 := fun hj => ih (ag k 1) (h2 1 hj) (by have := h2 1 hj; omega) ((h4 hu).1 1 hj)
        have a0 := h2 0
        have a1 := h2 1
        simp only [hu', hcv, hn, ↓reduceIte, Bool.true_eq_false]
        rcases fo_case h hk hu hcv hn with e | e | e | e
        · rw [e] at i0 i1 a0 a1
          have := i0 (by decide); have := i1 (by decide)
          rw [r3 (Or.inl e), Nat.add_mul]
          simp only [e, ↓reduceIte]; omega
        · rw [e] at i0 i1 a0 a1
          have := i0 (by decide); have := i1 (by decide)
          rw [r3 (Or.inr e), Nat.add_mul]
          simp only [e, ↓reduceIte, Nat.reduceEqDiff]; omega
        · rw [e] at i0 i1 a0 a1
          have := i0 (by decide)
          rw [r4 e]
          simp only [e, ↓reduceIte, Nat.reduceEqDiff]; omega
        · rw [e] at i0 i1 a0 a1
          have j0 := i0 (by decide); have j1 := i1 (by decide)
          have k0 := a0 (by decide); have k1 := a1 (by decide)
          rw [r5 e]
          simp only [e, ↓reduceIte, Nat.reduceEqDiff]
          split
          · have := ab_mul (hr (ag k 0) (by omega)).2.1 j1
            rw [← Nat.mul_assoc] at this; exact this
          · have := ab_mul (hr (ag k 1) (by omega)).2.1 j0
            rw [← Nat.mul_assoc, Nat.mul_comm (re (ag k 1))] at this; exact this
theorem coE_bd {re : Nat → Nat} (h : FO n kd cv ag us) (hr : RB n kd ag re vl) (m : Nat) {k : Nat} (hk : k < n) (hu : us k = true) : -(re k : Int) ≤ coE n us kd cv ag vl m k ∧ coE n us kd cv ag vl m k ≤ re k := by
  have := gn_bd (B := 1) h hr (cst := fun _ => 0) (ch := un1 m) (x := coE n us kd cv ag vl m) (fun k hk _ _ => by omega) (fun k hk _ => by have := (hr k hk).1; simp only [un1]; split <;> omega) (fun k hk _ => gn_fix h hk) k hk hu
  simpa using this
theorem coC_bd {re : Nat → Nat} (h : FO n kd cv ag us) (hr : RB n kd ag re vl) {k : Nat} (hk : k < n) (hu : us k = true) : -(re k : Int) ≤ coC n us kd cv ag vl k ∧ coC n us kd cv ag vl k ≤ re k := by
  have := gn_bd (B := 1) h hr (cst := vl) (ch := fun _ => 0) (x := coC n us kd cv ag vl) (fun k hk _ _ => by have := (hr k hk).2.1; omega) (fun k hk _ => by omega) (fun k hk _ => gn_fix h hk) k hk hu
  simpa using this
end P5
