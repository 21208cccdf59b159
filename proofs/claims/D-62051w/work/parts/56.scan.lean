/-! THE CLASS's scanner, plain: and it is the model's parse. -/
def rnF (c : Nat) : Nat := if c = 126 then 3 else if c = 42 then 2 else if c = 43 ∨ c = 45 then 1 else 0
def koF (c : Nat) : Nat := if c = 43 then 3 else if c = 45 then 4 else if c = 126 then 5 else if c = 42 then 6 else if c = 77 then 7 else if c = 76 then 8 else if c = 65 then 9 else if c = 83 then 10 else if c = 80 then 11 else 12
def rdF (l : Nat) : List (Nat × Nat) → List (Nat × Int) → List (Nat × Nat) × List (Nat × Int)
  | [], O => ([], O)
  | x :: S, O => if l ≤ rnF x.1 then rdF l S ((koF x.1, 0) :: O) else (x :: S, O)
def dgF (ln : Nat → Nat) (len i : Nat) : Bool := decide (i < len ∧ 48 ≤ ln i ∧ ln i ≤ 57)
def nuF (ln : Nat → Nat) (len : Nat) : Nat → Nat → Int → Int × Nat
  | 0, i, v => (v, i)
  | m + 1, i, v => if dgF ln len i = true then nuF ln len m (i + 1) (10 * v + (ln i : Int) - 48) else (v, i)
/-- the scanner's state: place, whether an operand is due, open signs with what they want, steps (latest first) -/
abbrev CT : Type := Nat × Bool × List (Nat × Nat) × List (Nat × Int)
def isF (c : Nat) : Bool := decide (c = 77 ∨ c = 76 ∨ c = 65 ∨ c = 83 ∨ c = 80)
def fiF (ln : Nat → Nat) (len : Nat) (i : Nat) (S : List (Nat × Nat)) (O : List (Nat × Int)) : Bool × CT :=
  if dgF ln len i = true then (true, (nuF ln len 3 i 0).2, false, S, (0, (nuF ln len 3 i 0).1) :: O)
  else if ln i = 35 then (if dgF ln len (i + 1) = true then (true, (nuF ln len 2 (i + 1) 0).2, false, S, (12, (nuF ln len 2 (i + 1) 0).1) :: O) else (false, i + 1, true, S, O))
  else if (117 ≤ ln i ∧ ln i ≤ 122) ∨ (112 ≤ ln i ∧ ln i ≤ 114) then (true, i + 1, false, S, (if 117 ≤ ln i then 1 else 2, (ln i : Int)) :: O)
  else if ln i = 40 ∨ ln i = 45 then (true, i + 1, true, (if ln i = 45 then 126 else ln i, 0) :: S, O)
  else if isF (ln i) = true then (if i + 1 < len ∧ ln (i + 1) = 40 then (true, i + 2, true, (ln i, cmF (ln i)) :: S, O) else (false, i + 1, true, S, O))
  else (false, i, true, S, O)
def thC (c i : Nat) (p : List (Nat × Nat) × List (Nat × Int)) : Bool × CT := match p.1 with
  | [] => (false, i, false, p.1, p.2)
  | x :: S => if ¬ (0 < x.2 ↔ c = 44) then (false, i, false, p.1, p.2) else if c = 44 then (true, i + 1, true, (x.1, x.2 - 1) :: S, p.2) else (true, i + 1, false, S, if x.1 = 40 then p.2 else (koF x.1, 0) :: p.2)
def thF (c i : Nat) (S : List (Nat × Nat)) (O : List (Nat × Int)) : Bool × CT :=
  if c = 43 ∨ c = 45 ∨ c = 42 then (true, i + 1, true, (c, 0) :: (rdF (if c = 42 then 2 else 1) S O).1, (rdF (if c = 42 then 2 else 1) S O).2)
  else if ¬ (c = 44 ∨ c = 41) then (false, i, false, S, O) else thC c i (rdF 1 S O)
def ssF (ln : Nat → Nat) (len : Nat) (x : CT) : Bool × CT := if x.2.1 = true then fiF ln len x.1 x.2.2.1 x.2.2.2 else thF (ln x.1) x.1 x.2.2.1 x.2.2.2
def seF (x : CT) : Nat ⊕ List (Nat × Int) := if x.2.1 = true then .inl x.1 else if (rdF 1 x.2.2.1 x.2.2.2).1 = [] then .inr (rdF 1 x.2.2.1 x.2.2.2).2 else .inl x.1
def scR (ln : Nat → Nat) (len : Nat) : Nat → CT → Nat ⊕ List (Nat × Int)
  | 0, x => seF x
  | f + 1, x => if x.1 < len then (if (ssF ln len x).1 = true then scR ln len f (ssF ln len x).2 else .inl (ssF ln len x).2.1) else seF x
def scF (ln : Nat → Nat) (len : Nat) : Nat ⊕ List (Nat × Int) := scR ln len len (0, true, [], [])
def mp (S : List (Nat × Nat)) : List (Nat × Nat) := S.map (fun x => (x.1, cmF x.1 - x.2))
def h126 : List (Nat × Nat) → Bool
  | [] => false
  | y :: _ => decide (y.1 = 126)
def IS : List (Nat × Nat) → Prop
  | [] => True
  | x :: S => ((x.1 = 42 ∨ x.1 = 43 ∨ x.1 = 45) → h126 S = false) ∧ x.2 ≤ cmF x.1 ∧ (x.1 = 42 ∨ x.1 = 43 ∨ x.1 = 45 ∨ x.1 = 126 ∨ x.1 = 40 ∨ isF x.1 = true) ∧ IS S
theorem ng_no {S : List (Nat × Nat)} {O : List (Nat × Int)} (h : h126 S = false) : ngF (mp S) O = (mp S, O) := by
  cases S with
  | nil => rfl
  | cons y S => simp only [h126, decide_eq_false_iff_not] at h; simp only [mp, List.map_cons, ngF, h, ↓reduceIte]
theorem rd_1 : ∀ (S : List (Nat × Nat)) (O : List (Nat × Int)), IS S → (mp (rdF 1 S O).1, (rdF 1 S O).2) = uwF true (ngF (mp S) O).1 (ngF (mp S) O).2
  | [], O, _ => rfl
  | x :: S, O, ⟨h1, h2, h3, h4⟩ => by
    have ih := fun O => rd_1 S O h4
    by_cases e1 : x.1 = 126
    · have r : 1 ≤ rnF x.1 := by simp [rnF, e1]
      have k : koF x.1 = 5 := by simp [koF, e1]
      simp only [rdF, r, ↓reduceIte, k, mp, List.map_cons, ngF, e1]
      exact ih _
    · by_cases e2 : x.1 = 42 ∨ x.1 = 43 ∨ x.1 = 45
      · have r : 1 ≤ rnF x.1 := by unfold rnF; (repeat' split) <;> omega
        have k : koF x.1 = opk x.1 := by unfold koF opk; (repeat' split) <;> omega
        have ih := ih ((koF x.1, 0) :: O)
        rw [ng_no (h1 e2)] at ih
        simp only [rdF, r, ↓reduceIte, mp, List.map_cons, ngF, e1]
        rw [uwF]
        rw [if_pos (by simpa using e2)]
        simp only [← k]
        exact ih
      · have r : ¬ 1 ≤ rnF x.1 := by unfold rnF; (repeat' split) <;> omega
        simp only [rdF, r, ↓reduceIte, mp, List.map_cons, ngF, e1]
        rw [uwF]
        rw [if_neg (by simpa using e2)]
theorem rd_2 : ∀ (S : List (Nat × Nat)) (O : List (Nat × Int)), IS S → (mp (rdF 2 S O).1, (rdF 2 S O).2) = uwF false (ngF (mp S) O).1 (ngF (mp S) O).2
  | [], O, _ => rfl
  | x :: S, O, ⟨h1, h2, h3, h4⟩ => by
    have ih := fun O => rd_2 S O h4
    by_cases e1 : x.1 = 126
    · have r : 2 ≤ rnF x.1 := by simp [rnF, e1]
      have k : koF x.1 = 5 := by simp [koF, e1]
      simp only [rdF, r, ↓reduceIte, k, mp, List.map_cons, ngF, e1]
      exact ih _
    · by_cases e2 : x.1 = 42
      · have r : 2 ≤ rnF x.1 := by simp [rnF, e2]
        have k : koF x.1 = opk x.1 := by simp [koF, opk, e2]
        have ih := ih ((koF x.1, 0) :: O)
        rw [ng_no (h1 (Or.inl e2))] at ih
        simp only [rdF, r, ↓reduceIte, mp, List.map_cons, ngF, e1]
        rw [uwF]
        rw [if_pos (by simpa using e2)]
        simp only [← k]
        exact ih
      · have r : ¬ 2 ≤ rnF x.1 := by unfold rnF; (repeat' split) <;> omega
        simp only [rdF, r, ↓reduceIte, mp, List.map_cons, ngF, e1]
        rw [uwF]
        rw [if_neg (by simpa using e2)]
theorem rd_is (l : Nat) (hl : l ≤ 2) : ∀ (S : List (Nat × Nat)) (O : List (Nat × Int)), IS S → IS (rdF l S O).1 ∧ h126 (rdF l S O).1 = false
  | [], O, _ => ⟨trivial, rfl⟩
  | x :: S, O, h => by
    unfold rdF
    split
    · exact rd_is l hl S _ h.2.2.2
    · rename_i y
      refine ⟨h, ?_⟩
      simp only [h126, decide_eq_false_iff_not]
      intro e
      rw [e] at y
      simp [rnF] at y; omega
theorem rd_len (l : Nat) : ∀ (S : List (Nat × Nat)) (O : List (Nat × Int)), (rdF l S O).1.length + (rdF l S O).2.length = S.length + O.length
  | [], O => rfl
  | x :: S, O => by
    unfold rdF
    split
    · rw [rd_len l S]; simp; omega
    · rfl
theorem updN_at (t : Nat) (v a : Int) (O : List (Nat × Int)) : ∀ l : List (Nat × Int), updN O.length a (l ++ (t, v) :: O) = l ++ (t, v * 10 + a) :: O
  | [] => by simp [updN]
  | x :: l => by
    have : ¬ (l ++ (t, v) :: O).length = O.length := by simp; omega
    simp only [List.cons_append, updN, this, ↓reduceIte, updN_at t v a O l]
theorem updN_ng (t : Nat) (v a : Int) (O : List (Nat × Int)) : ∀ (S : List (Nat × Nat)) (l : List (Nat × Int)), (ngF S (l ++ (t, v) :: O)).1 = (ngF S (l ++ (t, v * 10 + a) :: O)).1 ∧ updN O.length a (ngF S (l ++ (t, v) :: O)).2 = (ngF S (l ++ (t, v * 10 + a) :: O)).2
  | [], l => ⟨rfl, updN_at t v a O l⟩
  | x :: S, l => by
    unfold ngF
    split
    · exact updN_ng t v a O S ((5, 0) :: l)
    · exact ⟨rfl, updN_at t v a O l⟩
/-- what comes of a state of the model with m characters left -/
def rsF (ln : Nat → Nat) (len m : Nat) (p : PT) : Nat ⊕ List (Nat × Int) := match psR ln len m p with
  | .inl k => .inl k
  | .inr p => psE len p
theorem rs_step {ln : Nat → Nat} {len k : Nat} {p : PT} (hk : k < len) : rsF ln len (len - k) p = match acF (ln k) p.1 p.2.1 p.2.2.1 p.2.2.2.1 p.2.2.2.2 with | none => .inl k | some p' => rsF ln len (len - (k + 1)) p' := by
  obtain ⟨m, e⟩ : ∃ m, len - k = m + 1 := ⟨len - k - 1, by omega⟩
  have e2 : len - (k + 1) = m := by omega
  have e3 : len - (m + 1) = k := by omega
  unfold rsF
  rw [e, psR, e2, e3]
  cases acF (ln k) p.1 p.2.1 p.2.2.1 p.2.2.2.1 p.2.2.2.2 <;> rfl
theorem rs_0 {ln : Nat → Nat} {len : Nat} {p : PT} : rsF ln len 0 p = psE len p := rfl
/-- the rest of a number -/
theorem rs_num {ln : Nat → Nat} {len : Nat} {md t : Nat} (hm : md = 2 ∨ md = 4) (S : List (Nat × Nat)) (O : List (Nat × Int)) : ∀ (m k dg : Nat) (v : Int), dg + m = (if md = 2 then 3 else 2) → k ≤ len →
    ∃ dg', (dg' = (if md = 2 then 3 else 2) ∨ dgF ln len (nuF ln len m k v).2 = false) ∧ dg' ≤ 3 ∧ (nuF ln len m k v).2 ≤ len ∧ k ≤ (nuF ln len m k v).2 ∧ rsF ln len (len - k) (md, dg, O.length, ngF S ((t, v) :: O)) = rsF ln len (len - (nuF ln len m k v).2) (md, dg', O.length, ngF S ((t, (nuF ln len m k v).1) :: O)) := by
  intro m
  induction m with
  | zero =>
    intro k dg v h hk
    exact ⟨dg, Or.inl (by omega), by split at h <;> omega, hk, Nat.le_refl _, rfl⟩
  | succ m ih =>
    intro k dg v h hk
    by_cases y : dgF ln len k = true
    · have y1 : k < len ∧ 48 ≤ ln k ∧ ln k ≤ 57 := by simpa [dgF] using y
      obtain ⟨dg', a1, a2, a3, a4, a5⟩ := ih (k + 1) (dg + 1) (10 * v + (ln k : Int) - 48) (by omega) (by omega)
      simp only [nuF, y, ↓reduceIte]
      refine ⟨dg', a1, a2, a3, by omega, ?_⟩
      rw [← a5, rs_step y1.1]
      have e5 : ¬ md = 5 := by omega
      have e3 : ¬ md = 3 := by omega
      have d1 : dg + 1 ≤ (if md = 2 then 3 else 2) := by omega
      obtain ⟨u1, u2⟩ := updN_ng t v ((ln k : Int) - 48) O S []
      simp only [List.nil_append] at u1 u2
      simp only [acF, e5, e3, y1, hm, d1, and_self, ↓reduceIte, u1, u2]
      have : v * 10 + ((ln k : Int) - 48) = 10 * v + (ln k : Int) - 48 := by omega
      rw [this]
    · simp only [nuF, y, ↓reduceIte, Bool.false_eq_true]
      exact ⟨dg, Or.inr (by simpa using y), by split at h <;> omega, hk, Nat.le_refl _, rfl⟩
/-- a state of the scanner and one of the model belong together -/
def RL (ln : Nat → Nat) (len : Nat) (x : CT) (p : PT) : Prop := IS x.2.2.1 ∧ x.1 ≤ len ∧
  if x.2.1 = true then p.1 = 0 ∧ p.2.2.2.1 = mp x.2.2.1 ∧ p.2.2.2.2 = x.2.2.2
  else (p.2.2.2.1, p.2.2.2.2) = ngF (mp x.2.2.1) x.2.2.2 ∧ (p.1 = 1 ∨ (p.1 = 2 ∧ (p.2.1 = 3 ∨ dgF ln len x.1 = false)) ∨ (p.1 = 4 ∧ (p.2.1 = 2 ∨ dgF ln len x.1 = false)))
theorem rl_end {ln : Nat → Nat} {len : Nat} {x : CT} {p : PT} (h : RL ln len x p) (hx : ¬ x.1 < len) : seF x = rsF ln len (len - x.1) p := by
  have e : len - x.1 = 0 := by omega
  have e2 : x.1 = len := by have := h.2.1; omega
  obtain ⟨at', op, S, O⟩ := x
  obtain ⟨md, dg, na, Sm, Om⟩ := p
  obtain ⟨h1, h2, h3⟩ := h
  simp only at e e2 h1 h2 h3
  cases op with
  | true =>
    simp only [↓reduceIte] at h3
    rw [e, rs_0]
    simp only [seF, psE, h3, ↓reduceIte, true_or, e2]
  | false =>
    simp only [Bool.false_eq_true, ↓reduceIte] at h3
    obtain ⟨g1, g2⟩ := h3
    have r := rd_1 S O h1
    rw [← g1] at r
    have n3 : ¬ (md = 0 ∨ md = 3 ∨ md = 5) := by omega
    have r1 := congrArg Prod.fst r
    have r2 := congrArg Prod.snd r
    simp only at r1 r2
    rw [e, rs_0]
    simp only [seF, psE, n3, Bool.false_eq_true, ↓reduceIte, ← r1, ← r2, e2]
    cases hh : (rdF 1 S O).1 with
    | nil => simp [mp]
    | cons y S' => simp [mp]
theorem rl_first {ln : Nat → Nat} {len i : Nat} {S : List (Nat × Nat)} {O : List (Nat × Int)} {p : PT} (h : RL ln len (i, true, S, O) p) (hi : i < len) :
    if (fiF ln len i S O).1 = true then ∃ p', RL ln len (fiF ln len i S O).2 p' ∧ i < (fiF ln len i S O).2.1 ∧ rsF ln len (len - i) p = rsF ln len (len - (fiF ln len i S O).2.1) p' else rsF ln len (len - i) p = .inl (fiF ln len i S O).2.1 := by
  obtain ⟨md, dg, na, Sm, Om⟩ := p
  obtain ⟨h1, h2, h3⟩ := h
  simp only [↓reduceIte] at h1 h2 h3
  obtain ⟨g1, g2, g3⟩ := h3
  subst g1; subst g2; subst g3
  rw [rs_step hi]
  have z5 : ¬ (0 = 5) := by omega
  have z3 : ¬ (0 = 3) := by omega
  have z24 : ¬ (0 = 2 ∨ 0 = 4) := by omega
  unfold fiF
  by_cases y : dgF ln len i = true
  · have y1 : i < len ∧ 48 ≤ ln i ∧ ln i ≤ 57 := by simpa [dgF] using y
    replace y1 := y1.2
    simp only [y, ↓reduceIte, acF, z5, z3, z24, and_false, bgF, y1, and_self]
    obtain ⟨dg', a1, a2, a3, a4, a5⟩ := rs_num (ln := ln) (len := len) (md := 2) (t := 0) (Or.inl rfl) (mp S) Om 2 (i + 1) 1 ((ln i : Int) - 48) (by simp) (by omega)
    have e : nuF ln len 3 i 0 = nuF ln len 2 (i + 1) ((ln i : Int) - 48) := by
      rw [nuF]; simp only [y, ↓reduceIte]; simp
    rw [e]
    exact ⟨_, ⟨h1, a3, by simp only [Bool.false_eq_true, ↓reduceIte, true_and]; exact Or.inr (Or.inl (by simpa using a1))⟩, by omega, a5⟩
  · have y0 : ¬ (48 ≤ ln i ∧ ln i ≤ 57) := by
      intro hc; apply y; simp [dgF, hi, hc]
    have ac : acF (ln i) 0 dg na (mp S) Om = bgF (ln i) dg na (mp S) Om := by simp only [acF, z5, z3, z24, and_false, ↓reduceIte]
    simp only [y, Bool.false_eq_true, ↓reduceIte, ac]
    by_cases c35 : ln i = 35
    · have b : bgF (ln i) dg na (mp S) Om = some (3, dg, na, mp S, Om) := by simp [bgF, c35]
      simp only [c35, ↓reduceIte] at b ⊢
      simp only [b]
      by_cases y2 : dgF ln len (i + 1) = true
      · have y3 : i + 1 < len ∧ 48 ≤ ln (i + 1) ∧ ln (i + 1) ≤ 57 := by simpa [dgF] using y2
        simp only [y2, ↓reduceIte]
        rw [rs_step y3.1]
        simp only [acF, y3, Nat.reduceEqDiff, and_self, ↓reduceIte]
        obtain ⟨dg', a1, a2, a3, a4, a5⟩ := rs_num (ln := ln) (len := len) (md := 4) (t := 12) (Or.inr rfl) (mp S) Om 1 (i + 2) 1 ((ln (i + 1) : Int) - 48) (by simp) (by omega)
        have e : nuF ln len 2 (i + 1) 0 = nuF ln len 1 (i + 2) ((ln (i + 1) : Int) - 48) := by
          rw [nuF]; simp only [y2, ↓reduceIte]; simp
        rw [e]
        exact ⟨_, ⟨h1, a3, by simp only [Bool.false_eq_true, ↓reduceIte, true_and]; exact Or.inr (Or.inr (by simpa using a1))⟩, by omega, a5⟩
      · simp only [y2, Bool.false_eq_true, ↓reduceIte]
        by_cases y4 : i + 1 < len
        · have y5 : ¬ (48 ≤ ln (i + 1) ∧ ln (i + 1) ≤ 57) := by
            intro hc; apply y2; simp [dgF, y4, hc]
          rw [rs_step y4]
          simp only [acF, y5, Nat.reduceEqDiff, ↓reduceIte]
        · have e : len - (i + 1) = 0 := by omega
          have e2 : len = i + 1 := by omega
          rw [e, rs_0]
          simp [psE, e2]
    · by_cases cv : (117 ≤ ln i ∧ ln i ≤ 122) ∨ (112 ≤ ln i ∧ ln i ≤ 114)
      · have b : bgF (ln i) dg na (mp S) Om = some (1, dg, Om.length, ngF (mp S) ((if 117 ≤ ln i then 1 else 2, (ln i : Int)) :: Om)) := by simp only [bgF, y0, cv, ↓reduceIte]
        simp only [c35, cv, ↓reduceIte, b]
        exact ⟨_, ⟨h1, by simp only; omega, by simp⟩, by omega, rfl⟩
      · by_cases cb : ln i = 40 ∨ ln i = 45
        · have cb' : ln i = 45 ∨ ln i = 40 := by omega
          have b : bgF (ln i) dg na (mp S) Om = some (0, dg, na, (if ln i = 45 then 126 else 40, 0) :: mp S, Om) := by simp only [bgF, y0, cv, c35, cb', ↓reduceIte]
          simp only [c35, cv, cb, ↓reduceIte, b]
          refine ⟨_, ⟨?_, by simp only; omega, ?_⟩, by omega, rfl⟩
          · refine ⟨?_, by simp, ?_, h1⟩
            · simp only; split <;> omega
            · simp only; split <;> omega
          · simp only [↓reduceIte, true_and, and_true, mp, List.map_cons]
            rcases cb with e | e <;> simp [e, cmF]
        · by_cases cf : isF (ln i) = true
          · have cf' : ln i = 65 ∨ ln i = 83 ∨ ln i = 77 ∨ ln i = 76 ∨ ln i = 80 := by simp [isF] at cf; omega
            have cb' : ¬ (ln i = 45 ∨ ln i = 40) := by omega
            have b : bgF (ln i) dg na (mp S) Om = some (5, dg, na, (ln i, 0) :: mp S, Om) := by simp only [bgF, y0, cv, c35, cb', cf', ↓reduceIte]
            simp only [c35, cv, cb, cf, ↓reduceIte, b]
            by_cases y4 : i + 1 < len
            · rw [rs_step y4]
              by_cases y5 : ln (i + 1) = 40
              · simp only [acF, y4, y5, and_self, ↓reduceIte]
                refine ⟨_, ⟨?_, by simp only; omega, ?_⟩, by omega, rfl⟩
                · refine ⟨?_, by simp, ?_, h1⟩
                  · simp only; omega
                  · simp only [cf, or_true]
                · simp [mp]
              · simp only [acF, y5, and_false, ↓reduceIte, Bool.false_eq_true]
            · have e : len - (i + 1) = 0 := by omega
              have e2 : len = i + 1 := by omega
              rw [e, rs_0]
              simp only [y4, false_and, ↓reduceIte, Bool.false_eq_true]
              simp [psE, e2]
          · have cf' : ¬ (ln i = 65 ∨ ln i = 83 ∨ ln i = 77 ∨ ln i = 76 ∨ ln i = 80) := by simp [isF] at cf; omega
            have cb' : ¬ (ln i = 45 ∨ ln i = 40) := by omega
            have b : bgF (ln i) dg na (mp S) Om = none := by simp only [bgF, y0, cv, c35, cb', cf', ↓reduceIte]
            simp only [c35, cv, cb, cf, ↓reduceIte, b, Bool.false_eq_true]
theorem isF_k {c : Nat} (h : isF c = true) : koF c = fkF c ∧ ¬ c = 40 := by
  simp [isF] at h
  rcases h with h | h | h | h | h <;> subst h <;> decide
theorem cmF_0 {c : Nat} (h : c = 42 ∨ c = 43 ∨ c = 45 ∨ c = 126 ∨ c = 40) : cmF c = 0 := by
  rcases h with h | h | h | h | h <;> subst h <;> rfl
theorem rd_top {l : Nat} {x1 x2 : Nat} {S2 : List (Nat × Nat)} : ∀ (S : List (Nat × Nat)) (O : List (Nat × Int)), (rdF l S O).1 = (x1, x2) :: S2 → l ≤ rnF x1 → False
  | [], O, h, _ => by simp [rdF] at h
  | y :: S, O, h, hr => by
    unfold rdF at h
    split at h
    · exact rd_top S _ h hr
    · rename_i hn
      simp only at h
      cases h
      exact hn hr
theorem rl_then {ln : Nat → Nat} {len i : Nat} {S : List (Nat × Nat)} {O : List (Nat × Int)} {p : PT} (h : RL ln len (i, false, S, O) p) (hi : i < len) :
    if (thF (ln i) i S O).1 = true then ∃ p', RL ln len (thF (ln i) i S O).2 p' ∧ i < (thF (ln i) i S O).2.1 ∧ rsF ln len (len - i) p = rsF ln len (len - (thF (ln i) i S O).2.1) p' else rsF ln len (len - i) p = .inl (thF (ln i) i S O).2.1 := by
  obtain ⟨md, dg, na, Sm, Om⟩ := p
  obtain ⟨h1, h2, h3⟩ := h
  simp only [Bool.false_eq_true, ↓reduceIte] at h1 h2 h3
  obtain ⟨g1, g2⟩ := h3
  rw [rs_step hi]
  have m5 : ¬ md = 5 := by omega
  have m3 : ¬ md = 3 := by omega
  have m0 : ¬ md = 0 := by omega
  have r1 := rd_1 S O h1
  have r2 := rd_2 S O h1
  rw [← g1] at r1 r2
  by_cases y : 48 ≤ ln i ∧ ln i ≤ 57
  · -- a digit behind a full number
    have yd : dgF ln len i = true := by simp [dgF, hi, y]
    have c1 : ¬ (ln i = 43 ∨ ln i = 45 ∨ ln i = 42) := by omega
    have c2 : ¬ (ln i = 44 ∨ ln i = 41) := by omega
    have ac : acF (ln i) md dg na Sm Om = none := by
      rcases g2 with g | ⟨g, g' | g'⟩ | ⟨g, g' | g'⟩
      · subst g; simp [acF, foF, c1, c2]
      · subst g; subst g'; simp [acF, y]
      · rw [yd] at g'; cases g'
      · subst g; subst g'; simp [acF, y]
      · rw [yd] at g'; cases g'
    simp only [thF, c1, c2, ↓reduceIte, not_false_eq_true, Bool.false_eq_true, ac]
  · have ac : acF (ln i) md dg na Sm Om = foF (ln i) dg na Sm Om := by simp only [acF, m5, m3, m0, y, false_and, ↓reduceIte]
    simp only [ac]
    by_cases c1 : ln i = 43 ∨ ln i = 45 ∨ ln i = 42
    · by_cases c42 : ln i = 42
      · have b : foF (ln i) dg na Sm Om = some (0, dg, na, (42, 0) :: mp (rdF 2 S O).1, (rdF 2 S O).2) := by
          rw [foF, if_pos c1, c42, show decide (42 ≠ 42) = false from rfl, ← r2]
        have t : thF (ln i) i S O = (true, i + 1, true, (42, 0) :: (rdF 2 S O).1, (rdF 2 S O).2) := by
          rw [thF, if_pos c1, c42]; rfl
        rw [t, b]
        simp only [↓reduceIte]
        have := rd_is 2 (by omega) S O h1
        refine ⟨_, ⟨⟨fun _ => this.2, by simp, by simp, this.1⟩, by simp only; omega, ?_⟩, by omega, rfl⟩
        simp only [↓reduceIte, mp, List.map_cons, true_and, and_true]
        rfl
      · have b : foF (ln i) dg na Sm Om = some (0, dg, na, (ln i, 0) :: mp (rdF 1 S O).1, (rdF 1 S O).2) := by
          rw [foF, if_pos c1, show decide (ln i ≠ 42) = true from by simp [c42], ← r1]
        have t : thF (ln i) i S O = (true, i + 1, true, (ln i, 0) :: (rdF 1 S O).1, (rdF 1 S O).2) := by
          rw [thF, if_pos c1, if_neg c42]
        rw [t, b]
        simp only [↓reduceIte]
        have := rd_is 1 (by omega) S O h1
        refine ⟨_, ⟨⟨fun _ => this.2, by simp, by simp only; omega, this.1⟩, by simp only; omega, ?_⟩, by omega, rfl⟩
        simp only [↓reduceIte, mp, List.map_cons, true_and, and_true]
        rw [cmF_0 (by omega)]
    · by_cases c2 : ln i = 44 ∨ ln i = 41
      · have b : foF (ln i) dg na Sm Om = clF (ln i) dg na (mp (rdF 1 S O).1, (rdF 1 S O).2) := by
          simp only [foF, c1, c2, not_true_eq_false, ↓reduceIte]
          rw [← r1]
        simp only [thF, c1, c2, ↓reduceIte, not_true_eq_false, b]
        have i1 := rd_is 1 (by omega) S O h1
        generalize hq : rdF 1 S O = q at *
        obtain ⟨S1, O1⟩ := q
        cases S1 with
        | nil => simp only [thC, clF, mp, List.map_nil, Bool.false_eq_true, ↓reduceIte]
        | cons x S2 =>
          obtain ⟨x1, x2⟩ := x
          obtain ⟨j1, j2, j3, j4⟩ := i1.1
          simp only at j1 j2 j3
          have k1 : (cmF x1 - x2 = cmF x1) ↔ ¬ 0 < x2 := by omega
          simp only [thC, clF, mp, List.map_cons, k1]
          rcases c2 with c | c
          · have q1 : ¬ ln i = 41 := by omega
            by_cases z : 0 < x2
            · simp only [c, z, q1, not_true_eq_false, iff_self, ↓reduceIte, Nat.reduceEqDiff]
              refine ⟨_, ⟨⟨j1, by simp only; omega, j3, j4⟩, by simp only; omega, ?_⟩, by omega, rfl⟩
              simp only [↓reduceIte, mp, List.map_cons, true_and, and_true]
              have : cmF x1 - x2 + 1 = cmF x1 - (x2 - 1) := by omega
              rw [this]
            · simp [c, z]
          · by_cases z : 0 < x2
            · simp [c, z]
            · simp only [c, z, not_false_eq_true, iff_self, not_true_eq_false, ↓reduceIte, Nat.reduceEqDiff]
              refine ⟨_, ⟨j4, by simp only; omega, ?_⟩, by omega, rfl⟩
              simp only [Bool.false_eq_true, ↓reduceIte, true_or, and_true, mp]
              by_cases e40 : x1 = 40
              · simp only [e40, ↓reduceIte]
              · simp only [e40, ↓reduceIte]
                have j5 : ¬ (x1 = 42 ∨ x1 = 43 ∨ x1 = 45 ∨ x1 = 126) := by
                  have := i1.2
                  simp only [h126, decide_eq_false_iff_not] at this
                  have rk := congrArg Prod.fst hq
                  intro hc
                  have hr : 1 ≤ rnF x1 := by unfold rnF; (repeat' split) <;> omega
                  exact rd_top S O rk hr
                have j6 : isF x1 = true := by
                  rcases j3 with g | g | g | g | g | g
                  · omega
                  · omega
                  · omega
                  · omega
                  · omega
                  · exact g
                rw [(isF_k j6).1]
      · have b : foF (ln i) dg na Sm Om = none := by simp only [foF, c1, c2, not_false_eq_true, ↓reduceIte]
        simp only [thF, c1, c2, ↓reduceIte, not_false_eq_true, b, Bool.false_eq_true]
theorem sc_rs {ln : Nat → Nat} {len : Nat} : ∀ (f : Nat) (x : CT) (p : PT), RL ln len x p → len ≤ x.1 + f → scR ln len f x = rsF ln len (len - x.1) p
  | 0, x, p, h, hf => by
    rw [scR]; exact rl_end h (by omega)
  | f + 1, x, p, h, hf => by
    rw [scR]
    by_cases hx : x.1 < len
    · simp only [hx, ↓reduceIte]
      obtain ⟨i, op, S, O⟩ := x
      simp only at hx hf
      cases op with
      | true =>
        have := rl_first h hx
        simp only [ssF, ↓reduceIte]
        by_cases y : (fiF ln len i S O).1 = true
        · simp only [y, ↓reduceIte] at this ⊢
          obtain ⟨p', a, b, c⟩ := this
          rw [c]
          exact sc_rs f _ p' a (by omega)
        · simp only [y, ↓reduceIte, Bool.false_eq_true] at this ⊢
          exact this.symm
      | false =>
        have := rl_then h hx
        simp only [ssF, ↓reduceIte, Bool.false_eq_true]
        by_cases y : (thF (ln i) i S O).1 = true
        · simp only [y, ↓reduceIte] at this ⊢
          obtain ⟨p', a, b, c⟩ := this
          rw [c]
          exact sc_rs f _ p' a (by omega)
        · simp only [y, ↓reduceIte, Bool.false_eq_true] at this ⊢
          exact this.symm
    · simp only [hx, ↓reduceIte]
      exact rl_end h hx
/-- the scanner answers as the model's parse does -/
theorem sc_pa (ln : Nat → Nat) (len dg na : Nat) : paF ln len dg na = scF ln len := by
  unfold scF
  rw [sc_rs (ln := ln) (len := len) len (0, true, [], []) (0, dg, na, [], []) ⟨trivial, by simp, by simp [mp]⟩ (by simp)]
  rfl
