/-! THE CLASS's judge, plain: it is the model's curvature and blame. -/
abbrev JT : Type := Bool × Bool × Bool × Bool × Bool × Nat × Nat × Nat
def jS (c : Nat) (a2 a3 : Bool) (p : Nat) (s : JT) : JT := (s.1 && decide (c = 0), s.2.1 && decide (c ≤ 1), s.2.2.1 && a2, s.2.2.2.1 && a3, s.2.2.2.2.1 || decide (c = 4), if c ≤ 1 then s.2.2.2.2.2.1 else if s.2.2.2.2.2.1 = 0 then p else s.2.2.2.2.2.1, if a2 = true then s.2.2.2.2.2.2.1 else p, if a3 = true then s.2.2.2.2.2.2.2 else p)
def jL (c : Nat → Nat) (a2 a3 : Nat → Bool) : Nat → JT → JT
  | 0, s => s
  | p + 1, s => jL c a2 a3 p (jS (c p) (a2 p) (a3 p) (p + 1) s)
def jcF (sh : Nat) (s : JT) : Nat := if s.1 = true then 0 else if sh = 1 then (if s.2.1 = true then 1 else if s.2.2.1 = true then 2 else if s.2.2.2.1 = true then 3 else 4) else if (sh = 2 ∧ s.2.2.1 = true) ∨ (sh = 3 ∧ s.2.2.2.1 = true) then sh else 4
def jbF (sh : Nat) (s : JT) (k : Nat) : Nat := if k = 4 ∧ s.2.2.2.2.1 = false then (if sh = 4 then 4 else if sh = 1 then s.2.2.2.2.2.1 else if sh = 2 then s.2.2.2.2.2.2.1 else s.2.2.2.2.2.2.2) else 0
def shF (t : Nat) (c : Nat → Nat) : Nat := if t = 6 then (if c 0 = 0 ∨ c 1 = 0 then 1 else 4) else bnd t
theorem tr_3 (t j : Nat) (u d : Nat → Bool) : trF t j u d = 1 ∨ trF t j u d = -1 ∨ trF t j u d = 0 := by
  unfold trF; (repeat' split) <;> simp
theorem n5 {t : Nat} (h : t < 5) : t = 0 ∨ t = 1 ∨ t = 2 ∨ t = 3 ∨ t = 4 := by omega
def JG (t : Nat) (c : Nat → Nat) (u d : Nat → Bool) : Prop :=
  jcF (shF t c) (jL c (fun j => adF (c j) 2 (trF t j u d)) (fun j => adF (c j) 3 (trF t j u d)) (ary t) (decide (t ≠ 1), true, true, true, false, 0, 0, 0)) = cvF t c u d ∧
  jbF (shF t c) (jL c (fun j => adF (c j) 2 (trF t j u d)) (fun j => adF (c j) 3 (trF t j u d)) (ary t) (decide (t ≠ 1), true, true, true, false, 0, 0, 0)) (cvF t c u d) = blF t (cvF t c u d) c u d
theorem jg_0 {t : Nat} (h : t < 3) (c : Nat → Nat) (u d : Nat → Bool) : JG t c u d := by
  rcases (show t = 0 ∨ t = 1 ∨ t = 2 by omega) with e | e | e <;> subst e <;> simp [JG, jL, jcF, jbF, shF, bnd, cvF, blF, ary]
theorem jg_1 {t : Nat} (h : t = 5 ∨ t = 9 ∨ t = 10) (c : Nat → Nat) (u d : Nat → Bool) (h0 : c 0 < 5) : JG t c u d := by
  rcases n5 h0 with e0 | e0 | e0 | e0 | e0 <;> rcases h with e | e | e <;> subst e
  all_goals first
    | (simp [JG, jL, jS, jcF, jbF, shF, bnd, cvF, blF, ary, hvF, fnF, adF, trF, e0]; done)
    | (cases hd : d 0 <;> cases hu : u 0 <;> simp [JG, jL, jS, jcF, jbF, shF, bnd, cvF, blF, ary, hvF, fnF, adF, trF, e0, hd, hu])
theorem jg_2 {t : Nat} (h : t = 3 ∨ t = 4 ∨ t = 7 ∨ t = 8) (c : Nat → Nat) (u d : Nat → Bool) (h0 : c 0 < 5) (h1 : c 1 < 5) : JG t c u d := by
  rcases h with e | e | e | e <;> subst e <;> rcases n5 h0 with e0 | e0 | e0 | e0 | e0 <;> rcases n5 h1 with e1 | e1 | e1 | e1 | e1 <;>
    simp [JG, jL, jS, jcF, jbF, shF, bnd, cvF, blF, ary, hvF, fnF, adF, trF, e0, e1]
theorem jg_6 (c : Nat → Nat) (u d : Nat → Bool) (h0 : c 0 < 5) (h1 : c 1 < 5) : JG 6 c u d := by
  have q0 := tr_3 6 0 u d
  have q1 := tr_3 6 1 u d
  rcases n5 h0 with e0 | e0 | e0 | e0 | e0 <;> rcases n5 h1 with e1 | e1 | e1 | e1 | e1
  all_goals first
    | (simp [JG, jL, jS, jcF, jbF, shF, bnd, cvF, blF, ary, hvF, fnF, adF, e0, e1]; done)
    | (rcases q0 with g0 | g0 | g0 <;> simp [JG, jL, jS, jcF, jbF, shF, bnd, cvF, blF, ary, hvF, fnF, adF, g0, e0, e1]; done)
    | (rcases q1 with g1 | g1 | g1 <;> simp [JG, jL, jS, jcF, jbF, shF, bnd, cvF, blF, ary, hvF, fnF, adF, g1, e0, e1]; done)
    | (rcases q0 with g0 | g0 | g0 <;> rcases q1 with g1 | g1 | g1 <;> simp [JG, jL, jS, jcF, jbF, shF, bnd, cvF, blF, ary, hvF, fnF, adF, g0, g1, e0, e1])
theorem jg_11 (c : Nat → Nat) (u d : Nat → Bool) (h0 : c 0 < 5) (h1 : c 1 < 5) (h2 : c 2 < 5) : JG 11 c u d := by
  rcases n5 h0 with e0 | e0 | e0 | e0 | e0 <;> rcases n5 h1 with e1 | e1 | e1 | e1 | e1 <;> rcases n5 h2 with e2 | e2 | e2 | e2 | e2 <;>
    simp [JG, jL, jS, jcF, jbF, shF, bnd, cvF, blF, ary, hvF, fnF, adF, trF, e0, e1, e2]
theorem jg {t : Nat} (ht : t < 12) (c : Nat → Nat) (u d : Nat → Bool) (h : ∀ j, j < ary t → c j < 5) : JG t c u d := by
  rcases n12 ht with e | e | e | e | e | e | e | e | e | e | e | e <;> subst e
  · exact jg_0 (by omega) c u d
  · exact jg_0 (by omega) c u d
  · exact jg_0 (by omega) c u d
  · exact jg_2 (by omega) c u d (h 0 (by decide)) (h 1 (by decide))
  · exact jg_2 (by omega) c u d (h 0 (by decide)) (h 1 (by decide))
  · exact jg_1 (by omega) c u d (h 0 (by decide))
  · exact jg_6 c u d (h 0 (by decide)) (h 1 (by decide))
  · exact jg_2 (by omega) c u d (h 0 (by decide)) (h 1 (by decide))
  · exact jg_2 (by omega) c u d (h 0 (by decide)) (h 1 (by decide))
  · exact jg_1 (by omega) c u d (h 0 (by decide))
  · exact jg_1 (by omega) c u d (h 0 (by decide))
  · exact jg_11 c u d (h 0 (by decide)) (h 1 (by decide)) (h 2 (by decide))
