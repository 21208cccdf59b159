/-! THE MODEL'S WORLD: the object 33, its arrays 34..58; sc its numbers by field, ar its arrays of ints, la of longs, by array. Printed by gen_mw.py. -/
def mf (sc : Nat → Int32) (k : Nat) : Value := match k with
  | 0 => .ref 34
  | 1 => .int (sc 1)
  | 2 => .int (sc 2)
  | 3 => .int (sc 3)
  | 4 => .int (sc 4)
  | 5 => .int (sc 5)
  | 6 => .ref 35
  | 7 => .ref 36
  | 8 => .int (sc 8)
  | 9 => .ref 37
  | 10 => .ref 38
  | 11 => .ref 39
  | 12 => .int (sc 12)
  | 13 => .ref 40
  | 14 => .ref 41
  | 15 => .ref 42
  | 16 => .ref 43
  | 17 => .ref 44
  | 18 => .ref 45
  | 19 => .ref 46
  | 20 => .ref 47
  | 21 => .ref 48
  | 22 => .ref 49
  | 23 => .ref 50
  | 24 => .ref 51
  | 25 => .ref 52
  | 26 => .ref 53
  | 27 => .ref 54
  | 28 => .int (sc 28)
  | 29 => .int (sc 29)
  | 30 => .int (sc 30)
  | 31 => .ref 55
  | 32 => .ref 56
  | 33 => .ref 57
  | 34 => .int (sc 34)
  | 35 => .ref 58
  | _ => .null
def mc (ar : Nat → Nat → Int32) (la : Nat → Nat → Int64) (j : Nat) : am_Cell := match j with
  | 34 => .inl (0, 20, .inl (ar 0))
  | 35 => .inl (0, 20, .inl (ar 1))
  | 36 => .inl (0, 20, .inl (ar 2))
  | 37 => .inl (0, 20, .inl (ar 3))
  | 38 => .inl (0, 20, .inl (ar 4))
  | 39 => .inl (0, 20, .inl (ar 5))
  | 40 => .inl (0, 36, .inl (ar 6))
  | 41 => .inl (0, 36, .inl (ar 7))
  | 42 => .inl (0, 108, .inl (ar 8))
  | 43 => .inl (1, 36, .inr (.inl (la 9)))
  | 44 => .inl (0, 36, .inl (ar 10))
  | 45 => .inl (2, 36, .inl (ar 11))
  | 46 => .inl (2, 36, .inl (ar 12))
  | 47 => .inl (0, 36, .inl (ar 13))
  | 48 => .inl (0, 36, .inl (ar 14))
  | 49 => .inl (0, 36, .inl (ar 15))
  | 50 => .inl (2, 36, .inl (ar 16))
  | 51 => .inl (2, 36, .inl (ar 17))
  | 52 => .inl (0, 36, .inl (ar 18))
  | 53 => .inl (0, 36, .inl (ar 19))
  | 54 => .inl (1, 36, .inr (.inl (la 20)))
  | 55 => .inl (2, 6, .inl (ar 21))
  | 56 => .inl (0, 6, .inl (ar 22))
  | 57 => .inl (0, 6, .inl (ar 23))
  | 58 => .inl (0, 36, .inl (ar 24))
  | _ => .inl (0, 0, .inl (fun _ => 0))
def mw (sc : Nat → Int32) (ar : Nat → Nat → Int32) (la : Nat → Nat → Int64) (R : am_W) : am_W := (fun i => if i = 33 then some (.inr (11, mf sc)) else if 34 ≤ i ∧ i ≤ 58 then some (mc ar la i) else R.1 i, R.2)
section MW
variable {sc : Nat → Int32} {ar : Nat → Nat → Int32} {la : Nat → Nat → Int64} {R : am_W}
theorem mw_rd : (∀ (sc : Nat → Int32) (ar : Nat → Nat → Int32) (la : Nat → Nat → Int64) (R : am_W), ((mw sc ar la R).1 33 = some (.inr (11, mf sc)))) ∧
  (∀ (sc : Nat → Int32) (ar : Nat → Nat → Int32) (la : Nat → Nat → Int64) (R : am_W), ((mw sc ar la R).1 34 = some (.inl (0, 20, .inl (ar 0))))) ∧
  (∀ (sc : Nat → Int32) (ar : Nat → Nat → Int32) (la : Nat → Nat → Int64) (R : am_W), ((mw sc ar la R).1 35 = some (.inl (0, 20, .inl (ar 1))))) ∧
  (∀ (sc : Nat → Int32) (ar : Nat → Nat → Int32) (la : Nat → Nat → Int64) (R : am_W), ((mw sc ar la R).1 36 = some (.inl (0, 20, .inl (ar 2))))) ∧
  (∀ (sc : Nat → Int32) (ar : Nat → Nat → Int32) (la : Nat → Nat → Int64) (R : am_W), ((mw sc ar la R).1 37 = some (.inl (0, 20, .inl (ar 3))))) ∧
  (∀ (sc : Nat → Int32) (ar : Nat → Nat → Int32) (la : Nat → Nat → Int64) (R : am_W), ((mw sc ar la R).1 38 = some (.inl (0, 20, .inl (ar 4))))) ∧
  (∀ (sc : Nat → Int32) (ar : Nat → Nat → Int32) (la : Nat → Nat → Int64) (R : am_W), ((mw sc ar la R).1 39 = some (.inl (0, 20, .inl (ar 5))))) ∧
  (∀ (sc : Nat → Int32) (ar : Nat → Nat → Int32) (la : Nat → Nat → Int64) (R : am_W), ((mw sc ar la R).1 40 = some (.inl (0, 36, .inl (ar 6))))) ∧
  (∀ (sc : Nat → Int32) (ar : Nat → Nat → Int32) (la : Nat → Nat → Int64) (R : am_W), ((mw sc ar la R).1 41 = some (.inl (0, 36, .inl (ar 7))))) ∧
  (∀ (sc : Nat → Int32) (ar : Nat → Nat → Int32) (la : Nat → Nat → Int64) (R : am_W), ((mw sc ar la R).1 42 = some (.inl (0, 108, .inl (ar 8))))) ∧
  (∀ (sc : Nat → Int32) (ar : Nat → Nat → Int32) (la : Nat → Nat → Int64) (R : am_W), ((mw sc ar la R).1 43 = some (.inl (1, 36, .inr (.inl (la 9)))))) ∧
  (∀ (sc : Nat → Int32) (ar : Nat → Nat → Int32) (la : Nat → Nat → Int64) (R : am_W), ((mw sc ar la R).1 44 = some (.inl (0, 36, .inl (ar 10))))) ∧
  (∀ (sc : Nat → Int32) (ar : Nat → Nat → Int32) (la : Nat → Nat → Int64) (R : am_W), ((mw sc ar la R).1 45 = some (.inl (2, 36, .inl (ar 11))))) ∧
  (∀ (sc : Nat → Int32) (ar : Nat → Nat → Int32) (la : Nat → Nat → Int64) (R : am_W), ((mw sc ar la R).1 46 = some (.inl (2, 36, .inl (ar 12))))) ∧
  (∀ (sc : Nat → Int32) (ar : Nat → Nat → Int32) (la : Nat → Nat → Int64) (R : am_W), ((mw sc ar la R).1 47 = some (.inl (0, 36, .inl (ar 13))))) ∧
  (∀ (sc : Nat → Int32) (ar : Nat → Nat → Int32) (la : Nat → Nat → Int64) (R : am_W), ((mw sc ar la R).1 48 = some (.inl (0, 36, .inl (ar 14))))) ∧
  (∀ (sc : Nat → Int32) (ar : Nat → Nat → Int32) (la : Nat → Nat → Int64) (R : am_W), ((mw sc ar la R).1 49 = some (.inl (0, 36, .inl (ar 15))))) ∧
  (∀ (sc : Nat → Int32) (ar : Nat → Nat → Int32) (la : Nat → Nat → Int64) (R : am_W), ((mw sc ar la R).1 50 = some (.inl (2, 36, .inl (ar 16))))) ∧
  (∀ (sc : Nat → Int32) (ar : Nat → Nat → Int32) (la : Nat → Nat → Int64) (R : am_W), ((mw sc ar la R).1 51 = some (.inl (2, 36, .inl (ar 17))))) ∧
  (∀ (sc : Nat → Int32) (ar : Nat → Nat → Int32) (la : Nat → Nat → Int64) (R : am_W), ((mw sc ar la R).1 52 = some (.inl (0, 36, .inl (ar 18))))) ∧
  (∀ (sc : Nat → Int32) (ar : Nat → Nat → Int32) (la : Nat → Nat → Int64) (R : am_W), ((mw sc ar la R).1 53 = some (.inl (0, 36, .inl (ar 19))))) ∧
  (∀ (sc : Nat → Int32) (ar : Nat → Nat → Int32) (la : Nat → Nat → Int64) (R : am_W), ((mw sc ar la R).1 54 = some (.inl (1, 36, .inr (.inl (la 20)))))) ∧
  (∀ (sc : Nat → Int32) (ar : Nat → Nat → Int32) (la : Nat → Nat → Int64) (R : am_W), ((mw sc ar la R).1 55 = some (.inl (2, 6, .inl (ar 21))))) ∧
  (∀ (sc : Nat → Int32) (ar : Nat → Nat → Int32) (la : Nat → Nat → Int64) (R : am_W), ((mw sc ar la R).1 56 = some (.inl (0, 6, .inl (ar 22))))) ∧
  (∀ (sc : Nat → Int32) (ar : Nat → Nat → Int32) (la : Nat → Nat → Int64) (R : am_W), ((mw sc ar la R).1 57 = some (.inl (0, 6, .inl (ar 23))))) ∧
  (∀ (sc : Nat → Int32) (ar : Nat → Nat → Int32) (la : Nat → Nat → Int64) (R : am_W), ((mw sc ar la R).1 58 = some (.inl (0, 36, .inl (ar 24))))) ∧
  (∀ (sc : Nat → Int32), (mf sc 0 = .ref 34)) ∧
  (∀ (sc : Nat → Int32), (mf sc 1 = .int (sc 1))) ∧
  (∀ (sc : Nat → Int32), (mf sc 2 = .int (sc 2))) ∧
  (∀ (sc : Nat → Int32), (mf sc 3 = .int (sc 3))) ∧
  (∀ (sc : Nat → Int32), (mf sc 4 = .int (sc 4))) ∧
  (∀ (sc : Nat → Int32), (mf sc 5 = .int (sc 5))) ∧
  (∀ (sc : Nat → Int32), (mf sc 6 = .ref 35)) ∧
  (∀ (sc : Nat → Int32), (mf sc 7 = .ref 36)) ∧
  (∀ (sc : Nat → Int32), (mf sc 8 = .int (sc 8))) ∧
  (∀ (sc : Nat → Int32), (mf sc 9 = .ref 37)) ∧
  (∀ (sc : Nat → Int32), (mf sc 10 = .ref 38)) ∧
  (∀ (sc : Nat → Int32), (mf sc 11 = .ref 39)) ∧
  (∀ (sc : Nat → Int32), (mf sc 12 = .int (sc 12))) ∧
  (∀ (sc : Nat → Int32), (mf sc 13 = .ref 40)) ∧
  (∀ (sc : Nat → Int32), (mf sc 14 = .ref 41)) ∧
  (∀ (sc : Nat → Int32), (mf sc 15 = .ref 42)) ∧
  (∀ (sc : Nat → Int32), (mf sc 16 = .ref 43)) ∧
  (∀ (sc : Nat → Int32), (mf sc 17 = .ref 44)) ∧
  (∀ (sc : Nat → Int32), (mf sc 18 = .ref 45)) ∧
  (∀ (sc : Nat → Int32), (mf sc 19 = .ref 46)) ∧
  (∀ (sc : Nat → Int32), (mf sc 20 = .ref 47)) ∧
  (∀ (sc : Nat → Int32), (mf sc 21 = .ref 48)) ∧
  (∀ (sc : Nat → Int32), (mf sc 22 = .ref 49)) ∧
  (∀ (sc : Nat → Int32), (mf sc 23 = .ref 50)) ∧
  (∀ (sc : Nat → Int32), (mf sc 24 = .ref 51)) ∧
  (∀ (sc : Nat → Int32), (mf sc 25 = .ref 52)) ∧
  (∀ (sc : Nat → Int32), (mf sc 26 = .ref 53)) ∧
  (∀ (sc : Nat → Int32), (mf sc 27 = .ref 54)) ∧
  (∀ (sc : Nat → Int32), (mf sc 28 = .int (sc 28))) ∧
  (∀ (sc : Nat → Int32), (mf sc 29 = .int (sc 29))) ∧
  (∀ (sc : Nat → Int32), (mf sc 30 = .int (sc 30))) ∧
  (∀ (sc : Nat → Int32), (mf sc 31 = .ref 55)) ∧
  (∀ (sc : Nat → Int32), (mf sc 32 = .ref 56)) ∧
  (∀ (sc : Nat → Int32), (mf sc 33 = .ref 57)) ∧
  (∀ (sc : Nat → Int32), (mf sc 34 = .int (sc 34))) ∧
  (∀ (sc : Nat → Int32), (mf sc 35 = .ref 58)) := by
  refine ⟨?_, ?_, ?_, ?_, ?_, ?_, ?_, ?_, ?_, ?_, ?_, ?_, ?_, ?_, ?_, ?_, ?_, ?_, ?_, ?_, ?_, ?_, ?_, ?_, ?_, ?_, ?_, ?_, ?_, ?_, ?_, ?_, ?_, ?_, ?_, ?_, ?_, ?_, ?_, ?_, ?_, ?_, ?_, ?_, ?_, ?_, ?_, ?_, ?_, ?_, ?_, ?_, ?_, ?_, ?_, ?_, ?_, ?_, ?_, ?_, ?_, ?_⟩ <;> (intros; rfl)
theorem mw_seta (j t n : Nat) (hj : 34 ≤ j ∧ j ≤ 58) (f : Nat → Int32) (h : ∀ ar : Nat → Nat → Int32, mc ar la j = .inl (t, n, .inl (ar (j - 34)))) (h2 : ∀ i, i ≠ j → 34 ≤ i ∧ i ≤ 58 → mc (va_up ar (j - 34) f) la i = mc ar la i) : am_set (mw sc ar la R) j (.inl (t, n, .inl f)) = mw sc (va_up ar (j - 34) f) la R := by
  unfold am_set mw
  refine Prod.ext (funext fun i => ?_) rfl
  dsimp only
  by_cases hi : i = j
  · subst hi
    rw [if_pos rfl]
    rw [if_neg (by omega), if_pos hj, h, va_up_self]
  · rw [if_neg hi]

    by_cases h33 : i = 33
    · simp [h33]
    · by_cases hr : 34 ≤ i ∧ i ≤ 58
      · rw [if_neg h33, if_neg h33, if_pos hr, if_pos hr, h2 i hi hr]
      · rw [if_neg h33, if_neg h33, if_neg hr, if_neg hr]
theorem mw_setl (j t n : Nat) (hj : 34 ≤ j ∧ j ≤ 58) (f : Nat → Int64) (h : ∀ la : Nat → Nat → Int64, mc ar la j = .inl (t, n, .inr (.inl (la (j - 34))))) (h2 : ∀ i, i ≠ j → 34 ≤ i ∧ i ≤ 58 → mc ar (va_up la (j - 34) f) i = mc ar la i) : am_set (mw sc ar la R) j (.inl (t, n, .inr (.inl f))) = mw sc ar (va_up la (j - 34) f) R := by
  unfold am_set mw
  refine Prod.ext (funext fun i => ?_) rfl
  dsimp only
  by_cases hi : i = j
  · subst hi
    rw [if_pos rfl]
    rw [if_neg (by omega), if_pos hj, h, va_up_self]
  · rw [if_neg hi]

    by_cases h33 : i = 33
    · simp [h33]
    · by_cases hr : 34 ≤ i ∧ i ≤ 58
      · rw [if_neg h33, if_neg h33, if_pos hr, if_pos hr, h2 i hi hr]
      · rw [if_neg h33, if_neg h33, if_neg hr, if_neg hr]
theorem mf_up {v : Int32} (k : Nat) (hk : k < 36) (hf : ∀ sc : Nat → Int32, mf sc k = .int (sc k)) (h2 : ∀ i, i ≠ k → i < 36 → mf (upd sc k v) i = mf sc i) : va_up (mf sc) k (.int v) = mf (upd sc k v) := by
  funext i
  by_cases hi : i = k
  · subst hi
    rw [va_up_self, hf]
    simp [upd]
  · rw [va_up_ne _ _ hi]
    by_cases h36 : i < 36
    · exact (h2 i hi h36).symm
    · obtain ⟨q, rfl⟩ : ∃ q, i = q + 36 := ⟨i - 36, by omega⟩
      rfl
theorem mw_setf {sc' : Nat → Int32} : am_set (mw sc ar la R) 33 (.inr (11, mf sc')) = mw sc' ar la R := by
  unfold am_set mw
  refine Prod.ext (funext fun i => ?_) rfl
  dsimp only
  by_cases hi : i = 33
  · simp [hi]
  · simp [hi]
theorem mw_w_line (f : Nat → Int32) : am_set (mw sc ar la R) 34 (.inl (0, 20, .inl f)) = mw sc (va_up ar 0 f) la R := by
  refine mw_seta 34 0 20 (by decide) f (fun _ => rfl) (fun i h1 h2 => ?_)
  obtain ⟨q, rfl, hq⟩ : ∃ q, i = 34 + q ∧ q < 25 := ⟨i - 34, by omega, by omega⟩
  rcases (show q = 0 ∨ q = 1 ∨ q = 2 ∨ q = 3 ∨ q = 4 ∨ q = 5 ∨ q = 6 ∨ q = 7 ∨ q = 8 ∨ q = 9 ∨ q = 10 ∨ q = 11 ∨ q = 12 ∨ q = 13 ∨ q = 14 ∨ q = 15 ∨ q = 16 ∨ q = 17 ∨ q = 18 ∨ q = 19 ∨ q = 20 ∨ q = 21 ∨ q = 22 ∨ q = 23 ∨ q = 24 by omega) with rfl | rfl | rfl | rfl | rfl | rfl | rfl | rfl | rfl | rfl | rfl | rfl | rfl | rfl | rfl | rfl | rfl | rfl | rfl | rfl | rfl | rfl | rfl | rfl | rfl <;> first | rfl | exact absurd rfl h1
theorem mw_w_top (f : Nat → Int32) : am_set (mw sc ar la R) 35 (.inl (0, 20, .inl f)) = mw sc (va_up ar 1 f) la R := by
  refine mw_seta 35 0 20 (by decide) f (fun _ => rfl) (fun i h1 h2 => ?_)
  obtain ⟨q, rfl, hq⟩ : ∃ q, i = 34 + q ∧ q < 25 := ⟨i - 34, by omega, by omega⟩
  rcases (show q = 0 ∨ q = 1 ∨ q = 2 ∨ q = 3 ∨ q = 4 ∨ q = 5 ∨ q = 6 ∨ q = 7 ∨ q = 8 ∨ q = 9 ∨ q = 10 ∨ q = 11 ∨ q = 12 ∨ q = 13 ∨ q = 14 ∨ q = 15 ∨ q = 16 ∨ q = 17 ∨ q = 18 ∨ q = 19 ∨ q = 20 ∨ q = 21 ∨ q = 22 ∨ q = 23 ∨ q = 24 by omega) with rfl | rfl | rfl | rfl | rfl | rfl | rfl | rfl | rfl | rfl | rfl | rfl | rfl | rfl | rfl | rfl | rfl | rfl | rfl | rfl | rfl | rfl | rfl | rfl | rfl <;> first | rfl | exact absurd rfl h1
theorem mw_w_commas (f : Nat → Int32) : am_set (mw sc ar la R) 36 (.inl (0, 20, .inl f)) = mw sc (va_up ar 2 f) la R := by
  refine mw_seta 36 0 20 (by decide) f (fun _ => rfl) (fun i h1 h2 => ?_)
  obtain ⟨q, rfl, hq⟩ : ∃ q, i = 34 + q ∧ q < 25 := ⟨i - 34, by omega, by omega⟩
  rcases (show q = 0 ∨ q = 1 ∨ q = 2 ∨ q = 3 ∨ q = 4 ∨ q = 5 ∨ q = 6 ∨ q = 7 ∨ q = 8 ∨ q = 9 ∨ q = 10 ∨ q = 11 ∨ q = 12 ∨ q = 13 ∨ q = 14 ∨ q = 15 ∨ q = 16 ∨ q = 17 ∨ q = 18 ∨ q = 19 ∨ q = 20 ∨ q = 21 ∨ q = 22 ∨ q = 23 ∨ q = 24 by omega) with rfl | rfl | rfl | rfl | rfl | rfl | rfl | rfl | rfl | rfl | rfl | rfl | rfl | rfl | rfl | rfl | rfl | rfl | rfl | rfl | rfl | rfl | rfl | rfl | rfl <;> first | rfl | exact absurd rfl h1
theorem mw_w_outKind (f : Nat → Int32) : am_set (mw sc ar la R) 37 (.inl (0, 20, .inl f)) = mw sc (va_up ar 3 f) la R := by
  refine mw_seta 37 0 20 (by decide) f (fun _ => rfl) (fun i h1 h2 => ?_)
  obtain ⟨q, rfl, hq⟩ : ∃ q, i = 34 + q ∧ q < 25 := ⟨i - 34, by omega, by omega⟩
  rcases (show q = 0 ∨ q = 1 ∨ q = 2 ∨ q = 3 ∨ q = 4 ∨ q = 5 ∨ q = 6 ∨ q = 7 ∨ q = 8 ∨ q = 9 ∨ q = 10 ∨ q = 11 ∨ q = 12 ∨ q = 13 ∨ q = 14 ∨ q = 15 ∨ q = 16 ∨ q = 17 ∨ q = 18 ∨ q = 19 ∨ q = 20 ∨ q = 21 ∨ q = 22 ∨ q = 23 ∨ q = 24 by omega) with rfl | rfl | rfl | rfl | rfl | rfl | rfl | rfl | rfl | rfl | rfl | rfl | rfl | rfl | rfl | rfl | rfl | rfl | rfl | rfl | rfl | rfl | rfl | rfl | rfl <;> first | rfl | exact absurd rfl h1
theorem mw_w_outNumber (f : Nat → Int32) : am_set (mw sc ar la R) 38 (.inl (0, 20, .inl f)) = mw sc (va_up ar 4 f) la R := by
  refine mw_seta 38 0 20 (by decide) f (fun _ => rfl) (fun i h1 h2 => ?_)
  obtain ⟨q, rfl, hq⟩ : ∃ q, i = 34 + q ∧ q < 25 := ⟨i - 34, by omega, by omega⟩
  rcases (show q = 0 ∨ q = 1 ∨ q = 2 ∨ q = 3 ∨ q = 4 ∨ q = 5 ∨ q = 6 ∨ q = 7 ∨ q = 8 ∨ q = 9 ∨ q = 10 ∨ q = 11 ∨ q = 12 ∨ q = 13 ∨ q = 14 ∨ q = 15 ∨ q = 16 ∨ q = 17 ∨ q = 18 ∨ q = 19 ∨ q = 20 ∨ q = 21 ∨ q = 22 ∨ q = 23 ∨ q = 24 by omega) with rfl | rfl | rfl | rfl | rfl | rfl | rfl | rfl | rfl | rfl | rfl | rfl | rfl | rfl | rfl | rfl | rfl | rfl | rfl | rfl | rfl | rfl | rfl | rfl | rfl <;> first | rfl | exact absurd rfl h1
theorem mw_w_taken (f : Nat → Int32) : am_set (mw sc ar la R) 39 (.inl (0, 20, .inl f)) = mw sc (va_up ar 5 f) la R := by
  refine mw_seta 39 0 20 (by decide) f (fun _ => rfl) (fun i h1 h2 => ?_)
  obtain ⟨q, rfl, hq⟩ : ∃ q, i = 34 + q ∧ q < 25 := ⟨i - 34, by omega, by omega⟩
  rcases (show q = 0 ∨ q = 1 ∨ q = 2 ∨ q = 3 ∨ q = 4 ∨ q = 5 ∨ q = 6 ∨ q = 7 ∨ q = 8 ∨ q = 9 ∨ q = 10 ∨ q = 11 ∨ q = 12 ∨ q = 13 ∨ q = 14 ∨ q = 15 ∨ q = 16 ∨ q = 17 ∨ q = 18 ∨ q = 19 ∨ q = 20 ∨ q = 21 ∨ q = 22 ∨ q = 23 ∨ q = 24 by omega) with rfl | rfl | rfl | rfl | rfl | rfl | rfl | rfl | rfl | rfl | rfl | rfl | rfl | rfl | rfl | rfl | rfl | rfl | rfl | rfl | rfl | rfl | rfl | rfl | rfl <;> first | rfl | exact absurd rfl h1
theorem mw_w_kind (f : Nat → Int32) : am_set (mw sc ar la R) 40 (.inl (0, 36, .inl f)) = mw sc (va_up ar 6 f) la R := by
  refine mw_seta 40 0 36 (by decide) f (fun _ => rfl) (fun i h1 h2 => ?_)
  obtain ⟨q, rfl, hq⟩ : ∃ q, i = 34 + q ∧ q < 25 := ⟨i - 34, by omega, by omega⟩
  rcases (show q = 0 ∨ q = 1 ∨ q = 2 ∨ q = 3 ∨ q = 4 ∨ q = 5 ∨ q = 6 ∨ q = 7 ∨ q = 8 ∨ q = 9 ∨ q = 10 ∨ q = 11 ∨ q = 12 ∨ q = 13 ∨ q = 14 ∨ q = 15 ∨ q = 16 ∨ q = 17 ∨ q = 18 ∨ q = 19 ∨ q = 20 ∨ q = 21 ∨ q = 22 ∨ q = 23 ∨ q = 24 by omega) with rfl | rfl | rfl | rfl | rfl | rfl | rfl | rfl | rfl | rfl | rfl | rfl | rfl | rfl | rfl | rfl | rfl | rfl | rfl | rfl | rfl | rfl | rfl | rfl | rfl <;> first | rfl | exact absurd rfl h1
theorem mw_w_number (f : Nat → Int32) : am_set (mw sc ar la R) 41 (.inl (0, 36, .inl f)) = mw sc (va_up ar 7 f) la R := by
  refine mw_seta 41 0 36 (by decide) f (fun _ => rfl) (fun i h1 h2 => ?_)
  obtain ⟨q, rfl, hq⟩ : ∃ q, i = 34 + q ∧ q < 25 := ⟨i - 34, by omega, by omega⟩
  rcases (show q = 0 ∨ q = 1 ∨ q = 2 ∨ q = 3 ∨ q = 4 ∨ q = 5 ∨ q = 6 ∨ q = 7 ∨ q = 8 ∨ q = 9 ∨ q = 10 ∨ q = 11 ∨ q = 12 ∨ q = 13 ∨ q = 14 ∨ q = 15 ∨ q = 16 ∨ q = 17 ∨ q = 18 ∨ q = 19 ∨ q = 20 ∨ q = 21 ∨ q = 22 ∨ q = 23 ∨ q = 24 by omega) with rfl | rfl | rfl | rfl | rfl | rfl | rfl | rfl | rfl | rfl | rfl | rfl | rfl | rfl | rfl | rfl | rfl | rfl | rfl | rfl | rfl | rfl | rfl | rfl | rfl <;> first | rfl | exact absurd rfl h1
theorem mw_w_argument (f : Nat → Int32) : am_set (mw sc ar la R) 42 (.inl (0, 108, .inl f)) = mw sc (va_up ar 8 f) la R := by
  refine mw_seta 42 0 108 (by decide) f (fun _ => rfl) (fun i h1 h2 => ?_)
  obtain ⟨q, rfl, hq⟩ : ∃ q, i = 34 + q ∧ q < 25 := ⟨i - 34, by omega, by omega⟩
  rcases (show q = 0 ∨ q = 1 ∨ q = 2 ∨ q = 3 ∨ q = 4 ∨ q = 5 ∨ q = 6 ∨ q = 7 ∨ q = 8 ∨ q = 9 ∨ q = 10 ∨ q = 11 ∨ q = 12 ∨ q = 13 ∨ q = 14 ∨ q = 15 ∨ q = 16 ∨ q = 17 ∨ q = 18 ∨ q = 19 ∨ q = 20 ∨ q = 21 ∨ q = 22 ∨ q = 23 ∨ q = 24 by omega) with rfl | rfl | rfl | rfl | rfl | rfl | rfl | rfl | rfl | rfl | rfl | rfl | rfl | rfl | rfl | rfl | rfl | rfl | rfl | rfl | rfl | rfl | rfl | rfl | rfl <;> first | rfl | exact absurd rfl h1
theorem mw_w_reaches (f : Nat → Int64) : am_set (mw sc ar la R) 43 (.inl (1, 36, .inr (.inl f))) = mw sc ar (va_up la 9 f) R := by
  refine mw_setl 43 1 36 (by decide) f (fun _ => rfl) (fun i h1 h2 => ?_)
  obtain ⟨q, rfl, hq⟩ : ∃ q, i = 34 + q ∧ q < 25 := ⟨i - 34, by omega, by omega⟩
  rcases (show q = 0 ∨ q = 1 ∨ q = 2 ∨ q = 3 ∨ q = 4 ∨ q = 5 ∨ q = 6 ∨ q = 7 ∨ q = 8 ∨ q = 9 ∨ q = 10 ∨ q = 11 ∨ q = 12 ∨ q = 13 ∨ q = 14 ∨ q = 15 ∨ q = 16 ∨ q = 17 ∨ q = 18 ∨ q = 19 ∨ q = 20 ∨ q = 21 ∨ q = 22 ∨ q = 23 ∨ q = 24 by omega) with rfl | rfl | rfl | rfl | rfl | rfl | rfl | rfl | rfl | rfl | rfl | rfl | rfl | rfl | rfl | rfl | rfl | rfl | rfl | rfl | rfl | rfl | rfl | rfl | rfl <;> first | rfl | exact absurd rfl h1
theorem mw_w_given (f : Nat → Int32) : am_set (mw sc ar la R) 44 (.inl (0, 36, .inl f)) = mw sc (va_up ar 10 f) la R := by
  refine mw_seta 44 0 36 (by decide) f (fun _ => rfl) (fun i h1 h2 => ?_)
  obtain ⟨q, rfl, hq⟩ : ∃ q, i = 34 + q ∧ q < 25 := ⟨i - 34, by omega, by omega⟩
  rcases (show q = 0 ∨ q = 1 ∨ q = 2 ∨ q = 3 ∨ q = 4 ∨ q = 5 ∨ q = 6 ∨ q = 7 ∨ q = 8 ∨ q = 9 ∨ q = 10 ∨ q = 11 ∨ q = 12 ∨ q = 13 ∨ q = 14 ∨ q = 15 ∨ q = 16 ∨ q = 17 ∨ q = 18 ∨ q = 19 ∨ q = 20 ∨ q = 21 ∨ q = 22 ∨ q = 23 ∨ q = 24 by omega) with rfl | rfl | rfl | rfl | rfl | rfl | rfl | rfl | rfl | rfl | rfl | rfl | rfl | rfl | rfl | rfl | rfl | rfl | rfl | rfl | rfl | rfl | rfl | rfl | rfl <;> first | rfl | exact absurd rfl h1
theorem mw_w_above (f : Nat → Int32) : am_set (mw sc ar la R) 45 (.inl (2, 36, .inl f)) = mw sc (va_up ar 11 f) la R := by
  refine mw_seta 45 2 36 (by decide) f (fun _ => rfl) (fun i h1 h2 => ?_)
  obtain ⟨q, rfl, hq⟩ : ∃ q, i = 34 + q ∧ q < 25 := ⟨i - 34, by omega, by omega⟩
  rcases (show q = 0 ∨ q = 1 ∨ q = 2 ∨ q = 3 ∨ q = 4 ∨ q = 5 ∨ q = 6 ∨ q = 7 ∨ q = 8 ∨ q = 9 ∨ q = 10 ∨ q = 11 ∨ q = 12 ∨ q = 13 ∨ q = 14 ∨ q = 15 ∨ q = 16 ∨ q = 17 ∨ q = 18 ∨ q = 19 ∨ q = 20 ∨ q = 21 ∨ q = 22 ∨ q = 23 ∨ q = 24 by omega) with rfl | rfl | rfl | rfl | rfl | rfl | rfl | rfl | rfl | rfl | rfl | rfl | rfl | rfl | rfl | rfl | rfl | rfl | rfl | rfl | rfl | rfl | rfl | rfl | rfl <;> first | rfl | exact absurd rfl h1
theorem mw_w_below (f : Nat → Int32) : am_set (mw sc ar la R) 46 (.inl (2, 36, .inl f)) = mw sc (va_up ar 12 f) la R := by
  refine mw_seta 46 2 36 (by decide) f (fun _ => rfl) (fun i h1 h2 => ?_)
  obtain ⟨q, rfl, hq⟩ : ∃ q, i = 34 + q ∧ q < 25 := ⟨i - 34, by omega, by omega⟩
  rcases (show q = 0 ∨ q = 1 ∨ q = 2 ∨ q = 3 ∨ q = 4 ∨ q = 5 ∨ q = 6 ∨ q = 7 ∨ q = 8 ∨ q = 9 ∨ q = 10 ∨ q = 11 ∨ q = 12 ∨ q = 13 ∨ q = 14 ∨ q = 15 ∨ q = 16 ∨ q = 17 ∨ q = 18 ∨ q = 19 ∨ q = 20 ∨ q = 21 ∨ q = 22 ∨ q = 23 ∨ q = 24 by omega) with rfl | rfl | rfl | rfl | rfl | rfl | rfl | rfl | rfl | rfl | rfl | rfl | rfl | rfl | rfl | rfl | rfl | rfl | rfl | rfl | rfl | rfl | rfl | rfl | rfl <;> first | rfl | exact absurd rfl h1
theorem mw_w_curve (f : Nat → Int32) : am_set (mw sc ar la R) 47 (.inl (0, 36, .inl f)) = mw sc (va_up ar 13 f) la R := by
  refine mw_seta 47 0 36 (by decide) f (fun _ => rfl) (fun i h1 h2 => ?_)
  obtain ⟨q, rfl, hq⟩ : ∃ q, i = 34 + q ∧ q < 25 := ⟨i - 34, by omega, by omega⟩
  rcases (show q = 0 ∨ q = 1 ∨ q = 2 ∨ q = 3 ∨ q = 4 ∨ q = 5 ∨ q = 6 ∨ q = 7 ∨ q = 8 ∨ q = 9 ∨ q = 10 ∨ q = 11 ∨ q = 12 ∨ q = 13 ∨ q = 14 ∨ q = 15 ∨ q = 16 ∨ q = 17 ∨ q = 18 ∨ q = 19 ∨ q = 20 ∨ q = 21 ∨ q = 22 ∨ q = 23 ∨ q = 24 by omega) with rfl | rfl | rfl | rfl | rfl | rfl | rfl | rfl | rfl | rfl | rfl | rfl | rfl | rfl | rfl | rfl | rfl | rfl | rfl | rfl | rfl | rfl | rfl | rfl | rfl <;> first | rfl | exact absurd rfl h1
theorem mw_w_blame (f : Nat → Int32) : am_set (mw sc ar la R) 48 (.inl (0, 36, .inl f)) = mw sc (va_up ar 14 f) la R := by
  refine mw_seta 48 0 36 (by decide) f (fun _ => rfl) (fun i h1 h2 => ?_)
  obtain ⟨q, rfl, hq⟩ : ∃ q, i = 34 + q ∧ q < 25 := ⟨i - 34, by omega, by omega⟩
  rcases (show q = 0 ∨ q = 1 ∨ q = 2 ∨ q = 3 ∨ q = 4 ∨ q = 5 ∨ q = 6 ∨ q = 7 ∨ q = 8 ∨ q = 9 ∨ q = 10 ∨ q = 11 ∨ q = 12 ∨ q = 13 ∨ q = 14 ∨ q = 15 ∨ q = 16 ∨ q = 17 ∨ q = 18 ∨ q = 19 ∨ q = 20 ∨ q = 21 ∨ q = 22 ∨ q = 23 ∨ q = 24 by omega) with rfl | rfl | rfl | rfl | rfl | rfl | rfl | rfl | rfl | rfl | rfl | rfl | rfl | rfl | rfl | rfl | rfl | rfl | rfl | rfl | rfl | rfl | rfl | rfl | rfl <;> first | rfl | exact absurd rfl h1
theorem mw_w_worth (f : Nat → Int32) : am_set (mw sc ar la R) 49 (.inl (0, 36, .inl f)) = mw sc (va_up ar 15 f) la R := by
  refine mw_seta 49 0 36 (by decide) f (fun _ => rfl) (fun i h1 h2 => ?_)
  obtain ⟨q, rfl, hq⟩ : ∃ q, i = 34 + q ∧ q < 25 := ⟨i - 34, by omega, by omega⟩
  rcases (show q = 0 ∨ q = 1 ∨ q = 2 ∨ q = 3 ∨ q = 4 ∨ q = 5 ∨ q = 6 ∨ q = 7 ∨ q = 8 ∨ q = 9 ∨ q = 10 ∨ q = 11 ∨ q = 12 ∨ q = 13 ∨ q = 14 ∨ q = 15 ∨ q = 16 ∨ q = 17 ∨ q = 18 ∨ q = 19 ∨ q = 20 ∨ q = 21 ∨ q = 22 ∨ q = 23 ∨ q = 24 by omega) with rfl | rfl | rfl | rfl | rfl | rfl | rfl | rfl | rfl | rfl | rfl | rfl | rfl | rfl | rfl | rfl | rfl | rfl | rfl | rfl | rfl | rfl | rfl | rfl | rfl <;> first | rfl | exact absurd rfl h1
theorem mw_w_used (f : Nat → Int32) : am_set (mw sc ar la R) 50 (.inl (2, 36, .inl f)) = mw sc (va_up ar 16 f) la R := by
  refine mw_seta 50 2 36 (by decide) f (fun _ => rfl) (fun i h1 h2 => ?_)
  obtain ⟨q, rfl, hq⟩ : ∃ q, i = 34 + q ∧ q < 25 := ⟨i - 34, by omega, by omega⟩
  rcases (show q = 0 ∨ q = 1 ∨ q = 2 ∨ q = 3 ∨ q = 4 ∨ q = 5 ∨ q = 6 ∨ q = 7 ∨ q = 8 ∨ q = 9 ∨ q = 10 ∨ q = 11 ∨ q = 12 ∨ q = 13 ∨ q = 14 ∨ q = 15 ∨ q = 16 ∨ q = 17 ∨ q = 18 ∨ q = 19 ∨ q = 20 ∨ q = 21 ∨ q = 22 ∨ q = 23 ∨ q = 24 by omega) with rfl | rfl | rfl | rfl | rfl | rfl | rfl | rfl | rfl | rfl | rfl | rfl | rfl | rfl | rfl | rfl | rfl | rfl | rfl | rfl | rfl | rfl | rfl | rfl | rfl <;> first | rfl | exact absurd rfl h1
theorem mw_w_met (f : Nat → Int32) : am_set (mw sc ar la R) 51 (.inl (2, 36, .inl f)) = mw sc (va_up ar 17 f) la R := by
  refine mw_seta 51 2 36 (by decide) f (fun _ => rfl) (fun i h1 h2 => ?_)
  obtain ⟨q, rfl, hq⟩ : ∃ q, i = 34 + q ∧ q < 25 := ⟨i - 34, by omega, by omega⟩
  rcases (show q = 0 ∨ q = 1 ∨ q = 2 ∨ q = 3 ∨ q = 4 ∨ q = 5 ∨ q = 6 ∨ q = 7 ∨ q = 8 ∨ q = 9 ∨ q = 10 ∨ q = 11 ∨ q = 12 ∨ q = 13 ∨ q = 14 ∨ q = 15 ∨ q = 16 ∨ q = 17 ∨ q = 18 ∨ q = 19 ∨ q = 20 ∨ q = 21 ∨ q = 22 ∨ q = 23 ∨ q = 24 by omega) with rfl | rfl | rfl | rfl | rfl | rfl | rfl | rfl | rfl | rfl | rfl | rfl | rfl | rfl | rfl | rfl | rfl | rfl | rfl | rfl | rfl | rfl | rfl | rfl | rfl <;> first | rfl | exact absurd rfl h1
theorem mw_w_walkNode (f : Nat → Int32) : am_set (mw sc ar la R) 52 (.inl (0, 36, .inl f)) = mw sc (va_up ar 18 f) la R := by
  refine mw_seta 52 0 36 (by decide) f (fun _ => rfl) (fun i h1 h2 => ?_)
  obtain ⟨q, rfl, hq⟩ : ∃ q, i = 34 + q ∧ q < 25 := ⟨i - 34, by omega, by omega⟩
  rcases (show q = 0 ∨ q = 1 ∨ q = 2 ∨ q = 3 ∨ q = 4 ∨ q = 5 ∨ q = 6 ∨ q = 7 ∨ q = 8 ∨ q = 9 ∨ q = 10 ∨ q = 11 ∨ q = 12 ∨ q = 13 ∨ q = 14 ∨ q = 15 ∨ q = 16 ∨ q = 17 ∨ q = 18 ∨ q = 19 ∨ q = 20 ∨ q = 21 ∨ q = 22 ∨ q = 23 ∨ q = 24 by omega) with rfl | rfl | rfl | rfl | rfl | rfl | rfl | rfl | rfl | rfl | rfl | rfl | rfl | rfl | rfl | rfl | rfl | rfl | rfl | rfl | rfl | rfl | rfl | rfl | rfl <;> first | rfl | exact absurd rfl h1
theorem mw_w_walkNext (f : Nat → Int32) : am_set (mw sc ar la R) 53 (.inl (0, 36, .inl f)) = mw sc (va_up ar 19 f) la R := by
  refine mw_seta 53 0 36 (by decide) f (fun _ => rfl) (fun i h1 h2 => ?_)
  obtain ⟨q, rfl, hq⟩ : ∃ q, i = 34 + q ∧ q < 25 := ⟨i - 34, by omega, by omega⟩
  rcases (show q = 0 ∨ q = 1 ∨ q = 2 ∨ q = 3 ∨ q = 4 ∨ q = 5 ∨ q = 6 ∨ q = 7 ∨ q = 8 ∨ q = 9 ∨ q = 10 ∨ q = 11 ∨ q = 12 ∨ q = 13 ∨ q = 14 ∨ q = 15 ∨ q = 16 ∨ q = 17 ∨ q = 18 ∨ q = 19 ∨ q = 20 ∨ q = 21 ∨ q = 22 ∨ q = 23 ∨ q = 24 by omega) with rfl | rfl | rfl | rfl | rfl | rfl | rfl | rfl | rfl | rfl | rfl | rfl | rfl | rfl | rfl | rfl | rfl | rfl | rfl | rfl | rfl | rfl | rfl | rfl | rfl <;> first | rfl | exact absurd rfl h1
theorem mw_w_linear (f : Nat → Int64) : am_set (mw sc ar la R) 54 (.inl (1, 36, .inr (.inl f))) = mw sc ar (va_up la 20 f) R := by
  refine mw_setl 54 1 36 (by decide) f (fun _ => rfl) (fun i h1 h2 => ?_)
  obtain ⟨q, rfl, hq⟩ : ∃ q, i = 34 + q ∧ q < 25 := ⟨i - 34, by omega, by omega⟩
  rcases (show q = 0 ∨ q = 1 ∨ q = 2 ∨ q = 3 ∨ q = 4 ∨ q = 5 ∨ q = 6 ∨ q = 7 ∨ q = 8 ∨ q = 9 ∨ q = 10 ∨ q = 11 ∨ q = 12 ∨ q = 13 ∨ q = 14 ∨ q = 15 ∨ q = 16 ∨ q = 17 ∨ q = 18 ∨ q = 19 ∨ q = 20 ∨ q = 21 ∨ q = 22 ∨ q = 23 ∨ q = 24 by omega) with rfl | rfl | rfl | rfl | rfl | rfl | rfl | rfl | rfl | rfl | rfl | rfl | rfl | rfl | rfl | rfl | rfl | rfl | rfl | rfl | rfl | rfl | rfl | rfl | rfl <;> first | rfl | exact absurd rfl h1
theorem mw_w_exact (f : Nat → Int32) : am_set (mw sc ar la R) 55 (.inl (2, 6, .inl f)) = mw sc (va_up ar 21 f) la R := by
  refine mw_seta 55 2 6 (by decide) f (fun _ => rfl) (fun i h1 h2 => ?_)
  obtain ⟨q, rfl, hq⟩ : ∃ q, i = 34 + q ∧ q < 25 := ⟨i - 34, by omega, by omega⟩
  rcases (show q = 0 ∨ q = 1 ∨ q = 2 ∨ q = 3 ∨ q = 4 ∨ q = 5 ∨ q = 6 ∨ q = 7 ∨ q = 8 ∨ q = 9 ∨ q = 10 ∨ q = 11 ∨ q = 12 ∨ q = 13 ∨ q = 14 ∨ q = 15 ∨ q = 16 ∨ q = 17 ∨ q = 18 ∨ q = 19 ∨ q = 20 ∨ q = 21 ∨ q = 22 ∨ q = 23 ∨ q = 24 by omega) with rfl | rfl | rfl | rfl | rfl | rfl | rfl | rfl | rfl | rfl | rfl | rfl | rfl | rfl | rfl | rfl | rfl | rfl | rfl | rfl | rfl | rfl | rfl | rfl | rfl <;> first | rfl | exact absurd rfl h1
theorem mw_w_left (f : Nat → Int32) : am_set (mw sc ar la R) 56 (.inl (0, 6, .inl f)) = mw sc (va_up ar 22 f) la R := by
  refine mw_seta 56 0 6 (by decide) f (fun _ => rfl) (fun i h1 h2 => ?_)
  obtain ⟨q, rfl, hq⟩ : ∃ q, i = 34 + q ∧ q < 25 := ⟨i - 34, by omega, by omega⟩
  rcases (show q = 0 ∨ q = 1 ∨ q = 2 ∨ q = 3 ∨ q = 4 ∨ q = 5 ∨ q = 6 ∨ q = 7 ∨ q = 8 ∨ q = 9 ∨ q = 10 ∨ q = 11 ∨ q = 12 ∨ q = 13 ∨ q = 14 ∨ q = 15 ∨ q = 16 ∨ q = 17 ∨ q = 18 ∨ q = 19 ∨ q = 20 ∨ q = 21 ∨ q = 22 ∨ q = 23 ∨ q = 24 by omega) with rfl | rfl | rfl | rfl | rfl | rfl | rfl | rfl | rfl | rfl | rfl | rfl | rfl | rfl | rfl | rfl | rfl | rfl | rfl | rfl | rfl | rfl | rfl | rfl | rfl <;> first | rfl | exact absurd rfl h1
theorem mw_w_right (f : Nat → Int32) : am_set (mw sc ar la R) 57 (.inl (0, 6, .inl f)) = mw sc (va_up ar 23 f) la R := by
  refine mw_seta 57 0 6 (by decide) f (fun _ => rfl) (fun i h1 h2 => ?_)
  obtain ⟨q, rfl, hq⟩ : ∃ q, i = 34 + q ∧ q < 25 := ⟨i - 34, by omega, by omega⟩
  rcases (show q = 0 ∨ q = 1 ∨ q = 2 ∨ q = 3 ∨ q = 4 ∨ q = 5 ∨ q = 6 ∨ q = 7 ∨ q = 8 ∨ q = 9 ∨ q = 10 ∨ q = 11 ∨ q = 12 ∨ q = 13 ∨ q = 14 ∨ q = 15 ∨ q = 16 ∨ q = 17 ∨ q = 18 ∨ q = 19 ∨ q = 20 ∨ q = 21 ∨ q = 22 ∨ q = 23 ∨ q = 24 by omega) with rfl | rfl | rfl | rfl | rfl | rfl | rfl | rfl | rfl | rfl | rfl | rfl | rfl | rfl | rfl | rfl | rfl | rfl | rfl | rfl | rfl | rfl | rfl | rfl | rfl <;> first | rfl | exact absurd rfl h1
theorem mw_w_own (f : Nat → Int32) : am_set (mw sc ar la R) 58 (.inl (0, 36, .inl f)) = mw sc (va_up ar 24 f) la R := by
  refine mw_seta 58 0 36 (by decide) f (fun _ => rfl) (fun i h1 h2 => ?_)
  obtain ⟨q, rfl, hq⟩ : ∃ q, i = 34 + q ∧ q < 25 := ⟨i - 34, by omega, by omega⟩
  rcases (show q = 0 ∨ q = 1 ∨ q = 2 ∨ q = 3 ∨ q = 4 ∨ q = 5 ∨ q = 6 ∨ q = 7 ∨ q = 8 ∨ q = 9 ∨ q = 10 ∨ q = 11 ∨ q = 12 ∨ q = 13 ∨ q = 14 ∨ q = 15 ∨ q = 16 ∨ q = 17 ∨ q = 18 ∨ q = 19 ∨ q = 20 ∨ q = 21 ∨ q = 22 ∨ q = 23 ∨ q = 24 by omega) with rfl | rfl | rfl | rfl | rfl | rfl | rfl | rfl | rfl | rfl | rfl | rfl | rfl | rfl | rfl | rfl | rfl | rfl | rfl | rfl | rfl | rfl | rfl | rfl | rfl <;> first | rfl | exact absurd rfl h1
theorem mf_w_length (v : Int32) : va_up (mf sc) 1 (.int v) = mf (upd sc 1 v) := by
  refine mf_up 1 (by decide) (fun _ => rfl) (fun i h1 h2 => ?_)
  rcases (show i = 0 ∨ i = 1 ∨ i = 2 ∨ i = 3 ∨ i = 4 ∨ i = 5 ∨ i = 6 ∨ i = 7 ∨ i = 8 ∨ i = 9 ∨ i = 10 ∨ i = 11 ∨ i = 12 ∨ i = 13 ∨ i = 14 ∨ i = 15 ∨ i = 16 ∨ i = 17 ∨ i = 18 ∨ i = 19 ∨ i = 20 ∨ i = 21 ∨ i = 22 ∨ i = 23 ∨ i = 24 ∨ i = 25 ∨ i = 26 ∨ i = 27 ∨ i = 28 ∨ i = 29 ∨ i = 30 ∨ i = 31 ∨ i = 32 ∨ i = 33 ∨ i = 34 ∨ i = 35 by omega) with rfl | rfl | rfl | rfl | rfl | rfl | rfl | rfl | rfl | rfl | rfl | rfl | rfl | rfl | rfl | rfl | rfl | rfl | rfl | rfl | rfl | rfl | rfl | rfl | rfl | rfl | rfl | rfl | rfl | rfl | rfl | rfl | rfl | rfl | rfl | rfl <;> first | rfl | exact absurd rfl h1
theorem mf_w_mode (v : Int32) : va_up (mf sc) 2 (.int v) = mf (upd sc 2 v) := by
  refine mf_up 2 (by decide) (fun _ => rfl) (fun i h1 h2 => ?_)
  rcases (show i = 0 ∨ i = 1 ∨ i = 2 ∨ i = 3 ∨ i = 4 ∨ i = 5 ∨ i = 6 ∨ i = 7 ∨ i = 8 ∨ i = 9 ∨ i = 10 ∨ i = 11 ∨ i = 12 ∨ i = 13 ∨ i = 14 ∨ i = 15 ∨ i = 16 ∨ i = 17 ∨ i = 18 ∨ i = 19 ∨ i = 20 ∨ i = 21 ∨ i = 22 ∨ i = 23 ∨ i = 24 ∨ i = 25 ∨ i = 26 ∨ i = 27 ∨ i = 28 ∨ i = 29 ∨ i = 30 ∨ i = 31 ∨ i = 32 ∨ i = 33 ∨ i = 34 ∨ i = 35 by omega) with rfl | rfl | rfl | rfl | rfl | rfl | rfl | rfl | rfl | rfl | rfl | rfl | rfl | rfl | rfl | rfl | rfl | rfl | rfl | rfl | rfl | rfl | rfl | rfl | rfl | rfl | rfl | rfl | rfl | rfl | rfl | rfl | rfl | rfl | rfl | rfl <;> first | rfl | exact absurd rfl h1
theorem mf_w_digits (v : Int32) : va_up (mf sc) 3 (.int v) = mf (upd sc 3 v) := by
  refine mf_up 3 (by decide) (fun _ => rfl) (fun i h1 h2 => ?_)
  rcases (show i = 0 ∨ i = 1 ∨ i = 2 ∨ i = 3 ∨ i = 4 ∨ i = 5 ∨ i = 6 ∨ i = 7 ∨ i = 8 ∨ i = 9 ∨ i = 10 ∨ i = 11 ∨ i = 12 ∨ i = 13 ∨ i = 14 ∨ i = 15 ∨ i = 16 ∨ i = 17 ∨ i = 18 ∨ i = 19 ∨ i = 20 ∨ i = 21 ∨ i = 22 ∨ i = 23 ∨ i = 24 ∨ i = 25 ∨ i = 26 ∨ i = 27 ∨ i = 28 ∨ i = 29 ∨ i = 30 ∨ i = 31 ∨ i = 32 ∨ i = 33 ∨ i = 34 ∨ i = 35 by omega) with rfl | rfl | rfl | rfl | rfl | rfl | rfl | rfl | rfl | rfl | rfl | rfl | rfl | rfl | rfl | rfl | rfl | rfl | rfl | rfl | rfl | rfl | rfl | rfl | rfl | rfl | rfl | rfl | rfl | rfl | rfl | rfl | rfl | rfl | rfl | rfl <;> first | rfl | exact absurd rfl h1
theorem mf_w_numberAt (v : Int32) : va_up (mf sc) 4 (.int v) = mf (upd sc 4 v) := by
  refine mf_up 4 (by decide) (fun _ => rfl) (fun i h1 h2 => ?_)
  rcases (show i = 0 ∨ i = 1 ∨ i = 2 ∨ i = 3 ∨ i = 4 ∨ i = 5 ∨ i = 6 ∨ i = 7 ∨ i = 8 ∨ i = 9 ∨ i = 10 ∨ i = 11 ∨ i = 12 ∨ i = 13 ∨ i = 14 ∨ i = 15 ∨ i = 16 ∨ i = 17 ∨ i = 18 ∨ i = 19 ∨ i = 20 ∨ i = 21 ∨ i = 22 ∨ i = 23 ∨ i = 24 ∨ i = 25 ∨ i = 26 ∨ i = 27 ∨ i = 28 ∨ i = 29 ∨ i = 30 ∨ i = 31 ∨ i = 32 ∨ i = 33 ∨ i = 34 ∨ i = 35 by omega) with rfl | rfl | rfl | rfl | rfl | rfl | rfl | rfl | rfl | rfl | rfl | rfl | rfl | rfl | rfl | rfl | rfl | rfl | rfl | rfl | rfl | rfl | rfl | rfl | rfl | rfl | rfl | rfl | rfl | rfl | rfl | rfl | rfl | rfl | rfl | rfl <;> first | rfl | exact absurd rfl h1
theorem mf_w_tops (v : Int32) : va_up (mf sc) 5 (.int v) = mf (upd sc 5 v) := by
  refine mf_up 5 (by decide) (fun _ => rfl) (fun i h1 h2 => ?_)
  rcases (show i = 0 ∨ i = 1 ∨ i = 2 ∨ i = 3 ∨ i = 4 ∨ i = 5 ∨ i = 6 ∨ i = 7 ∨ i = 8 ∨ i = 9 ∨ i = 10 ∨ i = 11 ∨ i = 12 ∨ i = 13 ∨ i = 14 ∨ i = 15 ∨ i = 16 ∨ i = 17 ∨ i = 18 ∨ i = 19 ∨ i = 20 ∨ i = 21 ∨ i = 22 ∨ i = 23 ∨ i = 24 ∨ i = 25 ∨ i = 26 ∨ i = 27 ∨ i = 28 ∨ i = 29 ∨ i = 30 ∨ i = 31 ∨ i = 32 ∨ i = 33 ∨ i = 34 ∨ i = 35 by omega) with rfl | rfl | rfl | rfl | rfl | rfl | rfl | rfl | rfl | rfl | rfl | rfl | rfl | rfl | rfl | rfl | rfl | rfl | rfl | rfl | rfl | rfl | rfl | rfl | rfl | rfl | rfl | rfl | rfl | rfl | rfl | rfl | rfl | rfl | rfl | rfl <;> first | rfl | exact absurd rfl h1
theorem mf_w_outs (v : Int32) : va_up (mf sc) 8 (.int v) = mf (upd sc 8 v) := by
  refine mf_up 8 (by decide) (fun _ => rfl) (fun i h1 h2 => ?_)
  rcases (show i = 0 ∨ i = 1 ∨ i = 2 ∨ i = 3 ∨ i = 4 ∨ i = 5 ∨ i = 6 ∨ i = 7 ∨ i = 8 ∨ i = 9 ∨ i = 10 ∨ i = 11 ∨ i = 12 ∨ i = 13 ∨ i = 14 ∨ i = 15 ∨ i = 16 ∨ i = 17 ∨ i = 18 ∨ i = 19 ∨ i = 20 ∨ i = 21 ∨ i = 22 ∨ i = 23 ∨ i = 24 ∨ i = 25 ∨ i = 26 ∨ i = 27 ∨ i = 28 ∨ i = 29 ∨ i = 30 ∨ i = 31 ∨ i = 32 ∨ i = 33 ∨ i = 34 ∨ i = 35 by omega) with rfl | rfl | rfl | rfl | rfl | rfl | rfl | rfl | rfl | rfl | rfl | rfl | rfl | rfl | rfl | rfl | rfl | rfl | rfl | rfl | rfl | rfl | rfl | rfl | rfl | rfl | rfl | rfl | rfl | rfl | rfl | rfl | rfl | rfl | rfl | rfl <;> first | rfl | exact absurd rfl h1
theorem mf_w_count (v : Int32) : va_up (mf sc) 12 (.int v) = mf (upd sc 12 v) := by
  refine mf_up 12 (by decide) (fun _ => rfl) (fun i h1 h2 => ?_)
  rcases (show i = 0 ∨ i = 1 ∨ i = 2 ∨ i = 3 ∨ i = 4 ∨ i = 5 ∨ i = 6 ∨ i = 7 ∨ i = 8 ∨ i = 9 ∨ i = 10 ∨ i = 11 ∨ i = 12 ∨ i = 13 ∨ i = 14 ∨ i = 15 ∨ i = 16 ∨ i = 17 ∨ i = 18 ∨ i = 19 ∨ i = 20 ∨ i = 21 ∨ i = 22 ∨ i = 23 ∨ i = 24 ∨ i = 25 ∨ i = 26 ∨ i = 27 ∨ i = 28 ∨ i = 29 ∨ i = 30 ∨ i = 31 ∨ i = 32 ∨ i = 33 ∨ i = 34 ∨ i = 35 by omega) with rfl | rfl | rfl | rfl | rfl | rfl | rfl | rfl | rfl | rfl | rfl | rfl | rfl | rfl | rfl | rfl | rfl | rfl | rfl | rfl | rfl | rfl | rfl | rfl | rfl | rfl | rfl | rfl | rfl | rfl | rfl | rfl | rfl | rfl | rfl | rfl <;> first | rfl | exact absurd rfl h1
theorem mf_w_goal (v : Int32) : va_up (mf sc) 28 (.int v) = mf (upd sc 28 v) := by
  refine mf_up 28 (by decide) (fun _ => rfl) (fun i h1 h2 => ?_)
  rcases (show i = 0 ∨ i = 1 ∨ i = 2 ∨ i = 3 ∨ i = 4 ∨ i = 5 ∨ i = 6 ∨ i = 7 ∨ i = 8 ∨ i = 9 ∨ i = 10 ∨ i = 11 ∨ i = 12 ∨ i = 13 ∨ i = 14 ∨ i = 15 ∨ i = 16 ∨ i = 17 ∨ i = 18 ∨ i = 19 ∨ i = 20 ∨ i = 21 ∨ i = 22 ∨ i = 23 ∨ i = 24 ∨ i = 25 ∨ i = 26 ∨ i = 27 ∨ i = 28 ∨ i = 29 ∨ i = 30 ∨ i = 31 ∨ i = 32 ∨ i = 33 ∨ i = 34 ∨ i = 35 by omega) with rfl | rfl | rfl | rfl | rfl | rfl | rfl | rfl | rfl | rfl | rfl | rfl | rfl | rfl | rfl | rfl | rfl | rfl | rfl | rfl | rfl | rfl | rfl | rfl | rfl | rfl | rfl | rfl | rfl | rfl | rfl | rfl | rfl | rfl | rfl | rfl <;> first | rfl | exact absurd rfl h1
theorem mf_w_goalLeast (v : Int32) : va_up (mf sc) 29 (.int v) = mf (upd sc 29 v) := by
  refine mf_up 29 (by decide) (fun _ => rfl) (fun i h1 h2 => ?_)
  rcases (show i = 0 ∨ i = 1 ∨ i = 2 ∨ i = 3 ∨ i = 4 ∨ i = 5 ∨ i = 6 ∨ i = 7 ∨ i = 8 ∨ i = 9 ∨ i = 10 ∨ i = 11 ∨ i = 12 ∨ i = 13 ∨ i = 14 ∨ i = 15 ∨ i = 16 ∨ i = 17 ∨ i = 18 ∨ i = 19 ∨ i = 20 ∨ i = 21 ∨ i = 22 ∨ i = 23 ∨ i = 24 ∨ i = 25 ∨ i = 26 ∨ i = 27 ∨ i = 28 ∨ i = 29 ∨ i = 30 ∨ i = 31 ∨ i = 32 ∨ i = 33 ∨ i = 34 ∨ i = 35 by omega) with rfl | rfl | rfl | rfl | rfl | rfl | rfl | rfl | rfl | rfl | rfl | rfl | rfl | rfl | rfl | rfl | rfl | rfl | rfl | rfl | rfl | rfl | rfl | rfl | rfl | rfl | rfl | rfl | rfl | rfl | rfl | rfl | rfl | rfl | rfl | rfl <;> first | rfl | exact absurd rfl h1
theorem mf_w_requirements (v : Int32) : va_up (mf sc) 30 (.int v) = mf (upd sc 30 v) := by
  refine mf_up 30 (by decide) (fun _ => rfl) (fun i h1 h2 => ?_)
  rcases (show i = 0 ∨ i = 1 ∨ i = 2 ∨ i = 3 ∨ i = 4 ∨ i = 5 ∨ i = 6 ∨ i = 7 ∨ i = 8 ∨ i = 9 ∨ i = 10 ∨ i = 11 ∨ i = 12 ∨ i = 13 ∨ i = 14 ∨ i = 15 ∨ i = 16 ∨ i = 17 ∨ i = 18 ∨ i = 19 ∨ i = 20 ∨ i = 21 ∨ i = 22 ∨ i = 23 ∨ i = 24 ∨ i = 25 ∨ i = 26 ∨ i = 27 ∨ i = 28 ∨ i = 29 ∨ i = 30 ∨ i = 31 ∨ i = 32 ∨ i = 33 ∨ i = 34 ∨ i = 35 by omega) with rfl | rfl | rfl | rfl | rfl | rfl | rfl | rfl | rfl | rfl | rfl | rfl | rfl | rfl | rfl | rfl | rfl | rfl | rfl | rfl | rfl | rfl | rfl | rfl | rfl | rfl | rfl | rfl | rfl | rfl | rfl | rfl | rfl | rfl | rfl | rfl <;> first | rfl | exact absurd rfl h1
theorem mf_w_stands (v : Int32) : va_up (mf sc) 34 (.int v) = mf (upd sc 34 v) := by
  refine mf_up 34 (by decide) (fun _ => rfl) (fun i h1 h2 => ?_)
  rcases (show i = 0 ∨ i = 1 ∨ i = 2 ∨ i = 3 ∨ i = 4 ∨ i = 5 ∨ i = 6 ∨ i = 7 ∨ i = 8 ∨ i = 9 ∨ i = 10 ∨ i = 11 ∨ i = 12 ∨ i = 13 ∨ i = 14 ∨ i = 15 ∨ i = 16 ∨ i = 17 ∨ i = 18 ∨ i = 19 ∨ i = 20 ∨ i = 21 ∨ i = 22 ∨ i = 23 ∨ i = 24 ∨ i = 25 ∨ i = 26 ∨ i = 27 ∨ i = 28 ∨ i = 29 ∨ i = 30 ∨ i = 31 ∨ i = 32 ∨ i = 33 ∨ i = 34 ∨ i = 35 by omega) with rfl | rfl | rfl | rfl | rfl | rfl | rfl | rfl | rfl | rfl | rfl | rfl | rfl | rfl | rfl | rfl | rfl | rfl | rfl | rfl | rfl | rfl | rfl | rfl | rfl | rfl | rfl | rfl | rfl | rfl | rfl | rfl | rfl | rfl | rfl | rfl <;> first | rfl | exact absurd rfl h1
theorem mw_wr : (∀ (sc : Nat → Int32) (ar : Nat → Nat → Int32) (la : Nat → Nat → Int64) (R : am_W), (∀ f, am_set (mw sc ar la R) 34 (.inl (0, 20, .inl f)) = mw sc (va_up ar 0 f) la R)) ∧
  (∀ (sc : Nat → Int32) (ar : Nat → Nat → Int32) (la : Nat → Nat → Int64) (R : am_W), (∀ f, am_set (mw sc ar la R) 35 (.inl (0, 20, .inl f)) = mw sc (va_up ar 1 f) la R)) ∧
  (∀ (sc : Nat → Int32) (ar : Nat → Nat → Int32) (la : Nat → Nat → Int64) (R : am_W), (∀ f, am_set (mw sc ar la R) 36 (.inl (0, 20, .inl f)) = mw sc (va_up ar 2 f) la R)) ∧
  (∀ (sc : Nat → Int32) (ar : Nat → Nat → Int32) (la : Nat → Nat → Int64) (R : am_W), (∀ f, am_set (mw sc ar la R) 37 (.inl (0, 20, .inl f)) = mw sc (va_up ar 3 f) la R)) ∧
  (∀ (sc : Nat → Int32) (ar : Nat → Nat → Int32) (la : Nat → Nat → Int64) (R : am_W), (∀ f, am_set (mw sc ar la R) 38 (.inl (0, 20, .inl f)) = mw sc (va_up ar 4 f) la R)) ∧
  (∀ (sc : Nat → Int32) (ar : Nat → Nat → Int32) (la : Nat → Nat → Int64) (R : am_W), (∀ f, am_set (mw sc ar la R) 39 (.inl (0, 20, .inl f)) = mw sc (va_up ar 5 f) la R)) ∧
  (∀ (sc : Nat → Int32) (ar : Nat → Nat → Int32) (la : Nat → Nat → Int64) (R : am_W), (∀ f, am_set (mw sc ar la R) 40 (.inl (0, 36, .inl f)) = mw sc (va_up ar 6 f) la R)) ∧
  (∀ (sc : Nat → Int32) (ar : Nat → Nat → Int32) (la : Nat → Nat → Int64) (R : am_W), (∀ f, am_set (mw sc ar la R) 41 (.inl (0, 36, .inl f)) = mw sc (va_up ar 7 f) la R)) ∧
  (∀ (sc : Nat → Int32) (ar : Nat → Nat → Int32) (la : Nat → Nat → Int64) (R : am_W), (∀ f, am_set (mw sc ar la R) 42 (.inl (0, 108, .inl f)) = mw sc (va_up ar 8 f) la R)) ∧
  (∀ (sc : Nat → Int32) (ar : Nat → Nat → Int32) (la : Nat → Nat → Int64) (R : am_W), (∀ f, am_set (mw sc ar la R) 43 (.inl (1, 36, .inr (.inl f))) = mw sc ar (va_up la 9 f) R)) ∧
  (∀ (sc : Nat → Int32) (ar : Nat → Nat → Int32) (la : Nat → Nat → Int64) (R : am_W), (∀ f, am_set (mw sc ar la R) 44 (.inl (0, 36, .inl f)) = mw sc (va_up ar 10 f) la R)) ∧
  (∀ (sc : Nat → Int32) (ar : Nat → Nat → Int32) (la : Nat → Nat → Int64) (R : am_W), (∀ f, am_set (mw sc ar la R) 45 (.inl (2, 36, .inl f)) = mw sc (va_up ar 11 f) la R)) ∧
  (∀ (sc : Nat → Int32) (ar : Nat → Nat → Int32) (la : Nat → Nat → Int64) (R : am_W), (∀ f, am_set (mw sc ar la R) 46 (.inl (2, 36, .inl f)) = mw sc (va_up ar 12 f) la R)) ∧
  (∀ (sc : Nat → Int32) (ar : Nat → Nat → Int32) (la : Nat → Nat → Int64) (R : am_W), (∀ f, am_set (mw sc ar la R) 47 (.inl (0, 36, .inl f)) = mw sc (va_up ar 13 f) la R)) ∧
  (∀ (sc : Nat → Int32) (ar : Nat → Nat → Int32) (la : Nat → Nat → Int64) (R : am_W), (∀ f, am_set (mw sc ar la R) 48 (.inl (0, 36, .inl f)) = mw sc (va_up ar 14 f) la R)) ∧
  (∀ (sc : Nat → Int32) (ar : Nat → Nat → Int32) (la : Nat → Nat → Int64) (R : am_W), (∀ f, am_set (mw sc ar la R) 49 (.inl (0, 36, .inl f)) = mw sc (va_up ar 15 f) la R)) ∧
  (∀ (sc : Nat → Int32) (ar : Nat → Nat → Int32) (la : Nat → Nat → Int64) (R : am_W), (∀ f, am_set (mw sc ar la R) 50 (.inl (2, 36, .inl f)) = mw sc (va_up ar 16 f) la R)) ∧
  (∀ (sc : Nat → Int32) (ar : Nat → Nat → Int32) (la : Nat → Nat → Int64) (R : am_W), (∀ f, am_set (mw sc ar la R) 51 (.inl (2, 36, .inl f)) = mw sc (va_up ar 17 f) la R)) ∧
  (∀ (sc : Nat → Int32) (ar : Nat → Nat → Int32) (la : Nat → Nat → Int64) (R : am_W), (∀ f, am_set (mw sc ar la R) 52 (.inl (0, 36, .inl f)) = mw sc (va_up ar 18 f) la R)) ∧
  (∀ (sc : Nat → Int32) (ar : Nat → Nat → Int32) (la : Nat → Nat → Int64) (R : am_W), (∀ f, am_set (mw sc ar la R) 53 (.inl (0, 36, .inl f)) = mw sc (va_up ar 19 f) la R)) ∧
  (∀ (sc : Nat → Int32) (ar : Nat → Nat → Int32) (la : Nat → Nat → Int64) (R : am_W), (∀ f, am_set (mw sc ar la R) 54 (.inl (1, 36, .inr (.inl f))) = mw sc ar (va_up la 20 f) R)) ∧
  (∀ (sc : Nat → Int32) (ar : Nat → Nat → Int32) (la : Nat → Nat → Int64) (R : am_W), (∀ f, am_set (mw sc ar la R) 55 (.inl (2, 6, .inl f)) = mw sc (va_up ar 21 f) la R)) ∧
  (∀ (sc : Nat → Int32) (ar : Nat → Nat → Int32) (la : Nat → Nat → Int64) (R : am_W), (∀ f, am_set (mw sc ar la R) 56 (.inl (0, 6, .inl f)) = mw sc (va_up ar 22 f) la R)) ∧
  (∀ (sc : Nat → Int32) (ar : Nat → Nat → Int32) (la : Nat → Nat → Int64) (R : am_W), (∀ f, am_set (mw sc ar la R) 57 (.inl (0, 6, .inl f)) = mw sc (va_up ar 23 f) la R)) ∧
  (∀ (sc : Nat → Int32) (ar : Nat → Nat → Int32) (la : Nat → Nat → Int64) (R : am_W), (∀ f, am_set (mw sc ar la R) 58 (.inl (0, 36, .inl f)) = mw sc (va_up ar 24 f) la R)) ∧
  (∀ (sc : Nat → Int32), (∀ v, va_up (mf sc) 1 (.int v) = mf (upd sc 1 v))) ∧
  (∀ (sc : Nat → Int32), (∀ v, va_up (mf sc) 2 (.int v) = mf (upd sc 2 v))) ∧
  (∀ (sc : Nat → Int32), (∀ v, va_up (mf sc) 3 (.int v) = mf (upd sc 3 v))) ∧
  (∀ (sc : Nat → Int32), (∀ v, va_up (mf sc) 4 (.int v) = mf (upd sc 4 v))) ∧
  (∀ (sc : Nat → Int32), (∀ v, va_up (mf sc) 5 (.int v) = mf (upd sc 5 v))) ∧
  (∀ (sc : Nat → Int32), (∀ v, va_up (mf sc) 8 (.int v) = mf (upd sc 8 v))) ∧
  (∀ (sc : Nat → Int32), (∀ v, va_up (mf sc) 12 (.int v) = mf (upd sc 12 v))) ∧
  (∀ (sc : Nat → Int32), (∀ v, va_up (mf sc) 28 (.int v) = mf (upd sc 28 v))) ∧
  (∀ (sc : Nat → Int32), (∀ v, va_up (mf sc) 29 (.int v) = mf (upd sc 29 v))) ∧
  (∀ (sc : Nat → Int32), (∀ v, va_up (mf sc) 30 (.int v) = mf (upd sc 30 v))) ∧
  (∀ (sc : Nat → Int32), (∀ v, va_up (mf sc) 34 (.int v) = mf (upd sc 34 v))) ∧
  (∀ (sc : Nat → Int32) (ar : Nat → Nat → Int32) (la : Nat → Nat → Int64) (R : am_W), (∀ sc', am_set (mw sc ar la R) 33 (.inr (11, mf sc')) = mw sc' ar la R)) := ⟨fun _ _ _ _ => mw_w_line, fun _ _ _ _ => mw_w_top, fun _ _ _ _ => mw_w_commas, fun _ _ _ _ => mw_w_outKind, fun _ _ _ _ => mw_w_outNumber, fun _ _ _ _ => mw_w_taken, fun _ _ _ _ => mw_w_kind, fun _ _ _ _ => mw_w_number, fun _ _ _ _ => mw_w_argument, fun _ _ _ _ => mw_w_reaches, fun _ _ _ _ => mw_w_given, fun _ _ _ _ => mw_w_above, fun _ _ _ _ => mw_w_below, fun _ _ _ _ => mw_w_curve, fun _ _ _ _ => mw_w_blame, fun _ _ _ _ => mw_w_worth, fun _ _ _ _ => mw_w_used, fun _ _ _ _ => mw_w_met, fun _ _ _ _ => mw_w_walkNode, fun _ _ _ _ => mw_w_walkNext, fun _ _ _ _ => mw_w_linear, fun _ _ _ _ => mw_w_exact, fun _ _ _ _ => mw_w_left, fun _ _ _ _ => mw_w_right, fun _ _ _ _ => mw_w_own, fun _ => mf_w_length, fun _ => mf_w_mode, fun _ => mf_w_digits, fun _ => mf_w_numberAt, fun _ => mf_w_tops, fun _ => mf_w_outs, fun _ => mf_w_count, fun _ => mf_w_goal, fun _ => mf_w_goalLeast, fun _ => mf_w_requirements, fun _ => mf_w_stands, fun _ _ _ _ => fun _ => mw_setf⟩
theorem am_iput_s {w : am_W} {a k n : Nat} {i x : Int32} {f : Nat → Int32} (h : w.1 a = some (.inl (k, n, .inl f))) : am_iput w a i x = am_set w a (.inl (k, n, .inl (upd f i.toNatClampNeg x))) := by simp [am_iput, h]
theorem am_lput_s {w : am_W} {a k n : Nat} {i : Int32} {x : Int64} {f : Nat → Int64} (h : w.1 a = some (.inl (k, n, .inr (.inl f)))) : am_lput w a i x = am_set w a (.inl (k, n, .inr (.inl (vp_updL f i.toNatClampNeg x)))) := by simp [am_lput, h]
theorem mw_put : (∀ (sc : Nat → Int32) (ar : Nat → Nat → Int32) (la : Nat → Nat → Int64) (R : am_W), (∀ i x, am_iput (mw sc ar la R) 34 i x = mw sc (va_up ar 0 (upd (ar 0) i.toNatClampNeg x)) la R)) ∧
  (∀ (sc : Nat → Int32) (ar : Nat → Nat → Int32) (la : Nat → Nat → Int64) (R : am_W), (∀ i x, am_iput (mw sc ar la R) 35 i x = mw sc (va_up ar 1 (upd (ar 1) i.toNatClampNeg x)) la R)) ∧
  (∀ (sc : Nat → Int32) (ar : Nat → Nat → Int32) (la : Nat → Nat → Int64) (R : am_W), (∀ i x, am_iput (mw sc ar la R) 36 i x = mw sc (va_up ar 2 (upd (ar 2) i.toNatClampNeg x)) la R)) ∧
  (∀ (sc : Nat → Int32) (ar : Nat → Nat → Int32) (la : Nat → Nat → Int64) (R : am_W), (∀ i x, am_iput (mw sc ar la R) 37 i x = mw sc (va_up ar 3 (upd (ar 3) i.toNatClampNeg x)) la R)) ∧
  (∀ (sc : Nat → Int32) (ar : Nat → Nat → Int32) (la : Nat → Nat → Int64) (R : am_W), (∀ i x, am_iput (mw sc ar la R) 38 i x = mw sc (va_up ar 4 (upd (ar 4) i.toNatClampNeg x)) la R)) ∧
  (∀ (sc : Nat → Int32) (ar : Nat → Nat → Int32) (la : Nat → Nat → Int64) (R : am_W), (∀ i x, am_iput (mw sc ar la R) 39 i x = mw sc (va_up ar 5 (upd (ar 5) i.toNatClampNeg x)) la R)) ∧
  (∀ (sc : Nat → Int32) (ar : Nat → Nat → Int32) (la : Nat → Nat → Int64) (R : am_W), (∀ i x, am_iput (mw sc ar la R) 40 i x = mw sc (va_up ar 6 (upd (ar 6) i.toNatClampNeg x)) la R)) ∧
  (∀ (sc : Nat → Int32) (ar : Nat → Nat → Int32) (la : Nat → Nat → Int64) (R : am_W), (∀ i x, am_iput (mw sc ar la R) 41 i x = mw sc (va_up ar 7 (upd (ar 7) i.toNatClampNeg x)) la R)) ∧
  (∀ (sc : Nat → Int32) (ar : Nat → Nat → Int32) (la : Nat → Nat → Int64) (R : am_W), (∀ i x, am_iput (mw sc ar la R) 42 i x = mw sc (va_up ar 8 (upd (ar 8) i.toNatClampNeg x)) la R)) ∧
  (∀ (sc : Nat → Int32) (ar : Nat → Nat → Int32) (la : Nat → Nat → Int64) (R : am_W), (∀ i x, am_lput (mw sc ar la R) 43 i x = mw sc ar (va_up la 9 (vp_updL (la 9) i.toNatClampNeg x)) R)) ∧
  (∀ (sc : Nat → Int32) (ar : Nat → Nat → Int32) (la : Nat → Nat → Int64) (R : am_W), (∀ i x, am_iput (mw sc ar la R) 44 i x = mw sc (va_up ar 10 (upd (ar 10) i.toNatClampNeg x)) la R)) ∧
  (∀ (sc : Nat → Int32) (ar : Nat → Nat → Int32) (la : Nat → Nat → Int64) (R : am_W), (∀ i x, am_iput (mw sc ar la R) 45 i x = mw sc (va_up ar 11 (upd (ar 11) i.toNatClampNeg x)) la R)) ∧
  (∀ (sc : Nat → Int32) (ar : Nat → Nat → Int32) (la : Nat → Nat → Int64) (R : am_W), (∀ i x, am_iput (mw sc ar la R) 46 i x = mw sc (va_up ar 12 (upd (ar 12) i.toNatClampNeg x)) la R)) ∧
  (∀ (sc : Nat → Int32) (ar : Nat → Nat → Int32) (la : Nat → Nat → Int64) (R : am_W), (∀ i x, am_iput (mw sc ar la R) 47 i x = mw sc (va_up ar 13 (upd (ar 13) i.toNatClampNeg x)) la R)) ∧
  (∀ (sc : Nat → Int32) (ar : Nat → Nat → Int32) (la : Nat → Nat → Int64) (R : am_W), (∀ i x, am_iput (mw sc ar la R) 48 i x = mw sc (va_up ar 14 (upd (ar 14) i.toNatClampNeg x)) la R)) ∧
  (∀ (sc : Nat → Int32) (ar : Nat → Nat → Int32) (la : Nat → Nat → Int64) (R : am_W), (∀ i x, am_iput (mw sc ar la R) 49 i x = mw sc (va_up ar 15 (upd (ar 15) i.toNatClampNeg x)) la R)) ∧
  (∀ (sc : Nat → Int32) (ar : Nat → Nat → Int32) (la : Nat → Nat → Int64) (R : am_W), (∀ i x, am_iput (mw sc ar la R) 50 i x = mw sc (va_up ar 16 (upd (ar 16) i.toNatClampNeg x)) la R)) ∧
  (∀ (sc : Nat → Int32) (ar : Nat → Nat → Int32) (la : Nat → Nat → Int64) (R : am_W), (∀ i x, am_iput (mw sc ar la R) 51 i x = mw sc (va_up ar 17 (upd (ar 17) i.toNatClampNeg x)) la R)) ∧
  (∀ (sc : Nat → Int32) (ar : Nat → Nat → Int32) (la : Nat → Nat → Int64) (R : am_W), (∀ i x, am_iput (mw sc ar la R) 52 i x = mw sc (va_up ar 18 (upd (ar 18) i.toNatClampNeg x)) la R)) ∧
  (∀ (sc : Nat → Int32) (ar : Nat → Nat → Int32) (la : Nat → Nat → Int64) (R : am_W), (∀ i x, am_iput (mw sc ar la R) 53 i x = mw sc (va_up ar 19 (upd (ar 19) i.toNatClampNeg x)) la R)) ∧
  (∀ (sc : Nat → Int32) (ar : Nat → Nat → Int32) (la : Nat → Nat → Int64) (R : am_W), (∀ i x, am_lput (mw sc ar la R) 54 i x = mw sc ar (va_up la 20 (vp_updL (la 20) i.toNatClampNeg x)) R)) ∧
  (∀ (sc : Nat → Int32) (ar : Nat → Nat → Int32) (la : Nat → Nat → Int64) (R : am_W), (∀ i x, am_iput (mw sc ar la R) 55 i x = mw sc (va_up ar 21 (upd (ar 21) i.toNatClampNeg x)) la R)) ∧
  (∀ (sc : Nat → Int32) (ar : Nat → Nat → Int32) (la : Nat → Nat → Int64) (R : am_W), (∀ i x, am_iput (mw sc ar la R) 56 i x = mw sc (va_up ar 22 (upd (ar 22) i.toNatClampNeg x)) la R)) ∧
  (∀ (sc : Nat → Int32) (ar : Nat → Nat → Int32) (la : Nat → Nat → Int64) (R : am_W), (∀ i x, am_iput (mw sc ar la R) 57 i x = mw sc (va_up ar 23 (upd (ar 23) i.toNatClampNeg x)) la R)) ∧
  (∀ (sc : Nat → Int32) (ar : Nat → Nat → Int32) (la : Nat → Nat → Int64) (R : am_W), (∀ i x, am_iput (mw sc ar la R) 58 i x = mw sc (va_up ar 24 (upd (ar 24) i.toNatClampNeg x)) la R)) ∧
  (∀ (sc : Nat → Int32) (ar : Nat → Nat → Int32) (la : Nat → Nat → Int64) (R : am_W), (∀ v, am_put (mw sc ar la R) 33 705 (.int v) = mw (upd sc 1 v) ar la R)) ∧
  (∀ (sc : Nat → Int32) (ar : Nat → Nat → Int32) (la : Nat → Nat → Int64) (R : am_W), (∀ v, am_put (mw sc ar la R) 33 706 (.int v) = mw (upd sc 2 v) ar la R)) ∧
  (∀ (sc : Nat → Int32) (ar : Nat → Nat → Int32) (la : Nat → Nat → Int64) (R : am_W), (∀ v, am_put (mw sc ar la R) 33 707 (.int v) = mw (upd sc 3 v) ar la R)) ∧
  (∀ (sc : Nat → Int32) (ar : Nat → Nat → Int32) (la : Nat → Nat → Int64) (R : am_W), (∀ v, am_put (mw sc ar la R) 33 708 (.int v) = mw (upd sc 4 v) ar la R)) ∧
  (∀ (sc : Nat → Int32) (ar : Nat → Nat → Int32) (la : Nat → Nat → Int64) (R : am_W), (∀ v, am_put (mw sc ar la R) 33 709 (.int v) = mw (upd sc 5 v) ar la R)) ∧
  (∀ (sc : Nat → Int32) (ar : Nat → Nat → Int32) (la : Nat → Nat → Int64) (R : am_W), (∀ v, am_put (mw sc ar la R) 33 712 (.int v) = mw (upd sc 8 v) ar la R)) ∧
  (∀ (sc : Nat → Int32) (ar : Nat → Nat → Int32) (la : Nat → Nat → Int64) (R : am_W), (∀ v, am_put (mw sc ar la R) 33 716 (.int v) = mw (upd sc 12 v) ar la R)) ∧
  (∀ (sc : Nat → Int32) (ar : Nat → Nat → Int32) (la : Nat → Nat → Int64) (R : am_W), (∀ v, am_put (mw sc ar la R) 33 732 (.int v) = mw (upd sc 28 v) ar la R)) ∧
  (∀ (sc : Nat → Int32) (ar : Nat → Nat → Int32) (la : Nat → Nat → Int64) (R : am_W), (∀ v, am_put (mw sc ar la R) 33 4829 (.int v) = mw (upd sc 29 v) ar la R)) ∧
  (∀ (sc : Nat → Int32) (ar : Nat → Nat → Int32) (la : Nat → Nat → Int64) (R : am_W), (∀ v, am_put (mw sc ar la R) 33 734 (.int v) = mw (upd sc 30 v) ar la R)) ∧
  (∀ (sc : Nat → Int32) (ar : Nat → Nat → Int32) (la : Nat → Nat → Int64) (R : am_W), (∀ v, am_put (mw sc ar la R) 33 4834 (.int v) = mw (upd sc 34 v) ar la R)) :=
  ⟨fun sc ar la R => fun i x => (am_iput_s (k := 0) (n := 20) (f := ar 0) rfl).trans (mw_w_line _),
  fun sc ar la R => fun i x => (am_iput_s (k := 0) (n := 20) (f := ar 1) rfl).trans (mw_w_top _),
  fun sc ar la R => fun i x => (am_iput_s (k := 0) (n := 20) (f := ar 2) rfl).trans (mw_w_commas _),
  fun sc ar la R => fun i x => (am_iput_s (k := 0) (n := 20) (f := ar 3) rfl).trans (mw_w_outKind _),
  fun sc ar la R => fun i x => (am_iput_s (k := 0) (n := 20) (f := ar 4) rfl).trans (mw_w_outNumber _),
  fun sc ar la R => fun i x => (am_iput_s (k := 0) (n := 20) (f := ar 5) rfl).trans (mw_w_taken _),
  fun sc ar la R => fun i x => (am_iput_s (k := 0) (n := 36) (f := ar 6) rfl).trans (mw_w_kind _),
  fun sc ar la R => fun i x => (am_iput_s (k := 0) (n := 36) (f := ar 7) rfl).trans (mw_w_number _),
  fun sc ar la R => fun i x => (am_iput_s (k := 0) (n := 108) (f := ar 8) rfl).trans (mw_w_argument _),
  fun sc ar la R => fun i x => (am_lput_s (k := 1) (n := 36) (f := la 9) rfl).trans (mw_w_reaches _),
  fun sc ar la R => fun i x => (am_iput_s (k := 0) (n := 36) (f := ar 10) rfl).trans (mw_w_given _),
  fun sc ar la R => fun i x => (am_iput_s (k := 2) (n := 36) (f := ar 11) rfl).trans (mw_w_above _),
  fun sc ar la R => fun i x => (am_iput_s (k := 2) (n := 36) (f := ar 12) rfl).trans (mw_w_below _),
  fun sc ar la R => fun i x => (am_iput_s (k := 0) (n := 36) (f := ar 13) rfl).trans (mw_w_curve _),
  fun sc ar la R => fun i x => (am_iput_s (k := 0) (n := 36) (f := ar 14) rfl).trans (mw_w_blame _),
  fun sc ar la R => fun i x => (am_iput_s (k := 0) (n := 36) (f := ar 15) rfl).trans (mw_w_worth _),
  fun sc ar la R => fun i x => (am_iput_s (k := 2) (n := 36) (f := ar 16) rfl).trans (mw_w_used _),
  fun sc ar la R => fun i x => (am_iput_s (k := 2) (n := 36) (f := ar 17) rfl).trans (mw_w_met _),
  fun sc ar la R => fun i x => (am_iput_s (k := 0) (n := 36) (f := ar 18) rfl).trans (mw_w_walkNode _),
  fun sc ar la R => fun i x => (am_iput_s (k := 0) (n := 36) (f := ar 19) rfl).trans (mw_w_walkNext _),
  fun sc ar la R => fun i x => (am_lput_s (k := 1) (n := 36) (f := la 20) rfl).trans (mw_w_linear _),
  fun sc ar la R => fun i x => (am_iput_s (k := 2) (n := 6) (f := ar 21) rfl).trans (mw_w_exact _),
  fun sc ar la R => fun i x => (am_iput_s (k := 0) (n := 6) (f := ar 22) rfl).trans (mw_w_left _),
  fun sc ar la R => fun i x => (am_iput_s (k := 0) (n := 6) (f := ar 23) rfl).trans (mw_w_right _),
  fun sc ar la R => fun i x => (am_iput_s (k := 0) (n := 36) (f := ar 24) rfl).trans (mw_w_own _),
  fun sc ar la R => fun v => (am_put_s (o := (11, mf sc)) rfl).trans ((congrArg (fun f => am_set (mw sc ar la R) 33 (.inr (11, f))) (mf_w_length v)).trans mw_setf),
  fun sc ar la R => fun v => (am_put_s (o := (11, mf sc)) rfl).trans ((congrArg (fun f => am_set (mw sc ar la R) 33 (.inr (11, f))) (mf_w_mode v)).trans mw_setf),
  fun sc ar la R => fun v => (am_put_s (o := (11, mf sc)) rfl).trans ((congrArg (fun f => am_set (mw sc ar la R) 33 (.inr (11, f))) (mf_w_digits v)).trans mw_setf),
  fun sc ar la R => fun v => (am_put_s (o := (11, mf sc)) rfl).trans ((congrArg (fun f => am_set (mw sc ar la R) 33 (.inr (11, f))) (mf_w_numberAt v)).trans mw_setf),
  fun sc ar la R => fun v => (am_put_s (o := (11, mf sc)) rfl).trans ((congrArg (fun f => am_set (mw sc ar la R) 33 (.inr (11, f))) (mf_w_tops v)).trans mw_setf),
  fun sc ar la R => fun v => (am_put_s (o := (11, mf sc)) rfl).trans ((congrArg (fun f => am_set (mw sc ar la R) 33 (.inr (11, f))) (mf_w_outs v)).trans mw_setf),
  fun sc ar la R => fun v => (am_put_s (o := (11, mf sc)) rfl).trans ((congrArg (fun f => am_set (mw sc ar la R) 33 (.inr (11, f))) (mf_w_count v)).trans mw_setf),
  fun sc ar la R => fun v => (am_put_s (o := (11, mf sc)) rfl).trans ((congrArg (fun f => am_set (mw sc ar la R) 33 (.inr (11, f))) (mf_w_goal v)).trans mw_setf),
  fun sc ar la R => fun v => (am_put_s (o := (11, mf sc)) rfl).trans ((congrArg (fun f => am_set (mw sc ar la R) 33 (.inr (11, f))) (mf_w_goalLeast v)).trans mw_setf),
  fun sc ar la R => fun v => (am_put_s (o := (11, mf sc)) rfl).trans ((congrArg (fun f => am_set (mw sc ar la R) 33 (.inr (11, f))) (mf_w_requirements v)).trans mw_setf),
  fun sc ar la R => fun v => (am_put_s (o := (11, mf sc)) rfl).trans ((congrArg (fun f => am_set (mw sc ar la R) 33 (.inr (11, f))) (mf_w_stands v)).trans mw_setf)⟩
end MW
