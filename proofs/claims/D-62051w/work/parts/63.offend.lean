/-! THE CLASS's offender, plain: it is the model's walk. -/
def ofJ (V : Nat → (Nat → Bool) → Option Nat × (Nat → Bool)) (t k b : Nat) (a : Nat → Nat) : Nat → (Nat → Bool) → Option Nat × (Nat → Bool)
  | 0, met => if 0 < b then (some k, met) else (none, met)
  | m + 1, met => match V (a (ary t - (m + 1))) met with
    | (some x, met') => (some x, met')
    | (none, met') => ofJ V t k b a m met'
def ofV (kd bl : Nat → Nat) (ag : Nat → Nat → Nat) : Nat → Nat → (Nat → Bool) → Option Nat × (Nat → Bool)
  | 0, k, met => if met k = true then (none, met) else (none, add1 met k)
  | f + 1, k, met => if met k = true then (none, met) else ofJ (ofV kd bl ag f) (kd k) k (bl k) (ag k) (ary (kd k)) (add1 met k)
theorem of_J {V V' : Nat → (Nat → Bool) → Option Nat × (Nat → Bool)} (h : ∀ x s, V x s = if s x = true then (none, s) else V' x (add1 s x)) (t k b : Nat) (a : Nat → Nat) : ∀ m s, ofJ V t k b a m s = dfJ V' t k b a m s
  | 0, s => rfl
  | m + 1, s => by
    simp only [ofJ, dfJ, h]
    by_cases y : s (a (ary t - (m + 1))) = true
    · simp only [y, ↓reduceIte]; exact of_J h t k b a m s
    · simp only [y, ↓reduceIte, Bool.false_eq_true]
      generalize V' (a (ary t - (m + 1))) (add1 s (a (ary t - (m + 1)))) = p
      obtain ⟨p1, p2⟩ := p
      cases p1 with
      | some x => rfl
      | none => exact of_J h t k b a m p2
theorem of_V (kd bl : Nat → Nat) (ag : Nat → Nat → Nat) : ∀ f k s, ofV kd bl ag f k s = if s k = true then (none, s) else dfV kd bl ag f k (add1 s k)
  | 0, k, s => rfl
  | f + 1, k, s => by
    simp only [ofV, dfV]
    rw [of_J (of_V kd bl ag f)]
/-- marks from k on make no difference -/
def EQk (k : Nat) (x y : Option Nat × (Nat → Bool)) : Prop := x.1 = y.1 ∧ ∀ i, i < k → x.2 i = y.2 i
theorem df_J {n : Nat} {V : Nat → (Nat → Bool) → Option Nat × (Nat → Bool)} {q : Nat} (hV : ∀ x s s', x < q → (∀ i, i < q → s i = s' i) → EQk q (V x s) (V x s')) (t k b : Nat) (a : Nat → Nat) (ha : ∀ j, j < ary t → a j < q) : ∀ m s s', m ≤ ary t → (∀ i, i < q → s i = s' i) → EQk q (dfJ V t k b a m s) (dfJ V t k b a m s')
  | 0, s, s', _, h => by
    simp only [dfJ]
    split <;> exact ⟨rfl, h⟩
  | m + 1, s, s', hm, h => by
    have hx := ha (ary t - (m + 1)) (by omega)
    simp only [dfJ]
    rw [← h _ hx]
    by_cases y : s (a (ary t - (m + 1))) = true
    · simp only [y, ↓reduceIte]; exact df_J (n := n) hV t k b a ha m s s' (by omega) h
    · simp only [y, ↓reduceIte, Bool.false_eq_true]
      have e := hV _ (add1 s (a (ary t - (m + 1)))) (add1 s' (a (ary t - (m + 1)))) hx (fun i hi => by simp only [add1]; split; rfl; exact h i hi)
      obtain ⟨e1, e2⟩ := e
      generalize V (a (ary t - (m + 1))) (add1 s (a (ary t - (m + 1)))) = p at *
      generalize V (a (ary t - (m + 1))) (add1 s' (a (ary t - (m + 1)))) = p' at *
      obtain ⟨p1, p2⟩ := p
      obtain ⟨q1, q2⟩ := p'
      simp only at e1 e2
      subst e1
      cases p1 with
      | none => exact df_J (n := n) hV t k b a ha m p2 q2 (by omega) e2
      | some x => exact ⟨rfl, e2⟩
theorem df_V {n : Nat} {kd bl : Nat → Nat} {ag : Nat → Nat → Nat} (hag : ∀ k, k < n → ∀ j, j < ary (kd k) → ag k j < k) (q : Nat) (hq : q ≤ n) : ∀ f k s s', k < q → (∀ i, i < q → s i = s' i) → EQk q (dfV kd bl ag f k s) (dfV kd bl ag f k s')
  | 0, k, s, s', hk, h => ⟨rfl, h⟩
  | f + 1, k, s, s', hk, h => by
    simp only [dfV]
    exact df_J (n := n) (df_V hag q hq f) _ _ _ _ (fun j hj => by have := hag k (by omega) j hj; omega) _ s s' (Nat.le_refl _) h
theorem of_root {n : Nat} {kd bl : Nat → Nat} {ag : Nat → Nat → Nat} (hag : ∀ k, k < n → ∀ j, j < ary (kd k) → ag k j < k) {k : Nat} (hk : k < n) : (ofV kd bl ag (k + 1) k (fun _ => false)).1 = (dfV kd bl ag (k + 1) k (fun _ => false)).1 := by
  rw [of_V]
  simp only [Bool.false_eq_true, ↓reduceIte, dfV]
  exact (df_J (n := n) (df_V hag k (by omega) k) _ _ _ _ (fun j hj => hag k hk j hj) _ (add1 (fun _ => false) k) (fun _ => false) (Nat.le_refl _) (fun i hi => by simp only [add1]; rw [if_neg (by omega)])).1
theorem hv_0 {c : Nat → Nat} {lo hi : Nat} : ∀ m, hvF c lo hi m = 0 → ∀ j, j < m → ¬ (lo ≤ c j ∧ c j ≤ hi)
  | 0, _, j, hj => by omega
  | m + 1, h, j, hj => by
    simp only [hvF] at h
    by_cases e : j = m
    · subst e; intro hc; simp [hc] at h
    · exact hv_0 m (by omega) j (by omega)
theorem hv_z {c : Nat → Nat} {lo hi : Nat} : ∀ m, (∀ j, j < m → ¬ (lo ≤ c j ∧ c j ≤ hi)) → hvF c lo hi m = 0
  | 0, _ => rfl
  | m + 1, h => by
    have h1 := h m (by omega)
    simp only [hvF, hv_z m (fun j hj => h j (by omega)), h1, ↓reduceIte]
theorem hv_n {c : Nat → Nat} {lo hi : Nat} : ∀ m, hvF c lo hi m = m → ∀ j, j < m → lo ≤ c j ∧ c j ≤ hi
  | 0, _, j, hj => by omega
  | m + 1, h, j, hj => by
    have hl := hvF_le c lo hi m
    simp only [hvF] at h
    by_cases y : lo ≤ c m ∧ c m ≤ hi
    · simp only [y, and_self, ↓reduceIte] at h
      by_cases e : j = m
      · subst e; exact y
      · exact hv_n m (by omega) j (by omega)
    · simp only [y, ↓reduceIte] at h; omega
theorem fn_pos {ad : Nat → Bool} : ∀ m f, 0 < f → 0 < fnF ad m f
  | 0, f, h => h
  | m + 1, f, h => by
    simp only [fnF]
    exact fn_pos m _ (by split <;> omega)
theorem fn_no {ad : Nat → Bool} {j : Nat} (h : ad j = false) : ∀ m f, j < m → 0 < fnF ad m f
  | 0, f, hj => by omega
  | m + 1, f, hj => by
    simp only [fnF]
    by_cases e : j = m
    · subst e; simp only [h, Bool.false_eq_true, ↓reduceIte]; exact fn_pos _ _ (by omega)
    · exact fn_no h m _ (by omega)
theorem adF_4 (w : Nat) (r : Int32) : adF 4 w r = false := by simp [adF]
/-- an unknown argument makes it unknown -/
theorem cv_un {t : Nat} {c : Nat → Nat} {u d : Nat → Bool} {j : Nat} (hj : j < ary t) (h : c j = 4) : cvF t c u d = 4 := by
  have h0 : ¬ ary t = 0 := by omega
  have h1 : ¬ hvF c 0 0 (ary t) = ary t := fun e => by have := hv_n _ e j hj; omega
  have h2 : ¬ hvF c 0 1 (ary t) = ary t := fun e => by have := hv_n _ e j hj; omega
  have h3 : ¬ fnF (fun j => adF (c j) 2 (trF t j u d)) (ary t) 0 = 0 := by
    have := fn_no (ad := fun j => adF (c j) 2 (trF t j u d)) (j := j) (by simp only [h, adF_4]) (ary t) 0 hj
    omega
  have h4 : ¬ fnF (fun j => adF (c j) 3 (trF t j u d)) (ary t) 0 = 0 := by
    have := fn_no (ad := fun j => adF (c j) 3 (trF t j u d)) (j := j) (by simp only [h, adF_4]) (ary t) 0 hj
    omega
  simp only [cvF, h0, h1, h2, h3, h4, and_false, ↓reduceIte, ite_self]
theorem bl_pos {t : Nat} {c : Nat → Nat} {u d : Nat → Bool} (h : cvF t c u d = 4) (hu : hvF c 4 4 (ary t) = 0) (h13 : t < 12) : 0 < blF t 4 c u d := by
  have z : ¬ (4 ≠ 4 ∨ 0 < hvF c 4 4 (ary t)) := by omega
  unfold blF
  rw [if_neg z]
  by_cases y1 : t = 6 ∧ hvF c 0 0 (ary t) = 0
  · rw [if_pos y1]; omega
  · rw [if_neg y1]
    by_cases y2 : t ≤ 6
    · rw [if_pos y2]; split <;> omega
    · rw [if_neg y2]
      have y3 : ¬ (t ≤ 6 ∧ hvF c 0 1 (ary t) = ary t) := by omega
      have y0 : ¬ ary t = 0 := by unfold ary; (repeat' split) <;> omega
      unfold cvF at h
      rw [if_neg y0] at h
      by_cases y4 : hvF c 0 0 (ary t) = ary t
      · rw [if_pos y4] at h; cases h
      · rw [if_neg y4, if_neg y1, if_neg y3] at h
        by_cases e8 : t = 8
        · simp only [e8, ne_eq, not_true_eq_false, false_and, ↓reduceIte, or_true, true_and] at h ⊢
          split at h
          · cases h
          · omega
        · simp only [e8, ne_eq, not_false_eq_true, true_and, ↓reduceIte] at h ⊢
          split at h
          · cases h
          · omega
theorem bl_cv {t k : Nat} {c : Nat → Nat} {u d : Nat → Bool} (h : 0 < blF t k c u d) : k = 4 := by
  unfold blF at h
  by_cases y : k = 4
  · exact y
  · rw [if_pos (Or.inl y)] at h; omega
section P4
variable {n : Nat} {kd bl cv : Nat → Nat} {ag : Nat → Nat → Nat} {up dn : Nat → Bool}
/-- nothing is found below a node that isn't unknown -/
theorem df_none (hag : ∀ k, k < n → ∀ j, j < ary (kd k) → ag k j < k) (hc : ∀ k, k < n → cv k = cvF (kd k) (fun i => cv (ag k i)) (fun i => up (ag k i)) (fun i => dn (ag k i))) (hb : ∀ k, k < n → bl k = blF (kd k) (cv k) (fun i => cv (ag k i)) (fun i => up (ag k i)) (fun i => dn (ag k i))) : ∀ f k s, k < n → ¬ cv k = 4 → (dfV kd bl ag f k s).1 = none
  | 0, k, s, _, _ => rfl
  | f + 1, k, s, hk, h4 => by
    have b0 : ¬ 0 < bl k := fun h => h4 (bl_cv (by rw [← hb k hk]; exact h))
    have ha : ∀ j, j < ary (kd k) → ¬ cv (ag k j) = 4 := fun j hj e => h4 (by rw [hc k hk]; exact cv_un hj e)
    have J : ∀ m s, m ≤ ary (kd k) → (dfJ (dfV kd bl ag f) (kd k) k (bl k) (ag k) m s).1 = none := by
      intro m
      induction m with
      | zero => intro s _; simp only [dfJ, b0, ↓reduceIte]
      | succ m ih =>
        intro s hm
        have hj : ary (kd k) - (m + 1) < ary (kd k) := by omega
        simp only [dfJ]
        split
        · exact ih s (by omega)
        · have e := df_none hag hc hb f (ag k (ary (kd k) - (m + 1))) (add1 s (ag k (ary (kd k) - (m + 1)))) (by have := hag k hk _ hj; omega) (ha _ hj)
          split
          · rename_i x s' e'
            rw [e'] at e; cases e
          · exact ih _ (by omega)
    exact J _ s (Nat.le_refl _)
/-- if nothing is found, the node isn't unknown -/
theorem df_some (hkd : ∀ k, k < n → kd k < 12) (hag : ∀ k, k < n → ∀ j, j < ary (kd k) → ag k j < k) (hc : ∀ k, k < n → cv k = cvF (kd k) (fun i => cv (ag k i)) (fun i => up (ag k i)) (fun i => dn (ag k i))) (hb : ∀ k, k < n → bl k = blF (kd k) (cv k) (fun i => cv (ag k i)) (fun i => up (ag k i)) (fun i => dn (ag k i))) : ∀ f k s, k < n → k < f → (∀ i, i < k → s i = true → ¬ cv i = 4) → (dfV kd bl ag f k s).1 = none → ¬ cv k = 4 ∧ (∀ i, i < k → (dfV kd bl ag f k s).2 i = true → ¬ cv i = 4) ∧ ∀ i, k ≤ i → (dfV kd bl ag f k s).2 i = s i
  | 0, k, s, hk, hf, _, _ => by omega
  | f + 1, k, s, hk, hf, hs, hn => by
    have J : ∀ m s, m ≤ ary (kd k) → (∀ i, i < k → s i = true → ¬ cv i = 4) → (∀ j, j < ary (kd k) - m → ¬ cv (ag k j) = 4) → (dfJ (dfV kd bl ag f) (kd k) k (bl k) (ag k) m s).1 = none →
        (∀ i, i < k → (dfJ (dfV kd bl ag f) (kd k) k (bl k) (ag k) m s).2 i = true → ¬ cv i = 4) ∧ (∀ j, j < ary (kd k) → ¬ cv (ag k j) = 4) ∧ (∀ i, k ≤ i → (dfJ (dfV kd bl ag f) (kd k) k (bl k) (ag k) m s).2 i = s i) ∧ ¬ 0 < bl k := by
      intro m
      induction m with
      | zero =>
        intro s _ hs hj hn
        simp only [dfJ] at hn ⊢
        split at hn
        · cases hn
        · rename_i hb0
          simp only [hb0, ↓reduceIte]
          exact ⟨hs, hj, fun i _ => trivial, by simp⟩
      | succ m ih =>
        intro s hm hs hj hn
        have hjl : ary (kd k) - (m + 1) < ary (kd k) := by omega
        have hlt := hag k hk _ hjl
        simp only [dfJ] at hn ⊢
        by_cases y : s (ag k (ary (kd k) - (m + 1))) = true
        · simp only [y, ↓reduceIte] at hn ⊢
          refine ih s (by omega) hs (fun j hj' => ?_) hn
          by_cases e : j = ary (kd k) - (m + 1)
          · rw [e]; exact hs _ hlt y
          · exact hj j (by omega)
        · simp only [y, ↓reduceIte, Bool.false_eq_true] at hn ⊢
          have D := df_some hkd hag hc hb f (ag k (ary (kd k) - (m + 1))) (add1 s (ag k (ary (kd k) - (m + 1)))) (by omega) (by omega) (fun i hi hsi => by
            simp only [add1] at hsi
            rw [if_neg (by omega)] at hsi
            exact hs i (by omega) hsi)
          generalize dfV kd bl ag f (ag k (ary (kd k) - (m + 1))) (add1 s (ag k (ary (kd k) - (m + 1)))) = p at *
          obtain ⟨p1, p2⟩ := p
          cases p1 with
          | some x => simp at hn
          | none =>
            obtain ⟨D1, D2, D3⟩ := D rfl
            simp only at D1 D2 D3 hn ⊢
            have hp2 : ∀ i, i < k → p2 i = true → ¬ cv i = 4 := fun i hi hpi => by
              by_cases l : i < ag k (ary (kd k) - (m + 1))
              · exact D2 i l hpi
              · by_cases e : i = ag k (ary (kd k) - (m + 1))
                · rw [e]; exact D1
                · rw [D3 i (by omega)] at hpi
                  simp only [add1, e, ↓reduceIte] at hpi
                  exact hs i hi hpi
            have hp3 : ∀ j, j < ary (kd k) - m → ¬ cv (ag k j) = 4 := fun j hj' => by
              by_cases e : j = ary (kd k) - (m + 1)
              · rw [e]; exact D1
              · exact hj j (by omega)
            have := ih p2 (by omega) hp2 hp3 hn
            refine ⟨this.1, this.2.1, fun i hi => ?_, this.2.2.2⟩
            rw [this.2.2.1 i hi, D3 i (by omega)]
            simp only [add1]
            rw [if_neg (by omega)]
    have Q := J (ary (kd k)) s (Nat.le_refl _) hs (fun j hj => by omega) hn
    refine ⟨fun h4 => Q.2.2.2 ?_, Q.1, Q.2.2.1⟩
    rw [hb k hk, h4]
    refine bl_pos (by rw [← hc k hk]; exact h4) (hv_z _ (fun j hj hh => Q.2.1 j hj (by omega))) (hkd k hk)
theorem df_find (hkd : ∀ k, k < n → kd k < 12) (hag : ∀ k, k < n → ∀ j, j < ary (kd k) → ag k j < k) (hc : ∀ k, k < n → cv k = cvF (kd k) (fun i => cv (ag k i)) (fun i => up (ag k i)) (fun i => dn (ag k i))) (hb : ∀ k, k < n → bl k = blF (kd k) (cv k) (fun i => cv (ag k i)) (fun i => up (ag k i)) (fun i => dn (ag k i))) {k : Nat} (hk : k < n) (h4 : cv k = 4) : ∃ x, (dfV kd bl ag (k + 1) k (fun _ => false)).1 = some x := by
  cases e : (dfV kd bl ag (k + 1) k (fun _ => false)).1 with
  | some x => exact ⟨x, rfl⟩
  | none => exact absurd h4 (df_some hkd hag hc hb (k + 1) k _ hk (by omega) (by simp) e).1
end P4
