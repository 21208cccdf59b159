/-! COLUMNS, USE and ROWS, plain. -/
theorem cnt_len (p : Nat → Bool) : ∀ n, ((List.range n).filter p).length = cntF p n
  | 0 => rfl
  | n + 1 => by
    rw [List.range_succ, List.filter_append, List.length_append, cnt_len p n, cntF]
    cases h : p n <;> simp [h]
theorem cnt_at {p : Nat → Bool} {k : Nat} (hp : p k = true) : ∀ n, k < n → ((List.range n).filter p)[cntF p k]? = some k
  | 0, h => by omega
  | n + 1, h => by
    rw [List.range_succ, List.filter_append]
    by_cases e : k = n
    · subst e
      rw [List.getElem?_append_right (by rw [cnt_len]; exact Nat.le_refl _), cnt_len]
      simp [hp]
    · have := cnt_at hp n (by omega)
      rw [List.getElem?_append_left]
      · exact this
      · exact (List.getElem?_eq_some_iff.1 this).1
theorem cnt_cut (p : Nat → Bool) (k : Nat) : ∀ n, cntF (fun q => p q && decide (q < k)) n = cntF p (min n k)
  | 0 => by simp [cntF]
  | n + 1 => by
    rw [cntF, cnt_cut p k n]
    by_cases h : n < k
    · rw [Nat.min_eq_left (by omega), Nat.min_eq_left (by omega), cntF]; simp [h]
    · rw [Nat.min_eq_right (by omega), Nat.min_eq_right (by omega)]; simp [h]
theorem cnt_or {p q : Nat → Bool} (h : ∀ k, p k = true → q k = false) : ∀ n, cntF (fun k => p k || q k) n = cntF p n + cntF q n
  | 0 => rfl
  | n + 1 => by
    have := h n
    rw [cntF, cntF, cntF, cnt_or h n]
    cases hp : p n <;> cases hq : q n <;> simp_all <;> omega
def colL (n : Nat) (us : Nat → Bool) (kd cv : Nat → Nat) : List Nat := (List.range n).filter (vaF us kd) ++ (List.range n).filter (auF us kd cv)
section P6
variable {n nq : Nat} {kd cv lf rt : Nat → Nat} {ag : Nat → Nat → Nat} {us ex : Nat → Bool} {vl ch lin : Nat → Int}
theorem va_au {k : Nat} (h : vaF us kd k = true) : auF us kd cv k = false := by
  simp [vaF] at h
  simp [auF, h]
theorem col_len : (colL n us kd cv).length = cntF (fun q => vaF us kd q || auF us kd cv q) n := by
  rw [colL, List.length_append, cnt_len, cnt_len, cnt_or (fun k => va_au)]
theorem pl_at {k j : Nat} (hk : k < n) (h : plF n us kd cv k = some j) : (colL n us kd cv)[j]? = some k := by
  unfold plF at h
  by_cases y : vaF us kd k = true
  · simp only [y, ↓reduceIte, Option.some.injEq] at h
    rw [cnt_cut, Nat.min_eq_right (by omega)] at h
    subst h
    have := cnt_at (p := vaF us kd) y n hk
    rw [colL, List.getElem?_append_left]
    · exact this
    · exact (List.getElem?_eq_some_iff.1 this).1
  · by_cases z : auF us kd cv k = true
    · simp only [y, z, ↓reduceIte, Option.some.injEq, Bool.false_eq_true] at h
      have e : cntF (fun q => vaF us kd q || (auF us kd cv q && decide (q < k))) n = cntF (vaF us kd) n + cntF (auF us kd cv) k := by
        rw [cnt_or (p := vaF us kd) (q := fun q => auF us kd cv q && decide (q < k)) (fun k hk => by simp [va_au hk]), cnt_cut, Nat.min_eq_right (by omega)]
      rw [e] at h
      subst h
      have := cnt_at (p := auF us kd cv) z n hk
      rw [colL, List.getElem?_append_right (by rw [cnt_len]; omega), cnt_len, Nat.add_sub_cancel_left]
      exact this
    · simp [y, z] at h
theorem col_nd : (colL n us kd cv).Nodup := by
  rw [colL, List.nodup_append]
  refine ⟨List.Pairwise.filter _ List.nodup_range, List.Pairwise.filter _ List.nodup_range, fun a ha b hb e => ?_⟩
  subst e
  rw [List.mem_filter] at ha hb
  have := va_au (cv := cv) ha.2
  rw [this] at hb
  exact Bool.false_ne_true hb.2
theorem col_mem {k j : Nat} (h : (colL n us kd cv)[j]? = some k) : k < n ∧ coF us kd cv k = true := by
  have hm := List.mem_of_getElem? h
  rw [colL, List.mem_append, List.mem_filter, List.mem_filter, List.mem_range] at hm
  rcases hm with ⟨a, b⟩ | ⟨a, b⟩ <;> simp [coF, a, b]
theorem pl_iff {k j : Nat} (hk : k < n) : plF n us kd cv k = some j ↔ (colL n us kd cv)[j]? = some k := by
  refine ⟨pl_at hk, fun h => ?_⟩
  have hc := (col_mem h).2
  have : ∃ i, plF n us kd cv k = some i := by
    simp only [coF, Bool.or_eq_true] at hc
    unfold plF
    by_cases y : vaF us kd k = true
    · exact ⟨_, by rw [if_pos y]⟩
    · exact ⟨_, by rw [if_neg y, if_pos (by simpa [y] using hc)]⟩
  obtain ⟨i, hi⟩ := this
  have g := pl_at hk hi
  obtain ⟨l1, e1⟩ := List.getElem?_eq_some_iff.1 h
  obtain ⟨l2, e2⟩ := List.getElem?_eq_some_iff.1 g
  have : j = i := (List.getElem_inj (h₀ := l1) (h₁ := l2) col_nd).1 (e1.trans e2.symm)
  rw [this]; exact hi
theorem pl_none {k : Nat} : plF n us kd cv k = none ↔ coF us kd cv k = false := by
  unfold plF coF
  cases vaF us kd k <;> cases auF us kd cv k <;> simp
theorem sum_filter (f : Nat → Int) (p : Nat → Bool) : ∀ n, (((List.range n).filter p).map f).sum = smI (fun m => if p m = true then f m else 0) n
  | 0 => rfl
  | n + 1 => by
    rw [List.range_succ, List.filter_append, List.map_append, List.sum_append, sum_filter f p n, smI]
    cases h : p n <;> simp [h]
theorem smI_add (f g : Nat → Int) : ∀ n, smI f n + smI g n = smI (fun m => f m + g m) n
  | 0 => rfl
  | n + 1 => by simp only [smI, ← smI_add f g n]; omega
theorem smI_congr {f g : Nat → Int} : ∀ n, (∀ m, m < n → f m = g m) → smI f n = smI g n
  | 0, _ => rfl
  | n + 1, h => by simp only [smI, smI_congr n (fun m hm => h m (by omega)), h n (by omega)]
theorem col_sum (f : Nat → Int) : ((colL n us kd cv).map f).sum = smI (fun m => if coF us kd cv m = true then f m else 0) n := by
  rw [colL, List.map_append, List.sum_append, sum_filter, sum_filter, smI_add]
  refine smI_congr n (fun m _ => ?_)
  by_cases y : vaF us kd m = true
  · have := va_au (cv := cv) y; simp [coF, y, this]
  · simp [coF, y]
/-- rows are affine -/
def rvL (ex : Nat → Bool) (lf rt kd : Nat → Nat) (ag : Nat → Nat → Nat) (x : Nat → Int) (p : Nat × Nat) : Int := rvD ex lf rt kd ag x p - rvD ex lf rt kd ag (fun _ => 0) p
theorem rv_aff (x y : Nat → Int) (c : Int) (p : Nat × Nat) : rvD ex lf rt kd ag (fun i => x i + c * y i) p = rvD ex lf rt kd ag x p + c * rvL ex lf rt kd ag y p := by
  unfold rvL rvD roF
  (repeat' split) <;> simp only [Int.mul_sub, Int.mul_add, Int.mul_zero, Int.sub_zero, Int.add_zero, Int.zero_sub, Int.zero_add, Int.mul_neg, Int.mul_one, Int.mul_left_comm c 2] <;> omega
theorem rv_sp (p : Nat × Nat) : ∀ M, rvD ex lf rt kd ag (spF n us kd cv ag vl ch M) p = rvD ex lf rt kd ag (coC n us kd cv ag vl) p + smI (fun m => if coF us kd cv m = true then ch m * rvL ex lf rt kd ag (coE n us kd cv ag vl m) p else 0) M
  | 0 => by
    have e : spF n us kd cv ag vl ch 0 = coC n us kd cv ag vl := by funext i; simp [spF, smI]
    rw [e]; simp [smI]
  | M + 1 => by
    have e : spF n us kd cv ag vl ch (M + 1) = fun i => spF n us kd cv ag vl ch M i + (if coF us kd cv M = true then ch M else 0) * coE n us kd cv ag vl M i := by
      funext i
      simp only [spF, smI]
      by_cases y : coF us kd cv M = true
      · simp only [y, ↓reduceIte]; omega
      · simp [y]
    rw [e, rv_aff, rv_sp p M, smI]
    by_cases y : coF us kd cv M = true
    · simp only [y, ↓reduceIte]; omega
    · simp [y]
/-- a row speaks of nodes in use -/
def RV (n nq : Nat) (us : Nat → Bool) (kd : Nat → Nat) (lf rt : Nat → Nat) (p : Nat × Nat) : Prop := if p.2 = 3 then p.1 < nq ∧ us (lf p.1) = true ∧ us (rt p.1) = true else p.1 < n ∧ us p.1 = true ∧ 7 ≤ kd p.1 ∧ p.2 < 3
theorem rv_congr {p : Nat × Nat} {x y : Nat → Int} (h : FO n kd cv ag us) (hp : RV n nq us kd lf rt p) (hx : ∀ k, us k = true → x k = y k) : rvD ex lf rt kd ag x p = rvD ex lf rt kd ag y p := by
  unfold RV at hp
  unfold rvD
  by_cases e : p.2 = 3
  · simp only [e, ↓reduceIte] at hp ⊢
    rw [hx _ hp.2.1, hx _ hp.2.2]
  · simp only [e, ↓reduceIte] at hp ⊢
    obtain ⟨h1, h2, h3, h4⟩ := h p.1 hp.1
    have h5 := (h4 hp.2.1).1
    rw [hx _ hp.2.1]
    have e0 := fun hj => hx _ (h5 0 hj)
    have e1 := fun hj => hx _ (h5 1 hj)
    have e2 := fun hj => hx _ (h5 2 hj)
    have k7 := hp.2.2.1
    rcases (show kd p.1 = 7 ∨ kd p.1 = 8 ∨ kd p.1 = 9 ∨ kd p.1 = 10 ∨ kd p.1 = 11 by omega) with g | g | g | g | g <;> rw [g] at e0 e1 e2 <;> simp [ary] at e0 e1 e2 <;> simp [roF, g, e0, e1, e2]
theorem rl_q {c : Nat} (hl : ∀ q, q < nq → us (lf q) = true ∧ us (rt q) = true) : ∀ m p, m ≤ nq → p ∈ rlQ ex c nq m → RV n nq us kd lf rt p ∧ p.2 = 3 ∧ (if ex p.1 = true then 0 else 1) = c
  | 0, p, _, h => by simp [rlQ] at h
  | m + 1, p, hm, h => by
    unfold rlQ at h
    by_cases hc : (if ex (nq - (m + 1)) = true then 0 else 1) = c
    · rw [if_pos hc] at h
      rcases List.mem_cons.1 h with e | e
      · subst e; simp [RV, hl (nq - (m + 1)) (by omega), hc]; omega
      · exact rl_q hl m p (by omega) e
    · rw [if_neg hc] at h; exact rl_q hl m p (by omega) h
theorem rl_k {c : Nat} (hu : ∀ k, us k = true → k < n) : ∀ m p, m ≤ n → p ∈ rlK us kd cv c n m → RV n nq us kd lf rt p ∧ p.2 < 3 ∧ (if kd p.1 = 10 then 2 else 1) = c ∧ auF us kd cv p.1 = true
  | 0, p, _, h => by simp [rlK] at h
  | m + 1, p, hm, h => by
    unfold rlK at h
    by_cases hc : auF us kd cv (n - (m + 1)) = true ∧ (if kd (n - (m + 1)) = 10 then 2 else 1) = c
    · rw [if_pos hc] at h
      rcases List.mem_append.1 h with e | e
      · have hp : p.1 = n - (m + 1) ∧ p.2 < 3 := by
          unfold rk3 at e
          split at e <;> simp at e
          · rcases e with e | e | e <;> subst e <;> simp
          · rcases e with e | e <;> subst e <;> simp
        have ha : auF us kd cv p.1 = true := by rw [hp.1]; exact hc.1
        have ha' : us p.1 = true ∧ 7 ≤ kd p.1 := by simp [auF] at ha; exact ha.1
        have : ¬ p.2 = 3 := by omega
        refine ⟨?_, hp.2, by rw [hp.1]; exact hc.2, ha⟩
        simp only [RV, this, ↓reduceIte]
        exact ⟨hu _ ha'.1, ha'.1, ha'.2, hp.2⟩
      · exact rl_k hu m p (by omega) e
    · rw [if_neg hc] at h; exact rl_k hu m p (by omega) h
theorem rl_rv (hl : ∀ q, q < nq → us (lf q) = true ∧ us (rt q) = true) (hu : ∀ k, us k = true → k < n) {p : Nat × Nat} (h : p ∈ rlA n nq ex us kd cv) : RV n nq us kd lf rt p := by
  simp only [rlA, rlC, List.mem_append] at h
  rcases h with (h | h) | (h | h) | (h | h)
  · exact (rl_q hl nq p (Nat.le_refl _) h).1
  · exact (rl_k hu n p (Nat.le_refl _) h).1
  · exact (rl_q hl nq p (Nat.le_refl _) h).1
  · exact (rl_k hu n p (Nat.le_refl _) h).1
  · exact (rl_q hl nq p (Nat.le_refl _) h).1
  · exact (rl_k hu n p (Nat.le_refl _) h).1
/-- use -/
theorem us_add {u : Nat → Bool} {a : Nat → Nat} : ∀ m k, uaF u a m k = true ↔ u k = true ∨ ∃ j, j < m ∧ a j = k
  | 0, k => by simp [uaF]
  | m + 1, k => by
    simp only [uaF, add1]
    by_cases e : k = a m
    · simp only [e, ↓reduceIte, true_iff]; exact Or.inr ⟨m, by omega, rfl⟩
    · simp only [e, ↓reduceIte, us_add m k]
      constructor
      · rintro (h | ⟨j, h1, h2⟩)
        · exact Or.inl h
        · exact Or.inr ⟨j, by omega, h2⟩
      · rintro (h | ⟨j, h1, h2⟩)
        · exact Or.inl h
        · by_cases e' : j = m
          · subst e'; exact absurd h2.symm e
          · exact Or.inr ⟨j, by omega, h2⟩
/-- what usR does: marks stay; below a marked node all are marked; a marked node was marked or lies below one -/
theorem us_R (hag : ∀ k, k < n → ∀ j, j < ary (kd k) → ag k j < k) : ∀ m u, m ≤ n → (∀ k, u k = true → usR kd ag m u k = true) ∧ (∀ k, k < m → usR kd ag m u k = true → ∀ j, j < ary (kd k) → usR kd ag m u (ag k j) = true) ∧ (∀ k, m ≤ k → usR kd ag m u k = u k)
  | 0, u, _ => ⟨fun k h => h, fun k h => by omega, fun k _ => rfl⟩
  | m + 1, u, hm => by
    have ih := us_R hag m (if u m = true then uaF u (ag m) (ary (kd m)) else u) (by omega)
    have hsub : ∀ k, u k = true → (if u m = true then uaF u (ag m) (ary (kd m)) else u) k = true := fun k hk => by
      split
      · exact (us_add _ _).2 (Or.inl hk)
      · exact hk
    have hge : ∀ k, m ≤ k → (if u m = true then uaF u (ag m) (ary (kd m)) else u) k = u k := fun k hk => by
      split
      · cases h : u k with
        | true => exact (us_add _ _).2 (Or.inl h)
        | false =>
          cases h2 : uaF u (ag m) (ary (kd m)) k with
          | false => rfl
          | true =>
            rcases (us_add _ _).1 h2 with g | ⟨j, g1, g2⟩
            · rw [h] at g; cases g
            · have := hag m (by omega) j g1; omega
      · rfl
    refine ⟨fun k hk => ih.1 k (hsub k hk), fun k hk h j hj => ?_, fun k hk => ?_⟩
    · by_cases e : k = m
      · subst e
        have h' : usR kd ag k (if u k = true then uaF u (ag k) (ary (kd k)) else u) k = true := h
        rw [ih.2.2 k (Nat.le_refl _), hge k (Nat.le_refl _)] at h'
        refine ih.1 _ ?_
        rw [if_pos h']
        exact (us_add _ _).2 (Or.inr ⟨j, hj, rfl⟩)
      · exact ih.2.1 k (by omega) h j hj
    · show usR kd ag m _ k = u k
      rw [ih.2.2 k (by omega), hge k (by omega)]
theorem us_P (P : Nat → Prop) (hag : ∀ k, k < n → P k → ∀ j, j < ary (kd k) → P (ag k j)) : ∀ m u, m ≤ n → (∀ k, u k = true → P k) → ∀ k, usR kd ag m u k = true → P k
  | 0, u, _, hu, k, h => hu k h
  | m + 1, u, hm, hu, k, h => by
    refine us_P P hag m _ (by omega) (fun i hi => ?_) k h
    split at hi
    · rename_i hm'
      rcases (us_add _ _).1 hi with g | ⟨j, g1, g2⟩
      · exact hu i g
      · rw [← g2]; exact hag m (by omega) (hu m hm') j g1
    · exact hu i hi
theorem uQ_iff {go : Option Nat} {k : Nat} : ∀ q, uQ go lf rt k q = true ↔ go = some k ∨ ∃ i, i < q ∧ (lf i = k ∨ rt i = k)
  | 0 => by simp [uQ]
  | q + 1 => by
    simp only [uQ, Bool.or_eq_true, uQ_iff q, decide_eq_true_eq]
    constructor
    · rintro (((h | ⟨i, h1, h2⟩) | h) | h)
      · exact Or.inl h
      · exact Or.inr ⟨i, by omega, h2⟩
      · exact Or.inr ⟨q, by omega, Or.inl h⟩
      · exact Or.inr ⟨q, by omega, Or.inr h⟩
    · rintro (h | ⟨i, h1, h2⟩)
      · exact Or.inl (Or.inl (Or.inl h))
      · by_cases e : i = q
        · subst e
          rcases h2 with h2 | h2
          · exact Or.inl (Or.inr h2)
          · exact Or.inr h2
        · exact Or.inl (Or.inl (Or.inr ⟨i, by omega, h2⟩))
/-- the nodes in use: closed, below n, and of any property that the roots have and that goes down -/
theorem us_all {go : Option Nat} (hag : ∀ k, k < n → ∀ j, j < ary (kd k) → ag k j < k) (hgo : ∀ g, go = some g → g < n) (hq : ∀ q, q < nq → lf q < n ∧ rt q < n) :
    (∀ k, usF n kd ag go nq lf rt k = true → k < n) ∧ (∀ k, usF n kd ag go nq lf rt k = true → ∀ j, j < ary (kd k) → usF n kd ag go nq lf rt (ag k j) = true) ∧ (∀ q, q < nq → usF n kd ag go nq lf rt (lf q) = true ∧ usF n kd ag go nq lf rt (rt q) = true) ∧ (∀ g, go = some g → usF n kd ag go nq lf rt g = true) := by
  have R := us_R hag n (fun k => uQ go lf rt k nq) (Nat.le_refl _)
  have hlt : ∀ k, usF n kd ag go nq lf rt k = true → k < n := us_P (fun k => k < n) (fun k hk _ j hj => by have := hag k hk j hj; omega) n _ (Nat.le_refl _) (fun k h => by
    rcases (uQ_iff nq).1 h with g | ⟨i, g1, g2 | g2⟩
    · exact hgo k g
    · rw [← g2]; exact (hq i g1).1
    · rw [← g2]; exact (hq i g1).2)
  exact ⟨hlt, fun k h => R.2.1 k (hlt k h) h, fun q hq' => ⟨R.1 _ ((uQ_iff nq).2 (Or.inr ⟨q, hq', Or.inl rfl⟩)), R.1 _ ((uQ_iff nq).2 (Or.inr ⟨q, hq', Or.inr rfl⟩))⟩, fun g h => R.1 _ ((uQ_iff nq).2 (Or.inl h))⟩
end P6
