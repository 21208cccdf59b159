/-! THE MODEL's build: the nodes' table as data. -/
/-- how many, kinds, numbers, arguments, reaches -/
abbrev NT : Type := Nat × (Nat → Nat) × (Nat → Nat) × (Nat → Nat → Nat) × (Nat → Nat)
def fdR (T : NT) (t v : Nat) (a : Nat → Nat) : Nat → Option Nat
  | 0 => none
  | m + 1 => match fdR T t v a m with
    | some k => some k
    | none => if T.2.1 m = t ∧ T.2.2.1 m = v ∧ ∀ j, j < ary t → T.2.2.2.1 m j = a j then some m else none
def rnN (T : NT) (t v : Nat) (a : Nat → Nat) : Nat := reF t v (fun j => T.2.2.2.2 (a j))
def adN (T : NT) (t v : Nat) (a : Nat → Nat) : NT := (T.1 + 1, va_up T.2.1 T.1 t, va_up T.2.2.1 T.1 v, va_up T.2.2.2.1 T.1 a, va_up T.2.2.2.2 T.1 (rnN T t v a))
/-- the node asked for: its number, or why not; the table behind it -/
def mkF (T : NT) (t v : Nat) (a : Nat → Nat) : Int × NT := match fdR T t v a T.1 with
  | some k => (k, T)
  | none => if 1000000 < rnN T t v a then (-101, T) else if T.1 = 36 then (-102, T) else (T.1, adN T t v a)
def arS (t : Nat) (s : List Nat) (j : Nat) : Nat := s.getD (ary t - 1 - j) 0
def bdF (b : Nat) : List (Nat × Int) → NT → List Nat → Int × NT
  | [], T, s => (s.getLastD 0, T)
  | x :: l, T, s => if x.1 = 12 then (if x.2 < b then bdF b l T (x.2.toNat :: s) else (-100, T)) else
    if 0 ≤ (mkF T x.1 x.2.toNat (arS x.1 s)).1 then bdF b l (mkF T x.1 x.2.toNat (arS x.1 s)).2 ((mkF T x.1 x.2.toNat (arS x.1 s)).1.toNat :: s.drop (ary x.1)) else mkF T x.1 x.2.toNat (arS x.1 s)
theorem fd_some {T : NT} {t v : Nat} {a : Nat → Nat} : ∀ {m k : Nat}, fdR T t v a m = some k → k < m ∧ smF T.2.1 T.2.2.1 T.2.2.2.1 t v a k
  | 0, k, h => by simp [fdR] at h
  | m + 1, k, h => by
    unfold fdR at h
    split at h
    · rename_i e
      cases h
      have := fd_some e
      exact ⟨by omega, this.2⟩
    · split at h
      · cases h; rename_i y; exact ⟨by omega, y⟩
      · cases h
theorem fd_none {T : NT} {t v : Nat} {a : Nat → Nat} : ∀ {m : Nat}, fdR T t v a m = none → ∀ i, i < m → ¬ smF T.2.1 T.2.2.1 T.2.2.2.1 t v a i
  | 0, h, i, hi => by omega
  | m + 1, h, i, hi => by
    unfold fdR at h
    split at h
    · cases h
    · rename_i e
      split at h
      · cases h
      · rename_i y
        by_cases g : i = m
        · subst g; exact y
        · exact fd_none e i (by omega)
theorem fd_first {T : NT} {t v : Nat} {a : Nat → Nat} {k : Nat} (hs : smF T.2.1 T.2.2.1 T.2.2.2.1 t v a k) (hf : ∀ i, i < k → ¬ smF T.2.1 T.2.2.1 T.2.2.2.1 t v a i) : ∀ {m : Nat}, k < m → fdR T t v a m = some k
  | 0, h => by omega
  | m + 1, h => by
    unfold fdR
    by_cases g : k = m
    · subst g
      have : fdR T t v a k = none := by
        cases e : fdR T t v a k with
        | none => rfl
        | some i => exact absurd (fd_some e).2 (hf i (fd_some e).1)
      rw [this]; exact if_pos hs
    · rw [fd_first hs hf (m := m) (by omega)]
theorem fd_nil {T : NT} {t v : Nat} {a : Nat → Nat} {m : Nat} (h : ∀ i, i < m → ¬ smF T.2.1 T.2.2.1 T.2.2.2.1 t v a i) : fdR T t v a m = none := by
  cases e : fdR T t v a m with
  | none => rfl
  | some i => exact absurd (fd_some e).2 (h i (fd_some e).1)
/-- the later table holds the earlier one -/
def NX (T T' : NT) : Prop := T.1 ≤ T'.1 ∧ ∀ k, k < T.1 → T'.2.1 k = T.2.1 k ∧ T'.2.2.1 k = T.2.2.1 k ∧ T'.2.2.2.1 k = T.2.2.2.1 k ∧ T'.2.2.2.2 k = T.2.2.2.2 k
theorem NX.rf {T : NT} : NX T T := ⟨Nat.le_refl _, fun _ _ => ⟨rfl, rfl, rfl, rfl⟩⟩
theorem NX.tr {T T' T'' : NT} (h : NX T T') (g : NX T' T'') : NX T T'' := ⟨Nat.le_trans h.1 g.1, fun k hk => by
  have a := h.2 k hk
  have b := g.2 k (Nat.lt_of_lt_of_le hk h.1)
  exact ⟨b.1.trans a.1, b.2.1.trans a.2.1, b.2.2.1.trans a.2.2.1, b.2.2.2.trans a.2.2.2⟩⟩
theorem adN_nx {T : NT} {t v : Nat} {a : Nat → Nat} : NX T (adN T t v a) := ⟨by simp [adN], fun k hk => by
  have : ¬ k = T.1 := by omega
  simp [adN, va_up, this]⟩
/-- a table that can stand -/
def NO (T : NT) : Prop := T.1 ≤ 36 ∧ ∀ k, k < T.1 → T.2.1 k < 12 ∧ T.2.2.1 k < 1000 ∧ (∀ j, j < ary (T.2.1 k) → T.2.2.2.1 k j < k) ∧ 1 ≤ T.2.2.2.2 k ∧ T.2.2.2.2 k ≤ 1000000 ∧ T.2.2.2.2 k = reF (T.2.1 k) (T.2.2.1 k) (fun j => T.2.2.2.2 (T.2.2.2.1 k j))
theorem reF_pos {t v : Nat} {r : Nat → Nat} (h : ∀ j, j < ary t → 1 ≤ r j) (ht : t < 12) : 1 ≤ reF t v r := by
  have h0 := h 0
  have h1 := h 1
  rcases n12 ht with e | e | e | e | e | e | e | e | e | e | e | e <;> subst e <;> simp [ary] at h0 h1 <;> simp only [reF] <;> (try split) <;> (try omega) <;> exact Nat.mul_pos (by omega) (by omega)
theorem reF_congr {t v : Nat} {r r' : Nat → Nat} (h : ∀ j, j < ary t → r j = r' j) (ht : t < 12) : reF t v r = reF t v r' := by
  have h0 := h 0
  have h1 := h 1
  have h2 := h 2
  rcases n12 ht with e | e | e | e | e | e | e | e | e | e | e | e <;> subst e <;> simp [ary] at h0 h1 h2 <;> simp only [reF, h0, h1, h2]
theorem reF_big {t v : Nat} {r : Nat → Nat} (h : ∀ j, j < ary t → r j ≤ 1000000) (ht : t < 12) (hv : v < 1000) : reF t v r ≤ 2000000000000 := by
  have h0 := h 0
  have h1 := h 1
  have h2 := h 2
  rcases n12 ht with e | e | e | e | e | e | e | e | e | e | e | e <;> subst e <;> simp [ary] at h0 h1 h2 <;> simp only [reF] <;> (try split) <;> (try omega)
  · exact Nat.le_trans (Nat.mul_le_mul h0 h1) (by omega)
  · exact Nat.le_trans (Nat.mul_le_mul h0 h0) (by omega)
theorem adN_no {T : NT} {t v : Nat} {a : Nat → Nat} (h : NO T) (ht : t < 12) (hv : v < 1000) (ha : ∀ j, j < ary t → a j < T.1) (hr : rnN T t v a ≤ 1000000) (hn : T.1 < 36) : NO (adN T t v a) := by
  refine ⟨by simp only [adN]; omega, fun k hk => ?_⟩
  simp only [adN] at hk
  by_cases e : k = T.1
  · subst e
    simp only [adN, va_up, ↓reduceIte]
    refine ⟨ht, hv, ha, reF_pos (fun j hj => (h.2 _ (ha j hj)).2.2.2.1) ht, hr, reF_congr (fun j hj => ?_) ht⟩
    have := ha j hj
    rw [if_neg (by omega)]
  · have q := h.2 k (by omega)
    simp only [adN, va_up, e, ↓reduceIte]
    refine ⟨q.1, q.2.1, q.2.2.1, q.2.2.2.1, q.2.2.2.2.1, q.2.2.2.2.2.trans (reF_congr (fun j hj => ?_) q.1)⟩
    have := q.2.2.1 j hj
    rw [if_neg (by omega)]
def TK : List Nat → (Nat → Int32) → Prop
  | [], _ => True
  | x :: s, f => f s.length = Int32.ofNat x ∧ TK s f
theorem TK_u {i : Nat} {v : Int32} : ∀ {s : List Nat} {f : Nat → Int32}, s.length ≤ i → TK s f → TK s (upd f i v)
  | [], _, _, _ => trivial
  | x :: s, f, h, ⟨a, b⟩ => ⟨by simp only [List.length_cons] at h; rw [us_ne' (by omega)]; exact a, TK_u (by simp only [List.length_cons] at h; omega) b⟩
theorem TK_d : ∀ {m : Nat} {s : List Nat} {f : Nat → Int32}, TK s f → TK (s.drop m) f
  | 0, s, f, h => h
  | m + 1, [], f, h => h
  | m + 1, x :: s, f, h => TK_d (m := m) h.2
theorem TK_at : ∀ {s : List Nat} {f : Nat → Int32} {i : Nat}, TK s f → i < s.length → f i = Int32.ofNat (s.getD (s.length - 1 - i) 0)
  | [], _, i, _, h => by simp at h
  | x :: s, f, i, ⟨a, b⟩, h => by
    simp only [List.length_cons] at h ⊢
    by_cases e : i = s.length
    · subst e; simp [a]
    · rw [TK_at b (by omega)]
      have : s.length + 1 - 1 - i = (s.length - 1 - i) + 1 := by omega
      rw [this]; rfl
theorem TK_last : ∀ {s : List Nat} {f : Nat → Int32}, TK s f → 0 < s.length → f 0 = Int32.ofNat (s.getLastD 0)
  | [], _, _, h => by simp at h
  | [x], f, ⟨a, _⟩, _ => by simpa using a
  | x :: y :: s, f, ⟨_, b⟩, _ => by
    have := TK_last b (by simp)
    simpa using this
def LA : List (Nat × Int) → Nat → (Nat → Int32) → (Nat → Int32) → Prop
  | [], _, _, _ => True
  | x :: l, i, f, g => f i = Int32.ofNat x.1 ∧ g i = Int32.ofInt x.2 ∧ LA l (i + 1) f g
theorem LA_app {f g : Nat → Int32} {x : Nat × Int} : ∀ {l : List (Nat × Int)} {i : Nat}, LA l i f g → f (i + l.length) = Int32.ofNat x.1 → g (i + l.length) = Int32.ofInt x.2 → LA (l ++ [x]) i f g
  | [], i, _, a, b => ⟨a, b, trivial⟩
  | y :: l, i, ⟨a, b, c⟩, h1, h2 => by
    simp only [List.length_cons] at h1 h2
    exact ⟨a, b, LA_app c (by rw [show i + 1 + l.length = i + (l.length + 1) by omega]; exact h1) (by rw [show i + 1 + l.length = i + (l.length + 1) by omega]; exact h2)⟩
theorem OK_LA : ∀ {O : List (Nat × Int)} {f g : Nat → Int32}, OK O f g → LA O.reverse 0 f g
  | [], _, _, _ => trivial
  | x :: O, f, g, ⟨a, b, _, c⟩ => by
    rw [List.reverse_cons]
    exact LA_app (OK_LA c) (by simpa using a) (by simpa using b)
/-- what build leaves alone -/
def BF (n0 : Nat) (sc : Nat → Int32) (ar : Nat → Nat → Int32) (la : Nat → Nat → Int64) (sc' : Nat → Int32) (ar' : Nat → Nat → Int32) (la' : Nat → Nat → Int64) : Prop :=
  (∀ j, ¬ j = 12 → sc' j = sc j) ∧ (∀ j, ¬ (j = 5 ∨ j = 6 ∨ j = 7 ∨ j = 8 ∨ j = 10 ∨ j = 24) → ar' j = ar j) ∧ (∀ i, i < n0 → ar' 10 i = ar 10 i ∧ ar' 24 i = ar 24 i) ∧ ∀ j, ¬ j = 9 → la' j = la j
/-- the model's memory holds the table; the nodes from n0 on are fresh -/
def MT (n0 : Nat) (T : NT) (sc : Nat → Int32) (ar : Nat → Nat → Int32) (la : Nat → Nat → Int64) : Prop :=
  NO T ∧ MS T.1 T.2.1 T.2.2.1 T.2.2.2.1 ar ∧ sc 12 = Int32.ofNat T.1 ∧ (∀ k, k < T.1 → la 9 k = Int64.ofInt (T.2.2.2.2 k)) ∧ n0 ≤ T.1 ∧ ∀ i, n0 ≤ i → i < T.1 → ar 10 i = Int32.ofInt 0 ∧ ar 24 i = Int32.ofInt 0
section M27
variable {d : Nat} {sc : Nat → Int32} {ar : Nat → Nat → Int32} {la : Nat → Nat → Int64} {R w : am_W} {K : Option Value → am_W → Prop}
variable {n0 b : Nat}
theorem BF.rf : BF n0 sc ar la sc ar la := ⟨fun _ _ => rfl, fun _ _ => rfl, fun _ _ => ⟨rfl, rfl⟩, fun _ _ => rfl⟩
theorem BF.tr {sc' sc'' : Nat → Int32} {ar' ar'' : Nat → Nat → Int32} {la' la'' : Nat → Nat → Int64} (h : BF n0 sc ar la sc' ar' la') (g : BF n0 sc' ar' la' sc'' ar'' la'') : BF n0 sc ar la sc'' ar'' la'' :=
  ⟨fun j hj => (g.1 j hj).trans (h.1 j hj), fun j hj => (g.2.1 j hj).trans (h.2.1 j hj), fun i hi => ⟨(g.2.2.1 i hi).1.trans (h.2.2.1 i hi).1, (g.2.2.1 i hi).2.trans (h.2.2.1 i hi).2⟩, fun j hj => (g.2.2.2 j hj).trans (h.2.2.2 j hj)⟩
theorem adA_ms {n t v : Nat} {kd nm : Nat → Nat} {ag : Nat → Nat → Nat} {a : Nat → Nat} (h : MS n kd nm ag ar) (ht : t < 12) (hv : v < 1000) (ha : ∀ j, j < ary t → a j < n) (hn : n < 36) : MS (n + 1) (va_up kd n t) (va_up nm n v) (va_up ag n a) (adA n t v a ar) := by
  refine ⟨by omega, fun k hk => ?_, fun k hk j hj => ?_⟩
  · by_cases e : k = n
    · subst e
      have hg : ∀ j, j < 3 → adA k t v a ar 8 (3 * k + j) = gi t a j := by
        intro j hj
        rcases (show j = 0 ∨ j = 1 ∨ j = 2 by omega) with e | e | e <;> subst e <;> simp [adA, va_up, upd]
      refine ⟨by simpa [va_up] using ht, by simpa [va_up] using hv, by simp [adA, va_up, upd], by simp [adA, va_up, upd], fun j hj => ?_⟩
      rw [hg j hj]; simp only [gi, va_up, ↓reduceIte]
    · have q := h.2.1 k (by omega)
      have g0 : ∀ j, j < 3 → adA n t v a ar 8 (3 * k + j) = ar 8 (3 * k + j) := by
        intro j hj
        have : ¬ 3 * k + j = 3 * n := by omega
        have : ¬ 3 * k + j = 3 * n + 1 := by omega
        have : ¬ 3 * k + j = 3 * n + 2 := by omega
        simp [adA, va_up, upd, *]
      refine ⟨by simpa [va_up, e] using q.1, by simpa [va_up, e] using q.2.1, by simpa [adA, va_up, upd, e] using q.2.2.1, by simpa [adA, va_up, upd, e] using q.2.2.2.1, fun j hj => ?_⟩
      rw [g0 j hj, q.2.2.2.2 j hj]; simp only [va_up, e, ↓reduceIte]
  · by_cases e : k = n
    · subst e
      simp only [va_up, ↓reduceIte] at hj ⊢
      exact ha j hj
    · simp only [va_up, e, ↓reduceIte] at hj ⊢
      exact h.2.2 k (by omega) j hj
theorem MT.add {T : NT} {t v : Nat} {a : Nat → Nat} (h : MT n0 T sc ar la) (ht : t < 12) (hv : v < 1000) (ha : ∀ j, j < ary t → a j < T.1) (hr : rnN T t v a ≤ 1000000) (hn : T.1 < 36) :
    MT n0 (adN T t v a) (upd sc 12 (Int32.ofNat (T.1 + 1))) (adA T.1 t v a ar) (va_up la 9 (vp_updL (la 9) T.1 (Int64.ofInt (rnN T t v a)))) ∧ BF n0 sc ar la (upd sc 12 (Int32.ofNat (T.1 + 1))) (adA T.1 t v a ar) (va_up la 9 (vp_updL (la 9) T.1 (Int64.ofInt (rnN T t v a)))) := by
  obtain ⟨h1, h2, h3, h4, h5, h6⟩ := h
  refine ⟨⟨adN_no h1 ht hv ha hr hn, adA_ms h2 ht hv ha hn, rfl, fun k hk => ?_, by simp only [adN]; omega, fun i hi1 hi2 => ?_⟩, fun j hj => ?_, fun j hj => ?_, fun i hi => ?_, fun j hj => ?_⟩
  · simp only [adN] at hk
    by_cases e : k = T.1
    · subst e; simp [adN, va_up, vp_updL]
    · have := h4 k (by omega)
      simpa [adN, va_up, vp_updL, e] using this
  · simp only [adN] at hi2
    by_cases e : i = T.1
    · subst e; exact ⟨by simp [adA, va_up, upd], by simp [adA, va_up, upd]⟩
    · have := h6 i hi1 (by omega)
      simpa [adA, va_up, upd, e] using this
  · rw [us_ne' hj]
  · simp only [not_or] at hj
    simp [adA, va_up, hj]
  · have : ¬ i = T.1 := by omega
    simp [adA, va_up, upd, this]
  · simp [va_up, hj]
theorem MT.tk {T : NT} {f : Nat → Int32} (h : MT n0 T sc ar la) : MT n0 T sc (va_up ar 5 f) la := ⟨h.1, h.2.1.congr rfl rfl rfl, h.2.2.1, h.2.2.2.1, h.2.2.2.2.1, h.2.2.2.2.2⟩
theorem c_make' {T : NT} {t v : Nat} {a : Nat → Nat} {x0 x1 x2 : Int32} (e0 : x0 = gi t a 0) (e1 : x1 = gi t a 1) (e2 : x2 = gi t a 2) (h : MT n0 T sc ar la) (ht : t < 12) (hv : v < 1000) (ha : ∀ j, j < ary t → a j < T.1)
    (q : ∀ sc' ar' la', MT n0 (mkF T t v a).2 sc' ar' la' → NX T (mkF T t v a).2 → BF n0 sc ar la sc' ar' la' → ar' 5 = ar 5 → (0 ≤ (mkF T t v a).1 → (mkF T t v a).1.toNat < (mkF T t v a).2.1) → -1000 ≤ (mkF T t v a).1 → (mkF T t v a).1 < 1000 → K (some (.int (Int32.ofInt (mkF T t v a).1))) (mw sc' ar' la' R)) :
    Ev PG (d + 2) 153 [.ref 33, .int (Int32.ofNat t), .int (Int32.ofNat v), .int x0, .int x1, .int x2] (mw sc ar la R) K := by
  subst e0; subst e1; subst e2
  have n36 := h.1.1
  refine c_make (re := T.2.2.2.2) h.2.1 h.2.2.1 ht hv ha (fun k hk => ⟨h.2.2.2.1 k hk, (h.1.2 k hk).2.2.2.2.1⟩) (fun k hk sm hf => ?_) (fun hn hl => ?_) (fun hn hl he => ?_) (fun hn hl hlt => ?_) (reF_big (fun j hj => (h.1.2 _ (ha j hj)).2.2.2.2.1) ht hv)
  · have e : mkF T t v a = ((k : Int), T) := by simp only [mkF, fd_first sm hf hk]
    rw [e] at q
    have := q sc ar la h NX.rf BF.rf rfl (fun _ => by simpa using hk) (by simp only; omega) (by simp only; omega)
    rw [nz_nat]; exact this
  · have e : mkF T t v a = (-101, T) := by simp only [mkF, fd_nil hn]; rw [if_pos (by exact hl)]
    rw [e] at q
    exact q sc ar la h NX.rf BF.rf rfl (by simp) (by simp) (by simp)
  · have e : mkF T t v a = (-102, T) := by simp only [mkF, fd_nil hn]; rw [if_neg (by simp only [rnN]; omega), if_pos he]
    rw [e] at q
    exact q sc ar la h NX.rf BF.rf rfl (by simp) (by simp) (by simp)
  · have e : mkF T t v a = ((T.1 : Int), adN T t v a) := by simp only [mkF, fd_nil hn]; rw [if_neg (by simp only [rnN]; omega), if_neg (by omega)]
    rw [e] at q
    have ad := h.add ht hv ha (show rnN T t v a ≤ 1000000 from hl) hlt
    have := q _ _ _ ad.1 adN_nx ad.2 (by simp [adA, va_up]) (fun _ => by simp [adN]) (by simp only; omega) (by simp only; omega)
    rw [nz_nat]; exact this
theorem c_build_l {n1 : Nat} : ∀ (l : List (Nat × Int)) (T : NT) (s : List Nat) (i : Nat) (sc : Nat → Int32) (ar : Nat → Nat → Int32) (la : Nat → Nat → Int64) (u4 u5 u6 u7 u8 u9 : Value), i + l.length = n1 → n1 ≤ 20 → b ≤ T.1 → MT n0 T sc ar la → sc 8 = Int32.ofNat n1 → LA l i (ar 3) (ar 4) → TK s (ar 5) → (∀ x, x ∈ s → x < T.1) → s.length ≤ i → fwF l s.length = some 1 →
    (∀ sc' ar' la', MT n0 (bdF b l T s).2 sc' ar' la' → NX T (bdF b l T s).2 → BF n0 sc ar la sc' ar' la' → (0 ≤ (bdF b l T s).1 → (bdF b l T s).1.toNat < (bdF b l T s).2.1) → -1000 ≤ (bdF b l T s).1 → (bdF b l T s).1 < 1000 → K (some (.int (Int32.ofInt (bdF b l T s).1))) (mw sc' ar' la' R)) →
    Wp PG (d + 2) cd_151 B_151_1 [.ref 33, .int (Int32.ofNat b), .int (Int32.ofNat s.length), .int (Int32.ofNat i), u4, u5, u6, u7, u8, u9] [] (mw sc ar la R) K
  | [], T, s, i, sc, ar, la, u4, u5, u6, u7, u8, u9, hi, hn, hb, hM, e8, hL, hT, hs, hsi, hf, q => by
    simp only [List.length_nil, Nat.add_zero] at hi
    simp only [fwF, Option.some.injEq] at hf
    have n36 := hM.1.1
    have t0 := TK_last hT (by omega)
    have lt : s.getLastD 0 < T.1 := by
      match s, hf with
      | [x], _ => exact hs x (by simp)
    subst hi
    rw [B_151_1]
    simp (disch := omega) only [wr_all, wr_side, wr_call, qq_all, kk_151, B_151_0, B_151_2, B_151_3, B_151_4, B_151_5, B_151_6, B_151_7, B_151_8, B_151_9, B_151_10, B_151_11, B_151_12, B_151_13, B_151_14, mw_rd, mw_put, nn_clamp, nn_lt, nn_le, nn_eq, nn_lt0, nn_0le, nn_0lt, nn_le0, nn_eq0, nn_eq_1, nn_f1, nn_f0, nn_addn, nn_muln, nn_subn, nn_sub1, nn_nle, bi_1, bi_0, bi_fit, vu, io_all, Nat.reduceDiv, Nat.reduceMod, Nat.reduceBEq, Nat.reduceLeDiff, Nat.reduceEqDiff, Nat.reduceLT, Nat.reduceMul, Nat.reduceAdd, Nat.reduceSub, BEq.rfl, Bool.or_true, Bool.true_or, Bool.true_and, Bool.and_true, Bool.or_false, Bool.false_or, Bool.not_false, Bool.not_true, decide_false, decide_true, true_and, and_true, not_true_eq_false, not_false_eq_true, ↓reduceIte, Option.toList_some, Option.toList_none, List.cons_append, List.nil_append, am_sw, am_lk, List.toList_toArray, Int.reduceAdd, am_cats_cons, List.map_cons, List.map_nil, List.sum_cons, List.sum_nil, e8, t0, Nat.le_refl]
    have := q sc ar la hM NX.rf BF.rf (fun _ => by simpa [bdF] using lt) (by simp only [bdF]; omega) (by simp only [bdF]; omega)
    rw [nz_nat]; exact this
  | x :: l, T, s, i, sc, ar, la, u4, u5, u6, u7, u8, u9, hi, hn, hb, hM, e8, hL, hT, hs, hsi, hf, q => by
    obtain ⟨t, v⟩ := x
    obtain ⟨a3, a4, hL⟩ := hL
    simp only [List.length_cons] at hi
    simp only at a3 a4
    have n36 := hM.1.1
    unfold fwF at hf
    split at hf
    · rename_i ok
      simp only [okS, decide_eq_true_eq] at ok
      obtain ⟨t13, v0, v1, ah⟩ := ok
      simp only at t13 v0 v1 ah hf
      obtain ⟨vn, rfl⟩ : ∃ vn : Nat, v = vn := ⟨v.toNat, by omega⟩
      rw [← nz_nat] at a4
      have nl : (n1 ≤ i) = False := by simp; omega
      have hdl : (s.drop (ary t)).length = s.length - ary t := List.length_drop
      -- behind the node
      have fin : ∀ (k : Nat) (T' : NT) (sc' : Nat → Int32) (ar' : Nat → Nat → Int32) (la' : Nat → Nat → Int64) (u4 u5 u6 u7 u8 u9 : Value), MT n0 T' sc' ar' la' → NX T T' → BF n0 sc ar la sc' ar' la' → ar' 5 = ar 5 → k < T'.1 → bdF b ((t, (vn : Int)) :: l) T s = bdF b l T' (k :: s.drop (ary t)) →
          Wp PG (d + 2) cd_151 B_151_12 [.ref 33, .int (Int32.ofNat b), .int (Int32.ofNat (s.length - ary t)), .int (Int32.ofNat i), u4, u5, u6, u7, u8, u9] [.int (Int32.ofNat k)] (mw sc' ar' la' R) K := by
        intro k T' sc' ar' la' u4 u5 u6 u7 u8 u9 m1 m2 m3 m4 hk be
        have p36 := m1.1.1
        rw [B_151_12]
        simp (disch := omega) only [wr_all, wr_side, wr_call, qq_all, kk_151, B_151_0, B_151_2, B_151_3, B_151_4, B_151_5, B_151_6, B_151_7, B_151_8, B_151_9, B_151_10, B_151_11, B_151_13, B_151_14, mw_rd, mw_put, nn_clamp, nn_lt, nn_le, nn_eq, nn_lt0, nn_0le, nn_0lt, nn_le0, nn_eq0, nn_eq_1, nn_f1, nn_f0, nn_addn, nn_muln, nn_subn, nn_sub1, nn_nle, bi_1, bi_0, bi_fit, vu, io_all, Nat.reduceDiv, Nat.reduceMod, Nat.reduceBEq, Nat.reduceLeDiff, Nat.reduceEqDiff, Nat.reduceLT, Nat.reduceMul, Nat.reduceAdd, Nat.reduceSub, BEq.rfl, Bool.or_true, Bool.true_or, Bool.true_and, Bool.and_true, Bool.or_false, Bool.false_or, Bool.not_false, Bool.not_true, decide_false, decide_true, true_and, and_true, not_true_eq_false, not_false_eq_true, ↓reduceIte, Option.toList_some, Option.toList_none, List.cons_append, List.nil_append, am_sw, am_lk, List.toList_toArray, Int.reduceAdd, am_cats_cons, List.map_cons, List.map_nil, List.sum_cons, List.sum_nil]
        have ih := c_build_l l T' (k :: s.drop (ary t)) (i + 1) sc' (va_up ar' 5 (upd (ar' 5) (s.length - ary t) (Int32.ofNat k))) la' u4 u5 u6 u7 (am_kill u8) (.int (Int32.ofNat k)) (by omega) hn (by have := m2.1; omega) m1.tk ((m3.1 8 (by omega)).trans e8) ?_ ?_ ?_ (by simp only [List.length_cons, hdl]; omega) ?_ ?_
        · simp only [List.length_cons, hdl] at ih
          exact ih
        · have e3 := m3.2.1 3 (by omega)
          have e4 := m3.2.1 4 (by omega)
          show LA l (i + 1) (ar' 3) (ar' 4)
          rw [e3, e4]; exact hL
        · refine ⟨?_, ?_⟩
          · simp [va_up, upd, hdl]
          · show TK _ (upd (ar' 5) (s.length - ary t) _)
            rw [m4]
            exact TK_u (by omega) (TK_d hT)
        · intro y hy
          rcases List.mem_cons.1 hy with e | e
          · rw [e]; exact hk
          · have := hs y (List.mem_of_mem_drop e); have := m2.1; omega
        · simp only [List.length_cons, hdl]; exact hf
        · intro sc'' ar'' la'' r1 r2 r3 r4 r5 r6
          rw [be] at q
          refine q sc'' ar'' la'' r1 (m2.tr r2) (m3.tr ?_) r4 r5 r6
          refine BF.tr ?_ r3
          exact ⟨fun _ _ => rfl, fun j hj => by simp only [not_or] at hj; simp [va_up, hj], fun _ _ => ⟨rfl, rfl⟩, fun _ _ => rfl⟩
      by_cases e12 : t = 12
      · subst e12
        have ar0 : ary 12 = 0 := rfl
        have q1 : (12 = 12) = True := by simp
        by_cases y : vn < b
        · have y' : (b ≤ vn) = False := by simp; omega
          rw [B_151_1]
          simp (disch := omega) only [↓ c_arity (show 12 < 13 by omega), wr_all, wr_side, wr_call, qq_all, kk_151, B_151_0, B_151_2, B_151_3, B_151_4, B_151_5, B_151_6, B_151_7, B_151_8, B_151_9, B_151_10, B_151_11, B_151_13, B_151_14, mw_rd, mw_put, nn_clamp, nn_lt, nn_le, nn_eq, nn_lt0, nn_0le, nn_0lt, nn_le0, nn_eq0, nn_eq_1, nn_f1, nn_f0, nn_addn, nn_muln, nn_subn, nn_sub1, nn_nle, bi_1, bi_0, bi_fit, vu, io_all, Nat.reduceDiv, Nat.reduceMod, Nat.reduceBEq, Nat.reduceLeDiff, Nat.reduceEqDiff, Nat.reduceLT, Nat.reduceMul, Nat.reduceAdd, Nat.reduceSub, BEq.rfl, Bool.or_true, Bool.true_or, Bool.true_and, Bool.and_true, Bool.or_false, Bool.false_or, Bool.not_false, Bool.not_true, decide_false, decide_true, true_and, and_true, not_true_eq_false, not_false_eq_true, ↓reduceIte, Option.toList_some, Option.toList_none, List.cons_append, List.nil_append, am_sw, am_lk, List.toList_toArray, Int.reduceAdd, am_cats_cons, List.map_cons, List.map_nil, List.sum_cons, List.sum_nil, e8, a3, a4, nl, ar0, Nat.le_refl, y', Nat.sub_zero]
          have := fin vn T sc ar la (.int (Int32.ofNat 0)) (.int (-1)) (.int (-1)) (.int (-1)) (.int (Int32.ofNat 1)) u9 hM NX.rf BF.rf rfl (by omega) (by simp only [bdF, ↓reduceIte]; rw [if_pos (by omega)]; rfl)
          simpa only [ar0, Nat.sub_zero] using this
        · have y' : (b ≤ vn) = True := by simp; omega
          rw [B_151_1]
          have be : bdF b ((12, (vn : Int)) :: l) T s = (-100, T) := by simp only [bdF, ↓reduceIte]; rw [if_neg (by omega)]
          rw [be] at q
          have n1 : ((0 : Int32) ≤ -100) = False := by decide
          simp (disch := omega) only [↓ c_arity (show 12 < 13 by omega), wr_all, wr_side, wr_call, qq_all, kk_151, B_151_0, B_151_2, B_151_3, B_151_4, B_151_5, B_151_6, B_151_7, B_151_8, B_151_9, B_151_10, B_151_11, B_151_12, B_151_13, B_151_14, mw_rd, mw_put, nn_clamp, nn_lt, nn_le, nn_eq, nn_lt0, nn_0le, nn_0lt, nn_le0, nn_eq0, nn_eq_1, nn_f1, nn_f0, nn_addn, nn_muln, nn_subn, nn_sub1, nn_nle, bi_1, bi_0, bi_fit, vu, io_all, Nat.reduceDiv, Nat.reduceMod, Nat.reduceBEq, Nat.reduceLeDiff, Nat.reduceEqDiff, Nat.reduceLT, Nat.reduceMul, Nat.reduceAdd, Nat.reduceSub, BEq.rfl, Bool.or_true, Bool.true_or, Bool.true_and, Bool.and_true, Bool.or_false, Bool.false_or, Bool.not_false, Bool.not_true, decide_false, decide_true, true_and, and_true, not_true_eq_false, not_false_eq_true, ↓reduceIte, Option.toList_some, Option.toList_none, List.cons_append, List.nil_append, am_sw, am_lk, List.toList_toArray, Int.reduceAdd, am_cats_cons, List.map_cons, List.map_nil, List.sum_cons, List.sum_nil, e8, a3, a4, nl, ar0, Nat.le_refl, y', Nat.sub_zero, n1]
          exact q sc ar la hM NX.rf BF.rf (by simp) (by simp) (by simp)
      · have t12 : t < 12 := by omega
        have e12' : (t = 12) = False := by simp [e12]
        have ha : ∀ j, j < ary t → arS t s j < T.1 := by
          intro j hj
          refine hs _ ?_
          simp only [arS]
          rw [List.getD_eq_getElem?_getD, List.getElem?_eq_getElem (by omega)]
          exact List.getElem_mem _
        have hx : ∀ j, j < ary t → ar 5 (s.length - ary t + j) = Int32.ofNat (arS t s j) := by
          intro j hj
          rw [TK_at hT (by omega), arS]
          congr 2; omega
        -- the call
        have cal : ∀ (u4 u5 u6 u7 u8 u9 : Value) (x0 x1 x2 : Int32), x0 = gi t (arS t s) 0 → x1 = gi t (arS t s) 1 → x2 = gi t (arS t s) 2 → Ev PG (d + 2) 153 [.ref 33, .int (Int32.ofNat t), .int (Int32.ofNat vn), .int x0, .int x1, .int x2] (mw sc ar la R) (fun r w1 => Wp PG (d + 2) cd_151 B_151_12 [.ref 33, .int (Int32.ofNat b), .int (Int32.ofNat (s.length - ary t)), .int (Int32.ofNat i), u4, u5, u6, u7, u8, u9] (r.toList ++ []) w1 K) := by
          intro u4 u5 u6 u7 u8 u9 x0 x1 x2 g0 g1 g2
          refine c_make' (T := T) (a := arS t s) g0 g1 g2 hM t12 (by omega) ha ?_
          intro sc' ar' la' m1 m2 m3 m4 m5 m6 m7
          by_cases y : 0 ≤ (mkF T t vn (arS t s)).1
          · obtain ⟨k, hk⟩ : ∃ k : Nat, (mkF T t vn (arS t s)).1 = k := ⟨(mkF T t vn (arS t s)).1.toNat, by omega⟩
            have := fin k (mkF T t vn (arS t s)).2 sc' ar' la' u4 u5 u6 u7 u8 u9 m1 m2 m3 m4 (by have := m5 y; rw [hk] at this; simpa using this) (by
              simp only [bdF, e12, ↓reduceIte, Int.toNat_natCast, y]
              rw [hk, Int.toNat_natCast])
            simp only [Option.toList_some, List.cons_append, List.nil_append, hk]
            rw [nz_nat] at this
            exact this
          · have be : bdF b ((t, (vn : Int)) :: l) T s = mkF T t vn (arS t s) := by simp only [bdF, e12, ↓reduceIte, Int.toNat_natCast, y]
            rw [be] at q
            have n1 : ((0 : Int32) ≤ Int32.ofInt (mkF T t vn (arS t s)).1) = False := by
              rw [show (0 : Int32) = Int32.ofInt 0 from rfl, nz_le (by omega) (by omega) (by omega) (by omega)]; simp; omega
            simp only [Option.toList_some, List.cons_append, List.nil_append]
            rw [B_151_12]
            simp (disch := omega) only [wr_all, wr_side, wr_call, qq_all, kk_151, B_151_0, B_151_2, B_151_3, B_151_4, B_151_5, B_151_6, B_151_7, B_151_8, B_151_9, B_151_10, B_151_11, B_151_13, B_151_14, mw_rd, mw_put, nn_clamp, nn_lt, nn_le, nn_eq, nn_lt0, nn_0le, nn_0lt, nn_le0, nn_eq0, nn_eq_1, nn_f1, nn_f0, nn_addn, nn_muln, nn_subn, nn_sub1, nn_nle, bi_1, bi_0, bi_fit, vu, io_all, Nat.reduceDiv, Nat.reduceMod, Nat.reduceBEq, Nat.reduceLeDiff, Nat.reduceEqDiff, Nat.reduceLT, Nat.reduceMul, Nat.reduceAdd, Nat.reduceSub, BEq.rfl, Bool.or_true, Bool.true_or, Bool.true_and, Bool.and_true, Bool.or_false, Bool.false_or, Bool.not_false, Bool.not_true, decide_false, decide_true, true_and, and_true, not_true_eq_false, not_false_eq_true, ↓reduceIte, Option.toList_some, Option.toList_none, List.cons_append, List.nil_append, am_sw, am_lk, List.toList_toArray, Int.reduceAdd, am_cats_cons, List.map_cons, List.map_nil, List.sum_cons, List.sum_nil, n1]
            exact q sc' ar' la' m1 m2 m3 m5 m6 m7
        have a3' := ary_3 t
        rw [B_151_1]
        rcases (show ary t = 0 ∨ ary t = 1 ∨ ary t = 2 ∨ ary t = 3 by omega) with g | g | g | g
        · rw [g] at cal
          simp (disch := omega) only [↓ c_arity t13, wr_all, wr_side, wr_call, qq_all, kk_151, B_151_0, B_151_2, B_151_3, B_151_4, B_151_5, B_151_6, B_151_7, B_151_8, B_151_9, B_151_10, B_151_11, B_151_13, B_151_14, mw_rd, mw_put, nn_clamp, nn_lt, nn_le, nn_eq, nn_lt0, nn_0le, nn_0lt, nn_le0, nn_eq0, nn_eq_1, nn_f1, nn_f0, nn_addn, nn_muln, nn_subn, nn_sub1, nn_nle, bi_1, bi_0, bi_fit, vu, io_all, Nat.reduceDiv, Nat.reduceMod, Nat.reduceBEq, Nat.reduceLeDiff, Nat.reduceEqDiff, Nat.reduceLT, Nat.reduceMul, Nat.reduceAdd, Nat.reduceSub, BEq.rfl, Bool.or_true, Bool.true_or, Bool.true_and, Bool.and_true, Bool.or_false, Bool.false_or, Bool.not_false, Bool.not_true, decide_false, decide_true, true_and, and_true, not_true_eq_false, not_false_eq_true, ↓reduceIte, Option.toList_some, Option.toList_none, List.cons_append, List.nil_append, am_sw, am_lk, List.toList_toArray, Int.reduceAdd, am_cats_cons, List.map_cons, List.map_nil, List.sum_cons, List.sum_nil, e8, a3, a4, nl, g, Nat.le_refl, e12', Nat.sub_zero] at cal ⊢
          exact cal _ _ _ _ _ _ _ _ _ (by simp [gi, g]) (by simp [gi, g]) (by simp [gi, g])
        · have h0 := hx 0 (by omega)
          rw [g] at cal h0
          simp only [Nat.add_zero] at h0
          simp (disch := omega) only [↓ c_arity t13, wr_all, wr_side, wr_call, qq_all, kk_151, B_151_0, B_151_2, B_151_3, B_151_4, B_151_5, B_151_6, B_151_7, B_151_8, B_151_9, B_151_10, B_151_11, B_151_13, B_151_14, mw_rd, mw_put, nn_clamp, nn_lt, nn_le, nn_eq, nn_lt0, nn_0le, nn_0lt, nn_le0, nn_eq0, nn_eq_1, nn_f1, nn_f0, nn_addn, nn_muln, nn_subn, nn_sub1, nn_nle, bi_1, bi_0, bi_fit, vu, io_all, Nat.reduceDiv, Nat.reduceMod, Nat.reduceBEq, Nat.reduceLeDiff, Nat.reduceEqDiff, Nat.reduceLT, Nat.reduceMul, Nat.reduceAdd, Nat.reduceSub, BEq.rfl, Bool.or_true, Bool.true_or, Bool.true_and, Bool.and_true, Bool.or_false, Bool.false_or, Bool.not_false, Bool.not_true, decide_false, decide_true, true_and, and_true, not_true_eq_false, not_false_eq_true, ↓reduceIte, Option.toList_some, Option.toList_none, List.cons_append, List.nil_append, am_sw, am_lk, List.toList_toArray, Int.reduceAdd, am_cats_cons, List.map_cons, List.map_nil, List.sum_cons, List.sum_nil, e8, a3, a4, nl, g, Nat.le_refl, e12', h0]
          exact cal _ _ _ _ _ _ _ _ _ (by simp [gi, g]) (by simp [gi, g]) (by simp [gi, g])
        · have h0 := hx 0 (by omega)
          have h1 := hx 1 (by omega)
          rw [g] at cal h0 h1
          simp only [Nat.add_zero] at h0
          simp (disch := omega) only [↓ c_arity t13, wr_all, wr_side, wr_call, qq_all, kk_151, B_151_0, B_151_2, B_151_3, B_151_4, B_151_5, B_151_6, B_151_7, B_151_8, B_151_9, B_151_10, B_151_11, B_151_13, B_151_14, mw_rd, mw_put, nn_clamp, nn_lt, nn_le, nn_eq, nn_lt0, nn_0le, nn_0lt, nn_le0, nn_eq0, nn_eq_1, nn_f1, nn_f0, nn_addn, nn_muln, nn_subn, nn_sub1, nn_nle, bi_1, bi_0, bi_fit, vu, io_all, Nat.reduceDiv, Nat.reduceMod, Nat.reduceBEq, Nat.reduceLeDiff, Nat.reduceEqDiff, Nat.reduceLT, Nat.reduceMul, Nat.reduceAdd, Nat.reduceSub, BEq.rfl, Bool.or_true, Bool.true_or, Bool.true_and, Bool.and_true, Bool.or_false, Bool.false_or, Bool.not_false, Bool.not_true, decide_false, decide_true, true_and, and_true, not_true_eq_false, not_false_eq_true, ↓reduceIte, Option.toList_some, Option.toList_none, List.cons_append, List.nil_append, am_sw, am_lk, List.toList_toArray, Int.reduceAdd, am_cats_cons, List.map_cons, List.map_nil, List.sum_cons, List.sum_nil, e8, a3, a4, nl, g, Nat.le_refl, e12', h0, h1]
          exact cal _ _ _ _ _ _ _ _ _ (by simp [gi, g]) (by simp [gi, g]) (by simp [gi, g])
        · have h0 := hx 0 (by omega)
          have h1 := hx 1 (by omega)
          have h2 := hx 2 (by omega)
          rw [g] at cal h0 h1 h2
          simp only [Nat.add_zero] at h0
          simp (disch := omega) only [↓ c_arity t13, wr_all, wr_side, wr_call, qq_all, kk_151, B_151_0, B_151_2, B_151_3, B_151_4, B_151_5, B_151_6, B_151_7, B_151_8, B_151_9, B_151_10, B_151_11, B_151_13, B_151_14, mw_rd, mw_put, nn_clamp, nn_lt, nn_le, nn_eq, nn_lt0, nn_0le, nn_0lt, nn_le0, nn_eq0, nn_eq_1, nn_f1, nn_f0, nn_addn, nn_muln, nn_subn, nn_sub1, nn_nle, bi_1, bi_0, bi_fit, vu, io_all, Nat.reduceDiv, Nat.reduceMod, Nat.reduceBEq, Nat.reduceLeDiff, Nat.reduceEqDiff, Nat.reduceLT, Nat.reduceMul, Nat.reduceAdd, Nat.reduceSub, BEq.rfl, Bool.or_true, Bool.true_or, Bool.true_and, Bool.and_true, Bool.or_false, Bool.false_or, Bool.not_false, Bool.not_true, decide_false, decide_true, true_and, and_true, not_true_eq_false, not_false_eq_true, ↓reduceIte, Option.toList_some, Option.toList_none, List.cons_append, List.nil_append, am_sw, am_lk, List.toList_toArray, Int.reduceAdd, am_cats_cons, List.map_cons, List.map_nil, List.sum_cons, List.sum_nil, e8, a3, a4, nl, g, Nat.le_refl, e12', h0, h1, h2]
          exact cal _ _ _ _ _ _ _ _ _ (by simp [gi, g]) (by simp [gi, g]) (by simp [gi, g])
    · cases hf
end M27
