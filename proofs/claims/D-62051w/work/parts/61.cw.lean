/-! THE CLASS'S WORLD: objects 16..32; by tags: bytes (1), elements of the two lists (2, 3), node k (2k+4), requirement q (2q+5). Printed by gen_cw.py. -/
abbrev CG : Type := (Nat → Nat) × (Nat → Nat) × (Nat → Nat) × (Nat → Nat) × (Nat → Nat → Nat) × (Nat → Bool) × (Nat → Nat) × (Nat → Nat)
/-- the tag of a number; the lengths of 1, 2, 3; the number of a tag; kinds; arguments; requirements -/
def gL (G : CG) : Nat → Nat := G.1
def gC (G : CG) : Nat → Nat := G.2.1
def gA (G : CG) : Nat → Nat := G.2.2.1
def gK (G : CG) : Nat → Nat := G.2.2.2.1
def gG (G : CG) : Nat → Nat → Nat := G.2.2.2.2.1
def gE (G : CG) : Nat → Bool := G.2.2.2.2.2.1
def gF (G : CG) : Nat → Nat := G.2.2.2.2.2.2.1
def gR (G : CG) : Nat → Nat := G.2.2.2.2.2.2.2
def na (G : CG) (k : Nat) : Nat := gA G (2 * k + 4)
def qa (G : CG) (k : Nat) : Nat := gA G (2 * k + 5)
def ciK (t : Nat) : Nat := if t < 3 then 5 else if t < 6 then 8 else if t = 6 then 7 else 6
def bnd (t : Nat) : Nat := if t = 0 ∨ t = 2 then 0 else if t < 7 then 1 else if t = 8 then 3 else 2
def kf (t j : Nat) : Value := if j = 0 then .int (Int32.ofNat (ary t)) else if j = 1 then .int (Int32.ofNat (bnd t)) else if j = 2 then .int (Int32.ofNat t) else .null
def ng (G : CG) (k j : Nat) : Option Nat := if j < ary (gK G k) then some (na G (gG G k j)) else none
def nfl (G : CG) (nf : Nat → Nat → Int32) (k j : Nat) : Value := if j = 0 then .ref (gK G k) else if j = 2 then va_rf (ng G k 0) else if j = 3 then va_rf (ng G k 1) else if j = 4 then va_rf (ng G k 2) else .int (nf j k)
def qfl (G : CG) (rn : Nat → Option Nat) (q j : Nat) : Value := if j = 0 then .int (bi (gE G q)) else if j = 1 then .ref (na G (gF G q)) else if j = 2 then .ref (na G (gR G q)) else if j = 3 then va_rf (rn q) else .null
def c16 (sc : Nat → Int32) (rf : Nat → Option Nat) (j : Nat) : Value := match j with
  | 0 => .ref 17
  | 1 => .ref 19
  | 2 => .int (sc 2)
  | 3 => .int (sc 3)
  | 4 => .ref 24
  | 5 => .ref 25
  | 6 => va_rf (rf 6)
  | 7 => .int (sc 7)
  | 8 => va_rf (rf 8)
  | 9 => .int (sc 9)
  | 10 => .int (sc 10)
  | 11 => .ref 26
  | 12 => .ref 27
  | 13 => .ref 30
  | 14 => .int (sc 14)
  | 15 => .int (sc 15)
  | 16 => .int (sc 16)
  | _ => .int 0
def c17 (G : CG) (sc : Nat → Int32) (j : Nat) : Value := match j with
  | 0 => .ref (gA G 1)
  | 1 => .int (sc 21)
  | 2 => .int (sc 22)
  | 3 => .int (sc 23)
  | _ => .int 0
def c19 (sc : Nat → Int32) (j : Nat) : Value := match j with
  | 0 => .ref 17
  | 1 => .int (sc 31)
  | 2 => .int (sc 32)
  | 3 => .int (sc 33)
  | 4 => .ref 20
  | 5 => .ref 21
  | 6 => .ref 22
  | 7 => .ref 23
  | 8 => .int (sc 38)
  | _ => .int 0
def c24 (G : CG) (sc : Nat → Int32) (j : Nat) : Value := match j with
  | 0 => .ref (gA G 2)
  | 1 => .int (sc 41)
  | 2 => .int (sc 42)
  | _ => .int 0
def c26 (G : CG) (sc : Nat → Int32) (j : Nat) : Value := match j with
  | 0 => .ref (gA G 3)
  | 1 => .int (sc 51)
  | 2 => .int (sc 52)
  | _ => .int 0
def c27  (j : Nat) : Value := match j with
  | 0 => .ref 28
  | 1 => .ref 29
  | _ => .null
def c30  (j : Nat) : Value := match j with
  | 0 => .ref 31
  | 1 => .ref 32
  | _ => .null
def fxc (G : CG) (sc : Nat → Int32) (rf : Nat → Option Nat) (ar : Nat → Nat → Int32) (ra : Nat → Nat → Option Nat) (i : Nat) : am_Cell := match i with
  | 16 => .inr (4, c16 sc rf)
  | 17 => .inr (0, c17 G sc)
  | 19 => .inr (1, c19 sc)
  | 20 => .inl (6, 20, .inr (.inr (ra 20)))
  | 21 => .inl (0, 20, .inl (ar 21))
  | 22 => .inl (3, 20, .inl (ar 22))
  | 23 => .inl (0, 20, .inl (ar 23))
  | 24 => .inr (2, c24 G sc)
  | 25 => .inl (7, 20, .inr (.inr (ra 25)))
  | 26 => .inr (2, c26 G sc)
  | 27 => .inr (3, c27)
  | 28 => .inl (0, 1296, .inl (ar 28))
  | 29 => .inl (0, 36, .inl (ar 29))
  | 30 => .inr (3, c30)
  | 31 => .inl (0, 4032, .inl (ar 31))
  | 32 => .inl (0, 112, .inl (ar 32))
  | _ => .inl (0, 0, .inl (fun _ => 0))
def dyc (G : CG) (ar : Nat → Nat → Int32) (ra : Nat → Nat → Option Nat) (nf : Nat → Nat → Int32) (rn : Nat → Option Nat) (t : Nat) : am_Cell :=
  if t = 1 then .inl (4, gC G 1, .inl (ar 1)) else if t = 2 then .inl (5, gC G 2, .inr (.inr (ra 2))) else if t = 3 then .inl (5, gC G 3, .inr (.inr (ra 3))) else if t % 2 = 0 then .inr (ciK (gK G ((t - 4) / 2)), nfl G nf ((t - 4) / 2)) else .inr (9, qfl G rn ((t - 5) / 2))
def kc (i : Nat) : am_Cell := if i < 12 then .inr (12, kf i) else .inl (5, 0, .inr (.inr (fun _ => none)))
def cw (G : CG) (sc : Nat → Int32) (rf : Nat → Option Nat) (ar : Nat → Nat → Int32) (ra : Nat → Nat → Option Nat) (nf : Nat → Nat → Int32) (rn : Nat → Option Nat) (R : am_W) : am_W := (fun i => if i < 13 then some (kc i) else if 16 ≤ i ∧ i ≤ 32 ∧ ¬ i = 18 then some (fxc G sc rf ar ra i) else if gL G i = 0 then R.1 i else some (dyc G ar ra nf rn (gL G i)), R.2)
def GO (G : CG) (m q : Nat) (R : am_W) : Prop :=
  (∀ a, ¬ gL G a = 0 → (a = 18 ∨ 59 ≤ a) ∧ a < R.2.1 ∧ a = gA G (gL G a)) ∧ (∀ k, k < m → gL G (na G k) = 2 * k + 4) ∧ (∀ i, i < q → gL G (qa G i) = 2 * i + 5) ∧
  gL G (gA G 1) = 1 ∧ (∀ t, t = 2 ∨ t = 3 → (gA G t = 12 ∧ gC G t = 0) ∨ gL G (gA G t) = t) ∧ 59 ≤ R.2.1 ∧ ∀ k, k < m → gK G k < 12 ∧ ∀ j, j < ary (gK G k) → gG G k j < k
section CW
variable {G : CG} {sc : Nat → Int32} {rf : Nat → Option Nat} {ar : Nat → Nat → Int32} {ra : Nat → Nat → Option Nat} {nf : Nat → Nat → Int32} {rn : Nat → Option Nat} {R : am_W} {m q : Nat}
theorem cw_2 : (cw G sc rf ar ra nf rn R).2 = R.2 := rfl
theorem cw_k (G : CG) (sc : Nat → Int32) (rf : Nat → Option Nat) (ar : Nat → Nat → Int32) (ra : Nat → Nat → Option Nat) (nf : Nat → Nat → Int32) (rn : Nat → Option Nat) (R : am_W) (t : Nat) (h : t < 12) : (cw G sc rf ar ra nf rn R).1 t = some (.inr (12, kf t)) := by
  have h1 : t < 13 := by omega
  simp only [cw, h1, ↓reduceIte, kc, h]
theorem cw_12 (G : CG) (sc : Nat → Int32) (rf : Nat → Option Nat) (ar : Nat → Nat → Int32) (ra : Nat → Nat → Option Nat) (nf : Nat → Nat → Int32) (rn : Nat → Option Nat) (R : am_W) : (cw G sc rf ar ra nf rn R).1 12 = some (.inl (5, 0, .inr (.inr (fun _ => none)))) := rfl
theorem cw_d {a t : Nat} (h : gL G a = t) (ht : ¬ t = 0) (ha : a = 18 ∨ 59 ≤ a) : (cw G sc rf ar ra nf rn R).1 a = some (dyc G ar ra nf rn t) := by
  have h1 : ¬ a < 13 := by omega
  have h2 : ¬ (16 ≤ a ∧ a ≤ 32 ∧ ¬ a = 18) := by omega
  simp only [cw, h1, h2, ↓reduceIte, h, ht]
theorem GO.at (h : GO G m q R) {a : Nat} (ha : ¬ gL G a = 0) : (a = 18 ∨ 59 ≤ a) ∧ a < R.2.1 ∧ a = gA G (gL G a) := h.1 a ha
theorem dyc_n (k : Nat) : dyc G ar ra nf rn (2 * k + 4) = .inr (ciK (gK G k), nfl G nf k) := by
  have h1 : ¬ 2 * k + 4 = 1 := by omega
  have h2 : ¬ 2 * k + 4 = 2 := by omega
  have h3 : ¬ 2 * k + 4 = 3 := by omega
  have h4 : (2 * k + 4) % 2 = 0 := by omega
  have h5 : (2 * k + 4 - 4) / 2 = k := by omega
  simp only [dyc, h1, h2, h3, h4, h5, ↓reduceIte]
theorem dyc_q (k : Nat) : dyc G ar ra nf rn (2 * k + 5) = .inr (9, qfl G rn k) := by
  have h1 : ¬ 2 * k + 5 = 1 := by omega
  have h2 : ¬ 2 * k + 5 = 2 := by omega
  have h3 : ¬ 2 * k + 5 = 3 := by omega
  have h4 : ¬ (2 * k + 5) % 2 = 0 := by omega
  have h5 : (2 * k + 5 - 5) / 2 = k := by omega
  simp only [dyc, h1, h2, h3, h4, h5, ↓reduceIte]
theorem cw_n (h : GO G m q R) (sc : Nat → Int32) (rf : Nat → Option Nat) (ar : Nat → Nat → Int32) (ra : Nat → Nat → Option Nat) (nf : Nat → Nat → Int32) (rn : Nat → Option Nat) (k : Nat) (hk : k < m) : (cw G sc rf ar ra nf rn R).1 (na G k) = some (.inr (ciK (gK G k), nfl G nf k)) := by
  have h1 := h.2.1 k hk
  rw [cw_d h1 (by omega) (h.at (by rw [h1]; omega)).1, dyc_n]
theorem cw_q (h : GO G m q R) (sc : Nat → Int32) (rf : Nat → Option Nat) (ar : Nat → Nat → Int32) (ra : Nat → Nat → Option Nat) (nf : Nat → Nat → Int32) (rn : Nat → Option Nat) (k : Nat) (hk : k < q) : (cw G sc rf ar ra nf rn R).1 (qa G k) = some (.inr (9, qfl G rn k)) := by
  have h1 := h.2.2.1 k hk
  rw [cw_d h1 (by omega) (h.at (by rw [h1]; omega)).1, dyc_q]
theorem cw_b (h : GO G m q R) (sc : Nat → Int32) (rf : Nat → Option Nat) (ar : Nat → Nat → Int32) (ra : Nat → Nat → Option Nat) (nf : Nat → Nat → Int32) (rn : Nat → Option Nat) : (cw G sc rf ar ra nf rn R).1 (gA G 1) = some (.inl (4, gC G 1, .inl (ar 1))) := by
  have h1 := h.2.2.2.1
  rw [cw_d h1 (by omega) (h.at (by rw [h1]; omega)).1]; rfl
theorem cw_e2 (h : GO G m q R) (hc : 0 < gC G 2) (sc : Nat → Int32) (rf : Nat → Option Nat) (ar : Nat → Nat → Int32) (ra : Nat → Nat → Option Nat) (nf : Nat → Nat → Int32) (rn : Nat → Option Nat) : (cw G sc rf ar ra nf rn R).1 (gA G 2) = some (.inl (5, gC G 2, .inr (.inr (ra 2)))) := by
  have h1 : gL G (gA G 2) = 2 := by
    rcases h.2.2.2.2.1 2 (Or.inl rfl) with g | g
    · omega
    · exact g
  rw [cw_d h1 (by omega) (h.at (by rw [h1]; omega)).1]; rfl
theorem cw_e3 (h : GO G m q R) (hc : 0 < gC G 3) (sc : Nat → Int32) (rf : Nat → Option Nat) (ar : Nat → Nat → Int32) (ra : Nat → Nat → Option Nat) (nf : Nat → Nat → Int32) (rn : Nat → Option Nat) : (cw G sc rf ar ra nf rn R).1 (gA G 3) = some (.inl (5, gC G 3, .inr (.inr (ra 3)))) := by
  have h1 : gL G (gA G 3) = 3 := by
    rcases h.2.2.2.2.1 3 (Or.inr rfl) with g | g
    · omega
    · exact g
  rw [cw_d h1 (by omega) (h.at (by rw [h1]; omega)).1]; rfl
theorem na_b (h : GO G m q R) {k : Nat} (hk : k < m) : (na G k = 18 ∨ 59 ≤ na G k) ∧ na G k < R.2.1 := by
  have h1 := h.2.1 k hk
  have := h.at (a := na G k) (by rw [h1]; omega)
  exact ⟨this.1, this.2.1⟩
theorem qa_b (h : GO G m q R) {k : Nat} (hk : k < q) : (qa G k = 18 ∨ 59 ≤ qa G k) ∧ qa G k < R.2.1 := by
  have h1 := h.2.2.1 k hk
  have := h.at (a := qa G k) (by rw [h1]; omega)
  exact ⟨this.1, this.2.1⟩
theorem na_16 (h : GO G m q R) (k : Nat) (hk : k < m) : (16 ≤ na G k) = True := by have := na_b h hk; simp; omega
theorem na_14 (h : GO G m q R) (k : Nat) (hk : k < m) : (na G k = 14) = False := by have := na_b h hk; simp; omega
theorem qa_16 (h : GO G m q R) (k : Nat) (hk : k < q) : (16 ≤ qa G k) = True := by have := qa_b h hk; simp; omega
theorem qa_14 (h : GO G m q R) (k : Nat) (hk : k < q) : (qa G k = 14) = False := by have := qa_b h hk; simp; omega
theorem b_16 (h : GO G m q R) : (16 ≤ gA G 1) = True := by
  have h1 := h.2.2.2.1
  have := h.at (a := gA G 1) (by rw [h1]; omega)
  simp; omega
theorem na_inj (h : GO G m q R) (i k : Nat) (hi : i < m) (hk : k < m) : (na G i = na G k) = (i = k) := by
  have h1 := h.2.1 k hk
  have h2 := h.2.1 i hi
  apply propext
  constructor
  · intro e; rw [e] at h2; omega
  · intro e; rw [e]
theorem na_ap (h : GO G m q R) (i k : Nat) (hi : i < m) : am_apart (na G i) k = true := by
  have := na_b h hi
  have h1 : 16 ≤ na G i := by omega
  simp [am_apart, h1]
theorem k_ap (i k : Nat) (hi : i < 12) (hk : k < 12) : am_apart i k = true := by simp [am_apart, hi, hk]
theorem ciK_g (t : Nat) : am_g (ciK t) = 5 := by unfold ciK am_g; (repeat' split) <;> omega
theorem ciK_6 (t : Nat) (h : t < 12) : (ciK t = 6) = (7 ≤ t) := by unfold ciK; (repeat' split) <;> simp <;> omega

theorem cw_same {G' : CG} {sc' : Nat → Int32} {rf' : Nat → Option Nat} {ar' : Nat → Nat → Int32} {ra' : Nat → Nat → Option Nat} {nf' : Nat → Nat → Int32} {rn' : Nat → Option Nat} {R' : am_W} {a : Nat} {c : am_Cell} (h1 : (cw G' sc' rf' ar' ra' nf' rn' R').1 a = some c) (h2 : ∀ i, ¬ i = a → (cw G' sc' rf' ar' ra' nf' rn' R').1 i = (cw G sc rf ar ra nf rn R).1 i) (h3 : R'.2 = R.2) : am_set (cw G sc rf ar ra nf rn R) a c = cw G' sc' rf' ar' ra' nf' rn' R' := by
  refine Prod.ext (funext fun i => ?_) h3.symm
  rw [am_set_1]
  by_cases hi : i = a
  · subst hi; rw [if_pos rfl, h1]
  · rw [if_neg hi, h2 i hi]
theorem cw_fx {sc' : Nat → Int32} {rf' : Nat → Option Nat} {ar' : Nat → Nat → Int32} {ra' : Nat → Nat → Option Nat} {a : Nat} {c : am_Cell} (ha : 16 ≤ a ∧ a ≤ 32 ∧ ¬ a = 18) (h1 : fxc G sc' rf' ar' ra' a = c) (h2 : ∀ i, 16 ≤ i ∧ i ≤ 32 ∧ ¬ i = 18 → ¬ i = a → fxc G sc' rf' ar' ra' i = fxc G sc rf ar ra i) (h3 : dyc G ar' ra' nf rn = dyc G ar ra nf rn) : am_set (cw G sc rf ar ra nf rn R) a c = cw G sc' rf' ar' ra' nf rn R := by
  refine cw_same ?_ (fun i hi => ?_) rfl
  · have h0 : ¬ a < 13 := by omega
    simp only [cw, h0, ha, ↓reduceIte, h1, not_false_eq_true, and_self]
  · simp only [cw, h3]
    by_cases y : 16 ≤ i ∧ i ≤ 32 ∧ ¬ i = 18
    · rw [h2 i y hi]
    · simp only [y, ↓reduceIte]
theorem cw_dy {ar' : Nat → Nat → Int32} {ra' : Nat → Nat → Option Nat} {nf' : Nat → Nat → Int32} {rn' : Nat → Option Nat} {a t : Nat} {c : am_Cell} (h : GO G m q R) (hl : gL G a = t) (ht : ¬ t = 0) (h1 : dyc G ar' ra' nf' rn' t = c) (h2 : ∀ s, ¬ s = 0 → ¬ s = t → dyc G ar' ra' nf' rn' s = dyc G ar ra nf rn s) (h3 : fxc G sc rf ar' ra' = fxc G sc rf ar ra) : am_set (cw G sc rf ar ra nf rn R) a c = cw G sc rf ar' ra' nf' rn' R := by
  refine cw_same ?_ (fun i hi => ?_) rfl
  · rw [cw_d hl ht (h.at (by rw [hl]; exact ht)).1, h1]
  · simp only [cw, h3]
    by_cases y : gL G i = 0
    · simp only [y, ↓reduceIte]
    · rw [h2 _ y]
      intro e
      have e1 := (h.at y).2.2
      have e2 := (h.at (a := a) (by rw [hl]; exact ht)).2.2
      rw [e] at e1; rw [hl] at e2
      exact hi (e1.trans e2.symm)
theorem am_qput_s {w : am_W} {a k n : Nat} {i : Int32} {x : Option Nat} {f : Nat → Option Nat} (h : w.1 a = some (.inl (k, n, .inr (.inr f)))) : am_qput w a i x = am_set w a (.inl (k, n, .inr (.inr (va_up f i.toNatClampNeg x)))) := by simp [am_qput, h]
theorem cw_rd : (∀ (G : CG) (sc : Nat → Int32) (rf : Nat → Option Nat) (ar : Nat → Nat → Int32) (ra : Nat → Nat → Option Nat) (nf : Nat → Nat → Int32) (rn : Nat → Option Nat) (R : am_W), (cw G sc rf ar ra nf rn R).1 16 = some (.inr (4, c16 sc rf))) ∧
  (∀ (G : CG) (sc : Nat → Int32) (rf : Nat → Option Nat) (ar : Nat → Nat → Int32) (ra : Nat → Nat → Option Nat) (nf : Nat → Nat → Int32) (rn : Nat → Option Nat) (R : am_W), (cw G sc rf ar ra nf rn R).1 17 = some (.inr (0, c17 G sc))) ∧
  (∀ (G : CG) (sc : Nat → Int32) (rf : Nat → Option Nat) (ar : Nat → Nat → Int32) (ra : Nat → Nat → Option Nat) (nf : Nat → Nat → Int32) (rn : Nat → Option Nat) (R : am_W), (cw G sc rf ar ra nf rn R).1 19 = some (.inr (1, c19 sc))) ∧
  (∀ (G : CG) (sc : Nat → Int32) (rf : Nat → Option Nat) (ar : Nat → Nat → Int32) (ra : Nat → Nat → Option Nat) (nf : Nat → Nat → Int32) (rn : Nat → Option Nat) (R : am_W), (cw G sc rf ar ra nf rn R).1 20 = some (.inl (6, 20, .inr (.inr (ra 20))))) ∧
  (∀ (G : CG) (sc : Nat → Int32) (rf : Nat → Option Nat) (ar : Nat → Nat → Int32) (ra : Nat → Nat → Option Nat) (nf : Nat → Nat → Int32) (rn : Nat → Option Nat) (R : am_W), (cw G sc rf ar ra nf rn R).1 21 = some (.inl (0, 20, .inl (ar 21)))) ∧
  (∀ (G : CG) (sc : Nat → Int32) (rf : Nat → Option Nat) (ar : Nat → Nat → Int32) (ra : Nat → Nat → Option Nat) (nf : Nat → Nat → Int32) (rn : Nat → Option Nat) (R : am_W), (cw G sc rf ar ra nf rn R).1 22 = some (.inl (3, 20, .inl (ar 22)))) ∧
  (∀ (G : CG) (sc : Nat → Int32) (rf : Nat → Option Nat) (ar : Nat → Nat → Int32) (ra : Nat → Nat → Option Nat) (nf : Nat → Nat → Int32) (rn : Nat → Option Nat) (R : am_W), (cw G sc rf ar ra nf rn R).1 23 = some (.inl (0, 20, .inl (ar 23)))) ∧
  (∀ (G : CG) (sc : Nat → Int32) (rf : Nat → Option Nat) (ar : Nat → Nat → Int32) (ra : Nat → Nat → Option Nat) (nf : Nat → Nat → Int32) (rn : Nat → Option Nat) (R : am_W), (cw G sc rf ar ra nf rn R).1 24 = some (.inr (2, c24 G sc))) ∧
  (∀ (G : CG) (sc : Nat → Int32) (rf : Nat → Option Nat) (ar : Nat → Nat → Int32) (ra : Nat → Nat → Option Nat) (nf : Nat → Nat → Int32) (rn : Nat → Option Nat) (R : am_W), (cw G sc rf ar ra nf rn R).1 25 = some (.inl (7, 20, .inr (.inr (ra 25))))) ∧
  (∀ (G : CG) (sc : Nat → Int32) (rf : Nat → Option Nat) (ar : Nat → Nat → Int32) (ra : Nat → Nat → Option Nat) (nf : Nat → Nat → Int32) (rn : Nat → Option Nat) (R : am_W), (cw G sc rf ar ra nf rn R).1 26 = some (.inr (2, c26 G sc))) ∧
  (∀ (G : CG) (sc : Nat → Int32) (rf : Nat → Option Nat) (ar : Nat → Nat → Int32) (ra : Nat → Nat → Option Nat) (nf : Nat → Nat → Int32) (rn : Nat → Option Nat) (R : am_W), (cw G sc rf ar ra nf rn R).1 27 = some (.inr (3, c27))) ∧
  (∀ (G : CG) (sc : Nat → Int32) (rf : Nat → Option Nat) (ar : Nat → Nat → Int32) (ra : Nat → Nat → Option Nat) (nf : Nat → Nat → Int32) (rn : Nat → Option Nat) (R : am_W), (cw G sc rf ar ra nf rn R).1 28 = some (.inl (0, 1296, .inl (ar 28)))) ∧
  (∀ (G : CG) (sc : Nat → Int32) (rf : Nat → Option Nat) (ar : Nat → Nat → Int32) (ra : Nat → Nat → Option Nat) (nf : Nat → Nat → Int32) (rn : Nat → Option Nat) (R : am_W), (cw G sc rf ar ra nf rn R).1 29 = some (.inl (0, 36, .inl (ar 29)))) ∧
  (∀ (G : CG) (sc : Nat → Int32) (rf : Nat → Option Nat) (ar : Nat → Nat → Int32) (ra : Nat → Nat → Option Nat) (nf : Nat → Nat → Int32) (rn : Nat → Option Nat) (R : am_W), (cw G sc rf ar ra nf rn R).1 30 = some (.inr (3, c30))) ∧
  (∀ (G : CG) (sc : Nat → Int32) (rf : Nat → Option Nat) (ar : Nat → Nat → Int32) (ra : Nat → Nat → Option Nat) (nf : Nat → Nat → Int32) (rn : Nat → Option Nat) (R : am_W), (cw G sc rf ar ra nf rn R).1 31 = some (.inl (0, 4032, .inl (ar 31)))) ∧
  (∀ (G : CG) (sc : Nat → Int32) (rf : Nat → Option Nat) (ar : Nat → Nat → Int32) (ra : Nat → Nat → Option Nat) (nf : Nat → Nat → Int32) (rn : Nat → Option Nat) (R : am_W), (cw G sc rf ar ra nf rn R).1 32 = some (.inl (0, 112, .inl (ar 32)))) ∧
  (∀ (sc : Nat → Int32) (rf : Nat → Option Nat), c16 sc rf 0 = .ref 17) ∧
  (∀ (sc : Nat → Int32) (rf : Nat → Option Nat), c16 sc rf 1 = .ref 19) ∧
  (∀ (sc : Nat → Int32) (rf : Nat → Option Nat), c16 sc rf 2 = .int (sc 2)) ∧
  (∀ (sc : Nat → Int32) (rf : Nat → Option Nat), c16 sc rf 3 = .int (sc 3)) ∧
  (∀ (sc : Nat → Int32) (rf : Nat → Option Nat), c16 sc rf 4 = .ref 24) ∧
  (∀ (sc : Nat → Int32) (rf : Nat → Option Nat), c16 sc rf 5 = .ref 25) ∧
  (∀ (sc : Nat → Int32) (rf : Nat → Option Nat), c16 sc rf 6 = va_rf (rf 6)) ∧
  (∀ (sc : Nat → Int32) (rf : Nat → Option Nat), c16 sc rf 7 = .int (sc 7)) ∧
  (∀ (sc : Nat → Int32) (rf : Nat → Option Nat), c16 sc rf 8 = va_rf (rf 8)) ∧
  (∀ (sc : Nat → Int32) (rf : Nat → Option Nat), c16 sc rf 9 = .int (sc 9)) ∧
  (∀ (sc : Nat → Int32) (rf : Nat → Option Nat), c16 sc rf 10 = .int (sc 10)) ∧
  (∀ (sc : Nat → Int32) (rf : Nat → Option Nat), c16 sc rf 11 = .ref 26) ∧
  (∀ (sc : Nat → Int32) (rf : Nat → Option Nat), c16 sc rf 12 = .ref 27) ∧
  (∀ (sc : Nat → Int32) (rf : Nat → Option Nat), c16 sc rf 13 = .ref 30) ∧
  (∀ (sc : Nat → Int32) (rf : Nat → Option Nat), c16 sc rf 14 = .int (sc 14)) ∧
  (∀ (sc : Nat → Int32) (rf : Nat → Option Nat), c16 sc rf 15 = .int (sc 15)) ∧
  (∀ (sc : Nat → Int32) (rf : Nat → Option Nat), c16 sc rf 16 = .int (sc 16)) ∧
  (∀ (G : CG) (sc : Nat → Int32), c17 G sc 0 = .ref (gA G 1)) ∧
  (∀ (G : CG) (sc : Nat → Int32), c17 G sc 1 = .int (sc 21)) ∧
  (∀ (G : CG) (sc : Nat → Int32), c17 G sc 2 = .int (sc 22)) ∧
  (∀ (G : CG) (sc : Nat → Int32), c17 G sc 3 = .int (sc 23)) ∧
  (∀ (sc : Nat → Int32), c19 sc 0 = .ref 17) ∧
  (∀ (sc : Nat → Int32), c19 sc 1 = .int (sc 31)) ∧
  (∀ (sc : Nat → Int32), c19 sc 2 = .int (sc 32)) ∧
  (∀ (sc : Nat → Int32), c19 sc 3 = .int (sc 33)) ∧
  (∀ (sc : Nat → Int32), c19 sc 4 = .ref 20) ∧
  (∀ (sc : Nat → Int32), c19 sc 5 = .ref 21) ∧
  (∀ (sc : Nat → Int32), c19 sc 6 = .ref 22) ∧
  (∀ (sc : Nat → Int32), c19 sc 7 = .ref 23) ∧
  (∀ (sc : Nat → Int32), c19 sc 8 = .int (sc 38)) ∧
  (∀ (G : CG) (sc : Nat → Int32), c24 G sc 0 = .ref (gA G 2)) ∧
  (∀ (G : CG) (sc : Nat → Int32), c24 G sc 1 = .int (sc 41)) ∧
  (∀ (G : CG) (sc : Nat → Int32), c24 G sc 2 = .int (sc 42)) ∧
  (∀ (G : CG) (sc : Nat → Int32), c26 G sc 0 = .ref (gA G 3)) ∧
  (∀ (G : CG) (sc : Nat → Int32), c26 G sc 1 = .int (sc 51)) ∧
  (∀ (G : CG) (sc : Nat → Int32), c26 G sc 2 = .int (sc 52)) ∧
  (c27  0 = .ref 28) ∧
  (c27  1 = .ref 29) ∧
  (c30  0 = .ref 31) ∧
  (c30  1 = .ref 32) ∧
  (∀ (G : CG) (nf : Nat → Nat → Int32), ∀ k, nfl G nf k 1 = .int (nf 1 k)) ∧
  (∀ (G : CG) (nf : Nat → Nat → Int32), ∀ k, nfl G nf k 5 = .int (nf 5 k)) ∧
  (∀ (G : CG) (nf : Nat → Nat → Int32), ∀ k, nfl G nf k 6 = .int (nf 6 k)) ∧
  (∀ (G : CG) (nf : Nat → Nat → Int32), ∀ k, nfl G nf k 7 = .int (nf 7 k)) ∧
  (∀ (G : CG) (nf : Nat → Nat → Int32), ∀ k, nfl G nf k 8 = .int (nf 8 k)) ∧
  (∀ (G : CG) (nf : Nat → Nat → Int32), ∀ k, nfl G nf k 9 = .int (nf 9 k)) ∧
  (∀ (G : CG) (nf : Nat → Nat → Int32), ∀ k, nfl G nf k 10 = .int (nf 10 k)) ∧
  (∀ (G : CG) (nf : Nat → Nat → Int32), ∀ k, nfl G nf k 11 = .int (nf 11 k)) ∧
  (∀ (G : CG) (nf : Nat → Nat → Int32), ∀ k, nfl G nf k 12 = .int (nf 12 k)) ∧
  (∀ (G : CG) (nf : Nat → Nat → Int32), ∀ k, nfl G nf k 13 = .int (nf 13 k)) ∧
  (∀ (G : CG) (nf : Nat → Nat → Int32), ∀ k, nfl G nf k 14 = .int (nf 14 k)) ∧
  (∀ (G : CG) (nf : Nat → Nat → Int32), ∀ k, nfl G nf k 0 = .ref (gK G k)) ∧
  (∀ (G : CG) (nf : Nat → Nat → Int32), ∀ k, nfl G nf k 2 = va_rf (ng G k 0)) ∧
  (∀ (G : CG) (nf : Nat → Nat → Int32), ∀ k, nfl G nf k 3 = va_rf (ng G k 1)) ∧
  (∀ (G : CG) (nf : Nat → Nat → Int32), ∀ k, nfl G nf k 4 = va_rf (ng G k 2)) ∧
  (∀ (G : CG) (rn : Nat → Option Nat), ∀ k, qfl G rn k 0 = .int (bi (gE G k))) ∧
  (∀ (G : CG) (rn : Nat → Option Nat), ∀ k, qfl G rn k 1 = .ref (na G (gF G k))) ∧
  (∀ (G : CG) (rn : Nat → Option Nat), ∀ k, qfl G rn k 2 = .ref (na G (gR G k))) ∧
  (∀ (G : CG) (rn : Nat → Option Nat), ∀ k, qfl G rn k 3 = va_rf (rn k)) ∧
  (∀ t, kf t 0 = .int (Int32.ofNat (ary t))) ∧
  (∀ t, kf t 1 = .int (Int32.ofNat (bnd t))) ∧
  (∀ t, kf t 2 = .int (Int32.ofNat t)) ∧
  (∀ a, va_rf (some a) = .ref a) ∧
  (va_rf none = .null) ∧
  (∀ (G : CG) (sc : Nat → Int32) (rf : Nat → Option Nat) (ar : Nat → Nat → Int32) (ra : Nat → Nat → Option Nat) (nf : Nat → Nat → Int32) (rn : Nat → Option Nat) (R : am_W), (cw G sc rf ar ra nf rn R).2 = R.2) := by
  refine ⟨?_, ?_, ?_, ?_, ?_, ?_, ?_, ?_, ?_, ?_, ?_, ?_, ?_, ?_, ?_, ?_, ?_, ?_, ?_, ?_, ?_, ?_, ?_, ?_, ?_, ?_, ?_, ?_, ?_, ?_, ?_, ?_, ?_, ?_, ?_, ?_, ?_, ?_, ?_, ?_, ?_, ?_, ?_, ?_, ?_, ?_, ?_, ?_, ?_, ?_, ?_, ?_, ?_, ?_, ?_, ?_, ?_, ?_, ?_, ?_, ?_, ?_, ?_, ?_, ?_, ?_, ?_, ?_, ?_, ?_, ?_, ?_, ?_, ?_, ?_, ?_, ?_, ?_, ?_, ?_, ?_⟩ <;> (intros; rfl)
theorem cp_16_2 (v : Int32) : am_put (cw G sc rf ar ra nf rn R) 16 4354 (.int v) = cw G (upd sc 2 v) rf ar ra nf rn R := by
  rw [am_put_s (o := (4, c16 sc rf)) rfl]
  refine cw_fx (by decide) ?_ (fun i h1 h2 => ?_) rfl
  · refine congrArg (fun f => Sum.inr (4, f)) (funext fun j => ?_)
    simp only [va_up]
    by_cases y : j = 2
    · subst y; rfl
    · rw [if_neg y]
      by_cases z : j < 17
      · rcases (show j = 0 ∨ j = 1 ∨ j = 2 ∨ j = 3 ∨ j = 4 ∨ j = 5 ∨ j = 6 ∨ j = 7 ∨ j = 8 ∨ j = 9 ∨ j = 10 ∨ j = 11 ∨ j = 12 ∨ j = 13 ∨ j = 14 ∨ j = 15 ∨ j = 16 by omega) with rfl | rfl | rfl | rfl | rfl | rfl | rfl | rfl | rfl | rfl | rfl | rfl | rfl | rfl | rfl | rfl | rfl <;> first | rfl | exact absurd rfl y
      · obtain ⟨q, rfl⟩ : ∃ q, j = q + 17 := ⟨j - 17, by omega⟩
        rfl
  · rcases (show i = 16 ∨ i = 17 ∨ i = 19 ∨ i = 20 ∨ i = 21 ∨ i = 22 ∨ i = 23 ∨ i = 24 ∨ i = 25 ∨ i = 26 ∨ i = 27 ∨ i = 28 ∨ i = 29 ∨ i = 30 ∨ i = 31 ∨ i = 32 by omega) with rfl | rfl | rfl | rfl | rfl | rfl | rfl | rfl | rfl | rfl | rfl | rfl | rfl | rfl | rfl | rfl <;> first | rfl | exact absurd rfl h2
theorem cp_16_3 (v : Int32) : am_put (cw G sc rf ar ra nf rn R) 16 259 (.int v) = cw G (upd sc 3 v) rf ar ra nf rn R := by
  rw [am_put_s (o := (4, c16 sc rf)) rfl]
  refine cw_fx (by decide) ?_ (fun i h1 h2 => ?_) rfl
  · refine congrArg (fun f => Sum.inr (4, f)) (funext fun j => ?_)
    simp only [va_up]
    by_cases y : j = 3
    · subst y; rfl
    · rw [if_neg y]
      by_cases z : j < 17
      · rcases (show j = 0 ∨ j = 1 ∨ j = 2 ∨ j = 3 ∨ j = 4 ∨ j = 5 ∨ j = 6 ∨ j = 7 ∨ j = 8 ∨ j = 9 ∨ j = 10 ∨ j = 11 ∨ j = 12 ∨ j = 13 ∨ j = 14 ∨ j = 15 ∨ j = 16 by omega) with rfl | rfl | rfl | rfl | rfl | rfl | rfl | rfl | rfl | rfl | rfl | rfl | rfl | rfl | rfl | rfl | rfl <;> first | rfl | exact absurd rfl y
      · obtain ⟨q, rfl⟩ : ∃ q, j = q + 17 := ⟨j - 17, by omega⟩
        rfl
  · rcases (show i = 16 ∨ i = 17 ∨ i = 19 ∨ i = 20 ∨ i = 21 ∨ i = 22 ∨ i = 23 ∨ i = 24 ∨ i = 25 ∨ i = 26 ∨ i = 27 ∨ i = 28 ∨ i = 29 ∨ i = 30 ∨ i = 31 ∨ i = 32 by omega) with rfl | rfl | rfl | rfl | rfl | rfl | rfl | rfl | rfl | rfl | rfl | rfl | rfl | rfl | rfl | rfl <;> first | rfl | exact absurd rfl h2
theorem cp_16_6r (v : Nat) : am_put (cw G sc rf ar ra nf rn R) 16 8454 (.ref v) = cw G sc (va_up rf 6 (some v)) ar ra nf rn R := by
  rw [am_put_s (o := (4, c16 sc rf)) rfl]
  refine cw_fx (by decide) ?_ (fun i h1 h2 => ?_) rfl
  · refine congrArg (fun f => Sum.inr (4, f)) (funext fun j => ?_)
    simp only [va_up]
    by_cases y : j = 6
    · subst y; rfl
    · rw [if_neg y]
      by_cases z : j < 17
      · rcases (show j = 0 ∨ j = 1 ∨ j = 2 ∨ j = 3 ∨ j = 4 ∨ j = 5 ∨ j = 6 ∨ j = 7 ∨ j = 8 ∨ j = 9 ∨ j = 10 ∨ j = 11 ∨ j = 12 ∨ j = 13 ∨ j = 14 ∨ j = 15 ∨ j = 16 by omega) with rfl | rfl | rfl | rfl | rfl | rfl | rfl | rfl | rfl | rfl | rfl | rfl | rfl | rfl | rfl | rfl | rfl <;> first | rfl | exact absurd rfl y
      · obtain ⟨q, rfl⟩ : ∃ q, j = q + 17 := ⟨j - 17, by omega⟩
        rfl
  · rcases (show i = 16 ∨ i = 17 ∨ i = 19 ∨ i = 20 ∨ i = 21 ∨ i = 22 ∨ i = 23 ∨ i = 24 ∨ i = 25 ∨ i = 26 ∨ i = 27 ∨ i = 28 ∨ i = 29 ∨ i = 30 ∨ i = 31 ∨ i = 32 by omega) with rfl | rfl | rfl | rfl | rfl | rfl | rfl | rfl | rfl | rfl | rfl | rfl | rfl | rfl | rfl | rfl <;> first | rfl | exact absurd rfl h2
theorem cp_16_6n  : am_put (cw G sc rf ar ra nf rn R) 16 8454 (.null) = cw G sc (va_up rf 6 none) ar ra nf rn R := by
  rw [am_put_s (o := (4, c16 sc rf)) rfl]
  refine cw_fx (by decide) ?_ (fun i h1 h2 => ?_) rfl
  · refine congrArg (fun f => Sum.inr (4, f)) (funext fun j => ?_)
    simp only [va_up]
    by_cases y : j = 6
    · subst y; rfl
    · rw [if_neg y]
      by_cases z : j < 17
      · rcases (show j = 0 ∨ j = 1 ∨ j = 2 ∨ j = 3 ∨ j = 4 ∨ j = 5 ∨ j = 6 ∨ j = 7 ∨ j = 8 ∨ j = 9 ∨ j = 10 ∨ j = 11 ∨ j = 12 ∨ j = 13 ∨ j = 14 ∨ j = 15 ∨ j = 16 by omega) with rfl | rfl | rfl | rfl | rfl | rfl | rfl | rfl | rfl | rfl | rfl | rfl | rfl | rfl | rfl | rfl | rfl <;> first | rfl | exact absurd rfl y
      · obtain ⟨q, rfl⟩ : ∃ q, j = q + 17 := ⟨j - 17, by omega⟩
        rfl
  · rcases (show i = 16 ∨ i = 17 ∨ i = 19 ∨ i = 20 ∨ i = 21 ∨ i = 22 ∨ i = 23 ∨ i = 24 ∨ i = 25 ∨ i = 26 ∨ i = 27 ∨ i = 28 ∨ i = 29 ∨ i = 30 ∨ i = 31 ∨ i = 32 by omega) with rfl | rfl | rfl | rfl | rfl | rfl | rfl | rfl | rfl | rfl | rfl | rfl | rfl | rfl | rfl | rfl <;> first | rfl | exact absurd rfl h2
theorem cp_16_6o (v : Option Nat) : am_put (cw G sc rf ar ra nf rn R) 16 8454 (va_rf v) = cw G sc (va_up rf 6 v) ar ra nf rn R := by
  rw [am_put_s (o := (4, c16 sc rf)) rfl]
  refine cw_fx (by decide) ?_ (fun i h1 h2 => ?_) rfl
  · refine congrArg (fun f => Sum.inr (4, f)) (funext fun j => ?_)
    simp only [va_up]
    by_cases y : j = 6
    · subst y; rfl
    · rw [if_neg y]
      by_cases z : j < 17
      · rcases (show j = 0 ∨ j = 1 ∨ j = 2 ∨ j = 3 ∨ j = 4 ∨ j = 5 ∨ j = 6 ∨ j = 7 ∨ j = 8 ∨ j = 9 ∨ j = 10 ∨ j = 11 ∨ j = 12 ∨ j = 13 ∨ j = 14 ∨ j = 15 ∨ j = 16 by omega) with rfl | rfl | rfl | rfl | rfl | rfl | rfl | rfl | rfl | rfl | rfl | rfl | rfl | rfl | rfl | rfl | rfl <;> first | rfl | exact absurd rfl y
      · obtain ⟨q, rfl⟩ : ∃ q, j = q + 17 := ⟨j - 17, by omega⟩
        rfl
  · rcases (show i = 16 ∨ i = 17 ∨ i = 19 ∨ i = 20 ∨ i = 21 ∨ i = 22 ∨ i = 23 ∨ i = 24 ∨ i = 25 ∨ i = 26 ∨ i = 27 ∨ i = 28 ∨ i = 29 ∨ i = 30 ∨ i = 31 ∨ i = 32 by omega) with rfl | rfl | rfl | rfl | rfl | rfl | rfl | rfl | rfl | rfl | rfl | rfl | rfl | rfl | rfl | rfl <;> first | rfl | exact absurd rfl h2
theorem cp_16_7 (v : Int32) : am_put (cw G sc rf ar ra nf rn R) 16 4359 (.int v) = cw G (upd sc 7 v) rf ar ra nf rn R := by
  rw [am_put_s (o := (4, c16 sc rf)) rfl]
  refine cw_fx (by decide) ?_ (fun i h1 h2 => ?_) rfl
  · refine congrArg (fun f => Sum.inr (4, f)) (funext fun j => ?_)
    simp only [va_up]
    by_cases y : j = 7
    · subst y; rfl
    · rw [if_neg y]
      by_cases z : j < 17
      · rcases (show j = 0 ∨ j = 1 ∨ j = 2 ∨ j = 3 ∨ j = 4 ∨ j = 5 ∨ j = 6 ∨ j = 7 ∨ j = 8 ∨ j = 9 ∨ j = 10 ∨ j = 11 ∨ j = 12 ∨ j = 13 ∨ j = 14 ∨ j = 15 ∨ j = 16 by omega) with rfl | rfl | rfl | rfl | rfl | rfl | rfl | rfl | rfl | rfl | rfl | rfl | rfl | rfl | rfl | rfl | rfl <;> first | rfl | exact absurd rfl y
      · obtain ⟨q, rfl⟩ : ∃ q, j = q + 17 := ⟨j - 17, by omega⟩
        rfl
  · rcases (show i = 16 ∨ i = 17 ∨ i = 19 ∨ i = 20 ∨ i = 21 ∨ i = 22 ∨ i = 23 ∨ i = 24 ∨ i = 25 ∨ i = 26 ∨ i = 27 ∨ i = 28 ∨ i = 29 ∨ i = 30 ∨ i = 31 ∨ i = 32 by omega) with rfl | rfl | rfl | rfl | rfl | rfl | rfl | rfl | rfl | rfl | rfl | rfl | rfl | rfl | rfl | rfl <;> first | rfl | exact absurd rfl h2
theorem cp_16_8r (v : Nat) : am_put (cw G sc rf ar ra nf rn R) 16 8456 (.ref v) = cw G sc (va_up rf 8 (some v)) ar ra nf rn R := by
  rw [am_put_s (o := (4, c16 sc rf)) rfl]
  refine cw_fx (by decide) ?_ (fun i h1 h2 => ?_) rfl
  · refine congrArg (fun f => Sum.inr (4, f)) (funext fun j => ?_)
    simp only [va_up]
    by_cases y : j = 8
    · subst y; rfl
    · rw [if_neg y]
      by_cases z : j < 17
      · rcases (show j = 0 ∨ j = 1 ∨ j = 2 ∨ j = 3 ∨ j = 4 ∨ j = 5 ∨ j = 6 ∨ j = 7 ∨ j = 8 ∨ j = 9 ∨ j = 10 ∨ j = 11 ∨ j = 12 ∨ j = 13 ∨ j = 14 ∨ j = 15 ∨ j = 16 by omega) with rfl | rfl | rfl | rfl | rfl | rfl | rfl | rfl | rfl | rfl | rfl | rfl | rfl | rfl | rfl | rfl | rfl <;> first | rfl | exact absurd rfl y
      · obtain ⟨q, rfl⟩ : ∃ q, j = q + 17 := ⟨j - 17, by omega⟩
        rfl
  · rcases (show i = 16 ∨ i = 17 ∨ i = 19 ∨ i = 20 ∨ i = 21 ∨ i = 22 ∨ i = 23 ∨ i = 24 ∨ i = 25 ∨ i = 26 ∨ i = 27 ∨ i = 28 ∨ i = 29 ∨ i = 30 ∨ i = 31 ∨ i = 32 by omega) with rfl | rfl | rfl | rfl | rfl | rfl | rfl | rfl | rfl | rfl | rfl | rfl | rfl | rfl | rfl | rfl <;> first | rfl | exact absurd rfl h2
theorem cp_16_8n  : am_put (cw G sc rf ar ra nf rn R) 16 8456 (.null) = cw G sc (va_up rf 8 none) ar ra nf rn R := by
  rw [am_put_s (o := (4, c16 sc rf)) rfl]
  refine cw_fx (by decide) ?_ (fun i h1 h2 => ?_) rfl
  · refine congrArg (fun f => Sum.inr (4, f)) (funext fun j => ?_)
    simp only [va_up]
    by_cases y : j = 8
    · subst y; rfl
    · rw [if_neg y]
      by_cases z : j < 17
      · rcases (show j = 0 ∨ j = 1 ∨ j = 2 ∨ j = 3 ∨ j = 4 ∨ j = 5 ∨ j = 6 ∨ j = 7 ∨ j = 8 ∨ j = 9 ∨ j = 10 ∨ j = 11 ∨ j = 12 ∨ j = 13 ∨ j = 14 ∨ j = 15 ∨ j = 16 by omega) with rfl | rfl | rfl | rfl | rfl | rfl | rfl | rfl | rfl | rfl | rfl | rfl | rfl | rfl | rfl | rfl | rfl <;> first | rfl | exact absurd rfl y
      · obtain ⟨q, rfl⟩ : ∃ q, j = q + 17 := ⟨j - 17, by omega⟩
        rfl
  · rcases (show i = 16 ∨ i = 17 ∨ i = 19 ∨ i = 20 ∨ i = 21 ∨ i = 22 ∨ i = 23 ∨ i = 24 ∨ i = 25 ∨ i = 26 ∨ i = 27 ∨ i = 28 ∨ i = 29 ∨ i = 30 ∨ i = 31 ∨ i = 32 by omega) with rfl | rfl | rfl | rfl | rfl | rfl | rfl | rfl | rfl | rfl | rfl | rfl | rfl | rfl | rfl | rfl <;> first | rfl | exact absurd rfl h2
theorem cp_16_8o (v : Option Nat) : am_put (cw G sc rf ar ra nf rn R) 16 8456 (va_rf v) = cw G sc (va_up rf 8 v) ar ra nf rn R := by
  rw [am_put_s (o := (4, c16 sc rf)) rfl]
  refine cw_fx (by decide) ?_ (fun i h1 h2 => ?_) rfl
  · refine congrArg (fun f => Sum.inr (4, f)) (funext fun j => ?_)
    simp only [va_up]
    by_cases y : j = 8
    · subst y; rfl
    · rw [if_neg y]
      by_cases z : j < 17
      · rcases (show j = 0 ∨ j = 1 ∨ j = 2 ∨ j = 3 ∨ j = 4 ∨ j = 5 ∨ j = 6 ∨ j = 7 ∨ j = 8 ∨ j = 9 ∨ j = 10 ∨ j = 11 ∨ j = 12 ∨ j = 13 ∨ j = 14 ∨ j = 15 ∨ j = 16 by omega) with rfl | rfl | rfl | rfl | rfl | rfl | rfl | rfl | rfl | rfl | rfl | rfl | rfl | rfl | rfl | rfl | rfl <;> first | rfl | exact absurd rfl y
      · obtain ⟨q, rfl⟩ : ∃ q, j = q + 17 := ⟨j - 17, by omega⟩
        rfl
  · rcases (show i = 16 ∨ i = 17 ∨ i = 19 ∨ i = 20 ∨ i = 21 ∨ i = 22 ∨ i = 23 ∨ i = 24 ∨ i = 25 ∨ i = 26 ∨ i = 27 ∨ i = 28 ∨ i = 29 ∨ i = 30 ∨ i = 31 ∨ i = 32 by omega) with rfl | rfl | rfl | rfl | rfl | rfl | rfl | rfl | rfl | rfl | rfl | rfl | rfl | rfl | rfl | rfl <;> first | rfl | exact absurd rfl h2
theorem cp_16_9 (v : Int32) : am_put (cw G sc rf ar ra nf rn R) 16 265 (.int v) = cw G (upd sc 9 v) rf ar ra nf rn R := by
  rw [am_put_s (o := (4, c16 sc rf)) rfl]
  refine cw_fx (by decide) ?_ (fun i h1 h2 => ?_) rfl
  · refine congrArg (fun f => Sum.inr (4, f)) (funext fun j => ?_)
    simp only [va_up]
    by_cases y : j = 9
    · subst y; rfl
    · rw [if_neg y]
      by_cases z : j < 17
      · rcases (show j = 0 ∨ j = 1 ∨ j = 2 ∨ j = 3 ∨ j = 4 ∨ j = 5 ∨ j = 6 ∨ j = 7 ∨ j = 8 ∨ j = 9 ∨ j = 10 ∨ j = 11 ∨ j = 12 ∨ j = 13 ∨ j = 14 ∨ j = 15 ∨ j = 16 by omega) with rfl | rfl | rfl | rfl | rfl | rfl | rfl | rfl | rfl | rfl | rfl | rfl | rfl | rfl | rfl | rfl | rfl <;> first | rfl | exact absurd rfl y
      · obtain ⟨q, rfl⟩ : ∃ q, j = q + 17 := ⟨j - 17, by omega⟩
        rfl
  · rcases (show i = 16 ∨ i = 17 ∨ i = 19 ∨ i = 20 ∨ i = 21 ∨ i = 22 ∨ i = 23 ∨ i = 24 ∨ i = 25 ∨ i = 26 ∨ i = 27 ∨ i = 28 ∨ i = 29 ∨ i = 30 ∨ i = 31 ∨ i = 32 by omega) with rfl | rfl | rfl | rfl | rfl | rfl | rfl | rfl | rfl | rfl | rfl | rfl | rfl | rfl | rfl | rfl <;> first | rfl | exact absurd rfl h2
theorem cp_16_10 (v : Int32) : am_put (cw G sc rf ar ra nf rn R) 16 4362 (.int v) = cw G (upd sc 10 v) rf ar ra nf rn R := by
  rw [am_put_s (o := (4, c16 sc rf)) rfl]
  refine cw_fx (by decide) ?_ (fun i h1 h2 => ?_) rfl
  · refine congrArg (fun f => Sum.inr (4, f)) (funext fun j => ?_)
    simp only [va_up]
    by_cases y : j = 10
    · subst y; rfl
    · rw [if_neg y]
      by_cases z : j < 17
      · rcases (show j = 0 ∨ j = 1 ∨ j = 2 ∨ j = 3 ∨ j = 4 ∨ j = 5 ∨ j = 6 ∨ j = 7 ∨ j = 8 ∨ j = 9 ∨ j = 10 ∨ j = 11 ∨ j = 12 ∨ j = 13 ∨ j = 14 ∨ j = 15 ∨ j = 16 by omega) with rfl | rfl | rfl | rfl | rfl | rfl | rfl | rfl | rfl | rfl | rfl | rfl | rfl | rfl | rfl | rfl | rfl <;> first | rfl | exact absurd rfl y
      · obtain ⟨q, rfl⟩ : ∃ q, j = q + 17 := ⟨j - 17, by omega⟩
        rfl
  · rcases (show i = 16 ∨ i = 17 ∨ i = 19 ∨ i = 20 ∨ i = 21 ∨ i = 22 ∨ i = 23 ∨ i = 24 ∨ i = 25 ∨ i = 26 ∨ i = 27 ∨ i = 28 ∨ i = 29 ∨ i = 30 ∨ i = 31 ∨ i = 32 by omega) with rfl | rfl | rfl | rfl | rfl | rfl | rfl | rfl | rfl | rfl | rfl | rfl | rfl | rfl | rfl | rfl <;> first | rfl | exact absurd rfl h2
theorem cp_16_14 (v : Int32) : am_put (cw G sc rf ar ra nf rn R) 16 270 (.int v) = cw G (upd sc 14 v) rf ar ra nf rn R := by
  rw [am_put_s (o := (4, c16 sc rf)) rfl]
  refine cw_fx (by decide) ?_ (fun i h1 h2 => ?_) rfl
  · refine congrArg (fun f => Sum.inr (4, f)) (funext fun j => ?_)
    simp only [va_up]
    by_cases y : j = 14
    · subst y; rfl
    · rw [if_neg y]
      by_cases z : j < 17
      · rcases (show j = 0 ∨ j = 1 ∨ j = 2 ∨ j = 3 ∨ j = 4 ∨ j = 5 ∨ j = 6 ∨ j = 7 ∨ j = 8 ∨ j = 9 ∨ j = 10 ∨ j = 11 ∨ j = 12 ∨ j = 13 ∨ j = 14 ∨ j = 15 ∨ j = 16 by omega) with rfl | rfl | rfl | rfl | rfl | rfl | rfl | rfl | rfl | rfl | rfl | rfl | rfl | rfl | rfl | rfl | rfl <;> first | rfl | exact absurd rfl y
      · obtain ⟨q, rfl⟩ : ∃ q, j = q + 17 := ⟨j - 17, by omega⟩
        rfl
  · rcases (show i = 16 ∨ i = 17 ∨ i = 19 ∨ i = 20 ∨ i = 21 ∨ i = 22 ∨ i = 23 ∨ i = 24 ∨ i = 25 ∨ i = 26 ∨ i = 27 ∨ i = 28 ∨ i = 29 ∨ i = 30 ∨ i = 31 ∨ i = 32 by omega) with rfl | rfl | rfl | rfl | rfl | rfl | rfl | rfl | rfl | rfl | rfl | rfl | rfl | rfl | rfl | rfl <;> first | rfl | exact absurd rfl h2
theorem cp_16_15 (v : Int32) : am_put (cw G sc rf ar ra nf rn R) 16 271 (.int v) = cw G (upd sc 15 v) rf ar ra nf rn R := by
  rw [am_put_s (o := (4, c16 sc rf)) rfl]
  refine cw_fx (by decide) ?_ (fun i h1 h2 => ?_) rfl
  · refine congrArg (fun f => Sum.inr (4, f)) (funext fun j => ?_)
    simp only [va_up]
    by_cases y : j = 15
    · subst y; rfl
    · rw [if_neg y]
      by_cases z : j < 17
      · rcases (show j = 0 ∨ j = 1 ∨ j = 2 ∨ j = 3 ∨ j = 4 ∨ j = 5 ∨ j = 6 ∨ j = 7 ∨ j = 8 ∨ j = 9 ∨ j = 10 ∨ j = 11 ∨ j = 12 ∨ j = 13 ∨ j = 14 ∨ j = 15 ∨ j = 16 by omega) with rfl | rfl | rfl | rfl | rfl | rfl | rfl | rfl | rfl | rfl | rfl | rfl | rfl | rfl | rfl | rfl | rfl <;> first | rfl | exact absurd rfl y
      · obtain ⟨q, rfl⟩ : ∃ q, j = q + 17 := ⟨j - 17, by omega⟩
        rfl
  · rcases (show i = 16 ∨ i = 17 ∨ i = 19 ∨ i = 20 ∨ i = 21 ∨ i = 22 ∨ i = 23 ∨ i = 24 ∨ i = 25 ∨ i = 26 ∨ i = 27 ∨ i = 28 ∨ i = 29 ∨ i = 30 ∨ i = 31 ∨ i = 32 by omega) with rfl | rfl | rfl | rfl | rfl | rfl | rfl | rfl | rfl | rfl | rfl | rfl | rfl | rfl | rfl | rfl <;> first | rfl | exact absurd rfl h2
theorem cp_16_16 (v : Int32) : am_put (cw G sc rf ar ra nf rn R) 16 272 (.int v) = cw G (upd sc 16 v) rf ar ra nf rn R := by
  rw [am_put_s (o := (4, c16 sc rf)) rfl]
  refine cw_fx (by decide) ?_ (fun i h1 h2 => ?_) rfl
  · refine congrArg (fun f => Sum.inr (4, f)) (funext fun j => ?_)
    simp only [va_up]
    by_cases y : j = 16
    · subst y; rfl
    · rw [if_neg y]
      by_cases z : j < 17
      · rcases (show j = 0 ∨ j = 1 ∨ j = 2 ∨ j = 3 ∨ j = 4 ∨ j = 5 ∨ j = 6 ∨ j = 7 ∨ j = 8 ∨ j = 9 ∨ j = 10 ∨ j = 11 ∨ j = 12 ∨ j = 13 ∨ j = 14 ∨ j = 15 ∨ j = 16 by omega) with rfl | rfl | rfl | rfl | rfl | rfl | rfl | rfl | rfl | rfl | rfl | rfl | rfl | rfl | rfl | rfl | rfl <;> first | rfl | exact absurd rfl y
      · obtain ⟨q, rfl⟩ : ∃ q, j = q + 17 := ⟨j - 17, by omega⟩
        rfl
  · rcases (show i = 16 ∨ i = 17 ∨ i = 19 ∨ i = 20 ∨ i = 21 ∨ i = 22 ∨ i = 23 ∨ i = 24 ∨ i = 25 ∨ i = 26 ∨ i = 27 ∨ i = 28 ∨ i = 29 ∨ i = 30 ∨ i = 31 ∨ i = 32 by omega) with rfl | rfl | rfl | rfl | rfl | rfl | rfl | rfl | rfl | rfl | rfl | rfl | rfl | rfl | rfl | rfl <;> first | rfl | exact absurd rfl h2
theorem cp_17_1 (v : Int32) : am_put (cw G sc rf ar ra nf rn R) 17 12289 (.int v) = cw G (upd sc 21 v) rf ar ra nf rn R := by
  rw [am_put_s (o := (0, c17 G sc)) rfl]
  refine cw_fx (by decide) ?_ (fun i h1 h2 => ?_) rfl
  · refine congrArg (fun f => Sum.inr (0, f)) (funext fun j => ?_)
    simp only [va_up]
    by_cases y : j = 1
    · subst y; rfl
    · rw [if_neg y]
      by_cases z : j < 4
      · rcases (show j = 0 ∨ j = 1 ∨ j = 2 ∨ j = 3 by omega) with rfl | rfl | rfl | rfl <;> first | rfl | exact absurd rfl y
      · obtain ⟨q, rfl⟩ : ∃ q, j = q + 4 := ⟨j - 4, by omega⟩
        rfl
  · rcases (show i = 16 ∨ i = 17 ∨ i = 19 ∨ i = 20 ∨ i = 21 ∨ i = 22 ∨ i = 23 ∨ i = 24 ∨ i = 25 ∨ i = 26 ∨ i = 27 ∨ i = 28 ∨ i = 29 ∨ i = 30 ∨ i = 31 ∨ i = 32 by omega) with rfl | rfl | rfl | rfl | rfl | rfl | rfl | rfl | rfl | rfl | rfl | rfl | rfl | rfl | rfl | rfl <;> first | rfl | exact absurd rfl h2
theorem cp_17_2 (v : Int32) : am_put (cw G sc rf ar ra nf rn R) 17 4098 (.int v) = cw G (upd sc 22 v) rf ar ra nf rn R := by
  rw [am_put_s (o := (0, c17 G sc)) rfl]
  refine cw_fx (by decide) ?_ (fun i h1 h2 => ?_) rfl
  · refine congrArg (fun f => Sum.inr (0, f)) (funext fun j => ?_)
    simp only [va_up]
    by_cases y : j = 2
    · subst y; rfl
    · rw [if_neg y]
      by_cases z : j < 4
      · rcases (show j = 0 ∨ j = 1 ∨ j = 2 ∨ j = 3 by omega) with rfl | rfl | rfl | rfl <;> first | rfl | exact absurd rfl y
      · obtain ⟨q, rfl⟩ : ∃ q, j = q + 4 := ⟨j - 4, by omega⟩
        rfl
  · rcases (show i = 16 ∨ i = 17 ∨ i = 19 ∨ i = 20 ∨ i = 21 ∨ i = 22 ∨ i = 23 ∨ i = 24 ∨ i = 25 ∨ i = 26 ∨ i = 27 ∨ i = 28 ∨ i = 29 ∨ i = 30 ∨ i = 31 ∨ i = 32 by omega) with rfl | rfl | rfl | rfl | rfl | rfl | rfl | rfl | rfl | rfl | rfl | rfl | rfl | rfl | rfl | rfl <;> first | rfl | exact absurd rfl h2
theorem cp_17_3 (v : Int32) : am_put (cw G sc rf ar ra nf rn R) 17 3 (.int v) = cw G (upd sc 23 v) rf ar ra nf rn R := by
  rw [am_put_s (o := (0, c17 G sc)) rfl]
  refine cw_fx (by decide) ?_ (fun i h1 h2 => ?_) rfl
  · refine congrArg (fun f => Sum.inr (0, f)) (funext fun j => ?_)
    simp only [va_up]
    by_cases y : j = 3
    · subst y; rfl
    · rw [if_neg y]
      by_cases z : j < 4
      · rcases (show j = 0 ∨ j = 1 ∨ j = 2 ∨ j = 3 by omega) with rfl | rfl | rfl | rfl <;> first | rfl | exact absurd rfl y
      · obtain ⟨q, rfl⟩ : ∃ q, j = q + 4 := ⟨j - 4, by omega⟩
        rfl
  · rcases (show i = 16 ∨ i = 17 ∨ i = 19 ∨ i = 20 ∨ i = 21 ∨ i = 22 ∨ i = 23 ∨ i = 24 ∨ i = 25 ∨ i = 26 ∨ i = 27 ∨ i = 28 ∨ i = 29 ∨ i = 30 ∨ i = 31 ∨ i = 32 by omega) with rfl | rfl | rfl | rfl | rfl | rfl | rfl | rfl | rfl | rfl | rfl | rfl | rfl | rfl | rfl | rfl <;> first | rfl | exact absurd rfl h2
theorem cp_19_1 (v : Int32) : am_put (cw G sc rf ar ra nf rn R) 19 65 (.int v) = cw G (upd sc 31 v) rf ar ra nf rn R := by
  rw [am_put_s (o := (1, c19 sc)) rfl]
  refine cw_fx (by decide) ?_ (fun i h1 h2 => ?_) rfl
  · refine congrArg (fun f => Sum.inr (1, f)) (funext fun j => ?_)
    simp only [va_up]
    by_cases y : j = 1
    · subst y; rfl
    · rw [if_neg y]
      by_cases z : j < 9
      · rcases (show j = 0 ∨ j = 1 ∨ j = 2 ∨ j = 3 ∨ j = 4 ∨ j = 5 ∨ j = 6 ∨ j = 7 ∨ j = 8 by omega) with rfl | rfl | rfl | rfl | rfl | rfl | rfl | rfl | rfl <;> first | rfl | exact absurd rfl y
      · obtain ⟨q, rfl⟩ : ∃ q, j = q + 9 := ⟨j - 9, by omega⟩
        rfl
  · rcases (show i = 16 ∨ i = 17 ∨ i = 19 ∨ i = 20 ∨ i = 21 ∨ i = 22 ∨ i = 23 ∨ i = 24 ∨ i = 25 ∨ i = 26 ∨ i = 27 ∨ i = 28 ∨ i = 29 ∨ i = 30 ∨ i = 31 ∨ i = 32 by omega) with rfl | rfl | rfl | rfl | rfl | rfl | rfl | rfl | rfl | rfl | rfl | rfl | rfl | rfl | rfl | rfl <;> first | rfl | exact absurd rfl h2
theorem cp_19_2 (v : Int32) : am_put (cw G sc rf ar ra nf rn R) 19 4162 (.int v) = cw G (upd sc 32 v) rf ar ra nf rn R := by
  rw [am_put_s (o := (1, c19 sc)) rfl]
  refine cw_fx (by decide) ?_ (fun i h1 h2 => ?_) rfl
  · refine congrArg (fun f => Sum.inr (1, f)) (funext fun j => ?_)
    simp only [va_up]
    by_cases y : j = 2
    · subst y; rfl
    · rw [if_neg y]
      by_cases z : j < 9
      · rcases (show j = 0 ∨ j = 1 ∨ j = 2 ∨ j = 3 ∨ j = 4 ∨ j = 5 ∨ j = 6 ∨ j = 7 ∨ j = 8 by omega) with rfl | rfl | rfl | rfl | rfl | rfl | rfl | rfl | rfl <;> first | rfl | exact absurd rfl y
      · obtain ⟨q, rfl⟩ : ∃ q, j = q + 9 := ⟨j - 9, by omega⟩
        rfl
  · rcases (show i = 16 ∨ i = 17 ∨ i = 19 ∨ i = 20 ∨ i = 21 ∨ i = 22 ∨ i = 23 ∨ i = 24 ∨ i = 25 ∨ i = 26 ∨ i = 27 ∨ i = 28 ∨ i = 29 ∨ i = 30 ∨ i = 31 ∨ i = 32 by omega) with rfl | rfl | rfl | rfl | rfl | rfl | rfl | rfl | rfl | rfl | rfl | rfl | rfl | rfl | rfl | rfl <;> first | rfl | exact absurd rfl h2
theorem cp_19_3 (v : Int32) : am_put (cw G sc rf ar ra nf rn R) 19 67 (.int v) = cw G (upd sc 33 v) rf ar ra nf rn R := by
  rw [am_put_s (o := (1, c19 sc)) rfl]
  refine cw_fx (by decide) ?_ (fun i h1 h2 => ?_) rfl
  · refine congrArg (fun f => Sum.inr (1, f)) (funext fun j => ?_)
    simp only [va_up]
    by_cases y : j = 3
    · subst y; rfl
    · rw [if_neg y]
      by_cases z : j < 9
      · rcases (show j = 0 ∨ j = 1 ∨ j = 2 ∨ j = 3 ∨ j = 4 ∨ j = 5 ∨ j = 6 ∨ j = 7 ∨ j = 8 by omega) with rfl | rfl | rfl | rfl | rfl | rfl | rfl | rfl | rfl <;> first | rfl | exact absurd rfl y
      · obtain ⟨q, rfl⟩ : ∃ q, j = q + 9 := ⟨j - 9, by omega⟩
        rfl
  · rcases (show i = 16 ∨ i = 17 ∨ i = 19 ∨ i = 20 ∨ i = 21 ∨ i = 22 ∨ i = 23 ∨ i = 24 ∨ i = 25 ∨ i = 26 ∨ i = 27 ∨ i = 28 ∨ i = 29 ∨ i = 30 ∨ i = 31 ∨ i = 32 by omega) with rfl | rfl | rfl | rfl | rfl | rfl | rfl | rfl | rfl | rfl | rfl | rfl | rfl | rfl | rfl | rfl <;> first | rfl | exact absurd rfl h2
theorem cp_19_8 (v : Int32) : am_put (cw G sc rf ar ra nf rn R) 19 72 (.int v) = cw G (upd sc 38 v) rf ar ra nf rn R := by
  rw [am_put_s (o := (1, c19 sc)) rfl]
  refine cw_fx (by decide) ?_ (fun i h1 h2 => ?_) rfl
  · refine congrArg (fun f => Sum.inr (1, f)) (funext fun j => ?_)
    simp only [va_up]
    by_cases y : j = 8
    · subst y; rfl
    · rw [if_neg y]
      by_cases z : j < 9
      · rcases (show j = 0 ∨ j = 1 ∨ j = 2 ∨ j = 3 ∨ j = 4 ∨ j = 5 ∨ j = 6 ∨ j = 7 ∨ j = 8 by omega) with rfl | rfl | rfl | rfl | rfl | rfl | rfl | rfl | rfl <;> first | rfl | exact absurd rfl y
      · obtain ⟨q, rfl⟩ : ∃ q, j = q + 9 := ⟨j - 9, by omega⟩
        rfl
  · rcases (show i = 16 ∨ i = 17 ∨ i = 19 ∨ i = 20 ∨ i = 21 ∨ i = 22 ∨ i = 23 ∨ i = 24 ∨ i = 25 ∨ i = 26 ∨ i = 27 ∨ i = 28 ∨ i = 29 ∨ i = 30 ∨ i = 31 ∨ i = 32 by omega) with rfl | rfl | rfl | rfl | rfl | rfl | rfl | rfl | rfl | rfl | rfl | rfl | rfl | rfl | rfl | rfl <;> first | rfl | exact absurd rfl h2
theorem cp_24_1 (v : Int32) : am_put (cw G sc rf ar ra nf rn R) 24 129 (.int v) = cw G (upd sc 41 v) rf ar ra nf rn R := by
  rw [am_put_s (o := (2, c24 G sc)) rfl]
  refine cw_fx (by decide) ?_ (fun i h1 h2 => ?_) rfl
  · refine congrArg (fun f => Sum.inr (2, f)) (funext fun j => ?_)
    simp only [va_up]
    by_cases y : j = 1
    · subst y; rfl
    · rw [if_neg y]
      by_cases z : j < 3
      · rcases (show j = 0 ∨ j = 1 ∨ j = 2 by omega) with rfl | rfl | rfl <;> first | rfl | exact absurd rfl y
      · obtain ⟨q, rfl⟩ : ∃ q, j = q + 3 := ⟨j - 3, by omega⟩
        rfl
  · rcases (show i = 16 ∨ i = 17 ∨ i = 19 ∨ i = 20 ∨ i = 21 ∨ i = 22 ∨ i = 23 ∨ i = 24 ∨ i = 25 ∨ i = 26 ∨ i = 27 ∨ i = 28 ∨ i = 29 ∨ i = 30 ∨ i = 31 ∨ i = 32 by omega) with rfl | rfl | rfl | rfl | rfl | rfl | rfl | rfl | rfl | rfl | rfl | rfl | rfl | rfl | rfl | rfl <;> first | rfl | exact absurd rfl h2
theorem cp_24_2 (v : Int32) : am_put (cw G sc rf ar ra nf rn R) 24 130 (.int v) = cw G (upd sc 42 v) rf ar ra nf rn R := by
  rw [am_put_s (o := (2, c24 G sc)) rfl]
  refine cw_fx (by decide) ?_ (fun i h1 h2 => ?_) rfl
  · refine congrArg (fun f => Sum.inr (2, f)) (funext fun j => ?_)
    simp only [va_up]
    by_cases y : j = 2
    · subst y; rfl
    · rw [if_neg y]
      by_cases z : j < 3
      · rcases (show j = 0 ∨ j = 1 ∨ j = 2 by omega) with rfl | rfl | rfl <;> first | rfl | exact absurd rfl y
      · obtain ⟨q, rfl⟩ : ∃ q, j = q + 3 := ⟨j - 3, by omega⟩
        rfl
  · rcases (show i = 16 ∨ i = 17 ∨ i = 19 ∨ i = 20 ∨ i = 21 ∨ i = 22 ∨ i = 23 ∨ i = 24 ∨ i = 25 ∨ i = 26 ∨ i = 27 ∨ i = 28 ∨ i = 29 ∨ i = 30 ∨ i = 31 ∨ i = 32 by omega) with rfl | rfl | rfl | rfl | rfl | rfl | rfl | rfl | rfl | rfl | rfl | rfl | rfl | rfl | rfl | rfl <;> first | rfl | exact absurd rfl h2
theorem cp_26_1 (v : Int32) : am_put (cw G sc rf ar ra nf rn R) 26 129 (.int v) = cw G (upd sc 51 v) rf ar ra nf rn R := by
  rw [am_put_s (o := (2, c26 G sc)) rfl]
  refine cw_fx (by decide) ?_ (fun i h1 h2 => ?_) rfl
  · refine congrArg (fun f => Sum.inr (2, f)) (funext fun j => ?_)
    simp only [va_up]
    by_cases y : j = 1
    · subst y; rfl
    · rw [if_neg y]
      by_cases z : j < 3
      · rcases (show j = 0 ∨ j = 1 ∨ j = 2 by omega) with rfl | rfl | rfl <;> first | rfl | exact absurd rfl y
      · obtain ⟨q, rfl⟩ : ∃ q, j = q + 3 := ⟨j - 3, by omega⟩
        rfl
  · rcases (show i = 16 ∨ i = 17 ∨ i = 19 ∨ i = 20 ∨ i = 21 ∨ i = 22 ∨ i = 23 ∨ i = 24 ∨ i = 25 ∨ i = 26 ∨ i = 27 ∨ i = 28 ∨ i = 29 ∨ i = 30 ∨ i = 31 ∨ i = 32 by omega) with rfl | rfl | rfl | rfl | rfl | rfl | rfl | rfl | rfl | rfl | rfl | rfl | rfl | rfl | rfl | rfl <;> first | rfl | exact absurd rfl h2
theorem cp_26_2 (v : Int32) : am_put (cw G sc rf ar ra nf rn R) 26 130 (.int v) = cw G (upd sc 52 v) rf ar ra nf rn R := by
  rw [am_put_s (o := (2, c26 G sc)) rfl]
  refine cw_fx (by decide) ?_ (fun i h1 h2 => ?_) rfl
  · refine congrArg (fun f => Sum.inr (2, f)) (funext fun j => ?_)
    simp only [va_up]
    by_cases y : j = 2
    · subst y; rfl
    · rw [if_neg y]
      by_cases z : j < 3
      · rcases (show j = 0 ∨ j = 1 ∨ j = 2 by omega) with rfl | rfl | rfl <;> first | rfl | exact absurd rfl y
      · obtain ⟨q, rfl⟩ : ∃ q, j = q + 3 := ⟨j - 3, by omega⟩
        rfl
  · rcases (show i = 16 ∨ i = 17 ∨ i = 19 ∨ i = 20 ∨ i = 21 ∨ i = 22 ∨ i = 23 ∨ i = 24 ∨ i = 25 ∨ i = 26 ∨ i = 27 ∨ i = 28 ∨ i = 29 ∨ i = 30 ∨ i = 31 ∨ i = 32 by omega) with rfl | rfl | rfl | rfl | rfl | rfl | rfl | rfl | rfl | rfl | rfl | rfl | rfl | rfl | rfl | rfl <;> first | rfl | exact absurd rfl h2
theorem cp_20 (i : Int32) (x : Option Nat) : am_qput (cw G sc rf ar ra nf rn R) 20 i x = cw G sc rf ar (va_up ra 20 (va_up (ra 20) i.toNatClampNeg x)) nf rn R := by
  rw [am_qput_s (k := 6) (n := 20) (f := ra 20) rfl]
  refine cw_fx (by decide) rfl (fun i h1 h2 => ?_) rfl
  rcases (show i = 16 ∨ i = 17 ∨ i = 19 ∨ i = 20 ∨ i = 21 ∨ i = 22 ∨ i = 23 ∨ i = 24 ∨ i = 25 ∨ i = 26 ∨ i = 27 ∨ i = 28 ∨ i = 29 ∨ i = 30 ∨ i = 31 ∨ i = 32 by omega) with rfl | rfl | rfl | rfl | rfl | rfl | rfl | rfl | rfl | rfl | rfl | rfl | rfl | rfl | rfl | rfl <;> first | rfl | exact absurd rfl h2
theorem cp_21 (i x : Int32) : am_iput (cw G sc rf ar ra nf rn R) 21 i x = cw G sc rf (va_up ar 21 (upd (ar 21) i.toNatClampNeg x)) ra nf rn R := by
  rw [am_iput_s (k := 0) (n := 20) (f := ar 21) rfl]
  refine cw_fx (by decide) rfl (fun i h1 h2 => ?_) rfl
  rcases (show i = 16 ∨ i = 17 ∨ i = 19 ∨ i = 20 ∨ i = 21 ∨ i = 22 ∨ i = 23 ∨ i = 24 ∨ i = 25 ∨ i = 26 ∨ i = 27 ∨ i = 28 ∨ i = 29 ∨ i = 30 ∨ i = 31 ∨ i = 32 by omega) with rfl | rfl | rfl | rfl | rfl | rfl | rfl | rfl | rfl | rfl | rfl | rfl | rfl | rfl | rfl | rfl <;> first | rfl | exact absurd rfl h2
theorem cp_22 (i x : Int32) : am_iput (cw G sc rf ar ra nf rn R) 22 i x = cw G sc rf (va_up ar 22 (upd (ar 22) i.toNatClampNeg x)) ra nf rn R := by
  rw [am_iput_s (k := 3) (n := 20) (f := ar 22) rfl]
  refine cw_fx (by decide) rfl (fun i h1 h2 => ?_) rfl
  rcases (show i = 16 ∨ i = 17 ∨ i = 19 ∨ i = 20 ∨ i = 21 ∨ i = 22 ∨ i = 23 ∨ i = 24 ∨ i = 25 ∨ i = 26 ∨ i = 27 ∨ i = 28 ∨ i = 29 ∨ i = 30 ∨ i = 31 ∨ i = 32 by omega) with rfl | rfl | rfl | rfl | rfl | rfl | rfl | rfl | rfl | rfl | rfl | rfl | rfl | rfl | rfl | rfl <;> first | rfl | exact absurd rfl h2
theorem cp_23 (i x : Int32) : am_iput (cw G sc rf ar ra nf rn R) 23 i x = cw G sc rf (va_up ar 23 (upd (ar 23) i.toNatClampNeg x)) ra nf rn R := by
  rw [am_iput_s (k := 0) (n := 20) (f := ar 23) rfl]
  refine cw_fx (by decide) rfl (fun i h1 h2 => ?_) rfl
  rcases (show i = 16 ∨ i = 17 ∨ i = 19 ∨ i = 20 ∨ i = 21 ∨ i = 22 ∨ i = 23 ∨ i = 24 ∨ i = 25 ∨ i = 26 ∨ i = 27 ∨ i = 28 ∨ i = 29 ∨ i = 30 ∨ i = 31 ∨ i = 32 by omega) with rfl | rfl | rfl | rfl | rfl | rfl | rfl | rfl | rfl | rfl | rfl | rfl | rfl | rfl | rfl | rfl <;> first | rfl | exact absurd rfl h2
theorem cp_25 (i : Int32) (x : Option Nat) : am_qput (cw G sc rf ar ra nf rn R) 25 i x = cw G sc rf ar (va_up ra 25 (va_up (ra 25) i.toNatClampNeg x)) nf rn R := by
  rw [am_qput_s (k := 7) (n := 20) (f := ra 25) rfl]
  refine cw_fx (by decide) rfl (fun i h1 h2 => ?_) rfl
  rcases (show i = 16 ∨ i = 17 ∨ i = 19 ∨ i = 20 ∨ i = 21 ∨ i = 22 ∨ i = 23 ∨ i = 24 ∨ i = 25 ∨ i = 26 ∨ i = 27 ∨ i = 28 ∨ i = 29 ∨ i = 30 ∨ i = 31 ∨ i = 32 by omega) with rfl | rfl | rfl | rfl | rfl | rfl | rfl | rfl | rfl | rfl | rfl | rfl | rfl | rfl | rfl | rfl <;> first | rfl | exact absurd rfl h2
theorem cp_28 (i x : Int32) : am_iput (cw G sc rf ar ra nf rn R) 28 i x = cw G sc rf (va_up ar 28 (upd (ar 28) i.toNatClampNeg x)) ra nf rn R := by
  rw [am_iput_s (k := 0) (n := 1296) (f := ar 28) rfl]
  refine cw_fx (by decide) rfl (fun i h1 h2 => ?_) rfl
  rcases (show i = 16 ∨ i = 17 ∨ i = 19 ∨ i = 20 ∨ i = 21 ∨ i = 22 ∨ i = 23 ∨ i = 24 ∨ i = 25 ∨ i = 26 ∨ i = 27 ∨ i = 28 ∨ i = 29 ∨ i = 30 ∨ i = 31 ∨ i = 32 by omega) with rfl | rfl | rfl | rfl | rfl | rfl | rfl | rfl | rfl | rfl | rfl | rfl | rfl | rfl | rfl | rfl <;> first | rfl | exact absurd rfl h2
theorem cp_29 (i x : Int32) : am_iput (cw G sc rf ar ra nf rn R) 29 i x = cw G sc rf (va_up ar 29 (upd (ar 29) i.toNatClampNeg x)) ra nf rn R := by
  rw [am_iput_s (k := 0) (n := 36) (f := ar 29) rfl]
  refine cw_fx (by decide) rfl (fun i h1 h2 => ?_) rfl
  rcases (show i = 16 ∨ i = 17 ∨ i = 19 ∨ i = 20 ∨ i = 21 ∨ i = 22 ∨ i = 23 ∨ i = 24 ∨ i = 25 ∨ i = 26 ∨ i = 27 ∨ i = 28 ∨ i = 29 ∨ i = 30 ∨ i = 31 ∨ i = 32 by omega) with rfl | rfl | rfl | rfl | rfl | rfl | rfl | rfl | rfl | rfl | rfl | rfl | rfl | rfl | rfl | rfl <;> first | rfl | exact absurd rfl h2
theorem cp_31 (i x : Int32) : am_iput (cw G sc rf ar ra nf rn R) 31 i x = cw G sc rf (va_up ar 31 (upd (ar 31) i.toNatClampNeg x)) ra nf rn R := by
  rw [am_iput_s (k := 0) (n := 4032) (f := ar 31) rfl]
  refine cw_fx (by decide) rfl (fun i h1 h2 => ?_) rfl
  rcases (show i = 16 ∨ i = 17 ∨ i = 19 ∨ i = 20 ∨ i = 21 ∨ i = 22 ∨ i = 23 ∨ i = 24 ∨ i = 25 ∨ i = 26 ∨ i = 27 ∨ i = 28 ∨ i = 29 ∨ i = 30 ∨ i = 31 ∨ i = 32 by omega) with rfl | rfl | rfl | rfl | rfl | rfl | rfl | rfl | rfl | rfl | rfl | rfl | rfl | rfl | rfl | rfl <;> first | rfl | exact absurd rfl h2
theorem cp_32 (i x : Int32) : am_iput (cw G sc rf ar ra nf rn R) 32 i x = cw G sc rf (va_up ar 32 (upd (ar 32) i.toNatClampNeg x)) ra nf rn R := by
  rw [am_iput_s (k := 0) (n := 112) (f := ar 32) rfl]
  refine cw_fx (by decide) rfl (fun i h1 h2 => ?_) rfl
  rcases (show i = 16 ∨ i = 17 ∨ i = 19 ∨ i = 20 ∨ i = 21 ∨ i = 22 ∨ i = 23 ∨ i = 24 ∨ i = 25 ∨ i = 26 ∨ i = 27 ∨ i = 28 ∨ i = 29 ∨ i = 30 ∨ i = 31 ∨ i = 32 by omega) with rfl | rfl | rfl | rfl | rfl | rfl | rfl | rfl | rfl | rfl | rfl | rfl | rfl | rfl | rfl | rfl <;> first | rfl | exact absurd rfl h2
theorem cw_put : (∀ (G : CG) (sc : Nat → Int32) (rf : Nat → Option Nat) (ar : Nat → Nat → Int32) (ra : Nat → Nat → Option Nat) (nf : Nat → Nat → Int32) (rn : Nat → Option Nat) (R : am_W), ∀ v, am_put (cw G sc rf ar ra nf rn R) 16 4354 (.int v) = cw G (upd sc 2 v) rf ar ra nf rn R) ∧
  (∀ (G : CG) (sc : Nat → Int32) (rf : Nat → Option Nat) (ar : Nat → Nat → Int32) (ra : Nat → Nat → Option Nat) (nf : Nat → Nat → Int32) (rn : Nat → Option Nat) (R : am_W), ∀ v, am_put (cw G sc rf ar ra nf rn R) 16 259 (.int v) = cw G (upd sc 3 v) rf ar ra nf rn R) ∧
  (∀ (G : CG) (sc : Nat → Int32) (rf : Nat → Option Nat) (ar : Nat → Nat → Int32) (ra : Nat → Nat → Option Nat) (nf : Nat → Nat → Int32) (rn : Nat → Option Nat) (R : am_W), ∀ v, am_put (cw G sc rf ar ra nf rn R) 16 8454 (.ref v) = cw G sc (va_up rf 6 (some v)) ar ra nf rn R) ∧
  (∀ (G : CG) (sc : Nat → Int32) (rf : Nat → Option Nat) (ar : Nat → Nat → Int32) (ra : Nat → Nat → Option Nat) (nf : Nat → Nat → Int32) (rn : Nat → Option Nat) (R : am_W), am_put (cw G sc rf ar ra nf rn R) 16 8454 (.null) = cw G sc (va_up rf 6 none) ar ra nf rn R) ∧
  (∀ (G : CG) (sc : Nat → Int32) (rf : Nat → Option Nat) (ar : Nat → Nat → Int32) (ra : Nat → Nat → Option Nat) (nf : Nat → Nat → Int32) (rn : Nat → Option Nat) (R : am_W), ∀ v, am_put (cw G sc rf ar ra nf rn R) 16 8454 (va_rf v) = cw G sc (va_up rf 6 v) ar ra nf rn R) ∧
  (∀ (G : CG) (sc : Nat → Int32) (rf : Nat → Option Nat) (ar : Nat → Nat → Int32) (ra : Nat → Nat → Option Nat) (nf : Nat → Nat → Int32) (rn : Nat → Option Nat) (R : am_W), ∀ v, am_put (cw G sc rf ar ra nf rn R) 16 4359 (.int v) = cw G (upd sc 7 v) rf ar ra nf rn R) ∧
  (∀ (G : CG) (sc : Nat → Int32) (rf : Nat → Option Nat) (ar : Nat → Nat → Int32) (ra : Nat → Nat → Option Nat) (nf : Nat → Nat → Int32) (rn : Nat → Option Nat) (R : am_W), ∀ v, am_put (cw G sc rf ar ra nf rn R) 16 8456 (.ref v) = cw G sc (va_up rf 8 (some v)) ar ra nf rn R) ∧
  (∀ (G : CG) (sc : Nat → Int32) (rf : Nat → Option Nat) (ar : Nat → Nat → Int32) (ra : Nat → Nat → Option Nat) (nf : Nat → Nat → Int32) (rn : Nat → Option Nat) (R : am_W), am_put (cw G sc rf ar ra nf rn R) 16 8456 (.null) = cw G sc (va_up rf 8 none) ar ra nf rn R) ∧
  (∀ (G : CG) (sc : Nat → Int32) (rf : Nat → Option Nat) (ar : Nat → Nat → Int32) (ra : Nat → Nat → Option Nat) (nf : Nat → Nat → Int32) (rn : Nat → Option Nat) (R : am_W), ∀ v, am_put (cw G sc rf ar ra nf rn R) 16 8456 (va_rf v) = cw G sc (va_up rf 8 v) ar ra nf rn R) ∧
  (∀ (G : CG) (sc : Nat → Int32) (rf : Nat → Option Nat) (ar : Nat → Nat → Int32) (ra : Nat → Nat → Option Nat) (nf : Nat → Nat → Int32) (rn : Nat → Option Nat) (R : am_W), ∀ v, am_put (cw G sc rf ar ra nf rn R) 16 265 (.int v) = cw G (upd sc 9 v) rf ar ra nf rn R) ∧
  (∀ (G : CG) (sc : Nat → Int32) (rf : Nat → Option Nat) (ar : Nat → Nat → Int32) (ra : Nat → Nat → Option Nat) (nf : Nat → Nat → Int32) (rn : Nat → Option Nat) (R : am_W), ∀ v, am_put (cw G sc rf ar ra nf rn R) 16 4362 (.int v) = cw G (upd sc 10 v) rf ar ra nf rn R) ∧
  (∀ (G : CG) (sc : Nat → Int32) (rf : Nat → Option Nat) (ar : Nat → Nat → Int32) (ra : Nat → Nat → Option Nat) (nf : Nat → Nat → Int32) (rn : Nat → Option Nat) (R : am_W), ∀ v, am_put (cw G sc rf ar ra nf rn R) 16 270 (.int v) = cw G (upd sc 14 v) rf ar ra nf rn R) ∧
  (∀ (G : CG) (sc : Nat → Int32) (rf : Nat → Option Nat) (ar : Nat → Nat → Int32) (ra : Nat → Nat → Option Nat) (nf : Nat → Nat → Int32) (rn : Nat → Option Nat) (R : am_W), ∀ v, am_put (cw G sc rf ar ra nf rn R) 16 271 (.int v) = cw G (upd sc 15 v) rf ar ra nf rn R) ∧
  (∀ (G : CG) (sc : Nat → Int32) (rf : Nat → Option Nat) (ar : Nat → Nat → Int32) (ra : Nat → Nat → Option Nat) (nf : Nat → Nat → Int32) (rn : Nat → Option Nat) (R : am_W), ∀ v, am_put (cw G sc rf ar ra nf rn R) 16 272 (.int v) = cw G (upd sc 16 v) rf ar ra nf rn R) ∧
  (∀ (G : CG) (sc : Nat → Int32) (rf : Nat → Option Nat) (ar : Nat → Nat → Int32) (ra : Nat → Nat → Option Nat) (nf : Nat → Nat → Int32) (rn : Nat → Option Nat) (R : am_W), ∀ v, am_put (cw G sc rf ar ra nf rn R) 17 12289 (.int v) = cw G (upd sc 21 v) rf ar ra nf rn R) ∧
  (∀ (G : CG) (sc : Nat → Int32) (rf : Nat → Option Nat) (ar : Nat → Nat → Int32) (ra : Nat → Nat → Option Nat) (nf : Nat → Nat → Int32) (rn : Nat → Option Nat) (R : am_W), ∀ v, am_put (cw G sc rf ar ra nf rn R) 17 4098 (.int v) = cw G (upd sc 22 v) rf ar ra nf rn R) ∧
  (∀ (G : CG) (sc : Nat → Int32) (rf : Nat → Option Nat) (ar : Nat → Nat → Int32) (ra : Nat → Nat → Option Nat) (nf : Nat → Nat → Int32) (rn : Nat → Option Nat) (R : am_W), ∀ v, am_put (cw G sc rf ar ra nf rn R) 17 3 (.int v) = cw G (upd sc 23 v) rf ar ra nf rn R) ∧
  (∀ (G : CG) (sc : Nat → Int32) (rf : Nat → Option Nat) (ar : Nat → Nat → Int32) (ra : Nat → Nat → Option Nat) (nf : Nat → Nat → Int32) (rn : Nat → Option Nat) (R : am_W), ∀ v, am_put (cw G sc rf ar ra nf rn R) 19 65 (.int v) = cw G (upd sc 31 v) rf ar ra nf rn R) ∧
  (∀ (G : CG) (sc : Nat → Int32) (rf : Nat → Option Nat) (ar : Nat → Nat → Int32) (ra : Nat → Nat → Option Nat) (nf : Nat → Nat → Int32) (rn : Nat → Option Nat) (R : am_W), ∀ v, am_put (cw G sc rf ar ra nf rn R) 19 4162 (.int v) = cw G (upd sc 32 v) rf ar ra nf rn R) ∧
  (∀ (G : CG) (sc : Nat → Int32) (rf : Nat → Option Nat) (ar : Nat → Nat → Int32) (ra : Nat → Nat → Option Nat) (nf : Nat → Nat → Int32) (rn : Nat → Option Nat) (R : am_W), ∀ v, am_put (cw G sc rf ar ra nf rn R) 19 67 (.int v) = cw G (upd sc 33 v) rf ar ra nf rn R) ∧
  (∀ (G : CG) (sc : Nat → Int32) (rf : Nat → Option Nat) (ar : Nat → Nat → Int32) (ra : Nat → Nat → Option Nat) (nf : Nat → Nat → Int32) (rn : Nat → Option Nat) (R : am_W), ∀ v, am_put (cw G sc rf ar ra nf rn R) 19 72 (.int v) = cw G (upd sc 38 v) rf ar ra nf rn R) ∧
  (∀ (G : CG) (sc : Nat → Int32) (rf : Nat → Option Nat) (ar : Nat → Nat → Int32) (ra : Nat → Nat → Option Nat) (nf : Nat → Nat → Int32) (rn : Nat → Option Nat) (R : am_W), ∀ v, am_put (cw G sc rf ar ra nf rn R) 24 129 (.int v) = cw G (upd sc 41 v) rf ar ra nf rn R) ∧
  (∀ (G : CG) (sc : Nat → Int32) (rf : Nat → Option Nat) (ar : Nat → Nat → Int32) (ra : Nat → Nat → Option Nat) (nf : Nat → Nat → Int32) (rn : Nat → Option Nat) (R : am_W), ∀ v, am_put (cw G sc rf ar ra nf rn R) 24 130 (.int v) = cw G (upd sc 42 v) rf ar ra nf rn R) ∧
  (∀ (G : CG) (sc : Nat → Int32) (rf : Nat → Option Nat) (ar : Nat → Nat → Int32) (ra : Nat → Nat → Option Nat) (nf : Nat → Nat → Int32) (rn : Nat → Option Nat) (R : am_W), ∀ v, am_put (cw G sc rf ar ra nf rn R) 26 129 (.int v) = cw G (upd sc 51 v) rf ar ra nf rn R) ∧
  (∀ (G : CG) (sc : Nat → Int32) (rf : Nat → Option Nat) (ar : Nat → Nat → Int32) (ra : Nat → Nat → Option Nat) (nf : Nat → Nat → Int32) (rn : Nat → Option Nat) (R : am_W), ∀ v, am_put (cw G sc rf ar ra nf rn R) 26 130 (.int v) = cw G (upd sc 52 v) rf ar ra nf rn R) ∧
  (∀ (G : CG) (sc : Nat → Int32) (rf : Nat → Option Nat) (ar : Nat → Nat → Int32) (ra : Nat → Nat → Option Nat) (nf : Nat → Nat → Int32) (rn : Nat → Option Nat) (R : am_W), ∀ i x, am_qput (cw G sc rf ar ra nf rn R) 20 i x = cw G sc rf ar (va_up ra 20 (va_up (ra 20) i.toNatClampNeg x)) nf rn R) ∧
  (∀ (G : CG) (sc : Nat → Int32) (rf : Nat → Option Nat) (ar : Nat → Nat → Int32) (ra : Nat → Nat → Option Nat) (nf : Nat → Nat → Int32) (rn : Nat → Option Nat) (R : am_W), ∀ i x, am_iput (cw G sc rf ar ra nf rn R) 21 i x = cw G sc rf (va_up ar 21 (upd (ar 21) i.toNatClampNeg x)) ra nf rn R) ∧
  (∀ (G : CG) (sc : Nat → Int32) (rf : Nat → Option Nat) (ar : Nat → Nat → Int32) (ra : Nat → Nat → Option Nat) (nf : Nat → Nat → Int32) (rn : Nat → Option Nat) (R : am_W), ∀ i x, am_iput (cw G sc rf ar ra nf rn R) 22 i x = cw G sc rf (va_up ar 22 (upd (ar 22) i.toNatClampNeg x)) ra nf rn R) ∧
  (∀ (G : CG) (sc : Nat → Int32) (rf : Nat → Option Nat) (ar : Nat → Nat → Int32) (ra : Nat → Nat → Option Nat) (nf : Nat → Nat → Int32) (rn : Nat → Option Nat) (R : am_W), ∀ i x, am_iput (cw G sc rf ar ra nf rn R) 23 i x = cw G sc rf (va_up ar 23 (upd (ar 23) i.toNatClampNeg x)) ra nf rn R) ∧
  (∀ (G : CG) (sc : Nat → Int32) (rf : Nat → Option Nat) (ar : Nat → Nat → Int32) (ra : Nat → Nat → Option Nat) (nf : Nat → Nat → Int32) (rn : Nat → Option Nat) (R : am_W), ∀ i x, am_qput (cw G sc rf ar ra nf rn R) 25 i x = cw G sc rf ar (va_up ra 25 (va_up (ra 25) i.toNatClampNeg x)) nf rn R) ∧
  (∀ (G : CG) (sc : Nat → Int32) (rf : Nat → Option Nat) (ar : Nat → Nat → Int32) (ra : Nat → Nat → Option Nat) (nf : Nat → Nat → Int32) (rn : Nat → Option Nat) (R : am_W), ∀ i x, am_iput (cw G sc rf ar ra nf rn R) 28 i x = cw G sc rf (va_up ar 28 (upd (ar 28) i.toNatClampNeg x)) ra nf rn R) ∧
  (∀ (G : CG) (sc : Nat → Int32) (rf : Nat → Option Nat) (ar : Nat → Nat → Int32) (ra : Nat → Nat → Option Nat) (nf : Nat → Nat → Int32) (rn : Nat → Option Nat) (R : am_W), ∀ i x, am_iput (cw G sc rf ar ra nf rn R) 29 i x = cw G sc rf (va_up ar 29 (upd (ar 29) i.toNatClampNeg x)) ra nf rn R) ∧
  (∀ (G : CG) (sc : Nat → Int32) (rf : Nat → Option Nat) (ar : Nat → Nat → Int32) (ra : Nat → Nat → Option Nat) (nf : Nat → Nat → Int32) (rn : Nat → Option Nat) (R : am_W), ∀ i x, am_iput (cw G sc rf ar ra nf rn R) 31 i x = cw G sc rf (va_up ar 31 (upd (ar 31) i.toNatClampNeg x)) ra nf rn R) ∧
  (∀ (G : CG) (sc : Nat → Int32) (rf : Nat → Option Nat) (ar : Nat → Nat → Int32) (ra : Nat → Nat → Option Nat) (nf : Nat → Nat → Int32) (rn : Nat → Option Nat) (R : am_W), ∀ i x, am_iput (cw G sc rf ar ra nf rn R) 32 i x = cw G sc rf (va_up ar 32 (upd (ar 32) i.toNatClampNeg x)) ra nf rn R) :=
  ⟨fun G sc rf ar ra nf rn R => fun v => cp_16_2 v,
  fun G sc rf ar ra nf rn R => fun v => cp_16_3 v,
  fun G sc rf ar ra nf rn R => fun v => cp_16_6r v,
  fun G sc rf ar ra nf rn R => cp_16_6n,
  fun G sc rf ar ra nf rn R => fun v => cp_16_6o v,
  fun G sc rf ar ra nf rn R => fun v => cp_16_7 v,
  fun G sc rf ar ra nf rn R => fun v => cp_16_8r v,
  fun G sc rf ar ra nf rn R => cp_16_8n,
  fun G sc rf ar ra nf rn R => fun v => cp_16_8o v,
  fun G sc rf ar ra nf rn R => fun v => cp_16_9 v,
  fun G sc rf ar ra nf rn R => fun v => cp_16_10 v,
  fun G sc rf ar ra nf rn R => fun v => cp_16_14 v,
  fun G sc rf ar ra nf rn R => fun v => cp_16_15 v,
  fun G sc rf ar ra nf rn R => fun v => cp_16_16 v,
  fun G sc rf ar ra nf rn R => fun v => cp_17_1 v,
  fun G sc rf ar ra nf rn R => fun v => cp_17_2 v,
  fun G sc rf ar ra nf rn R => fun v => cp_17_3 v,
  fun G sc rf ar ra nf rn R => fun v => cp_19_1 v,
  fun G sc rf ar ra nf rn R => fun v => cp_19_2 v,
  fun G sc rf ar ra nf rn R => fun v => cp_19_3 v,
  fun G sc rf ar ra nf rn R => fun v => cp_19_8 v,
  fun G sc rf ar ra nf rn R => fun v => cp_24_1 v,
  fun G sc rf ar ra nf rn R => fun v => cp_24_2 v,
  fun G sc rf ar ra nf rn R => fun v => cp_26_1 v,
  fun G sc rf ar ra nf rn R => fun v => cp_26_2 v,
  fun G sc rf ar ra nf rn R => fun i x => cp_20 i x,
  fun G sc rf ar ra nf rn R => fun i x => cp_21 i x,
  fun G sc rf ar ra nf rn R => fun i x => cp_22 i x,
  fun G sc rf ar ra nf rn R => fun i x => cp_23 i x,
  fun G sc rf ar ra nf rn R => fun i x => cp_25 i x,
  fun G sc rf ar ra nf rn R => fun i x => cp_28 i x,
  fun G sc rf ar ra nf rn R => fun i x => cp_29 i x,
  fun G sc rf ar ra nf rn R => fun i x => cp_31 i x,
  fun G sc rf ar ra nf rn R => fun i x => cp_32 i x⟩
theorem nfl_up {j : Nat} (h : ¬ j = 0 ∧ ¬ j = 2 ∧ ¬ j = 3 ∧ ¬ j = 4) (k : Nat) (v : Int32) : va_up (nfl G nf k) j (.int v) = nfl G (va_up nf j (upd (nf j) k v)) k := by
  funext i
  by_cases e : i = j
  · subst e; simp [va_up, nfl, h, upd]
  · simp [va_up, nfl, e]
theorem nfl_ne {j : Nat} {k s : Nat} (v : Int32) (h : ¬ s = k) : nfl G (va_up nf j (upd (nf j) k v)) s = nfl G nf s := by
  funext i
  by_cases e : i = j
  · subst e; simp [va_up, nfl, h, upd]
  · simp [va_up, nfl, e]
theorem cw_nput (h : GO G m q R) {x k : Nat} (hk : k < m) (hx : ¬ x % 64 = 0 ∧ ¬ x % 64 = 2 ∧ ¬ x % 64 = 3 ∧ ¬ x % 64 = 4) (v : Int32) : am_put (cw G sc rf ar ra nf rn R) (na G k) x (.int v) = cw G sc rf ar ra (va_up nf (x % 64) (upd (nf (x % 64)) k v)) rn R := by
  rw [am_put_s (cw_n h sc rf ar ra nf rn k hk)]
  refine cw_dy h (h.2.1 k hk) (by omega) ?_ (fun s s0 hs => ?_) rfl
  · rw [dyc_n, nfl_up hx]
  · simp only [dyc]
    by_cases e : (s - 4) / 2 = k ∧ s % 2 = 0 ∧ 4 ≤ s
    · omega
    · by_cases y1 : s = 1
      · simp [y1]
      · by_cases y2 : s = 2
        · simp [y2]
        · by_cases y3 : s = 3
          · simp [y3]
          · by_cases y4 : s % 2 = 0
            · rw [nfl_ne (k := k) (s := (s - 4) / 2) v (by omega)]
            · simp [y4]
theorem cw_np (h : GO G m q R) : (∀ (sc : Nat → Int32) (rf : Nat → Option Nat) (ar : Nat → Nat → Int32) (ra : Nat → Nat → Option Nat) (nf : Nat → Nat → Int32) (rn : Nat → Option Nat) (k : Nat) (v : Int32), k < m → am_put (cw G sc rf ar ra nf rn R) (na G k) 325 (.int v) = cw G sc rf ar ra (va_up nf 5 (upd (nf 5) k v)) rn R) ∧
  (∀ (sc : Nat → Int32) (rf : Nat → Option Nat) (ar : Nat → Nat → Int32) (ra : Nat → Nat → Option Nat) (nf : Nat → Nat → Int32) (rn : Nat → Option Nat) (k : Nat) (v : Int32), k < m → am_put (cw G sc rf ar ra nf rn R) (na G k) 326 (.int v) = cw G sc rf ar ra (va_up nf 6 (upd (nf 6) k v)) rn R) ∧
  (∀ (sc : Nat → Int32) (rf : Nat → Option Nat) (ar : Nat → Nat → Int32) (ra : Nat → Nat → Option Nat) (nf : Nat → Nat → Int32) (rn : Nat → Option Nat) (k : Nat) (v : Int32), k < m → am_put (cw G sc rf ar ra nf rn R) (na G k) 327 (.int v) = cw G sc rf ar ra (va_up nf 7 (upd (nf 7) k v)) rn R) ∧
  (∀ (sc : Nat → Int32) (rf : Nat → Option Nat) (ar : Nat → Nat → Int32) (ra : Nat → Nat → Option Nat) (nf : Nat → Nat → Int32) (rn : Nat → Option Nat) (k : Nat) (v : Int32), k < m → am_put (cw G sc rf ar ra nf rn R) (na G k) 328 (.int v) = cw G sc rf ar ra (va_up nf 8 (upd (nf 8) k v)) rn R) ∧
  (∀ (sc : Nat → Int32) (rf : Nat → Option Nat) (ar : Nat → Nat → Int32) (ra : Nat → Nat → Option Nat) (nf : Nat → Nat → Int32) (rn : Nat → Option Nat) (k : Nat) (v : Int32), k < m → am_put (cw G sc rf ar ra nf rn R) (na G k) 329 (.int v) = cw G sc rf ar ra (va_up nf 9 (upd (nf 9) k v)) rn R) ∧
  (∀ (sc : Nat → Int32) (rf : Nat → Option Nat) (ar : Nat → Nat → Int32) (ra : Nat → Nat → Option Nat) (nf : Nat → Nat → Int32) (rn : Nat → Option Nat) (k : Nat) (v : Int32), k < m → am_put (cw G sc rf ar ra nf rn R) (na G k) 330 (.int v) = cw G sc rf ar ra (va_up nf 10 (upd (nf 10) k v)) rn R) ∧
  (∀ (sc : Nat → Int32) (rf : Nat → Option Nat) (ar : Nat → Nat → Int32) (ra : Nat → Nat → Option Nat) (nf : Nat → Nat → Int32) (rn : Nat → Option Nat) (k : Nat) (v : Int32), k < m → am_put (cw G sc rf ar ra nf rn R) (na G k) 331 (.int v) = cw G sc rf ar ra (va_up nf 11 (upd (nf 11) k v)) rn R) ∧
  (∀ (sc : Nat → Int32) (rf : Nat → Option Nat) (ar : Nat → Nat → Int32) (ra : Nat → Nat → Option Nat) (nf : Nat → Nat → Int32) (rn : Nat → Option Nat) (k : Nat) (v : Int32), k < m → am_put (cw G sc rf ar ra nf rn R) (na G k) 4428 (.int v) = cw G sc rf ar ra (va_up nf 12 (upd (nf 12) k v)) rn R) ∧
  (∀ (sc : Nat → Int32) (rf : Nat → Option Nat) (ar : Nat → Nat → Int32) (ra : Nat → Nat → Option Nat) (nf : Nat → Nat → Int32) (rn : Nat → Option Nat) (k : Nat) (v : Int32), k < m → am_put (cw G sc rf ar ra nf rn R) (na G k) 4429 (.int v) = cw G sc rf ar ra (va_up nf 13 (upd (nf 13) k v)) rn R) ∧
  (∀ (sc : Nat → Int32) (rf : Nat → Option Nat) (ar : Nat → Nat → Int32) (ra : Nat → Nat → Option Nat) (nf : Nat → Nat → Int32) (rn : Nat → Option Nat) (k : Nat) (v : Int32), k < m → am_put (cw G sc rf ar ra nf rn R) (na G k) 398 (.int v) = cw G sc rf ar ra (va_up nf 14 (upd (nf 14) k v)) rn R) := by
  refine ⟨?_, ?_, ?_, ?_, ?_, ?_, ?_, ?_, ?_, ?_⟩ <;> (intro _ _ _ _ _ _ _ _ hk; exact cw_nput h hk (by decide) _)
theorem cw_qputr (h : GO G m q R) (sc : Nat → Int32) (rf : Nat → Option Nat) (ar : Nat → Nat → Int32) (ra : Nat → Nat → Option Nat) (nf : Nat → Nat → Int32) (rn : Nat → Option Nat) (k : Nat) (v : Nat) (hk : k < q) : am_put (cw G sc rf ar ra nf rn R) (qa G k) 8771 (.ref v) = cw G sc rf ar ra nf (va_up rn k (some v)) R := by
  rw [am_put_s (cw_q h sc rf ar ra nf rn k hk)]
  refine cw_dy h (h.2.2.1 k hk) (by omega) ?_ (fun s s0 hs => ?_) rfl
  · rw [dyc_q]
    refine congrArg (fun f => Sum.inr (9, f)) (funext fun j => ?_)
    by_cases e : j = 3
    · subst e; simp [va_up, qfl, va_rf]
    · simp [va_up, qfl, e]
  · simp only [dyc]
    by_cases y1 : s = 1
    · simp [y1]
    · by_cases y2 : s = 2
      · simp [y2]
      · by_cases y3 : s = 3
        · simp [y3]
        · by_cases y4 : s % 2 = 0
          · simp [y4]
          · have e : ¬ (s - 5) / 2 = k := by omega
            refine congrArg (fun f => if s = 1 then _ else if s = 2 then _ else if s = 3 then _ else if s % 2 = 0 then _ else Sum.inr (9, f)) (funext fun j => ?_)
            simp [va_up, qfl, e]
theorem cw_qputn (h : GO G m q R) (sc : Nat → Int32) (rf : Nat → Option Nat) (ar : Nat → Nat → Int32) (ra : Nat → Nat → Option Nat) (nf : Nat → Nat → Int32) (rn : Nat → Option Nat) (k : Nat)  (hk : k < q) : am_put (cw G sc rf ar ra nf rn R) (qa G k) 8771 (.null) = cw G sc rf ar ra nf (va_up rn k none) R := by
  rw [am_put_s (cw_q h sc rf ar ra nf rn k hk)]
  refine cw_dy h (h.2.2.1 k hk) (by omega) ?_ (fun s s0 hs => ?_) rfl
  · rw [dyc_q]
    refine congrArg (fun f => Sum.inr (9, f)) (funext fun j => ?_)
    by_cases e : j = 3
    · subst e; simp [va_up, qfl, va_rf]
    · simp [va_up, qfl, e]
  · simp only [dyc]
    by_cases y1 : s = 1
    · simp [y1]
    · by_cases y2 : s = 2
      · simp [y2]
      · by_cases y3 : s = 3
        · simp [y3]
        · by_cases y4 : s % 2 = 0
          · simp [y4]
          · have e : ¬ (s - 5) / 2 = k := by omega
            refine congrArg (fun f => if s = 1 then _ else if s = 2 then _ else if s = 3 then _ else if s % 2 = 0 then _ else Sum.inr (9, f)) (funext fun j => ?_)
            simp [va_up, qfl, e]
theorem cw_qputo (h : GO G m q R) (sc : Nat → Int32) (rf : Nat → Option Nat) (ar : Nat → Nat → Int32) (ra : Nat → Nat → Option Nat) (nf : Nat → Nat → Int32) (rn : Nat → Option Nat) (k : Nat) (v : Option Nat) (hk : k < q) : am_put (cw G sc rf ar ra nf rn R) (qa G k) 8771 (va_rf v) = cw G sc rf ar ra nf (va_up rn k v) R := by
  rw [am_put_s (cw_q h sc rf ar ra nf rn k hk)]
  refine cw_dy h (h.2.2.1 k hk) (by omega) ?_ (fun s s0 hs => ?_) rfl
  · rw [dyc_q]
    refine congrArg (fun f => Sum.inr (9, f)) (funext fun j => ?_)
    by_cases e : j = 3
    · subst e; simp [va_up, qfl, va_rf]
    · simp [va_up, qfl, e]
  · simp only [dyc]
    by_cases y1 : s = 1
    · simp [y1]
    · by_cases y2 : s = 2
      · simp [y2]
      · by_cases y3 : s = 3
        · simp [y3]
        · by_cases y4 : s % 2 = 0
          · simp [y4]
          · have e : ¬ (s - 5) / 2 = k := by omega
            refine congrArg (fun f => if s = 1 then _ else if s = 2 then _ else if s = 3 then _ else if s % 2 = 0 then _ else Sum.inr (9, f)) (funext fun j => ?_)
            simp [va_up, qfl, e]
theorem cw_bput (h : GO G m q R) (sc : Nat → Int32) (rf : Nat → Option Nat) (ar : Nat → Nat → Int32) (ra : Nat → Nat → Option Nat) (nf : Nat → Nat → Int32) (rn : Nat → Option Nat) (i x : Int32) : am_iput (cw G sc rf ar ra nf rn R) (gA G 1) i x = cw G sc rf (va_up ar 1 (upd (ar 1) i.toNatClampNeg x)) ra nf rn R := by
  rw [am_iput_s (cw_b h sc rf ar ra nf rn)]
  refine cw_dy h h.2.2.2.1 (by omega) rfl (fun s s0 hs => ?_) rfl
  simp only [dyc, hs, ↓reduceIte]
theorem cw_eput2 (h : GO G m q R) (hc : 0 < gC G 2) (sc : Nat → Int32) (rf : Nat → Option Nat) (ar : Nat → Nat → Int32) (ra : Nat → Nat → Option Nat) (nf : Nat → Nat → Int32) (rn : Nat → Option Nat) (i : Int32) (x : Option Nat) : am_qput (cw G sc rf ar ra nf rn R) (gA G 2) i x = cw G sc rf ar (va_up ra 2 (va_up (ra 2) i.toNatClampNeg x)) nf rn R := by
  have h1 : gL G (gA G 2) = 2 := by
    rcases h.2.2.2.2.1 2 (Or.inl rfl) with g | g
    · omega
    · exact g
  rw [am_qput_s (cw_e2 h hc sc rf ar ra nf rn)]
  refine cw_dy h h1 (by omega) rfl (fun s s0 hs => ?_) rfl
  simp [dyc, hs, va_up]
theorem cw_eput3 (h : GO G m q R) (hc : 0 < gC G 3) (sc : Nat → Int32) (rf : Nat → Option Nat) (ar : Nat → Nat → Int32) (ra : Nat → Nat → Option Nat) (nf : Nat → Nat → Int32) (rn : Nat → Option Nat) (i : Int32) (x : Option Nat) : am_qput (cw G sc rf ar ra nf rn R) (gA G 3) i x = cw G sc rf ar (va_up ra 3 (va_up (ra 3) i.toNatClampNeg x)) nf rn R := by
  have h1 : gL G (gA G 3) = 3 := by
    rcases h.2.2.2.2.1 3 (Or.inr rfl) with g | g
    · omega
    · exact g
  rw [am_qput_s (cw_e3 h hc sc rf ar ra nf rn)]
  refine cw_dy h h1 (by omega) rfl (fun s s0 hs => ?_) rfl
  simp [dyc, hs, va_up]
theorem cw_new (h : GO G m q R) (c : am_Cell) (s : Nat) : am_new (cw G sc rf ar ra nf rn R) c s = cw G sc rf ar ra nf rn (am_new R c s) := by
  have h0 : gL G R.2.1 = 0 := by
    by_cases y : gL G R.2.1 = 0
    · exact y
    · have := h.at y; omega
  have h59 := h.2.2.2.2.2.1
  refine Prod.ext (funext fun i => ?_) rfl
  simp only [am_new, cw]
  by_cases y : i = R.2.1
  · have h1 : ¬ i < 13 := by omega
    have h2 : ¬ (16 ≤ i ∧ i ≤ 32 ∧ ¬ i = 18) := by omega
    have h3 : gL G i = 0 := by rw [y]; exact h0
    simp only [y, ↓reduceIte] at *
    simp only [h1, h2, h0, ↓reduceIte]
  · simp only [y, ↓reduceIte]
theorem cw_out {a : Nat} (ha : 59 ≤ a) (hl : gL G a = 0) : (cw G sc rf ar ra nf rn R).1 a = R.1 a := by
  have h1 : ¬ a < 13 := by omega
  have h2 : ¬ (16 ≤ a ∧ a ≤ 32 ∧ ¬ a = 18) := by omega
  simp only [cw, h1, h2, hl, ↓reduceIte]
theorem cw_oset {a : Nat} {c : am_Cell} (ha : 59 ≤ a) (hl : gL G a = 0) : am_set (cw G sc rf ar ra nf rn R) a c = cw G sc rf ar ra nf rn (am_set R a c) := by
  refine cw_same ?_ (fun i hi => ?_) rfl
  · rw [cw_out ha hl, am_set_1, if_pos rfl]
  · simp only [cw, am_set_1, hi, ↓reduceIte]
theorem cw_oput {a x : Nat} {v : Value} (ha : 59 ≤ a) (hl : gL G a = 0) : am_put (cw G sc rf ar ra nf rn R) a x v = cw G sc rf ar ra nf rn (am_put R a x v) := by
  unfold am_put
  rw [cw_out ha hl]
  split
  · exact cw_oset ha hl
  · rfl
theorem GO.up {R' : am_W} (h : GO G m q R) (hR : R.2.1 ≤ R'.2.1) : GO G m q R' := ⟨fun a ha => ⟨(h.at ha).1, by have := (h.at ha).2.1; omega, (h.at ha).2.2⟩, h.2.1, h.2.2.1, h.2.2.2.1, h.2.2.2.2.1, by have := h.2.2.2.2.2.1; omega, h.2.2.2.2.2.2⟩
end CW
