/-! SOUNDNESS, first part: the machine's values, locals and heap as the abstract machine sees them. -/
/-- the kinds' numbers and slots; array kinds; addresses of the statics; the heap's size at the law's start; a static that nobody asks; the script -/
abbrev sd_G : Type := va_G × (Nat → ClassId) × (Nat → Nat) × Nat × Value × Nat × (Nat → Int32)
def sd_D (G : sd_G) : va_G := G.1
def sd_cA (G : sd_G) : Nat → ClassId := G.2.1
def sd_a0 (G : sd_G) : Nat → Nat := G.2.2.1
def sd_s0 (G : sd_G) : Nat := G.2.2.2.1
def sd_fm (G : sd_G) : Value := G.2.2.2.2.1
def sd_L (G : sd_G) : Nat := G.2.2.2.2.2.1
def sd_xs (G : sd_G) : Nat → Int32 := G.2.2.2.2.2.2
def sd_ad (G : sd_G) (a : Nat) : Nat := if a < 16 then sd_a0 G a else sd_s0 G + (a - 16)
def sd_tr (G : sd_G) : Value → Value
  | .ref a => if a = 14 then sd_fm G else .ref (sd_ad G a)
  | v => v
def sd_fmok (G : sd_G) : Prop := sd_fm G = .null ∨ ∃ t, sd_fm G = .ref t
def sd_ar (a : Nat) : Int32 := ([0, 0, 0, 2, 2, 1, 2, 2, 2, 1, 1, 3] : List Int32).getD a 0
def sd_be (a : Nat) : Int32 := ([0, 1, 0, 1, 1, 1, 1, 2, 3, 2, 2, 2] : List Int32).getD a 0
def sd_kf (a k : Nat) : Value := .int (if k = 0 then sd_ar a else if k = 1 then sd_be a else Int32.ofNat a)
def sd_st0 (G : sd_G) (a : Nat) : Option am_Cell := if a < 12 then some (.inr (12, sd_kf a)) else if a = 12 then some (.inl (5, 0, .inr (.inr (fun _ => none)))) else if a = 15 then some (.inl (0, sd_L G, .inl (sd_xs G))) else none
section SD1
variable {G : sd_G}
theorem sd_tr_cat (hf : sd_fmok G) (v : Value) : (sd_tr G v).category = v.category := by
  cases v with
  | ref a =>
    by_cases h14 : a = 14
    · rcases hf with h | ⟨t, h⟩ <;> simp [sd_tr, h14, h, Value.category]
    · simp [sd_tr, h14, Value.category]
  | _ => rfl
theorem sd_tr_isA (hf : sd_fmok G) {v : Value} (h : am_isA v = true) : sd_tr G v = .null ∨ ∃ a, sd_tr G v = .ref a := by
  cases v with
  | ref a =>
    by_cases h14 : a = 14
    · rcases hf with h | ⟨t, h⟩ <;> simp [sd_tr, h14, h]
    · simp [sd_tr, h14]
  | null => exact Or.inl rfl
  | _ => simp [am_isA] at h
theorem sd_tr_ref {a : Nat} (h : a ≠ 14) : sd_tr G (.ref a) = .ref (sd_ad G a) := by simp [sd_tr, h]
theorem sd_map_cat (hf : sd_fmok G) (st : List Value) : ((st.map (sd_tr G)).map fun v => v.category).sum = (st.map Value.category).sum := by
  rw [List.map_map]
  congr 1
  apply List.map_congr_left
  intro v _
  exact sd_tr_cat hf v
/-! locals -/
def sd_lr (G : sd_G) (ls : Array Slot) (nL : Nat) (L : List Value) : Prop := ls.size = nL ∧ lv_wf ls ∧ L.length = nL ∧ ∀ (k : Nat) (v : Value), L[k]? = some v → v ≠ am_J → ls[k]? = some (.val (sd_tr G v))
def sd_al (G : sd_G) (L : List Value) : List (Nat × Value) := (List.range L.length).filterMap (fun i => match L[i]? with | some v => if v = am_J then none else some (i, sd_tr G v) | none => none)
theorem sd_al_mem {L : List Value} {i : Nat} {u : Value} : (i, u) ∈ sd_al G L ↔ ∃ v, L[i]? = some v ∧ v ≠ am_J ∧ u = sd_tr G v := by
  unfold sd_al
  rw [List.mem_filterMap]
  constructor
  · rintro ⟨j, -, hj⟩
    cases hv : L[j]? with
    | none => rw [hv] at hj; cases hj
    | some v =>
      rw [hv] at hj
      dsimp only at hj
      split at hj
      · cases hj
      · rename_i hne
        cases hj
        exact ⟨v, hv, hne, rfl⟩
  · rintro ⟨v, hv, hne, rfl⟩
    refine ⟨i, List.mem_range.mpr (List.getElem?_eq_some_iff.mp hv).1, ?_⟩
    rw [hv]
    simp [hne]
theorem sd_lr.has {ls : Array Slot} {nL : Nat} {L : List Value} (h : sd_lr G ls nL L) : lv_has ls nL (sd_al G L) := by
  obtain ⟨h1, h2, h3, h4⟩ := h
  refine ⟨h1, h2, fun q hq => ?_⟩
  obtain ⟨i, u⟩ := q
  obtain ⟨v, hv, hne, rfl⟩ := sd_al_mem.mp hq
  exact h4 i v hv hne
theorem sd_lr.get {ls : Array Slot} {nL : Nat} {L : List Value} (h : sd_lr G ls nL L) {k : Nat} {v : Value} (hv : L.getD k am_J = v) (hne : v ≠ am_J) : ls[k]? = some (.val (sd_tr G v)) := by
  refine h.2.2.2 k v ?_ hne
  rw [List.getD_eq_getElem?_getD] at hv
  cases hk : L[k]? with
  | none => rw [hk] at hv; exact absurd hv.symm hne
  | some u => rw [hk] at hv; exact congrArg some hv
theorem am_s1_len : ∀ (L : List Value) (k : Nat) (v : Value), (am_s1 L k v).length = L.length
  | [], _, _ => rfl
  | _ :: _, 0, _ => rfl
  | a :: t, k + 1, v => by simp [am_s1, am_s1_len t k v]
theorem am_s1_get : ∀ (L : List Value) (k : Nat) (v : Value) (j : Nat) (u : Value), (am_s1 L k v)[j]? = some u → (j = k ∧ u = v) ∨ (j ≠ k ∧ L[j]? = some u ∧ (j + 1 ≠ k ∨ u.category ≠ 2)) ∨ u = am_J
  | [], _, _, j, u, h => by simp [am_s1] at h
  | a :: t, 0, v, j, u, h => by
    cases j with
    | zero => left; simpa [am_s1] using h.symm
    | succ j => right; left; refine ⟨by omega, by simpa [am_s1] using h, Or.inl (by omega)⟩
  | a :: t, k + 1, v, j, u, h => by
    cases j with
    | zero =>
      simp only [am_s1, List.getElem?_cons_zero, Option.some.injEq] at h
      by_cases hk : k = 0
      · rw [if_pos hk] at h
        cases a with
        | long x => right; right; exact h.symm
        | double x => right; right; exact h.symm
        | int x => right; left; refine ⟨by omega, by simpa [am_kill] using h, Or.inr ?_⟩; rw [← h]; simp [am_kill, Value.category]
        | float x => right; left; refine ⟨by omega, by simpa [am_kill] using h, Or.inr ?_⟩; rw [← h]; simp [am_kill, Value.category]
        | null => right; left; refine ⟨by omega, by simpa [am_kill] using h, Or.inr ?_⟩; rw [← h]; simp [am_kill, Value.category]
        | ref x => right; left; refine ⟨by omega, by simpa [am_kill] using h, Or.inr ?_⟩; rw [← h]; simp [am_kill, Value.category]
        | retAddr x => right; left; refine ⟨by omega, by simpa [am_kill] using h, Or.inr ?_⟩; rw [← h]; simp [am_kill, Value.category]
      · rw [if_neg hk] at h
        right; left
        refine ⟨by omega, by simpa using h, Or.inl (by omega)⟩
    | succ j =>
      simp only [am_s1, List.getElem?_cons_succ] at h
      rcases am_s1_get t k v j u h with ⟨h1, h2⟩ | ⟨h1, h2, h3⟩ | h1
      · left; exact ⟨by omega, h2⟩
      · right; left; refine ⟨by omega, by simpa using h2, ?_⟩
        rcases h3 with h3 | h3
        · left; omega
        · right; exact h3
      · right; right; exact h1
theorem sd_lr.st1 (hf : sd_fmok G) {ls ls' : Array Slot} {nL : Nat} {L : List Value} (h : sd_lr G ls nL L) {k : Nat} {v : Value} (h' : lv_has ls' nL ((k, sd_tr G v) :: (sd_al G L).filter (fun q => !(q.1 == k) && !(q.1 + 1 == k && q.2.category == 2)))) : sd_lr G ls' nL (am_s1 L k v) := by
  refine ⟨h'.1, h'.2.1, by rw [am_s1_len]; exact h.2.2.1, fun j u hu hne => ?_⟩
  rcases am_s1_get L k v j u hu with ⟨h1, h2⟩ | ⟨h1, h2, h3⟩ | h1
  · subst h1; subst h2
    exact h'.2.2 (j, sd_tr G u) List.mem_cons_self
  · refine h'.2.2 (j, sd_tr G u) (List.mem_cons_of_mem _ (List.mem_filter.mpr ⟨sd_al_mem.mpr ⟨u, h2, hne, rfl⟩, ?_⟩))
    dsimp only
    rw [sd_tr_cat hf]
    rcases h3 with h3 | h3
    · simp [h1, h3]
    · simp [h1, h3]
  · exact absurd h1 hne
theorem am_s2_len : ∀ (L : List Value) (k : Nat) (v : Value), (am_s2 L k v).length = L.length
  | [], _, _ => rfl
  | _ :: t, 0, _ => by cases t <;> rfl
  | a :: t, k + 1, v => by simp [am_s2, am_s2_len t k v]
theorem am_s2_get : ∀ (L : List Value) (k : Nat) (v : Value) (j : Nat) (u : Value), (am_s2 L k v)[j]? = some u → (j = k ∧ u = v) ∨ (j ≠ k ∧ j ≠ k + 1 ∧ L[j]? = some u ∧ (j + 1 ≠ k ∨ u.category ≠ 2)) ∨ u = am_J
  | [], _, _, j, u, h => by simp [am_s2] at h
  | a :: t, 0, v, j, u, h => by
    cases j with
    | zero => left; simpa [am_s2] using h.symm
    | succ j =>
      cases t with
      | nil => simp [am_s2] at h
      | cons b t =>
        cases j with
        | zero => right; right; simpa [am_s2] using h.symm
        | succ j => right; left; refine ⟨by omega, by omega, by simpa [am_s2] using h, Or.inl (by omega)⟩
  | a :: t, k + 1, v, j, u, h => by
    cases j with
    | zero =>
      simp only [am_s2, List.getElem?_cons_zero, Option.some.injEq] at h
      by_cases hk : k = 0
      · rw [if_pos hk] at h
        cases a with
        | long x => right; right; exact h.symm
        | double x => right; right; exact h.symm
        | int x => right; left; refine ⟨by omega, by omega, by simpa [am_kill] using h, Or.inr ?_⟩; rw [← h]; simp [am_kill, Value.category]
        | float x => right; left; refine ⟨by omega, by omega, by simpa [am_kill] using h, Or.inr ?_⟩; rw [← h]; simp [am_kill, Value.category]
        | null => right; left; refine ⟨by omega, by omega, by simpa [am_kill] using h, Or.inr ?_⟩; rw [← h]; simp [am_kill, Value.category]
        | ref x => right; left; refine ⟨by omega, by omega, by simpa [am_kill] using h, Or.inr ?_⟩; rw [← h]; simp [am_kill, Value.category]
        | retAddr x => right; left; refine ⟨by omega, by omega, by simpa [am_kill] using h, Or.inr ?_⟩; rw [← h]; simp [am_kill, Value.category]
      · rw [if_neg hk] at h
        right; left
        refine ⟨by omega, by omega, by simpa using h, Or.inl (by omega)⟩
    | succ j =>
      simp only [am_s2, List.getElem?_cons_succ] at h
      rcases am_s2_get t k v j u h with ⟨h1, h2⟩ | ⟨h1, h0, h2, h3⟩ | h1
      · left; exact ⟨by omega, h2⟩
      · right; left; refine ⟨by omega, by omega, by simpa using h2, ?_⟩
        rcases h3 with h3 | h3
        · left; omega
        · right; exact h3
      · right; right; exact h1
theorem sd_lr.st2 (hf : sd_fmok G) {ls ls' : Array Slot} {nL : Nat} {L : List Value} (h : sd_lr G ls nL L) {k : Nat} {v : Value} (h' : lv_has ls' nL ((k, sd_tr G v) :: (sd_al G L).filter (fun q => !(q.1 == k) && (!(q.1 == k + 1) && !(q.1 + 1 == k && q.2.category == 2))))) : sd_lr G ls' nL (am_s2 L k v) := by
  refine ⟨h'.1, h'.2.1, by rw [am_s2_len]; exact h.2.2.1, fun j u hu hne => ?_⟩
  rcases am_s2_get L k v j u hu with ⟨h1, h2⟩ | ⟨h1, h0, h2, h3⟩ | h1
  · subst h1; subst h2
    exact h'.2.2 (j, sd_tr G u) List.mem_cons_self
  · refine h'.2.2 (j, sd_tr G u) (List.mem_cons_of_mem _ (List.mem_filter.mpr ⟨sd_al_mem.mpr ⟨u, h2, hne, rfl⟩, ?_⟩))
    dsimp only
    rw [sd_tr_cat hf]
    rcases h3 with h3 | h3
    · simp [h1, h0, h3]
    · simp [h1, h0, h3]
  · exact absurd h1 hne
end SD1
