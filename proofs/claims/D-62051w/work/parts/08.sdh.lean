/-! SOUNDNESS, second part: the heap, and what never changes. -/
def sd_ty (k : Nat) : FieldType := match k with
  | 0 => .int
  | 1 => .long
  | 2 => .boolean
  | 3 => .char
  | 4 => .byte
  | 5 => .object "java/lang/Object"
  | 6 => .object "ConeForms$Kind"
  | _ => .object "ConeForms$Node"
def sd_tys (G : sd_G) : List (ClassId × FieldType) := [(sd_cA G 0, .int), (sd_cA G 1, .long), (sd_cA G 2, .boolean), (sd_cA G 3, .char), (sd_cA G 4, .byte), (sd_cA G 5, .object "java/lang/Object"), (sd_cA G 6, .object "ConeForms$Kind"), (sd_cA G 7, .object "ConeForms$Node")]
theorem sd_tys_at (G : sd_G) {k : Nat} (hk : k < 8) : (sd_tys G)[k]? = some (sd_cA G k, sd_ty k) := by
  rcases (show k = 0 ∨ k = 1 ∨ k = 2 ∨ k = 3 ∨ k = 4 ∨ k = 5 ∨ k = 6 ∨ k = 7 by omega) with rfl | rfl | rfl | rfl | rfl | rfl | rfl | rfl <;> rfl
def sd_ct (G : sd_G) (x : am_Ar) : Nat → Value := match x with
  | .inl f => fun j => .int (f j)
  | .inr (.inl f) => fun j => .long (f j)
  | .inr (.inr f) => fun j => sd_tr G (va_rf (f j))
def sd_kk (k : Nat) (x : am_Ar) : Prop := match x with
  | .inl _ => k = 0 ∨ k = 2 ∨ k = 3 ∨ k = 4
  | .inr (.inl _) => k = 1
  | .inr (.inr _) => k = 5 ∨ k = 6 ∨ k = 7
theorem sd_kk.lt {k : Nat} {x : am_Ar} (h : sd_kk k x) : k < 8 := by
  rcases x with f | f | f <;> simp only [sd_kk] at h <;> omega
def sd_cell (G : sd_G) (a : Nat) (c : am_Cell) (H : Heap) : Prop := match c with
  | .inl x => sd_kk x.1 x.2.2 ∧ H[a]? = some (arrV (sd_cA G x.1) x.2.1 (sd_ct G x.2.2))
  | .inr o => ∃ r : vw_C, classes[o.1]? = some r ∧ t_OB a ((sd_D G).1 o.1) r.2.2 ((sd_D G).2 o.1) H (fun k => sd_tr G (o.2 k))
theorem sd_cell.kept {G : sd_G} {a : Nat} {c : am_Cell} {H H1 : Heap} (h : sd_cell G a c H) (hq : H1[a]? = H[a]?) : sd_cell G a c H1 := by
  cases c with
  | inl x => exact ⟨h.1, hq.trans h.2⟩
  | inr o =>
    obtain ⟨r, h1, h2⟩ := h
    exact ⟨r, h1, h2.kept hq⟩
theorem sd_cell.lt {G : sd_G} {a : Nat} {c : am_Cell} {H : Heap} (h : sd_cell G a c H) : a < H.size := by
  cases c with
  | inl x => exact (Array.getElem?_eq_some_iff.mp h.2).1
  | inr o =>
    obtain ⟨r, h1, cell, h2, -⟩ := h
    exact (Array.getElem?_eq_some_iff.mp h2).1
/-- what arrays of references hold fits them -/
def sd_el (w : am_W) : Prop := ∀ (a k n : Nat) (f : Nat → Option Nat), w.1 a = some (.inl (k, n, .inr (.inr f))) → ∀ j y, f j = some y → am_asg (w.1 y) k = true
def sd_H (G : sd_G) (w : am_W) (H : Heap) : Prop := 16 ≤ w.2.1 ∧ H.size = sd_s0 G + (w.2.1 - 16) ∧ (∀ a, a < 16 → w.1 a = sd_st0 G a) ∧ (∀ a c, 16 ≤ a → w.1 a = some c → a < w.2.1 ∧ sd_cell G (sd_ad G a) c H) ∧ sd_el w
def sd_A (G : sd_G) : Nat → Prop := fun q => sd_s0 G ≤ q
theorem sd_ad_ge {G : sd_G} {a : Nat} (h : 16 ≤ a) : sd_ad G a = sd_s0 G + (a - 16) := by simp [sd_ad, Nat.not_lt.mpr h]
theorem sd_ad_inj {G : sd_G} {a b : Nat} (ha : 16 ≤ a) (hb : 16 ≤ b) (h : sd_ad G a = sd_ad G b) : a = b := by rw [sd_ad_ge ha, sd_ad_ge hb] at h; omega
/-- a cell keeps its kind -/
def sd_like (c c' : am_Cell) : Prop := ∀ k, am_asg (some c') k = am_asg (some c) k
theorem sd_like_o (ci : Nat) (f g : Nat → Value) : sd_like (.inr (ci, f)) (.inr (ci, g)) := fun _ => rfl
theorem sd_like_a (x y : Nat × Nat × am_Ar) : sd_like (.inl x) (.inl y) := fun _ => rfl
theorem sd_H.set {G : sd_G} {w : am_W} {H H' : Heap} {a : Nat} {c c' : am_Cell} (h : sd_H G w H) (ha : 16 ≤ a) (hc : w.1 a = some c) (hl : sd_like c c') (h' : sd_cell G (sd_ad G a) c' H') (hz : H'.size = H.size) (ho : ∀ q : Nat, q ≠ sd_ad G a → H'[q]? = H[q]?)
    (hel : ∀ k n f, c' = .inl (k, n, .inr (.inr f)) → ∀ j y, f j = some y → am_asg (w.1 y) k = true) : sd_H G (am_set w a c') H' := by
  obtain ⟨h1, h2, h3, h4, h5⟩ := h
  have hlike : ∀ b k, am_asg ((am_set w a c').1 b) k = am_asg (w.1 b) k := by
    intro b k
    rw [am_set_1]
    by_cases hb : b = a
    · rw [if_pos hb, hb, hc]; exact hl k
    · rw [if_neg hb]
  refine ⟨h1, by rw [hz]; exact h2, fun b hb => ?_, fun b d hb hd => ?_, fun b k n f hf j y hy => ?_⟩
  · rw [am_set_1, if_neg (by omega)]
    exact h3 b hb
  · rw [am_set_1] at hd
    by_cases hba : b = a
    · subst hba
      rw [if_pos rfl] at hd
      cases hd
      exact ⟨(h4 b c hb hc).1, h'⟩
    · rw [if_neg hba] at hd
      obtain ⟨g1, g2⟩ := h4 b d hb hd
      exact ⟨g1, g2.kept (ho _ (fun q => hba (sd_ad_inj hb ha q)))⟩
  · rw [hlike]
    rw [am_set_1] at hf
    by_cases hba : b = a
    · rw [if_pos hba] at hf
      cases hf
      exact hel k n f rfl j y hy
    · rw [if_neg hba] at hf
      exact h5 b k n f hf j y hy
theorem sd_H.fresh {G : sd_G} {w : am_W} {H : Heap} (h : sd_H G w H) : w.1 w.2.1 = none ∧ sd_ad G w.2.1 = H.size := by
  obtain ⟨h1, h2, h3, h4, h5⟩ := h
  refine ⟨?_, by rw [sd_ad_ge h1]; omega⟩
  cases hc : w.1 w.2.1 with
  | none => rfl
  | some c => exact absurd (h4 _ c h1 hc).1 (Nat.lt_irrefl _)
theorem sd_H.new {G : sd_G} {w : am_W} {H H' : Heap} {c : am_Cell} {z : Nat} (h : sd_H G w H) (h' : sd_cell G H.size c H') (hz : H'.size = H.size + 1) (ho : ∀ q : Nat, q < H.size → H'[q]? = H[q]?)
    (hel : ∀ k n f, c = .inl (k, n, .inr (.inr f)) → ∀ j, f j = none) : sd_H G (am_new w c z) H' := by
  obtain ⟨hf1, hf2⟩ := h.fresh
  obtain ⟨h1, h2, h3, h4, h5⟩ := h
  have hn : ∀ b, (am_new w c z).1 b = if b = w.2.1 then some c else w.1 b := fun _ => rfl
  have hz1 : (am_new w c z).2.1 = w.2.1 + 1 := rfl
  have hup : ∀ b k, am_asg (w.1 b) k = true → am_asg ((am_new w c z).1 b) k = true := by
    intro b k hb
    rw [hn]
    by_cases hbw : b = w.2.1
    · rw [hbw, hf1] at hb; simp [am_asg] at hb
    · rw [if_neg hbw]; exact hb
  refine ⟨by rw [hz1]; omega, by rw [hz, hz1, h2]; omega, fun b hb => ?_, fun b d hb hd => ?_, fun b k n f hf j y hy => ?_⟩
  · rw [hn, if_neg (by omega)]
    exact h3 b hb
  · rw [hn] at hd
    rw [hz1]
    by_cases hbw : b = w.2.1
    · rw [if_pos hbw] at hd
      cases hd
      exact ⟨by omega, by rw [hbw, hf2]; exact h'⟩
    · rw [if_neg hbw] at hd
      obtain ⟨g1, g2⟩ := h4 b d hb hd
      exact ⟨by omega, g2.kept (ho _ g2.lt)⟩
  · apply hup
    rw [hn] at hf
    by_cases hbw : b = w.2.1
    · rw [if_pos hbw] at hf
      cases hf
      rw [hel k n f rfl j] at hy
      cases hy
    · rw [if_neg hbw] at hf
      exact h5 b k n f hf j y hy
/-! what never changes -/
def nwOk : Cond → Bool
  | .fieldLinkNest .. => true
  | .methodLinkNest .. => true
  | w => w.faceAtom
def nws : List Cond := tables_1.filter nwOk
theorem nw_moved {w : Cond} {s U : State} (hw : nwOk w = true) (hW : s.WarmedH U.vm) (h : va_Nw w s) : va_Nw w U := by
  cases w with
  | fieldLinkNest a i b n d h0 => exact va_Nw.warmF hW h
  | methodLinkNest a i x h0 => exact va_Nw.warmM hW h
  | declares x => exact va_tabs rfl (rfl : (s.setVm U.vm).vm = U.vm) (Cond.faceAtom_setVm (args := #[]) hW.alike _ hw h)
  | publicMethod x => exact va_tabs rfl (rfl : (s.setVm U.vm).vm = U.vm) (Cond.faceAtom_setVm (args := #[]) hW.alike _ hw h)
  | privateMethod x => exact va_tabs rfl (rfl : (s.setVm U.vm).vm = U.vm) (Cond.faceAtom_setVm (args := #[]) hW.alike _ hw h)
  | unhidden a b d => exact va_tabs rfl (rfl : (s.setVm U.vm).vm = U.vm) (Cond.faceAtom_setVm (args := #[]) hW.alike _ hw h)
  | castable a b => exact va_tabs rfl (rfl : (s.setVm U.vm).vm = U.vm) (Cond.faceAtom_setVm (args := #[]) hW.alike _ hw h)
  | interfaceMethod r o n d => exact va_tabs rfl (rfl : (s.setVm U.vm).vm = U.vm) (Cond.faceAtom_setVm (args := #[]) hW.alike _ hw h)
  | _ => simp [nwOk, Cond.faceAtom] at hw
def sd_nm : List String := ["NUMBER", "VARIABLE", "PARAMETER", "SUM", "DIFFERENCE", "NEGATION", "PRODUCT", "MAX", "MIN", "ABS", "SQUARE", "PAIRS"]
def sd_FF : List (String × String × String × List Int32) := [("ConeForms$Kind", "arity", "I", [0, 0, 0, 2, 2, 1, 2, 2, 2, 1, 1, 3]), ("ConeForms$Kind", "bend", "I", [0, 1, 0, 1, 1, 1, 1, 2, 3, 2, 2, 2]), ("java/lang/Enum", "ordinal", "I", [0, 1, 2, 3, 4, 5, 6, 7, 8, 9, 10, 11])]
def sd_stat (G : sd_G) (U : State) (H : Heap) : Prop :=
  va_En "ConeForms$Kind" "LConeForms$Kind;" sd_nm sd_FF (sd_a0 G) (sd_A G) U H ∧
  va_Z "java/util/ArrayList" "DEFAULTCAPACITY_EMPTY_ELEMENTDATA" "[Ljava/lang/Object;" (.ref (sd_a0 G 12)) (sd_A G) U H ∧
  va_T (.object "java/lang/Object") (sd_a0 G 12) 0 (fun _ => .null) (sd_A G) U H ∧
  va_Z "java/lang/String" "COMPACT_STRINGS" "Z" (.int 1) (sd_A G) U H ∧
  va_Z "jdk/internal/util/Preconditions" "SIOOBE_FORMATTER" "Ljava/util/function/BiFunction;" (sd_fm G) (sd_A G) U H ∧
  va_X (sd_a0 G 15) (sd_L G) (sd_xs G) U H ∧ sd_a0 G 15 < H.size ∧ sd_s0 G ≤ H.size ∧ (∀ a, a < 16 → a ≠ 14 → sd_a0 G a < sd_s0 G)
def sd_tab (G : sd_G) (U : State) : Prop :=
  va_K (sd_D G) classes (sd_tys G) U ∧ va_Mi "[Ljava/lang/Object;" (sd_a0 G 13) U ∧ (∀ w ∈ nws, va_Nw w U) ∧ va_AO "java/lang/Object" U ∧ va_AO "ConeForms$Kind" U ∧ va_AO "ConeForms$Node" U ∧
  va_Nc "ConeForms$Leaf" "ConeForms$Bend" U ∧ va_Nc "ConeForms$Product" "ConeForms$Bend" U ∧ va_Nc "ConeForms$Linear" "ConeForms$Bend" U
def sd_K (G : sd_G) (U : State) (H : Heap) : Prop := sd_fmok G ∧ sd_tab G U ∧ sd_stat G U H
theorem sd_tab.moved {G : sd_G} {s U : State} (hW : s.WarmedH U.vm) (h : sd_tab G s) : sd_tab G U := by
  obtain ⟨h1, h2, h3, h4, h5, h6, h7, h8, h9⟩ := h
  have ha := hW.alike
  exact ⟨h1.moved ha, h2.moved ha, fun w hw => nw_moved (List.mem_filter.mp hw).2 hW (h3 w hw), h4.moved ha, h5.moved ha, h6.moved ha, h7.moved ha, h8.moved ha, h9.moved ha⟩
theorem sd_stat.moved {G : sd_G} {s U : State} {H : Heap} (ha : s.vm.Alike U.vm) (h : sd_stat G s H) : sd_stat G U H := by
  obtain ⟨h1, h2, h3, h4, h5, h6, h7, h8, h9⟩ := h
  exact ⟨va_En.moved ha h1, va_Z.moved ha h2, va_T.moved ha h3, va_Z.moved ha h4, va_Z.moved ha h5, va_X.moved ha h6, h7, h8, h9⟩
theorem sd_stat.kept {G : sd_G} {U : State} {H H1 : Heap} (h : sd_stat G U H) (hz : H.size ≤ H1.size) (hq : ∀ a : Nat, a < H.size → ¬ sd_A G a → H1[a]? = H[a]?) : sd_stat G U H1 := by
  obtain ⟨h1, h2, h3, h4, h5, h6, h7, h8, h9⟩ := h
  exact ⟨h1.kept hq, h2.kept hq, h3.kept hq, h4.kept hq, h5.kept hq, h6.kept (hq _ h7 (Nat.not_le.mpr (h9 15 (by omega) (by omega)))), Nat.lt_of_lt_of_le h7 hz, Nat.le_trans h8 hz, h9⟩
theorem sd_stat.at {G : sd_G} {s : State} {H : Heap} {locs : List Loc} (h : sd_stat G s s.heap) (hS : va_S (sd_A G) s.heap H locs) : sd_stat G s H := h.kept hS.1 hS.2.1
/-- the same tables -/
theorem sd_tab.same {G : sd_G} {u U : State} (h : u.vm = U.vm) (hk : sd_tab G u) : sd_tab G U := by
  have ha : u.vm.Alike U.vm := by rw [h]; exact Vm.Alike.refl _
  obtain ⟨h1, h2, h3, h4, h5, h6, h7, h8, h9⟩ := hk
  refine ⟨h1.moved ha, h2.moved ha, fun w hw => ?_, h4.moved ha, h5.moved ha, h6.moved ha, h7.moved ha, h8.moved ha, h9.moved ha⟩
  have hok := (List.mem_filter.mp hw).2
  exact va_Nw.same (by cases w <;> first | rfl | simp [nwOk, Cond.faceAtom] at hok) h (h3 w hw)
