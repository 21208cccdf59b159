/-! JUDGEMENTS: Wp inside a method, Ev a call: some fuel does it, and the end has Q. -/
def Wp (P : am_P) (d : Nat) (C : Int → List Instr) (is : List Instr) (L st : List Value) (w : am_W) (Q : Option Value → am_W → Prop) : Prop := ∃ (N f : Nat) (x : Option Value × am_W), am_blk P.2 (am_call P N d) (am_run P.2 C (am_call P N d) f) is L st w = some x ∧ Q x.1 x.2
def Ev (P : am_P) (d z : Nat) (as : List Value) (w : am_W) (Q : Option Value → am_W → Prop) : Prop := ∃ (N : Nat) (x : Option Value × am_W), am_call P N d z as w = some x ∧ Q x.1 x.2
theorem am_blk_mono {vt : Nat → Nat → Option Nat} {cf cf' : Nat → List Value → am_W → am_R} {jp jp' : Int → List Value → List Value → am_W → am_R} (hc : ∀ z as w x, cf z as w = some x → cf' z as w = some x) (hj : ∀ b L st w x, jp b L st w = some x → jp' b L st w = some x) : ∀ (is : List Instr) (L st : List Value) (w : am_W) (x : Option Value × am_W), am_blk vt cf jp is L st w = some x → am_blk vt cf' jp' is L st w = some x
  | [], _, _, _, _, h => by simp [am_blk] at h
  | i :: is, L, st, w, x, h => by
    unfold am_blk at h ⊢
    cases hi : am_ins vt i L st w with
    | none => rw [hi] at h; simp at h
    | some a =>
      rw [hi] at h
      rcases a with ⟨L', st', w'⟩ | ⟨b, L', st'⟩ | ⟨z, as, st'⟩ | v
      · exact am_blk_mono hc hj is L' st' w' x h
      · exact hj _ _ _ _ _ h
      · dsimp only at h ⊢
        cases hz : cf z as w with
        | none => rw [hz] at h; simp at h
        | some y =>
          rw [hz] at h
          rw [hc _ _ _ _ hz]
          exact am_blk_mono hc hj is _ _ _ x h
      · exact h
theorem am_run_mono {vt : Nat → Nat → Option Nat} {C : Int → List Instr} {cf cf' : Nat → List Value → am_W → am_R} (hc : ∀ z as w x, cf z as w = some x → cf' z as w = some x) : ∀ (f f' : Nat), f ≤ f' → ∀ (b : Int) (L st : List Value) (w : am_W) (x : Option Value × am_W), am_run vt C cf f b L st w = some x → am_run vt C cf' f' b L st w = some x
  | 0, _, _, _, _, _, _, _, h => by simp [am_run] at h
  | f + 1, 0, hf, _, _, _, _, _, _ => by omega
  | f + 1, f' + 1, hf, b, L, st, w, x, h => by
    unfold am_run at h ⊢
    exact am_blk_mono hc (am_run_mono hc f f' (by omega)) _ _ _ _ _ h
theorem am_call_mono {P : am_P} {N N' : Nat} (hN : N ≤ N') : ∀ (d d' : Nat), d ≤ d' → ∀ (z : Nat) (as : List Value) (w : am_W) (x : Option Value × am_W), am_call P N d z as w = some x → am_call P N' d' z as w = some x
  | 0, _, _, _, _, _, _, h => by simp [am_call] at h
  | d + 1, 0, hd, _, _, _, _, _ => by omega
  | d + 1, d' + 1, hd, z, as, w, x, h => by
    unfold am_call at h ⊢
    cases hz : P.1 z with
    | none => rw [hz] at h; simp at h
    | some y =>
      rw [hz] at h
      dsimp only at h ⊢
      split at h
      · rename_i hl
        rw [if_pos hl]
        exact am_run_mono (am_call_mono hN d d' (by omega)) N N' hN _ _ _ _ _ h
      · cases h
section WPS
variable {P : am_P} {d : Nat} {C : Int → List Instr} {i : Instr} {is : List Instr} {L st : List Value} {w : am_W} {Q : Option Value → am_W → Prop}
theorem Wp.nx {L' st' : List Value} {w' : am_W} (h : am_ins P.2 i L st w = some (.inl (L', st', w'))) : Wp P d C (i :: is) L st w Q = Wp P d C is L' st' w' Q := by
  unfold Wp
  simp only [am_blk, h]
theorem Wp.no (h : am_ins P.2 i L st w = none) : Wp P d C (i :: is) L st w Q = False := by
  unfold Wp
  simp only [am_blk, h]
  simp
theorem Wp.rt {v : Option Value} (h : am_ins P.2 i L st w = some (.inr (.inr (.inr v)))) : Wp P d C (i :: is) L st w Q = Q v w := by
  unfold Wp
  simp only [am_blk, h]
  apply propext
  constructor
  · rintro ⟨N, f, x, hx, hq⟩
    cases hx
    exact hq
  · intro hq
    exact ⟨0, 0, _, rfl, hq⟩
theorem Wp.jp {b : Int} {L' st' : List Value} (h : am_ins P.2 i L st w = some (.inr (.inl (b, L', st')))) : Wp P d C (i :: is) L st w Q = Wp P d C (C b) L' st' w Q := by
  unfold Wp
  simp only [am_blk, h]
  apply propext
  constructor
  · rintro ⟨N, f, x, hx, hq⟩
    cases f with
    | zero => simp [am_run] at hx
    | succ f => exact ⟨N, f, x, hx, hq⟩
  · rintro ⟨N, f, x, hx, hq⟩
    exact ⟨N, f + 1, x, hx, hq⟩
theorem Wp.cl {z : Nat} {as st' : List Value} (h : am_ins P.2 i L st w = some (.inr (.inr (.inl (z, as, st'))))) : Wp P d C (i :: is) L st w Q = Ev P d z as w (fun r w1 => Wp P d C is L (r.toList ++ st') w1 Q) := by
  unfold Wp Ev
  simp only [am_blk, h]
  apply propext
  constructor
  · rintro ⟨N, f, x, hx, hq⟩
    cases hz : am_call P N d z as w with
    | none => rw [hz] at hx; simp at hx
    | some y =>
      rw [hz] at hx
      exact ⟨N, y, hz, N, f, x, hx, hq⟩
  · rintro ⟨N, y, hz, N', f, x, hx, hq⟩
    refine ⟨max N N', f, x, ?_, hq⟩
    rw [am_call_mono (Nat.le_max_left N N') d d (Nat.le_refl d) _ _ _ _ hz]
    have hm := am_call_mono (P := P) (Nat.le_max_right N N') d d (Nat.le_refl d)
    exact am_blk_mono hm (am_run_mono hm f f (Nat.le_refl f)) _ _ _ _ _ hx
theorem Ev.go {z mL : Nat} {as : List Value} (h : P.1 z = some (mL, C)) (hl : (am_args as).length ≤ mL) : Ev P (d + 1) z as w Q = Wp P d C (C 0) (am_ent mL as) [] w Q := by
  unfold Ev Wp
  apply propext
  constructor
  · rintro ⟨N, x, hx, hq⟩
    unfold am_call at hx
    rw [h] at hx
    dsimp only at hx
    rw [if_pos hl] at hx
    cases N with
    | zero => simp [am_run] at hx
    | succ f => exact ⟨f + 1, f, x, hx, hq⟩
  · rintro ⟨N, f, x, hx, hq⟩
    refine ⟨max N (f + 1), x, ?_, hq⟩
    unfold am_call
    rw [h]
    dsimp only
    rw [if_pos hl]
    have hm := am_call_mono (P := P) (Nat.le_max_left N (f + 1)) d d (Nat.le_refl d)
    exact am_run_mono hm (f + 1) _ (Nat.le_max_right N (f + 1)) 0 _ _ _ _ hx
theorem Ev.mono {d' z : Nat} {as : List Value} (hd : d ≤ d') {Q' : Option Value → am_W → Prop} (h : Ev P d z as w Q) (hq : ∀ r w1, Q r w1 → Q' r w1) : Ev P d' z as w Q' := by
  obtain ⟨N, x, hx, h1⟩ := h
  exact ⟨N, x, am_call_mono (Nat.le_refl N) d d' hd _ _ _ _ hx, hq _ _ h1⟩
theorem Ev.imp {z : Nat} {as : List Value} {Q' : Option Value → am_W → Prop} (h : Ev P d z as w Q) (hq : ∀ r w1, Q r w1 → Q' r w1) : Ev P d z as w Q' := h.mono (Nat.le_refl d) hq
theorem Wp.imp {Q' : Option Value → am_W → Prop} (h : Wp P d C is L st w Q) (hq : ∀ r w1, Q r w1 → Q' r w1) : Wp P d C is L st w Q' := by
  obtain ⟨N, f, x, hx, h1⟩ := h
  exact ⟨N, f, x, hx, hq _ _ h1⟩
/-- a call has one end -/
theorem Ev.det {z : Nat} {as : List Value} {r : Option Value} {w1 : am_W} (h : Ev P d z as w (fun r' w' => r' = r ∧ w' = w1)) (K : Option Value → am_W → Prop) : Ev P d z as w K = K r w1 := by
  obtain ⟨N, x, hx, h1, h2⟩ := h
  apply propext
  constructor
  · rintro ⟨N', y, hy, hk⟩
    have e1 := am_call_mono (Nat.le_max_left N N') d d (Nat.le_refl d) _ _ _ _ hx
    have e2 := am_call_mono (Nat.le_max_right N N') d d (Nat.le_refl d) _ _ _ _ hy
    rw [e1] at e2
    cases e2
    rw [← h1, ← h2]
    exact hk
  · intro hk
    refine ⟨N, x, hx, ?_⟩
    rw [h1, h2]
    exact hk
end WPS
