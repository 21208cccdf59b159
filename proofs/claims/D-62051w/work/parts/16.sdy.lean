/-! SOUNDNESS, tenth part: fields, branches, switches, calls, ends. -/
section SDY
variable {mi : List (MethodName × ByteArray × Nat × Option FieldType)} {own nm : String} {cc : ByteArray} {nL : Nat} {ret : Option FieldType} {bp : Int → Nat} {pc : Nat}
/-- nothing is known of it: the abstract machine stops there -/
theorem ok_stop {i : Instr} {pc' : Nat} (h : ∀ L st w, am_ins vt_f i L st w = none) : sd_Ok mi own nm cc nL ret bp i pc pc' := by
  refine ok_nx (fun L st w x hx => by rw [h] at hx; cases hx) ?_
  intro G p l e R s m args below meth c n0 z0 Q X hnm hR L st w hn0 hz0 L' st' w' hi
  rw [h] at hi
  cases hi
theorem ok_nop {pc' : Nat} : sd_Ok mi own nm cc nL ret bp .nop pc pc' := ok_stop (fun _ _ _ => rfl)
theorem ok_castA {j : Nat} (hd : decode cc pc = .ok (.checkcast j, 3)) (hlk : Cond.classLink own j "[Ljava/lang/Object;" ∈ gws) : sd_Ok mi own nm cc nL ret bp (.checkcast 3) pc (pc + 3) := by
  refine ok_nx (fun L st w x h => ?_) ?_
  · simp only [am_ins, am_nx] at h
    (repeat' split at h) <;> cases h
  · intro G p l e R s m args below meth c n0 z0 Q X hnm hR L st w hn0 hz0 L' st' w' hi hroom k
    simp only [am_ins, am_nx] at hi
    split at hi
    · cases hi
      exact sd_castN (g := 0) X hd k
    · split at hi
      · rename_i r a hc
        cases hi
        obtain ⟨h16, hca⟩ := hc
        cases hx : w.1 r with
        | none => rw [hx] at hca; cases hca
        | some x =>
          cases x with
          | inr o => rw [hx] at hca; simp [am_cast] at hca
          | inl x =>
            obtain ⟨kk, n, y⟩ := x
            rw [hx] at hca
            simp [am_cast] at hca
            subst hca
            exact sd_castA X h16 hx (va_nmO (C := "java/lang/Object") ((X.2.2.2.2.2.2.1.1.2 5 _ (sd_tys_at G (by omega))).2) (by decide +kernel)) hlk hd k
      · cases hi
    · cases hi
/-- what a field word says -/
def sd_FO (own : String) (j x : Nat) : Prop := ∀ ci, (am_g ci == x / 64 % 64 || ci == x / 64 % 64) = true →
  (∃ C T N ref name desc, classes[ci]? = some (C, T, N) ∧ (∀ w ∈ u_ws C T N, w ∈ gws) ∧ x % 64 < N ∧ (T (x % 64)).2.1 = name ∧ (T (x % 64)).2.2.1 = desc ∧ ((T (x % 64)).1 = ref ∨ Cond.sameField ref (T (x % 64)).1 name desc ∈ gws) ∧ (Cond.fieldLink own j ref name desc ∈ gws ∨ ∃ host, Cond.fieldLinkNest own j ref name desc host ∈ nws)) ∨
  (ci = 12 ∧ ∃ q ref, q ∈ sd_FF ∧ (∀ a, a < 12 → sd_kf a (x % 64) = .int (q.2.2.2.getD a 0)) ∧ (q.1 = ref ∨ Cond.sameField ref q.1 q.2.1 q.2.2.1 ∈ gws) ∧ (Cond.fieldLink own j ref q.2.1 q.2.2.1 ∈ gws ∨ ∃ host, Cond.fieldLinkNest own j ref q.2.1 q.2.2.1 host ∈ nws))
theorem ok_getf {j x : Nat} (hd : decode cc pc = .ok (.getfield j, 3)) (hF : sd_FO own j x) : sd_Ok mi own nm cc nL ret bp (.getfield x) pc (pc + 3) := by
  refine ok_nx (fun L st w x h => ?_) ?_
  · simp only [am_ins, am_nx] at h
    (repeat' split at h) <;> cases h
  · intro G p l e R s m args below meth c n0 z0 Q X hnm hR L st w hn0 hz0 L' st' w' hi hroom k
    simp only [am_ins, am_nx] at hi
    split at hi
    · split at hi
      · rename_i a r hc
        cases hi
        cases hx : w.1 a with
        | none => rw [hx] at hc; cases hc
        | some y =>
          cases y with
          | inl y => rw [hx] at hc; cases hc
          | inr o =>
            obtain ⟨ci, f⟩ := o
            rw [hx] at hc k
            rcases hF ci hc with ⟨C, T, N, ref, name, desc, h1, h2, h3, h4, h5, h6, h7⟩ | ⟨rfl, q, ref, h1, h2, h3, h4⟩
            · have h12 : ci ≠ 12 := by intro q; subst q; simp [classes] at h1
              exact sd_getf X h2 h1 h3 h4 h5 h6 h7 hd hx h12 k
            · exact sd_getk X h1 h2 h3 h4 hd hx k
      · cases hi
    · cases hi
def sd_FT (t : Nat) (ty : FieldType) : Prop := (t = 0 ∧ ty = .int) ∨ (t = 1 ∧ ty = .boolean) ∨ (t = 2 ∧ ((∃ n, ty = .object n) ∨ ∃ n, ty = .array n)) ∨ (t = 3 ∧ ty = .byte) ∨ (t = 4 ∧ ty = .char)
def sd_FP (own nm : String) (j x : Nat) : Prop := ∀ ci, (am_g ci == x / 64 % 64 || ci == x / 64 % 64) = true →
  ∃ C T N ref name desc ty, ∃ ty0 : Nat → FieldType, classes[ci]? = some (C, T, N) ∧ (∀ w ∈ u_ws C T N, w ∈ gws) ∧ (∀ k, k < N → parseFieldDescriptor (T k).2.2.1 = some (ty0 k)) ∧ (∀ a, a < N → ∀ b, b < N → a ≠ b → (T a).2.1 ≠ (T b).2.1) ∧ x % 64 < N ∧ (T (x % 64)).2.1 = name ∧ (T (x % 64)).2.2.1 = desc ∧ ((T (x % 64)).1 = ref ∨ Cond.sameField ref (T (x % 64)).1 name desc ∈ gws) ∧
    ((Cond.fieldLink own j ref name desc ∈ gws ∧ ((T (x % 64)).2.2.2 = false ∨ ((T (x % 64)).2.2.2 = true ∧ nm = "<init>" ∧ (T (x % 64)).1 = own))) ∨ ((T (x % 64)).2.2.2 = false ∧ ∃ host, Cond.fieldLinkNest own j ref name desc host ∈ nws)) ∧ parseFieldDescriptor desc = some ty ∧ sd_FT (x / 4096) ty
theorem ok_putf {j x : Nat} (hd : decode cc pc = .ok (.putfield j, 3)) (hF : sd_FP own nm j x) : sd_Ok mi own nm cc nL ret bp (.putfield x) pc (pc + 3) := by
  refine ok_nx (fun L st w x h => ?_) ?_
  · simp only [am_ins, am_nx] at h
    (repeat' split at h) <;> cases h
  · intro G p l e R s m args below meth c n0 z0 Q X hnm hR L st w hn0 hz0 L' st' w' hi hroom k
    simp only [am_ins, am_nx] at hi
    split at hi
    · split at hi
      · rename_i v a r hc
        cases hi
        obtain ⟨h16, hok, hfit⟩ := hc
        cases hx : w.1 a with
        | none => rw [hx] at hok; cases hok
        | some y =>
          cases y with
          | inl y => rw [hx] at hok; cases hok
          | inr o =>
            obtain ⟨ci, f⟩ := o
            rw [hx] at hok
            obtain ⟨C, T, N, ref, name, desc, ty, ty0, h1, h2, h3, h4, h5, h6, h7, h8, h9, h10, h11⟩ := hF ci hok
            have h12 : ci ≠ 12 := by intro q; subst q; simp [classes] at h1
            rw [am_put_s hx] at k
            exact sd_putf ty0 X h2 h3 h4 h1 h5 h6 h7 h8 (by rw [hnm]; exact h9) hd hx h12 h10 hfit h11 k
      · cases hi
    · cases hi
/-- a branch -/
theorem ok_bx {i : Instr} {pc' : Nat} (h1 : ∀ L st w x, am_ins vt_f i L st w = some (.inr (.inr x)) → False)
    (h2 : ∀ (G : sd_G) (p : Program) (l : Launch) (e : Env) (R : Room) (s : State) (m : MethodId) (args : Array Value) (below : List Frame) (meth : Method) (c : Code) (n0 z0 : Nat) (Q : State → Prop), sd_C G p s m args c cc nL own → ∀ (L st : List Value) (w : am_W),
      (∀ L' st' w', am_ins vt_f i L st w = some (.inl (L', st', w')) → sd_W G p l e R s m args below meth c nL n0 z0 Q L' st' w' pc' → sd_W G p l e R s m args below meth c nL n0 z0 Q L st w pc) ∧
      (∀ b L' st', am_ins vt_f i L st w = some (.inr (.inl (b, L', st'))) → sd_W G p l e R s m args below meth c nL n0 z0 Q L' st' w (bp b) → sd_W G p l e R s m args below meth c nL n0 z0 Q L st w pc)) : sd_Ok mi own nm cc nL ret bp i pc pc' := by
  intro G p l e R s m args below meth c n0 z0 Q X hnm hR L st w hn0 hz0
  obtain ⟨g1, g2⟩ := h2 G p l e R s m args below meth c n0 z0 Q X L st w
  exact ⟨fun L' st' w' hi _ k => g1 L' st' w' hi k, g2, fun z as st' h => (h1 _ _ _ _ h).elim, fun v h => (h1 _ _ _ _ h).elim⟩
theorem ok_if {cnd : Jvm.ClassFile.Cond} {off b : Int} (hd : decode cc pc = .ok (.ifCond cnd off, 3)) (ht : (pc : Int) + off = (bp b : Int)) : sd_Ok mi own nm cc nL ret bp (.ifCond cnd b) pc (pc + 3) := by
  refine ok_bx (fun L st w x h => ?_) ?_
  · simp only [am_ins, am_br, am_jp, am_nx] at h
    (repeat' split at h) <;> cases h
  · intro G p l e R s m args below meth c n0 z0 Q X L st w
    constructor
    · intro L' st' w' hi k
      simp only [am_ins, am_br, am_jp, am_nx] at hi
      split at hi
      · rename_i x r
        split at hi
        · cases hi
        · rename_i hc
          cases hi
          have hc' : am_c cnd x 0 = false := by simpa using hc
          cases cnd
          · exact r_ifeq X hd ht (fun h => by rw [hc'] at h; cases h) (fun _ => k)
          · exact r_ifne X hd ht (fun h => by rw [hc'] at h; cases h) (fun _ => k)
          · exact r_iflt X hd ht (fun h => by rw [hc'] at h; cases h) (fun _ => k)
          · exact r_ifge X hd ht (fun h => by rw [hc'] at h; cases h) (fun _ => k)
          · exact r_ifgt X hd ht (fun h => by rw [hc'] at h; cases h) (fun _ => k)
          · exact r_ifle X hd ht (fun h => by rw [hc'] at h; cases h) (fun _ => k)
      · cases hi
    · intro b' L' st' hi k
      simp only [am_ins, am_br, am_jp, am_nx] at hi
      split at hi
      · rename_i x r
        split at hi
        · rename_i hc
          cases hi
          cases cnd
          · exact r_ifeq X hd ht (fun _ => k) (fun h => by rw [hc] at h; cases h)
          · exact r_ifne X hd ht (fun _ => k) (fun h => by rw [hc] at h; cases h)
          · exact r_iflt X hd ht (fun _ => k) (fun h => by rw [hc] at h; cases h)
          · exact r_ifge X hd ht (fun _ => k) (fun h => by rw [hc] at h; cases h)
          · exact r_ifgt X hd ht (fun _ => k) (fun h => by rw [hc] at h; cases h)
          · exact r_ifle X hd ht (fun _ => k) (fun h => by rw [hc] at h; cases h)
        · cases hi
      · cases hi
theorem ok_icmp {cnd : Jvm.ClassFile.Cond} {off b : Int} (hd : decode cc pc = .ok (.if_icmp cnd off, 3)) (ht : (pc : Int) + off = (bp b : Int)) : sd_Ok mi own nm cc nL ret bp (.if_icmp cnd b) pc (pc + 3) := by
  refine ok_bx (fun L st w x h => ?_) ?_
  · simp only [am_ins, am_br, am_jp, am_nx] at h
    (repeat' split at h) <;> cases h
  · intro G p l e R s m args below meth c n0 z0 Q X L st w
    constructor
    · intro L' st' w' hi k
      simp only [am_ins, am_br, am_jp, am_nx] at hi
      split at hi
      · rename_i y x r
        split at hi
        · cases hi
        · rename_i hc
          cases hi
          have hc' : am_c cnd x y = false := by simpa using hc
          cases cnd
          · exact r_icmpeq X hd ht (fun h => by rw [hc'] at h; cases h) (fun _ => k)
          · exact r_icmpne X hd ht (fun h => by rw [hc'] at h; cases h) (fun _ => k)
          · exact r_icmplt X hd ht (fun h => by rw [hc'] at h; cases h) (fun _ => k)
          · exact r_icmpge X hd ht (fun h => by rw [hc'] at h; cases h) (fun _ => k)
          · exact r_icmpgt X hd ht (fun h => by rw [hc'] at h; cases h) (fun _ => k)
          · exact r_icmple X hd ht (fun h => by rw [hc'] at h; cases h) (fun _ => k)
      · cases hi
    · intro b' L' st' hi k
      simp only [am_ins, am_br, am_jp, am_nx] at hi
      split at hi
      · rename_i y x r
        split at hi
        · rename_i hc
          cases hi
          cases cnd
          · exact r_icmpeq X hd ht (fun _ => k) (fun h => by rw [hc] at h; cases h)
          · exact r_icmpne X hd ht (fun _ => k) (fun h => by rw [hc] at h; cases h)
          · exact r_icmplt X hd ht (fun _ => k) (fun h => by rw [hc] at h; cases h)
          · exact r_icmpge X hd ht (fun _ => k) (fun h => by rw [hc] at h; cases h)
          · exact r_icmpgt X hd ht (fun _ => k) (fun h => by rw [hc] at h; cases h)
          · exact r_icmple X hd ht (fun _ => k) (fun h => by rw [hc] at h; cases h)
        · cases hi
      · cases hi
theorem ok_acmp {cnd : Jvm.ClassFile.ACond} {off b : Int} (hd : decode cc pc = .ok (.if_acmp cnd off, 3)) (ht : (pc : Int) + off = (bp b : Int)) : sd_Ok mi own nm cc nL ret bp (.if_acmp cnd b) pc (pc + 3) := by
  refine ok_bx (fun L st w x h => ?_) ?_
  · simp only [am_ins, am_br, am_jp, am_nx] at h
    (repeat' split at h) <;> cases h
  · intro G p l e R s m args below meth c n0 z0 Q X L st w
    constructor
    · intro L' st' w' hi k
      cases cnd
      · simp only [am_ins, am_br, am_jp, am_nx] at hi
        split at hi
        · split at hi
          · rename_i q hq
            split at hi
            · cases hi
            · rename_i hc
              cases hi
              exact r_acmpeq X hq hd ht (fun h => absurd h hc) (fun _ => k)
          · cases hi
        · cases hi
      · simp only [am_ins, am_br, am_jp, am_nx] at hi
        split at hi
        · split at hi
          · rename_i q hq
            split at hi
            · cases hi
            · rename_i hc
              cases hi
              exact r_acmpne X hq hd ht (fun h => absurd (by rw [h]; rfl) hc) (fun _ => k)
          · cases hi
        · cases hi
    · intro b' L' st' hi k
      cases cnd
      · simp only [am_ins, am_br, am_jp, am_nx] at hi
        split at hi
        · split at hi
          · rename_i q hq
            split at hi
            · rename_i hc
              cases hi
              exact r_acmpeq X hq hd ht (fun _ => k) (fun h => by rw [hc] at h; cases h)
            · cases hi
          · cases hi
        · cases hi
      · simp only [am_ins, am_br, am_jp, am_nx] at hi
        split at hi
        · split at hi
          · rename_i q hq
            split at hi
            · rename_i hc
              cases hi
              exact r_acmpne X hq hd ht (fun _ => k) (fun h => by rw [h] at hc; cases hc)
            · cases hi
          · cases hi
        · cases hi
theorem am_same_null {x : Value} {q : Bool} (h : am_same x .null = some q) : (x = .null ∧ q = true) ∨ ∃ a, x = .ref a ∧ a ≠ 14 ∧ q = false := by
  cases x with
  | ref a =>
    simp only [am_same] at h
    split at h
    · cases h
    · rename_i hn
      cases h
      exact Or.inr ⟨a, rfl, hn, rfl⟩
  | null => simp only [am_same, Option.some.injEq] at h; exact Or.inl ⟨rfl, h.symm⟩
  | _ => simp [am_same] at h
theorem ok_ifnull {off b : Int} (hd : decode cc pc = .ok (.ifnull off, 3)) (ht : (pc : Int) + off = (bp b : Int)) : sd_Ok mi own nm cc nL ret bp (.ifnull b) pc (pc + 3) := by
  refine ok_bx (fun L st w x h => ?_) ?_
  · simp only [am_ins, am_br, am_jp, am_nx] at h
    (repeat' split at h) <;> cases h
  · intro G p l e R s m args below meth c n0 z0 Q X L st w
    constructor
    · intro L' st' w' hi k
      simp only [am_ins, am_br, am_jp, am_nx] at hi
      split at hi
      · split at hi
        · rename_i q hq
          rcases am_same_null hq with ⟨rfl, rfl⟩ | ⟨a, rfl, h14, rfl⟩
          · cases hi
          · cases hi
            exact r_ifnullR X h14 hd k
        · cases hi
      · cases hi
    · intro b' L' st' hi k
      simp only [am_ins, am_br, am_jp, am_nx] at hi
      split at hi
      · split at hi
        · rename_i q hq
          rcases am_same_null hq with ⟨rfl, rfl⟩ | ⟨a, rfl, h14, rfl⟩
          · cases hi
            exact r_ifnullN X hd ht k
          · cases hi
        · cases hi
      · cases hi
theorem ok_ifnn {off b : Int} (hd : decode cc pc = .ok (.ifnonnull off, 3)) (ht : (pc : Int) + off = (bp b : Int)) : sd_Ok mi own nm cc nL ret bp (.ifnonnull b) pc (pc + 3) := by
  refine ok_bx (fun L st w x h => ?_) ?_
  · simp only [am_ins, am_br, am_jp, am_nx] at h
    (repeat' split at h) <;> cases h
  · intro G p l e R s m args below meth c n0 z0 Q X L st w
    constructor
    · intro L' st' w' hi k
      simp only [am_ins, am_br, am_jp, am_nx] at hi
      split at hi
      · split at hi
        · rename_i q hq
          rcases am_same_null hq with ⟨rfl, rfl⟩ | ⟨a, rfl, h14, rfl⟩
          · cases hi
            exact r_ifnnN X hd k
          · cases hi
        · cases hi
      · cases hi
    · intro b' L' st' hi k
      simp only [am_ins, am_br, am_jp, am_nx] at hi
      split at hi
      · split at hi
        · rename_i q hq
          rcases am_same_null hq with ⟨rfl, rfl⟩ | ⟨a, rfl, h14, rfl⟩
          · cases hi
          · cases hi
            exact r_ifnnR X h14 hd ht k
        · cases hi
      · cases hi
theorem ok_goto {off b : Int} {pc' : Nat} (hd : decode cc pc = .ok (.goto off, 3)) (ht : (pc : Int) + off = (bp b : Int)) : sd_Ok mi own nm cc nL ret bp (.goto b) pc pc' := by
  refine ok_bx (fun L st w x h => by cases h) ?_
  intro G p l e R s m args below meth c n0 z0 Q X L st w
  refine ⟨fun L' st' w' hi => (by cases hi), fun b' L' st' hi k => ?_⟩
  cases hi
  exact r_goto X hd ht k
/-- falling into the next block -/
theorem ok_fall {b : Int} {pc' : Nat} (ht : pc = bp b) : sd_Ok mi own nm cc nL ret bp (.goto_w b) pc pc' := by
  refine ok_bx (fun L st w x h => by cases h) ?_
  intro G p l e R s m args below meth c n0 z0 Q X L st w
  refine ⟨fun L' st' w' hi => (by cases hi), fun b' L' st' hi k => ?_⟩
  cases hi
  rw [ht]
  exact k
end SDY
