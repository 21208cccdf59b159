/-! SOUNDNESS, ninth part: an abstract instruction is simulated at its place. -/
def sd_RetOk (cc : ByteArray) (ret : Option FieldType) (i : Instr) (pc : Nat) : Prop :=
  (i = .ret 0 ∧ ret = some .int ∧ decode cc pc = .ok (.ireturn, 1)) ∨ (i = .ret 1 ∧ ret = some .boolean ∧ decode cc pc = .ok (.ireturn, 1)) ∨ (i = .ret 4 ∧ ret = some .char ∧ decode cc pc = .ok (.ireturn, 1)) ∨ (i = .ret 2 ∧ ((∃ n, ret = some (.object n)) ∨ ∃ t, ret = some (.array t)) ∧ decode cc pc = .ok (.areturn, 1)) ∨ (i = .lreturn ∧ ret = some .long ∧ decode cc pc = .ok (.lreturn, 1)) ∨ (i = .return_ ∧ ret = none ∧ decode cc pc = .ok (.return_, 1))
section MI
variable (mi : List (MethodName × ByteArray × Nat × Option FieldType))
def sd_MetZ (G : sd_G) (l : Launch) (d z : Nat) (as : List Value) (w : am_W) (r : Option Value) (w1 : am_W) : Prop := ∃ y b mL ret, mi[z]? = some (y, b, mL, ret) ∧ sd_Met G l d y b mL ret as w r w1
def sd_Ok (own nm : String) (cc : ByteArray) (nL : Nat) (ret : Option FieldType) (bp : Int → Nat) (i : Instr) (pc pc' : Nat) : Prop :=
  ∀ (G : sd_G) (p : Program) (l : Launch) (e : Env) (R : Room) (s : State) (m : MethodId) (args : Array Value) (below : List Frame) (meth : Method) (c : Code) (n0 z0 : Nat) (Q : State → Prop), sd_C G p s m args c cc nL own → meth.name = nm → (1 ≤ R.frames ∧ 64 ≤ R.locals) →
    ∀ (L st : List Value) (w : am_W), n0 ≤ w.2.1 → z0 ≤ w.2.2 →
    (∀ L' st' w', am_ins vt_f i L st w = some (.inl (L', st', w')) → (w'.2.1 - n0 ≤ R.cells ∧ w'.2.2 - z0 ≤ R.slots) → sd_W G p l e R s m args below meth c nL n0 z0 Q L' st' w' pc' → sd_W G p l e R s m args below meth c nL n0 z0 Q L st w pc) ∧
    (∀ b L' st', am_ins vt_f i L st w = some (.inr (.inl (b, L', st'))) → sd_W G p l e R s m args below meth c nL n0 z0 Q L' st' w (bp b) → sd_W G p l e R s m args below meth c nL n0 z0 Q L st w pc) ∧
    (∀ z as st', am_ins vt_f i L st w = some (.inr (.inr (.inl (z, as, st')))) → ∀ d r w1, sd_MetZ mi G l d z as w r w1 → (d + 2 ≤ R.frames ∧ 64 * (d + 2) ≤ R.locals ∧ w1.2.1 - n0 ≤ R.cells ∧ w1.2.2 - z0 ≤ R.slots) → w.2.1 ≤ w1.2.1 → w.2.2 ≤ w1.2.2 → sd_W G p l e R s m args below meth c nL n0 z0 Q L (r.toList ++ st') w1 pc' → sd_W G p l e R s m args below meth c nL n0 z0 Q L st w pc) ∧
    (∀ v, am_ins vt_f i L st w = some (.inr (.inr (.inr v))) → sd_RetOk cc ret i pc)
end MI
section SDX
variable {mi : List (MethodName × ByteArray × Nat × Option FieldType)} {own nm : String} {cc : ByteArray} {nL : Nat} {ret : Option FieldType} {bp : Int → Nat} {pc : Nat}
/-- an instruction that only goes on -/
theorem ok_nx {i : Instr} {pc' : Nat} (h1 : ∀ L st w x, am_ins vt_f i L st w = some (.inr x) → False)
    (h2 : ∀ (G : sd_G) (p : Program) (l : Launch) (e : Env) (R : Room) (s : State) (m : MethodId) (args : Array Value) (below : List Frame) (meth : Method) (c : Code) (n0 z0 : Nat) (Q : State → Prop), sd_C G p s m args c cc nL own → meth.name = nm → (1 ≤ R.frames ∧ 64 ≤ R.locals) → ∀ (L st : List Value) (w : am_W), n0 ≤ w.2.1 → z0 ≤ w.2.2 → ∀ L' st' w', am_ins vt_f i L st w = some (.inl (L', st', w')) → (w'.2.1 - n0 ≤ R.cells ∧ w'.2.2 - z0 ≤ R.slots) → sd_W G p l e R s m args below meth c nL n0 z0 Q L' st' w' pc' → sd_W G p l e R s m args below meth c nL n0 z0 Q L st w pc) : sd_Ok mi own nm cc nL ret bp i pc pc' := by
  intro G p l e R s m args below meth c n0 z0 Q X hnm hR L st w hn0 hz0
  exact ⟨h2 G p l e R s m args below meth c n0 z0 Q X hnm hR L st w hn0 hz0, fun b L' st' h => (h1 _ _ _ _ h).elim, fun z as st' h => (h1 _ _ _ _ h).elim, fun v h => (h1 _ _ _ _ h).elim⟩
theorem ok_iconst {n : Int} (hd : decode cc pc = .ok (.iconst n, 1)) : sd_Ok mi own nm cc nL ret bp (.iconst n) pc (pc + 1) := by
  refine ok_nx (fun L st w x h => ?_) ?_
  · simp only [am_ins, am_nx] at h
    (repeat' split at h) <;> cases h
  · intro G p l e R s m args below meth c n0 z0 Q X hnm hR L st w hn0 hz0 L' st' w' hi hroom k
    simp only [am_ins, am_nx] at hi
    cases hi
    exact r_iconst X hd rfl k
theorem ok_bipush {n n2 : Int} (hd : decode cc pc = .ok (.bipush n2, 2)) (hv : (Int8.ofInt n2).toInt32 = Int32.ofInt n) : sd_Ok mi own nm cc nL ret bp (.iconst n) pc (pc + 2) := by
  refine ok_nx (fun L st w x h => ?_) ?_
  · simp only [am_ins, am_nx] at h
    (repeat' split at h) <;> cases h
  · intro G p l e R s m args below meth c n0 z0 Q X hnm hR L st w hn0 hz0 L' st' w' hi hroom k
    simp only [am_ins, am_nx] at hi
    cases hi
    exact r_bipush X hd hv k
theorem ok_sipush {n n2 : Int} (hd : decode cc pc = .ok (.sipush n2, 3)) (hv : (Int16.ofInt n2).toInt32 = Int32.ofInt n) : sd_Ok mi own nm cc nL ret bp (.iconst n) pc (pc + 3) := by
  refine ok_nx (fun L st w x h => ?_) ?_
  · simp only [am_ins, am_nx] at h
    (repeat' split at h) <;> cases h
  · intro G p l e R s m args below meth c n0 z0 Q X hnm hR L st w hn0 hz0 L' st' w' hi hroom k
    simp only [am_ins, am_nx] at hi
    cases hi
    exact r_sipush X hd hv k
theorem ok_ldc {n : Int} {v : Int32} {j : Nat} (hd : decode cc pc = .ok (.ldc j, 2)) (hc : Cond.constant own j v ∈ gws) (hv : v = Int32.ofInt n) : sd_Ok mi own nm cc nL ret bp (.iconst n) pc (pc + 2) := by
  refine ok_nx (fun L st w x h => ?_) ?_
  · simp only [am_ins, am_nx] at h
    (repeat' split at h) <;> cases h
  · intro G p l e R s m args below meth c n0 z0 Q X hnm hR L st w hn0 hz0 L' st' w' hi hroom k
    simp only [am_ins, am_nx] at hi
    cases hi
    subst hv
    exact r_ldc X hc hd k
theorem ok_ldcw {n : Int} {v : Int32} {j : Nat} (hd : decode cc pc = .ok (.ldc_w j, 3)) (hc : Cond.constant own j v ∈ gws) (hv : v = Int32.ofInt n) : sd_Ok mi own nm cc nL ret bp (.iconst n) pc (pc + 3) := by
  refine ok_nx (fun L st w x h => ?_) ?_
  · simp only [am_ins, am_nx] at h
    (repeat' split at h) <;> cases h
  · intro G p l e R s m args below meth c n0 z0 Q X hnm hR L st w hn0 hz0 L' st' w' hi hroom k
    simp only [am_ins, am_nx] at hi
    cases hi
    subst hv
    exact r_ldcw X hc hd k
theorem ok_getsC {j : Nat} (hd : decode cc pc = .ok (.getstatic j, 3)) (hlk : Cond.fieldLink own j "java/lang/String" "COMPACT_STRINGS" "Z" ∈ gws) : sd_Ok mi own nm cc nL ret bp (.iconst 1) pc (pc + 3) := by
  refine ok_nx (fun L st w x h => ?_) ?_
  · simp only [am_ins, am_nx] at h
    (repeat' split at h) <;> cases h
  · intro G p l e R s m args below meth c n0 z0 Q X hnm hR L st w hn0 hz0 L' st' w' hi hroom k
    simp only [am_ins, am_nx] at hi
    cases hi
    exact sd_getsC X hlk hd k
theorem ok_lconst {n : Int} {q : Fin 2} (hd : decode cc pc = .ok (.lconst q, 1)) (hv : Int64.ofNat (q : Nat) = Int64.ofInt n) : sd_Ok mi own nm cc nL ret bp (.jsr_w n) pc (pc + 1) := by
  refine ok_nx (fun L st w x h => ?_) ?_
  · simp only [am_ins, am_nx] at h
    (repeat' split at h) <;> cases h
  · intro G p l e R s m args below meth c n0 z0 Q X hnm hR L st w hn0 hz0 L' st' w' hi hroom k
    simp only [am_ins, am_nx] at hi
    cases hi
    exact r_lconst X hd hv k
theorem ok_ldc2 {n : Int} {v : Int64} {j : Nat} (hd : decode cc pc = .ok (.ldc2_w j, 3)) (hc : Cond.constantLong own j v ∈ gws) (hv : v = Int64.ofInt n) : sd_Ok mi own nm cc nL ret bp (.jsr_w n) pc (pc + 3) := by
  refine ok_nx (fun L st w x h => ?_) ?_
  · simp only [am_ins, am_nx] at h
    (repeat' split at h) <;> cases h
  · intro G p l e R s m args below meth c n0 z0 Q X hnm hR L st w hn0 hz0 L' st' w' hi hroom k
    simp only [am_ins, am_nx] at hi
    cases hi
    subst hv
    exact r_ldc2 X hc hd k
theorem ok_null (hd : decode cc pc = .ok (.aconst_null, 1)) : sd_Ok mi own nm cc nL ret bp .aconst_null pc (pc + 1) := by
  refine ok_nx (fun L st w x h => ?_) ?_
  · simp only [am_ins, am_nx] at h
    (repeat' split at h) <;> cases h
  · intro G p l e R s m args below meth c n0 z0 Q X hnm hR L st w hn0 hz0 L' st' w' hi hroom k
    simp only [am_ins, am_nx] at hi
    cases hi
    exact r_null X hd k
theorem ok_iload_n {q : Fin 4} {i : Nat} (hd : decode cc pc = .ok (.iload_n q, 1)) (hi0 : (q : Nat) = i) : sd_Ok mi own nm cc nL ret bp (.iload i) pc (pc + 1) := by
  refine ok_nx (fun L st w x h => ?_) ?_
  · simp only [am_ins, am_nx, am_ld] at h
    (repeat' split at h) <;> cases h
  · intro G p l e R s m args below meth c n0 z0 Q X hnm hR L st w hn0 hz0 L' st' w' hi hroom k
    simp only [am_ins, am_nx, am_ld] at hi
    split at hi
    · rename_i hok
      cases hi
      cases hv : L.getD i am_J with
      | int x => rw [hv] at k; exact r_iload_n X hd hi0 hv k
      | _ => rw [hv] at hok; simp [am_isI] at hok
    · cases hi
theorem ok_iload {i : Nat} (hd : decode cc pc = .ok (.iload i, 2)) : sd_Ok mi own nm cc nL ret bp (.iload i) pc (pc + 2) := by
  refine ok_nx (fun L st w x h => ?_) ?_
  · simp only [am_ins, am_nx, am_ld] at h
    (repeat' split at h) <;> cases h
  · intro G p l e R s m args below meth c n0 z0 Q X hnm hR L st w hn0 hz0 L' st' w' hi hroom k
    simp only [am_ins, am_nx, am_ld] at hi
    split at hi
    · rename_i hok
      cases hi
      cases hv : L.getD i am_J with
      | int x => rw [hv] at k; exact r_iload X hd hv k
      | _ => rw [hv] at hok; simp [am_isI] at hok
    · cases hi
theorem ok_lload_n {q : Fin 4} {i : Nat} (hd : decode cc pc = .ok (.lload_n q, 1)) (hi0 : (q : Nat) = i) : sd_Ok mi own nm cc nL ret bp (.lload i) pc (pc + 1) := by
  refine ok_nx (fun L st w x h => ?_) ?_
  · simp only [am_ins, am_nx, am_ld] at h
    (repeat' split at h) <;> cases h
  · intro G p l e R s m args below meth c n0 z0 Q X hnm hR L st w hn0 hz0 L' st' w' hi hroom k
    simp only [am_ins, am_nx, am_ld] at hi
    split at hi
    · rename_i hok
      cases hi
      cases hv : L.getD i am_J with
      | long x => rw [hv] at k; exact r_lload_n X hd hi0 hv k
      | _ => rw [hv] at hok; simp [am_isL] at hok
    · cases hi
theorem ok_lload {i : Nat} (hd : decode cc pc = .ok (.lload i, 2)) : sd_Ok mi own nm cc nL ret bp (.lload i) pc (pc + 2) := by
  refine ok_nx (fun L st w x h => ?_) ?_
  · simp only [am_ins, am_nx, am_ld] at h
    (repeat' split at h) <;> cases h
  · intro G p l e R s m args below meth c n0 z0 Q X hnm hR L st w hn0 hz0 L' st' w' hi hroom k
    simp only [am_ins, am_nx, am_ld] at hi
    split at hi
    · rename_i hok
      cases hi
      cases hv : L.getD i am_J with
      | long x => rw [hv] at k; exact r_lload X hd hv k
      | _ => rw [hv] at hok; simp [am_isL] at hok
    · cases hi
theorem ok_aload_n {q : Fin 4} {i : Nat} (hd : decode cc pc = .ok (.aload_n q, 1)) (hi0 : (q : Nat) = i) : sd_Ok mi own nm cc nL ret bp (.aload i) pc (pc + 1) := by
  refine ok_nx (fun L st w x h => ?_) ?_
  · simp only [am_ins, am_nx, am_ld] at h
    (repeat' split at h) <;> cases h
  · intro G p l e R s m args below meth c n0 z0 Q X hnm hR L st w hn0 hz0 L' st' w' hi hroom k
    simp only [am_ins, am_nx, am_ld] at hi
    split at hi
    · rename_i hok
      cases hi
      exact r_aload_n X hd hi0 rfl hok k
    · cases hi
theorem ok_aload {i : Nat} (hd : decode cc pc = .ok (.aload i, 2)) : sd_Ok mi own nm cc nL ret bp (.aload i) pc (pc + 2) := by
  refine ok_nx (fun L st w x h => ?_) ?_
  · simp only [am_ins, am_nx, am_ld] at h
    (repeat' split at h) <;> cases h
  · intro G p l e R s m args below meth c n0 z0 Q X hnm hR L st w hn0 hz0 L' st' w' hi hroom k
    simp only [am_ins, am_nx, am_ld] at hi
    split at hi
    · rename_i hok
      cases hi
      exact r_aload X hd rfl hok k
    · cases hi
theorem ok_istore_n {q : Fin 4} {i : Nat} (hd : decode cc pc = .ok (.istore_n q, 1)) (hi0 : (q : Nat) = i) : sd_Ok mi own nm cc nL ret bp (.istore i) pc (pc + 1) := by
  refine ok_nx (fun L st w x h => ?_) ?_
  · simp only [am_ins, am_nx] at h
    (repeat' split at h) <;> cases h
  · intro G p l e R s m args below meth c n0 z0 Q X hnm hR L st w hn0 hz0 L' st' w' hi hroom k
    simp only [am_ins, am_nx] at hi
    split at hi
    · split at hi
      · rename_i hlt
        cases hi
        exact r_istore_n X hd hi0 hlt k
      · cases hi
    · cases hi
theorem ok_istore {i : Nat} (hd : decode cc pc = .ok (.istore i, 2)) : sd_Ok mi own nm cc nL ret bp (.istore i) pc (pc + 2) := by
  refine ok_nx (fun L st w x h => ?_) ?_
  · simp only [am_ins, am_nx] at h
    (repeat' split at h) <;> cases h
  · intro G p l e R s m args below meth c n0 z0 Q X hnm hR L st w hn0 hz0 L' st' w' hi hroom k
    simp only [am_ins, am_nx] at hi
    split at hi
    · split at hi
      · rename_i hlt
        cases hi
        exact r_istore X hd hlt k
      · cases hi
    · cases hi
theorem ok_lstore_n {q : Fin 4} {i : Nat} (hd : decode cc pc = .ok (.lstore_n q, 1)) (hi0 : (q : Nat) = i) : sd_Ok mi own nm cc nL ret bp (.lstore i) pc (pc + 1) := by
  refine ok_nx (fun L st w x h => ?_) ?_
  · simp only [am_ins, am_nx] at h
    (repeat' split at h) <;> cases h
  · intro G p l e R s m args below meth c n0 z0 Q X hnm hR L st w hn0 hz0 L' st' w' hi hroom k
    simp only [am_ins, am_nx] at hi
    split at hi
    · split at hi
      · rename_i hlt
        cases hi
        exact r_lstore_n X hd hi0 hlt k
      · cases hi
    · cases hi
theorem ok_lstore {i : Nat} (hd : decode cc pc = .ok (.lstore i, 2)) : sd_Ok mi own nm cc nL ret bp (.lstore i) pc (pc + 2) := by
  refine ok_nx (fun L st w x h => ?_) ?_
  · simp only [am_ins, am_nx] at h
    (repeat' split at h) <;> cases h
  · intro G p l e R s m args below meth c n0 z0 Q X hnm hR L st w hn0 hz0 L' st' w' hi hroom k
    simp only [am_ins, am_nx] at hi
    split at hi
    · split at hi
      · rename_i hlt
        cases hi
        exact r_lstore X hd hlt k
      · cases hi
    · cases hi
theorem ok_astore_n {q : Fin 4} {i : Nat} (hd : decode cc pc = .ok (.astore_n q, 1)) (hi0 : (q : Nat) = i) : sd_Ok mi own nm cc nL ret bp (.astore i) pc (pc + 1) := by
  refine ok_nx (fun L st w x h => ?_) ?_
  · simp only [am_ins, am_nx] at h
    (repeat' split at h) <;> cases h
  · intro G p l e R s m args below meth c n0 z0 Q X hnm hR L st w hn0 hz0 L' st' w' hi hroom k
    simp only [am_ins, am_nx] at hi
    split at hi
    · split at hi
      · rename_i hlt
        cases hi
        exact r_astore_n X hd hi0 hlt.1 hlt.2 k
      · cases hi
    · cases hi
theorem ok_astore {i : Nat} (hd : decode cc pc = .ok (.astore i, 2)) : sd_Ok mi own nm cc nL ret bp (.astore i) pc (pc + 2) := by
  refine ok_nx (fun L st w x h => ?_) ?_
  · simp only [am_ins, am_nx] at h
    (repeat' split at h) <;> cases h
  · intro G p l e R s m args below meth c n0 z0 Q X hnm hR L st w hn0 hz0 L' st' w' hi hroom k
    simp only [am_ins, am_nx] at hi
    split at hi
    · split at hi
      · rename_i hlt
        cases hi
        exact r_astore X hd hlt.1 hlt.2 k
      · cases hi
    · cases hi
theorem ok_iinc {i : Nat} {n : Int} (hd : decode cc pc = .ok (.iinc i n, 3)) : sd_Ok mi own nm cc nL ret bp (.iinc i n) pc (pc + 3) := by
  refine ok_nx (fun L st w x h => ?_) ?_
  · simp only [am_ins, am_nx] at h
    (repeat' split at h) <;> cases h
  · intro G p l e R s m args below meth c n0 z0 Q X hnm hR L st w hn0 hz0 L' st' w' hi hroom k
    simp only [am_ins, am_nx] at hi
    split at hi
    · rename_i x hv
      split at hi
      · rename_i hlt
        cases hi
        exact r_iinc X hd hv hlt k
      · cases hi
    · cases hi
theorem ok_iadd (hd : decode cc pc = .ok (.iadd, 1)) : sd_Ok mi own nm cc nL ret bp .iadd pc (pc + 1) := by
  refine ok_nx (fun L st w x h => ?_) ?_
  · simp only [am_ins, am_nx, am_i2] at h
    (repeat' split at h) <;> cases h
  · intro G p l e R s m args below meth c n0 z0 Q X hnm hR L st w hn0 hz0 L' st' w' hi hroom k
    simp only [am_ins, am_nx, am_i2] at hi
    split at hi
    · cases hi
      exact r_iadd X hd k
    · cases hi
theorem ok_isub (hd : decode cc pc = .ok (.isub, 1)) : sd_Ok mi own nm cc nL ret bp .isub pc (pc + 1) := by
  refine ok_nx (fun L st w x h => ?_) ?_
  · simp only [am_ins, am_nx, am_i2] at h
    (repeat' split at h) <;> cases h
  · intro G p l e R s m args below meth c n0 z0 Q X hnm hR L st w hn0 hz0 L' st' w' hi hroom k
    simp only [am_ins, am_nx, am_i2] at hi
    split at hi
    · cases hi
      exact r_isub X hd k
    · cases hi
theorem ok_imul (hd : decode cc pc = .ok (.imul, 1)) : sd_Ok mi own nm cc nL ret bp .imul pc (pc + 1) := by
  refine ok_nx (fun L st w x h => ?_) ?_
  · simp only [am_ins, am_nx, am_i2] at h
    (repeat' split at h) <;> cases h
  · intro G p l e R s m args below meth c n0 z0 Q X hnm hR L st w hn0 hz0 L' st' w' hi hroom k
    simp only [am_ins, am_nx, am_i2] at hi
    split at hi
    · cases hi
      exact r_imul X hd k
    · cases hi
theorem ok_iand (hd : decode cc pc = .ok (.iand, 1)) : sd_Ok mi own nm cc nL ret bp .iand pc (pc + 1) := by
  refine ok_nx (fun L st w x h => ?_) ?_
  · simp only [am_ins, am_nx, am_i2] at h
    (repeat' split at h) <;> cases h
  · intro G p l e R s m args below meth c n0 z0 Q X hnm hR L st w hn0 hz0 L' st' w' hi hroom k
    simp only [am_ins, am_nx, am_i2] at hi
    split at hi
    · cases hi
      exact r_iand X hd k
    · cases hi
theorem ok_ior (hd : decode cc pc = .ok (.ior, 1)) : sd_Ok mi own nm cc nL ret bp .ior pc (pc + 1) := by
  refine ok_nx (fun L st w x h => ?_) ?_
  · simp only [am_ins, am_nx, am_i2] at h
    (repeat' split at h) <;> cases h
  · intro G p l e R s m args below meth c n0 z0 Q X hnm hR L st w hn0 hz0 L' st' w' hi hroom k
    simp only [am_ins, am_nx, am_i2] at hi
    split at hi
    · cases hi
      exact r_ior X hd k
    · cases hi
theorem ok_ishl (hd : decode cc pc = .ok (.ishl, 1)) : sd_Ok mi own nm cc nL ret bp .ishl pc (pc + 1) := by
  refine ok_nx (fun L st w x h => ?_) ?_
  · simp only [am_ins, am_nx, am_i2] at h
    (repeat' split at h) <;> cases h
  · intro G p l e R s m args below meth c n0 z0 Q X hnm hR L st w hn0 hz0 L' st' w' hi hroom k
    simp only [am_ins, am_nx, am_i2] at hi
    split at hi
    · cases hi
      exact r_ishl X hd k
    · cases hi
theorem ok_ishr (hd : decode cc pc = .ok (.ishr, 1)) : sd_Ok mi own nm cc nL ret bp .ishr pc (pc + 1) := by
  refine ok_nx (fun L st w x h => ?_) ?_
  · simp only [am_ins, am_nx, am_i2] at h
    (repeat' split at h) <;> cases h
  · intro G p l e R s m args below meth c n0 z0 Q X hnm hR L st w hn0 hz0 L' st' w' hi hroom k
    simp only [am_ins, am_nx, am_i2] at hi
    split at hi
    · cases hi
      exact r_ishr X hd k
    · cases hi
theorem ok_iushr (hd : decode cc pc = .ok (.iushr, 1)) : sd_Ok mi own nm cc nL ret bp .iushr pc (pc + 1) := by
  refine ok_nx (fun L st w x h => ?_) ?_
  · simp only [am_ins, am_nx, am_i2] at h
    (repeat' split at h) <;> cases h
  · intro G p l e R s m args below meth c n0 z0 Q X hnm hR L st w hn0 hz0 L' st' w' hi hroom k
    simp only [am_ins, am_nx, am_i2] at hi
    split at hi
    · cases hi
      exact r_iushr X hd k
    · cases hi
theorem ok_ineg (hd : decode cc pc = .ok (.ineg, 1)) : sd_Ok mi own nm cc nL ret bp .ineg pc (pc + 1) := by
  refine ok_nx (fun L st w x h => ?_) ?_
  · simp only [am_ins, am_nx, am_i1] at h
    (repeat' split at h) <;> cases h
  · intro G p l e R s m args below meth c n0 z0 Q X hnm hR L st w hn0 hz0 L' st' w' hi hroom k
    simp only [am_ins, am_nx, am_i1] at hi
    split at hi
    · cases hi
      exact r_ineg X hd k
    · cases hi
theorem ok_i2l (hd : decode cc pc = .ok (.i2l, 1)) : sd_Ok mi own nm cc nL ret bp .i2l pc (pc + 1) := by
  refine ok_nx (fun L st w x h => ?_) ?_
  · simp only [am_ins, am_nx, am_i1] at h
    (repeat' split at h) <;> cases h
  · intro G p l e R s m args below meth c n0 z0 Q X hnm hR L st w hn0 hz0 L' st' w' hi hroom k
    simp only [am_ins, am_nx, am_i1] at hi
    split at hi
    · cases hi
      exact r_i2l X hd k
    · cases hi
theorem ok_i2c (hd : decode cc pc = .ok (.i2c, 1)) : sd_Ok mi own nm cc nL ret bp .i2c pc (pc + 1) := by
  refine ok_nx (fun L st w x h => ?_) ?_
  · simp only [am_ins, am_nx, am_i1] at h
    (repeat' split at h) <;> cases h
  · intro G p l e R s m args below meth c n0 z0 Q X hnm hR L st w hn0 hz0 L' st' w' hi hroom k
    simp only [am_ins, am_nx, am_i1] at hi
    split at hi
    · cases hi
      exact r_i2c X hd k
    · cases hi
theorem ok_i2b (hd : decode cc pc = .ok (.i2b, 1)) : sd_Ok mi own nm cc nL ret bp .i2b pc (pc + 1) := by
  refine ok_nx (fun L st w x h => ?_) ?_
  · simp only [am_ins, am_nx, am_i1] at h
    (repeat' split at h) <;> cases h
  · intro G p l e R s m args below meth c n0 z0 Q X hnm hR L st w hn0 hz0 L' st' w' hi hroom k
    simp only [am_ins, am_nx, am_i1] at hi
    split at hi
    · cases hi
      exact r_i2b X hd k
    · cases hi
theorem ok_l2i (hd : decode cc pc = .ok (.l2i, 1)) : sd_Ok mi own nm cc nL ret bp .l2i pc (pc + 1) := by
  refine ok_nx (fun L st w x h => ?_) ?_
  · simp only [am_ins, am_nx, am_l1] at h
    (repeat' split at h) <;> cases h
  · intro G p l e R s m args below meth c n0 z0 Q X hnm hR L st w hn0 hz0 L' st' w' hi hroom k
    simp only [am_ins, am_nx, am_l1] at hi
    split at hi
    · cases hi
      exact r_l2i X hd k
    · cases hi
theorem ok_lneg (hd : decode cc pc = .ok (.lneg, 1)) : sd_Ok mi own nm cc nL ret bp .lneg pc (pc + 1) := by
  refine ok_nx (fun L st w x h => ?_) ?_
  · simp only [am_ins, am_nx, am_l1] at h
    (repeat' split at h) <;> cases h
  · intro G p l e R s m args below meth c n0 z0 Q X hnm hR L st w hn0 hz0 L' st' w' hi hroom k
    simp only [am_ins, am_nx, am_l1] at hi
    split at hi
    · cases hi
      exact r_lneg X hd k
    · cases hi
theorem ok_ladd (hd : decode cc pc = .ok (.ladd, 1)) : sd_Ok mi own nm cc nL ret bp .ladd pc (pc + 1) := by
  refine ok_nx (fun L st w x h => ?_) ?_
  · simp only [am_ins, am_nx, am_l2] at h
    (repeat' split at h) <;> cases h
  · intro G p l e R s m args below meth c n0 z0 Q X hnm hR L st w hn0 hz0 L' st' w' hi hroom k
    simp only [am_ins, am_nx, am_l2] at hi
    split at hi
    · cases hi
      exact r_ladd X hd k
    · cases hi
theorem ok_lsub (hd : decode cc pc = .ok (.lsub, 1)) : sd_Ok mi own nm cc nL ret bp .lsub pc (pc + 1) := by
  refine ok_nx (fun L st w x h => ?_) ?_
  · simp only [am_ins, am_nx, am_l2] at h
    (repeat' split at h) <;> cases h
  · intro G p l e R s m args below meth c n0 z0 Q X hnm hR L st w hn0 hz0 L' st' w' hi hroom k
    simp only [am_ins, am_nx, am_l2] at hi
    split at hi
    · cases hi
      exact r_lsub X hd k
    · cases hi
theorem ok_lmul (hd : decode cc pc = .ok (.lmul, 1)) : sd_Ok mi own nm cc nL ret bp .lmul pc (pc + 1) := by
  refine ok_nx (fun L st w x h => ?_) ?_
  · simp only [am_ins, am_nx, am_l2] at h
    (repeat' split at h) <;> cases h
  · intro G p l e R s m args below meth c n0 z0 Q X hnm hR L st w hn0 hz0 L' st' w' hi hroom k
    simp only [am_ins, am_nx, am_l2] at hi
    split at hi
    · cases hi
      exact r_lmul X hd k
    · cases hi
theorem ok_lcmp (hd : decode cc pc = .ok (.lcmp, 1)) : sd_Ok mi own nm cc nL ret bp .lcmp pc (pc + 1) := by
  refine ok_nx (fun L st w x h => ?_) ?_
  · simp only [am_ins, am_nx, am_l2] at h
    (repeat' split at h) <;> cases h
  · intro G p l e R s m args below meth c n0 z0 Q X hnm hR L st w hn0 hz0 L' st' w' hi hroom k
    simp only [am_ins, am_nx, am_l2] at hi
    split at hi
    · cases hi
      exact r_lcmp X hd k
    · cases hi
theorem ok_dup (hd : decode cc pc = .ok (.dup, 1)) : sd_Ok mi own nm cc nL ret bp .dup pc (pc + 1) := by
  refine ok_nx (fun L st w x h => ?_) ?_
  · simp only [am_ins, am_nx] at h
    (repeat' split at h) <;> cases h
  · intro G p l e R s m args below meth c n0 z0 Q X hnm hR L st w hn0 hz0 L' st' w' hi hroom k
    simp only [am_ins, am_nx] at hi
    split at hi
    · split at hi
      · rename_i hc
        cases hi
        exact r_dup X hd hc k
      · cases hi
    · cases hi
theorem ok_pop (hd : decode cc pc = .ok (.pop, 1)) : sd_Ok mi own nm cc nL ret bp .pop pc (pc + 1) := by
  refine ok_nx (fun L st w x h => ?_) ?_
  · simp only [am_ins, am_nx] at h
    (repeat' split at h) <;> cases h
  · intro G p l e R s m args below meth c n0 z0 Q X hnm hR L st w hn0 hz0 L' st' w' hi hroom k
    simp only [am_ins, am_nx] at hi
    split at hi
    · split at hi
      · rename_i hc
        cases hi
        exact r_pop X hd hc k
      · cases hi
    · cases hi
theorem ok_dup_x1 (hd : decode cc pc = .ok (.dup_x1, 1)) : sd_Ok mi own nm cc nL ret bp .dup_x1 pc (pc + 1) := by
  refine ok_nx (fun L st w x h => ?_) ?_
  · simp only [am_ins, am_nx] at h
    (repeat' split at h) <;> cases h
  · intro G p l e R s m args below meth c n0 z0 Q X hnm hR L st w hn0 hz0 L' st' w' hi hroom k
    simp only [am_ins, am_nx] at hi
    split at hi
    · split at hi
      · rename_i hc
        cases hi
        exact r_dup_x1 X hd hc.1 hc.2 k
      · cases hi
    · cases hi
theorem ok_dup2 (hd : decode cc pc = .ok (.dup2, 1)) : sd_Ok mi own nm cc nL ret bp .dup2 pc (pc + 1) := by
  refine ok_nx (fun L st w x h => ?_) ?_
  · simp only [am_ins, am_nx] at h
    (repeat' split at h) <;> cases h
  · intro G p l e R s m args below meth c n0 z0 Q X hnm hR L st w hn0 hz0 L' st' w' hi hroom k
    simp only [am_ins, am_nx] at hi
    split at hi
    · split at hi
      · rename_i hc
        cases hi
        exact r_dup2 X hd hc.1 hc.2 k
      · cases hi
    · cases hi
theorem ok_iaload (hd : decode cc pc = .ok (.iaload, 1)) : sd_Ok mi own nm cc nL ret bp .iaload pc (pc + 1) := by
  refine ok_nx (fun L st w x h => ?_) ?_
  · simp only [am_ins, am_nx] at h
    (repeat' split at h) <;> cases h
  · intro G p l e R s m args below meth c n0 z0 Q X hnm hR L st w hn0 hz0 L' st' w' hi hroom k
    simp only [am_ins, am_nx] at hi
    split at hi
    · split at hi
      · rename_i hc
        cases hi
        exact sd_iaload X hc hd k
      · cases hi
    · cases hi
theorem ok_saload (hd : decode cc pc = .ok (.baload, 1)) : sd_Ok mi own nm cc nL ret bp .saload pc (pc + 1) := by
  refine ok_nx (fun L st w x h => ?_) ?_
  · simp only [am_ins, am_nx] at h
    (repeat' split at h) <;> cases h
  · intro G p l e R s m args below meth c n0 z0 Q X hnm hR L st w hn0 hz0 L' st' w' hi hroom k
    simp only [am_ins, am_nx] at hi
    split at hi
    · split at hi
      · rename_i hc
        cases hi
        exact sd_saload X hc hd k
      · cases hi
    · cases hi
theorem ok_caload (hd : decode cc pc = .ok (.caload, 1)) : sd_Ok mi own nm cc nL ret bp .caload pc (pc + 1) := by
  refine ok_nx (fun L st w x h => ?_) ?_
  · simp only [am_ins, am_nx] at h
    (repeat' split at h) <;> cases h
  · intro G p l e R s m args below meth c n0 z0 Q X hnm hR L st w hn0 hz0 L' st' w' hi hroom k
    simp only [am_ins, am_nx] at hi
    split at hi
    · split at hi
      · rename_i hc
        cases hi
        exact sd_caload X hc hd k
      · cases hi
    · cases hi
theorem ok_baload (hd : decode cc pc = .ok (.baload, 1)) : sd_Ok mi own nm cc nL ret bp .baload pc (pc + 1) := by
  refine ok_nx (fun L st w x h => ?_) ?_
  · simp only [am_ins, am_nx] at h
    (repeat' split at h) <;> cases h
  · intro G p l e R s m args below meth c n0 z0 Q X hnm hR L st w hn0 hz0 L' st' w' hi hroom k
    simp only [am_ins, am_nx] at hi
    split at hi
    · split at hi
      · rename_i hc
        cases hi
        exact sd_baload X hc hd k
      · cases hi
    · cases hi
theorem ok_laload (hd : decode cc pc = .ok (.laload, 1)) : sd_Ok mi own nm cc nL ret bp .laload pc (pc + 1) := by
  refine ok_nx (fun L st w x h => ?_) ?_
  · simp only [am_ins, am_nx] at h
    (repeat' split at h) <;> cases h
  · intro G p l e R s m args below meth c n0 z0 Q X hnm hR L st w hn0 hz0 L' st' w' hi hroom k
    simp only [am_ins, am_nx] at hi
    split at hi
    · split at hi
      · rename_i hc
        cases hi
        exact sd_laload X hc hd k
      · cases hi
    · cases hi
theorem ok_aaload (hd : decode cc pc = .ok (.aaload, 1)) : sd_Ok mi own nm cc nL ret bp .aaload pc (pc + 1) := by
  refine ok_nx (fun L st w x h => ?_) ?_
  · simp only [am_ins, am_nx] at h
    (repeat' split at h) <;> cases h
  · intro G p l e R s m args below meth c n0 z0 Q X hnm hR L st w hn0 hz0 L' st' w' hi hroom k
    simp only [am_ins, am_nx] at hi
    split at hi
    · split at hi
      · rename_i hc
        cases hi
        exact sd_aaload X hc hd k
      · cases hi
    · cases hi
theorem ok_iastore (hd : decode cc pc = .ok (.iastore, 1)) : sd_Ok mi own nm cc nL ret bp .iastore pc (pc + 1) := by
  refine ok_nx (fun L st w x h => ?_) ?_
  · simp only [am_ins, am_nx] at h
    (repeat' split at h) <;> cases h
  · intro G p l e R s m args below meth c n0 z0 Q X hnm hR L st w hn0 hz0 L' st' w' hi hroom k
    simp only [am_ins, am_nx] at hi
    split at hi
    · split at hi
      · rename_i hc
        cases hi
        exact sd_iastore X hc.1 hc.2 hd k
      · cases hi
    · cases hi
theorem ok_sastore (hd : decode cc pc = .ok (.bastore, 1)) : sd_Ok mi own nm cc nL ret bp .sastore pc (pc + 1) := by
  refine ok_nx (fun L st w x h => ?_) ?_
  · simp only [am_ins, am_nx] at h
    (repeat' split at h) <;> cases h
  · intro G p l e R s m args below meth c n0 z0 Q X hnm hR L st w hn0 hz0 L' st' w' hi hroom k
    simp only [am_ins, am_nx] at hi
    split at hi
    · split at hi
      · rename_i hc
        cases hi
        exact sd_sastore X hc.1 hc.2 hd k
      · cases hi
    · cases hi
theorem ok_castore (hd : decode cc pc = .ok (.castore, 1)) : sd_Ok mi own nm cc nL ret bp .castore pc (pc + 1) := by
  refine ok_nx (fun L st w x h => ?_) ?_
  · simp only [am_ins, am_nx] at h
    (repeat' split at h) <;> cases h
  · intro G p l e R s m args below meth c n0 z0 Q X hnm hR L st w hn0 hz0 L' st' w' hi hroom k
    simp only [am_ins, am_nx] at hi
    split at hi
    · split at hi
      · rename_i hc
        cases hi
        exact sd_castore X hc.1 hc.2 hd k
      · cases hi
    · cases hi
theorem ok_bastore (hd : decode cc pc = .ok (.bastore, 1)) : sd_Ok mi own nm cc nL ret bp .bastore pc (pc + 1) := by
  refine ok_nx (fun L st w x h => ?_) ?_
  · simp only [am_ins, am_nx] at h
    (repeat' split at h) <;> cases h
  · intro G p l e R s m args below meth c n0 z0 Q X hnm hR L st w hn0 hz0 L' st' w' hi hroom k
    simp only [am_ins, am_nx] at hi
    split at hi
    · split at hi
      · rename_i hc
        cases hi
        exact sd_bastore X hc.1 hc.2 hd k
      · cases hi
    · cases hi
theorem ok_lastore (hd : decode cc pc = .ok (.lastore, 1)) : sd_Ok mi own nm cc nL ret bp .lastore pc (pc + 1) := by
  refine ok_nx (fun L st w x h => ?_) ?_
  · simp only [am_ins, am_nx] at h
    (repeat' split at h) <;> cases h
  · intro G p l e R s m args below meth c n0 z0 Q X hnm hR L st w hn0 hz0 L' st' w' hi hroom k
    simp only [am_ins, am_nx] at hi
    split at hi
    · split at hi
      · rename_i hc
        cases hi
        exact sd_lastore X hc.1 hc.2 hd k
      · cases hi
    · cases hi
theorem ok_alen (hd : decode cc pc = .ok (.arraylength, 1)) : sd_Ok mi own nm cc nL ret bp .arraylength pc (pc + 1) := by
  refine ok_nx (fun L st w x h => ?_) ?_
  · simp only [am_ins, am_nx] at h
    (repeat' split at h) <;> cases h
  · intro G p l e R s m args below meth c n0 z0 Q X hnm hR L st w hn0 hz0 L' st' w' hi hroom k
    simp only [am_ins, am_nx] at hi
    split at hi
    · split at hi
      · rename_i hc
        cases hi
        exact sd_alen X hc hd k
      · cases hi
    · cases hi
theorem ok_aastore (hd : decode cc pc = .ok (.aastore, 1)) : sd_Ok mi own nm cc nL ret bp .aastore pc (pc + 1) := by
  refine ok_nx (fun L st w x h => ?_) ?_
  · simp only [am_ins, am_nx] at h
    (repeat' split at h) <;> cases h
  · intro G p l e R s m args below meth c n0 z0 Q X hnm hR L st w hn0 hz0 L' st' w' hi hroom k
    simp only [am_ins, am_nx] at hi
    split at hi
    · split at hi
      · rename_i hc
        cases hi
        exact sd_aastoreN X hc.1 hc.2 hd k
      · cases hi
    · split at hi
      · rename_i hc
        cases hi
        exact sd_aastoreR X hc.1 hc.2.1 hc.2.2 hd k
      · cases hi
    · cases hi
theorem ok_newa {kk : Nat} {at0 : ArrayType} (hd : decode cc pc = .ok (.newarray at0, 2)) (hk : kk < 5) (hty : newarray.typeOf at0 = sd_ty kk) (hw : Cond.arrayClass (sd_ty kk) ∈ gws) : sd_Ok mi own nm cc nL ret bp (.anewarray kk) pc (pc + 2) := by
  refine ok_nx (fun L st w x h => ?_) ?_
  · simp only [am_ins, am_nx] at h
    (repeat' split at h) <;> cases h
  · intro G p l e R s m args below meth c n0 z0 Q X hnm hR L st w hn0 hz0 L' st' w' hi hroom k
    simp only [am_ins, am_nx] at hi
    split at hi
    · split at hi
      · rename_i hc
        cases hi
        exact sd_newa X hk hty hw hc.1 hc.2 hd hn0 hz0 hroom k
      · cases hi
    · cases hi
theorem ok_newq {kk j : Nat} {Cn : String} (hd : decode cc pc = .ok (.anewarray j, 3)) (hk : kk = 5 ∨ kk = 6 ∨ kk = 7) (hty : sd_ty kk = .object Cn) (hlk : Cond.classLink own j Cn ∈ gws) : sd_Ok mi own nm cc nL ret bp (.anewarray kk) pc (pc + 3) := by
  refine ok_nx (fun L st w x h => ?_) ?_
  · simp only [am_ins, am_nx] at h
    (repeat' split at h) <;> cases h
  · intro G p l e R s m args below meth c n0 z0 Q X hnm hR L st w hn0 hz0 L' st' w' hi hroom k
    simp only [am_ins, am_nx] at hi
    split at hi
    · split at hi
      · rename_i hc
        cases hi
        exact sd_newq X hk hty hlk (by rcases hk with rfl | rfl | rfl <;> cases hty <;> first | exact X.2.2.2.2.2.2.1.2.2.2.1 | exact X.2.2.2.2.2.2.1.2.2.2.2.1 | exact X.2.2.2.2.2.2.1.2.2.2.2.2.1) hc.1 hc.2 hd hn0 hz0 hroom k
      · cases hi
    · cases hi
theorem ok_newo {ci j N : Nat} {Cn : String} {T : u_T} (hd : decode cc pc = .ok (.new j, 3)) (ty : Nat → FieldType) (hc : classes[ci]? = some (Cn, T, N)) (hin : ∀ w ∈ u_ws Cn T N, w ∈ gws) (hty : ∀ k, k < N → parseFieldDescriptor (T k).2.2.1 = some (ty k)) (hdef : ∀ k, k < N → defaultValue (ty k) = am_born ci k) (hN : am_size ci = N) (hlk : Cond.classLink own j Cn ∈ gws) (hinst : Cond.instantiable Cn N ∈ gws) (hini : Cond.initialized Cn ∈ gws) : sd_Ok mi own nm cc nL ret bp (.new ci) pc (pc + 3) := by
  refine ok_nx (fun L st w x h => ?_) ?_
  · simp only [am_ins, am_nx] at h
    (repeat' split at h) <;> cases h
  · intro G p l e R s m args below meth c n0 z0 Q X hnm hR L st w hn0 hz0 L' st' w' hi hroom k
    simp only [am_ins, am_nx] at hi
    cases hi
    have hb : ∀ k, k < N → defaultValue (ty k) = sd_tr G (am_born ci k) := fun k hk => by
      have h1 := hdef k hk
      rw [← h1]
      cases ty k <;> rfl
    subst hN
    exact sd_newo ty X hc hin hty hb rfl hlk hinst hini hd hn0 hz0 hroom k
theorem ok_getsK {a j : Nat} {nm0 : String} (hd : decode cc pc = .ok (.getstatic j, 3)) (ha : a < 12) (hn : sd_nm.getD a "" = nm0) (hlk : Cond.fieldLink own j "ConeForms$Kind" nm0 "LConeForms$Kind;" ∈ gws) : sd_Ok mi own nm cc nL ret bp (.getstatic a) pc (pc + 3) := by
  refine ok_nx (fun L st w x h => ?_) ?_
  · simp only [am_ins, am_nx] at h
    (repeat' split at h) <;> cases h
  · intro G p l e R s m args below meth c n0 z0 Q X hnm hR L st w hn0 hz0 L' st' w' hi hroom k
    simp only [am_ins, am_nx] at hi
    cases hi
    exact sd_getsK X ha hn hlk hd k
theorem ok_getsE {j : Nat} (hd : decode cc pc = .ok (.getstatic j, 3)) (hlk : Cond.fieldLink own j "java/util/ArrayList" "DEFAULTCAPACITY_EMPTY_ELEMENTDATA" "[Ljava/lang/Object;" ∈ gws) : sd_Ok mi own nm cc nL ret bp (.getstatic 12) pc (pc + 3) := by
  refine ok_nx (fun L st w x h => ?_) ?_
  · simp only [am_ins, am_nx] at h
    (repeat' split at h) <;> cases h
  · intro G p l e R s m args below meth c n0 z0 Q X hnm hR L st w hn0 hz0 L' st' w' hi hroom k
    simp only [am_ins, am_nx] at hi
    cases hi
    exact sd_getsE X hlk hd k
theorem ok_getsF {j : Nat} (hd : decode cc pc = .ok (.getstatic j, 3)) (hlk : Cond.fieldLink own j "jdk/internal/util/Preconditions" "SIOOBE_FORMATTER" "Ljava/util/function/BiFunction;" ∈ gws) : sd_Ok mi own nm cc nL ret bp (.getstatic 14) pc (pc + 3) := by
  refine ok_nx (fun L st w x h => ?_) ?_
  · simp only [am_ins, am_nx] at h
    (repeat' split at h) <;> cases h
  · intro G p l e R s m args below meth c n0 z0 Q X hnm hR L st w hn0 hz0 L' st' w' hi hroom k
    simp only [am_ins, am_nx] at hi
    cases hi
    exact sd_getsF X hlk hd k
theorem ok_ldcM {j : Nat} (hd : decode cc pc = .ok (.ldc j, 2)) (hlk : Cond.classLink own j "[Ljava/lang/Object;" ∈ gws) : sd_Ok mi own nm cc nL ret bp (.getstatic 13) pc (pc + 2) := by
  refine ok_nx (fun L st w x h => ?_) ?_
  · simp only [am_ins, am_nx] at h
    (repeat' split at h) <;> cases h
  · intro G p l e R s m args below meth c n0 z0 Q X hnm hR L st w hn0 hz0 L' st' w' hi hroom k
    simp only [am_ins, am_nx] at hi
    cases hi
    exact sd_ldcM X hlk hd k
theorem ok_cast0 {j : Nat} (hd : decode cc pc = .ok (.checkcast j, 3)) (hlk : Cond.classLink own j "ConeForms$Node" ∈ gws) : sd_Ok mi own nm cc nL ret bp (.checkcast 0) pc (pc + 3) := by
  refine ok_nx (fun L st w x h => ?_) ?_
  · simp only [am_ins, am_nx] at h
    (repeat' split at h) <;> cases h
  · intro G p l e R s m args below meth c n0 z0 Q X hnm hR L st w hn0 hz0 L' st' w' hi hroom k
    simp only [am_ins, am_nx] at hi
    split at hi
    · cases hi
      exact sd_castN (g := 0) X hd k
    · split at hi
      · rename_i hc
        cases hi
        exact sd_cast0 X hc.2 hlk hd k
      · cases hi
    · cases hi
theorem ok_cast1 {j : Nat} (hd : decode cc pc = .ok (.checkcast j, 3)) (hlk : Cond.classLink own j "ConeForms$Bend" ∈ gws) : sd_Ok mi own nm cc nL ret bp (.checkcast 1) pc (pc + 3) := by
  refine ok_nx (fun L st w x h => ?_) ?_
  · simp only [am_ins, am_nx] at h
    (repeat' split at h) <;> cases h
  · intro G p l e R s m args below meth c n0 z0 Q X hnm hR L st w hn0 hz0 L' st' w' hi hroom k
    simp only [am_ins, am_nx] at hi
    split at hi
    · cases hi
      exact sd_castN (g := 0) X hd k
    · split at hi
      · rename_i hc
        cases hi
        exact sd_cast1 X hc.2 hlk hd k
      · cases hi
    · cases hi
theorem ok_inst {j : Nat} (hd : decode cc pc = .ok (.instanceof j, 3)) (hlk : Cond.classLink own j "ConeForms$Bend" ∈ gws) : sd_Ok mi own nm cc nL ret bp (.instanceof 1) pc (pc + 3) := by
  refine ok_nx (fun L st w x h => ?_) ?_
  · simp only [am_ins, am_nx] at h
    (repeat' split at h) <;> cases h
  · intro G p l e R s m args below meth c n0 z0 Q X hnm hR L st w hn0 hz0 L' st' w' hi hroom k
    simp only [am_ins, am_nx] at hi
    split at hi
    · cases hi
      exact sd_instN X hd k
    · split at hi
      · rename_i hc
        cases hi
        exact sd_inst X hc hlk hd k
      · cases hi
    · cases hi
theorem ok_oinit {j : Nat} (hd : decode cc pc = .ok (.invokespecial j, 3)) (hlk : Cond.methodLink own j Lib.objectInit ∈ gws) (hinst : Cond.instanceMethod Lib.objectInit ∈ gws) (hcode : Cond.code Lib.objectInit ⟨#[0xb1]⟩ 1 none ∈ gws) : sd_Ok mi own nm cc nL ret bp .swap pc (pc + 3) := by
  refine ok_nx (fun L st w x h => ?_) ?_
  · simp only [am_ins, am_nx] at h
    (repeat' split at h) <;> cases h
  · intro G p l e R s m args below meth c n0 z0 Q X hnm hR L st w hn0 hz0 L' st' w' hi hroom k
    simp only [am_ins, am_nx] at hi
    split at hi
    · split at hi
      · rename_i hc
        cases hi
        exact sd_oinit X hc.1 hc.2 hlk hinst hcode hd hR k
      · cases hi
    · cases hi
theorem ok_getC {j : Nat} (hd : decode cc pc = .ok (.invokevirtual j, 3)) (hlk : Cond.methodLink own j ⟨"java/lang/Object", "getClass", "()Ljava/lang/Class;"⟩ ∈ gws) (hdecl : Cond.declares ⟨"java/lang/Object", "getClass", "()Ljava/lang/Class;"⟩ ∈ nws) (hsel : Cond.selects "[Ljava/lang/Object;" ⟨"java/lang/Object", "getClass", "()Ljava/lang/Class;"⟩ ⟨"java/lang/Object", "getClass", "()Ljava/lang/Class;"⟩ ∈ gws) (hinst : Cond.instanceMethod ⟨"java/lang/Object", "getClass", "()Ljava/lang/Class;"⟩ ∈ gws) (hnat : Cond.native ⟨"java/lang/Object", "getClass", "()Ljava/lang/Class;"⟩ ∈ gws) : sd_Ok mi own nm cc nL ret bp .monitorexit pc (pc + 3) := by
  refine ok_nx (fun L st w x h => ?_) ?_
  · simp only [am_ins, am_nx] at h
    (repeat' split at h) <;> cases h
  · intro G p l e R s m args below meth c n0 z0 Q X hnm hR L st w hn0 hz0 L' st' w' hi hroom k
    simp only [am_ins, am_nx] at hi
    split at hi
    · split at hi
      · rename_i hc
        cases hi
        exact sd_getC X hc.1 hc.2.1 hc.2.2 hlk hdecl hsel hinst hnat hd hR k
      · cases hi
    · cases hi
end SDX
