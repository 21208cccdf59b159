/-! SOUNDNESS, the theorem: what the abstract machine does, the machine does. -/
theorem am_put_2 (w : am_W) (a x : Nat) (v : Value) : (am_put w a x v).2 = w.2 := by unfold am_put; split <;> rfl
theorem am_iput_2 (w : am_W) (a : Nat) (i x : Int32) : (am_iput w a i x).2 = w.2 := by unfold am_iput; split <;> rfl
theorem am_lput_2 (w : am_W) (a : Nat) (i : Int32) (x : Int64) : (am_lput w a i x).2 = w.2 := by unfold am_lput; split <;> rfl
theorem am_qput_2 (w : am_W) (a : Nat) (i : Int32) (r : Option Nat) : (am_qput w a i r).2 = w.2 := by unfold am_qput; split <;> rfl
theorem am_copy_2 {w w' : am_W} {x y : Nat} {xp yp n : Int32} (h : am_copy w x xp y yp n = some w') : w'.2 = w.2 := by
  unfold am_copy at h
  split at h
  · split at h
    · cases h
    · cases h; rfl
  · split at h
    · cases h
    · cases h; rfl
  · cases h
def am_le (w w' : am_W) : Prop := w.2.1 ≤ w'.2.1 ∧ w.2.2 ≤ w'.2.2
theorem am_le.rf {w : am_W} : am_le w w := ⟨Nat.le_refl _, Nat.le_refl _⟩
theorem am_le.of {w w' : am_W} (h : w'.2 = w.2) : am_le w w' := by unfold am_le; rw [h]; exact ⟨Nat.le_refl _, Nat.le_refl _⟩
theorem am_le.tr {a b c : am_W} (h1 : am_le a b) (h2 : am_le b c) : am_le a c := ⟨Nat.le_trans h1.1 h2.1, Nat.le_trans h1.2 h2.2⟩
set_option maxHeartbeats 4000000 in
theorem am_ins_le {vt : Nat → Nat → Option Nat} {i : Instr} {L st L' st' : List Value} {w w' : am_W} (h : am_ins vt i L st w = some (.inl (L', st', w'))) : am_le w w' := by
  cases i <;> simp only [am_ins, am_nx, am_jp, am_cl, am_rt, am_br, am_ld, am_i1, am_i2, am_l1, am_l2] at h
  case monitorenter =>
    split at h
    · split at h
      · rename_i w2 hw2
        split at h
        · cases h; exact am_le.of (am_copy_2 hw2)
        · cases h
      · cases h
    · cases h
  all_goals (repeat' split at h)
  all_goals first
    | (cases h; done)
    | (cases h; exact am_le.rf)
    | (cases h; exact am_le.of (am_put_2 _ _ _ _))
    | (cases h; exact am_le.of (am_iput_2 _ _ _ _))
    | (cases h; exact am_le.of (am_lput_2 _ _ _ _))
    | (cases h; exact am_le.of (am_qput_2 _ _ _ _))
    | (cases h; exact ⟨Nat.le_succ _, Nat.le_add_right _ _⟩)
theorem am_blk_le {vt : Nat → Nat → Option Nat} {cf : Nat → List Value → am_W → am_R} {jp : Int → List Value → List Value → am_W → am_R} (hc : ∀ z as w x, cf z as w = some x → am_le w x.2) (hj : ∀ b L st w x, jp b L st w = some x → am_le w x.2) : ∀ (is : List Instr) (L st : List Value) (w : am_W) (x : Option Value × am_W), am_blk vt cf jp is L st w = some x → am_le w x.2
  | [], _, _, _, _, h => by simp [am_blk] at h
  | i :: is, L, st, w, x, h => by
    unfold am_blk at h
    cases hi : am_ins vt i L st w with
    | none => rw [hi] at h; simp at h
    | some a =>
      rw [hi] at h
      rcases a with ⟨L', st', w'⟩ | ⟨b, L', st'⟩ | ⟨z, as, st'⟩ | v
      · exact (am_ins_le hi).tr (am_blk_le hc hj is L' st' w' x h)
      · exact hj _ _ _ _ _ h
      · dsimp only at h
        cases hz : cf z as w with
        | none => rw [hz] at h; simp at h
        | some y =>
          rw [hz] at h
          exact (hc _ _ _ _ hz).tr (am_blk_le hc hj is _ _ _ x h)
      · cases h; exact am_le.rf
theorem am_run_le {vt : Nat → Nat → Option Nat} {C : Int → List Instr} {cf : Nat → List Value → am_W → am_R} (hc : ∀ z as w x, cf z as w = some x → am_le w x.2) : ∀ (f : Nat) (b : Int) (L st : List Value) (w : am_W) (x : Option Value × am_W), am_run vt C cf f b L st w = some x → am_le w x.2
  | 0, _, _, _, _, _, h => by simp [am_run] at h
  | f + 1, b, L, st, w, x, h => by
    unfold am_run at h
    exact am_blk_le hc (am_run_le hc f) _ _ _ _ _ h
theorem am_call_le {P : am_P} {N : Nat} : ∀ (d z : Nat) (as : List Value) (w : am_W) (x : Option Value × am_W), am_call P N d z as w = some x → am_le w x.2
  | 0, _, _, _, _, h => by simp [am_call] at h
  | d + 1, z, as, w, x, h => by
    unfold am_call at h
    cases hz : P.1 z with
    | none => rw [hz] at h; simp at h
    | some y =>
      rw [hz] at h
      dsimp only at h
      split at h
      · exact am_run_le (am_call_le d) N _ _ _ _ _ h
      · cases h
section AL
variable (mi : List (MethodName × ByteArray × Nat × Option FieldType)) (own nm : String) (cc : ByteArray) (nL : Nat) (ret : Option FieldType) (bp : Int → Nat)
def sd_Al : List Instr → Nat → Prop
  | [], _ => True
  | i :: is, pc => ∃ pc', sd_Ok mi own nm cc nL ret bp i pc pc' ∧ sd_Al is pc'
def sd_Als : List (List Instr) → List Nat → Prop
  | [], _ => True
  | B :: Bs, pcs => ∃ pc ps, pcs = pc :: ps ∧ sd_Al mi own nm cc nL ret bp B pc ∧ sd_Als Bs ps
end AL
def sd_bp (pl : List Nat) (b : Int) : Nat := pl.getD b.toNat 0
theorem sd_Als.at {mi : List (MethodName × ByteArray × Nat × Option FieldType)} {own nm : String} {cc : ByteArray} {nL : Nat} {ret : Option FieldType} {bp : Int → Nat} : ∀ {Bs : List (List Instr)} {ps : List Nat}, sd_Als mi own nm cc nL ret bp Bs ps → ∀ k, sd_Al mi own nm cc nL ret bp (Bs.getD k []) (ps.getD k 0)
  | [], ps, _, k => by simp [sd_Al]
  | B :: Bs, _, ⟨pc, ps, rfl, h1, h2⟩, 0 => by simpa using h1
  | B :: Bs, _, ⟨pc, ps, rfl, h1, h2⟩, k + 1 => by simpa using h2.at k
/-- a method is simulated -/
def sd_Good (mi : List (MethodName × ByteArray × Nat × Option FieldType)) (y : MethodName) (b : ByteArray) (mL : Nat) (ret : Option FieldType) (C : Int → List Instr) : Prop :=
  plainFor y = true ∧ ∃ bp : Int → Nat, bp 0 = 0 ∧ ∀ k : Int, sd_Al mi y.cls y.name b mL ret bp (C k) (bp k)
section RUN
variable {mi : List (MethodName × ByteArray × Nat × Option FieldType)} {own nm : String} {cc : ByteArray} {nL : Nat} {ret : Option FieldType} {bp : Int → Nat}
variable {G : sd_G} {p : Program} {l : Launch} {e : Env} {R : Room} {s : State} {m : MethodId} {args : Array Value} {below : List Frame} {meth : Method} {c : Code} {n0 z0 d : Nat} {Q : State → Prop} {x : Option Value × am_W}
theorem sd_blk {cf : Nat → List Value → am_W → am_R} {jp : Int → List Value → List Value → am_W → am_R} (X : sd_C G p s m args c cc nL own) (hnm : meth.name = nm) (hR : d + 2 ≤ R.frames ∧ 64 * (d + 2) ≤ R.locals ∧ x.2.2.1 - n0 ≤ R.cells ∧ x.2.2.2 - z0 ≤ R.slots)
    (hcf : ∀ z as w y, cf z as w = some y → sd_MetZ mi G l d z as w y.1 y.2 ∧ am_le w y.2) (hjl : ∀ b L st w y, jp b L st w = some y → am_le w y.2) (hjp : ∀ b L st w, jp b L st w = some x → n0 ≤ w.2.1 → z0 ≤ w.2.2 → sd_W G p l e R s m args below meth c nL n0 z0 Q L st w (bp b))
    (hret : ∀ i L st w v pc, sd_RetOk cc ret i pc → am_ins vt_f i L st w = some (.inr (.inr (.inr v))) → (v, w) = x → sd_W G p l e R s m args below meth c nL n0 z0 Q L st w pc) :
    ∀ (is : List Instr) (L st : List Value) (w : am_W) (pc : Nat), am_blk vt_f cf jp is L st w = some x → n0 ≤ w.2.1 → z0 ≤ w.2.2 → sd_Al mi own nm cc nL ret bp is pc → sd_W G p l e R s m args below meth c nL n0 z0 Q L st w pc
  | [], _, _, _, _, h, _, _, _ => by simp [am_blk] at h
  | i :: is, L, st, w, pc, h, hn0, hz0, ⟨pc', hok, hal⟩ => by
    have hfull := am_blk_le (fun z as w y hy => (hcf z as w y hy).2) hjl (i :: is) L st w x h
    unfold am_blk at h
    obtain ⟨k1, k2, k3, k4⟩ := hok G p l e R s m args below meth c n0 z0 Q X hnm ⟨by omega, by omega⟩ L st w hn0 hz0
    cases hi : am_ins vt_f i L st w with
    | none => rw [hi] at h; simp at h
    | some a =>
      rw [hi] at h
      rcases a with ⟨L', st', w'⟩ | ⟨b, L', st'⟩ | ⟨z, as, st'⟩ | v
      · have hle := am_ins_le hi
        have hle2 := am_blk_le (fun z as w y hy => (hcf z as w y hy).2) hjl is L' st' w' x h
        obtain ⟨l1, l2⟩ := hle
        obtain ⟨l3, l4⟩ := hle2
        exact k1 L' st' w' hi ⟨by omega, by omega⟩ (sd_blk X hnm hR hcf hjl hjp hret is L' st' w' pc' h (by omega) (by omega) hal)
      · exact k2 b L' st' hi (hjp b L' st' w h hn0 hz0)
      · dsimp only at h
        cases hz : cf z as w with
        | none => rw [hz] at h; simp at h
        | some y =>
          rw [hz] at h
          obtain ⟨hM, hle⟩ := hcf _ _ _ _ hz
          have hle2 := am_blk_le (fun z as w y hy => (hcf z as w y hy).2) hjl is _ _ _ x h
          obtain ⟨l1, l2⟩ := hle
          obtain ⟨l3, l4⟩ := hle2
          exact k3 z as st' hi d y.1 y.2 hM ⟨hR.1, hR.2.1, by omega, by omega⟩ l1 l2 (sd_blk X hnm hR hcf hjl hjp hret is _ _ _ pc' h (by omega) (by omega) hal)
      · exact hret i L st w v pc (k4 v hi) hi (Option.some.inj h)
theorem sd_run {C : Int → List Instr} {cf : Nat → List Value → am_W → am_R} (X : sd_C G p s m args c cc nL own) (hnm : meth.name = nm) (hR : d + 2 ≤ R.frames ∧ 64 * (d + 2) ≤ R.locals ∧ x.2.2.1 - n0 ≤ R.cells ∧ x.2.2.2 - z0 ≤ R.slots)
    (hcf : ∀ z as w y, cf z as w = some y → sd_MetZ mi G l d z as w y.1 y.2 ∧ am_le w y.2) (hal : ∀ k : Int, sd_Al mi own nm cc nL ret bp (C k) (bp k))
    (hret : ∀ i L st w v pc, sd_RetOk cc ret i pc → am_ins vt_f i L st w = some (.inr (.inr (.inr v))) → (v, w) = x → sd_W G p l e R s m args below meth c nL n0 z0 Q L st w pc) :
    ∀ (f : Nat) (b : Int) (L st : List Value) (w : am_W), am_run vt_f C cf f b L st w = some x → n0 ≤ w.2.1 → z0 ≤ w.2.2 → sd_W G p l e R s m args below meth c nL n0 z0 Q L st w (bp b)
  | 0, _, _, _, _, h, _, _ => by simp [am_run] at h
  | f + 1, b, L, st, w, h, hn0, hz0 => by
    unfold am_run at h
    exact sd_blk X hnm hR hcf (am_run_le (fun z as w y hy => (hcf z as w y hy).2) f) (fun b L st w h => sd_run X hnm hR hcf hal hret f b L st w h) hret (C b) L st w (bp b) h hn0 hz0 (hal b)
/-- a method's end -/
theorem sd_end {i : Instr} {L st : List Value} {w w0 : am_W} {v : Option Value} {pc : Nat} (X : sd_C G p s m args c cc nL own) (hr : meth.sig.returnType = ret) (hlocks : meth.locks = false) (h : sd_RetOk cc ret i pc) (hi : am_ins vt_f i L st w = some (.inr (.inr (.inr v)))) :
    sd_W G p l e R s m args below meth c nL w0.2.1 w0.2.2 (MQ below (sd_Qc G v w) args s (w.2.1 - w0.2.1) (w.2.2 - w0.2.2) (sd_A G)) L st w pc := by
  intro ls H locs hl hH hS
  have hq : ∀ t : State, t.heap = H → ∀ u, u = v.map (sd_tr G) → sd_Qc G v w args s (.returned u) t := fun t ht u hu => ⟨by rw [hu], by rw [ht]; exact hH, hS.F ht⟩
  have hint : ∀ t0 ty, (t0 = 0 ∧ ty = .int) ∨ (t0 = 1 ∧ ty = .boolean) ∨ (t0 = 4 ∧ ty = FieldType.char) → i = .ret t0 → ret = some ty → decode cc pc = .ok (.ireturn, 1) → W p l e R s m args below meth c H locs (w.2.1 - w0.2.1) (w.2.2 - w0.2.2) (MQ below (sd_Qc G v w) args s (w.2.1 - w0.2.1) (w.2.2 - w0.2.2) (sd_A G)) (F0 m pc ls (st.map (sd_tr G))) := by
    intro t0 ty ht hi0 hrt hd
    rw [hi0] at hi
    simp only [am_ins, am_rt] at hi
    split at hi
    · split at hi
      · rename_i u hfit
        cases hi
        have hn := (sd_fit (G := G) X.2.2.2.2.2.1 hfit (ty := ty) (by rcases ht with ⟨rfl, rfl⟩ | ⟨rfl, rfl⟩ | ⟨rfl, rfl⟩ <;> simp)).1
        have hu : ∃ z, u = .int z := by
          rcases ht with ⟨rfl, -⟩ | ⟨rfl, -⟩ | ⟨rfl, -⟩ <;> cases u <;> simp_all [am_fit]
        obtain ⟨z, rfl⟩ := hu
        exact W.zret X.1 X.2.1 (hr.trans hrt) hn (fun t ht _ => hq t ht _ rfl) hS.2.2 hd
      · cases hi
    · cases hi
  rcases h with ⟨h1, h2, h3⟩ | ⟨h1, h2, h3⟩ | ⟨h1, h2, h3⟩ | ⟨h1, h2, h3⟩ | ⟨h1, h2, h3⟩ | ⟨h1, h2, h3⟩
  · exact hint 0 .int (Or.inl ⟨rfl, rfl⟩) h1 h2 h3
  · exact hint 1 .boolean (Or.inr (Or.inl ⟨rfl, rfl⟩)) h1 h2 h3
  · exact hint 4 .char (Or.inr (Or.inr ⟨rfl, rfl⟩)) h1 h2 h3
  · rw [h1] at hi
    simp only [am_ins, am_rt] at hi
    split at hi
    · split at hi
      · rename_i u hfit
        cases hi
        have hu : am_isA u = true := by cases u <;> simp_all [am_fit, am_isA]
        rcases h2 with ⟨n, h2⟩ | ⟨t, h2⟩
        · exact W.aret X.1 X.2.1 (hr.trans h2) (Or.inl ⟨n, rfl⟩) (sd_tr_isA X.2.2.2.2.2.1 hu) (fun t ht _ => hq t ht _ rfl) hS.2.2 h3
        · exact W.aret X.1 X.2.1 (hr.trans h2) (Or.inr ⟨t, rfl⟩) (sd_tr_isA X.2.2.2.2.2.1 hu) (fun t ht _ => hq t ht _ rfl) hS.2.2 h3
      · cases hi
    · cases hi
  · rw [h1] at hi
    simp only [am_ins, am_rt] at hi
    split at hi
    · cases hi
      exact W.lret X.1 X.2.1 (hr.trans h2) (fun t ht _ => hq t ht _ rfl) hS.2.2 h3
    · cases hi
  · rw [h1] at hi
    simp only [am_ins, am_rt] at hi
    split at hi
    · cases hi
      exact W.vret X.1 X.2.1 (hr.trans h2) (fun t ht _ => hq t ht _ rfl) hS.2.2 h3
    · cases hi
theorem sd_args_len (hf : sd_fmok G) : ∀ as : List Value, (am_args as).length = (lg_sl (as.map (sd_tr G))).length
  | [] => rfl
  | v :: t => by
    have ih := sd_args_len hf t
    have hc := sd_tr_cat hf v
    have e : lg_sl ((v :: t).map (sd_tr G)) = (if (sd_tr G v).category = 2 then [Slot.val (sd_tr G v), Slot.second] else [Slot.val (sd_tr G v)]) ++ lg_sl (t.map (sd_tr G)) := rfl
    rw [e, hc, List.length_append, ← ih]
    cases v <;> simp [am_args, Value.category] <;> omega
theorem sd_args_get (hf : sd_fmok G) : ∀ (as : List Value) (k j : Nat) (v : Value), (am_args as)[j]? = some v → v ≠ am_J → (k + j, sd_tr G v) ∈ lv_args k (as.map (sd_tr G))
  | [], k, j, v, h, _ => by simp [am_args] at h
  | u :: t, k, j, v, h, hne => by
    have hc := sd_tr_cat hf u
    rw [List.map_cons, lv_args]
    by_cases h2 : u.category = 2
    · rw [hc, if_pos h2]
      cases u with
      | long x =>
        cases j with
        | zero => simp [am_args] at h; subst h; exact List.mem_cons_self
        | succ j =>
          cases j with
          | zero => simp [am_args] at h; exact absurd h.symm hne
          | succ j =>
            have := sd_args_get hf t (k + 2) j v (by simpa [am_args] using h) hne
            refine List.mem_cons_of_mem _ ?_
            rw [show k + (j + 1 + 1) = k + 2 + j by omega]
            exact this
      | double x =>
        cases j with
        | zero => simp [am_args] at h; subst h; exact List.mem_cons_self
        | succ j =>
          cases j with
          | zero => simp [am_args] at h; exact absurd h.symm hne
          | succ j =>
            have := sd_args_get hf t (k + 2) j v (by simpa [am_args] using h) hne
            refine List.mem_cons_of_mem _ ?_
            rw [show k + (j + 1 + 1) = k + 2 + j by omega]
            exact this
      | _ => simp [Value.category] at h2
    · rw [hc, if_neg h2]
      have e : am_args (u :: t) = u :: am_args t := by cases u <;> first | rfl | simp [Value.category] at h2
      rw [e] at h
      cases j with
      | zero => simp at h; subst h; exact List.mem_cons_self
      | succ j =>
        have := sd_args_get hf t (k + 1) j v (by simpa using h) hne
        refine List.mem_cons_of_mem _ ?_
        rw [show k + (j + 1) = k + 1 + j by omega]
        exact this
theorem sd_entry (hf : sd_fmok G) {as : List Value} {mL : Nat} (hl : (am_args as).length ≤ mL) : sd_lr G (lg_sl (as.map (sd_tr G)) ++ List.replicate (mL - (lg_sl (as.map (sd_tr G))).length) Slot.unset).toArray mL (am_ent mL as) := by
  have hlen := sd_args_len (G := G) hf as
  obtain ⟨h1, h2, h3⟩ := lv_entry (as.map (sd_tr G)) (n := mL) (by rw [← hlen]; exact hl)
  refine ⟨h1, h2, ?_, fun k v hk hne => ?_⟩
  · unfold am_ent
    rw [List.length_append, List.length_replicate]
    omega
  · unfold am_ent at hk
    by_cases hlt : k < (am_args as).length
    · rw [List.getElem?_append_left hlt] at hk
      have hm := sd_args_get hf as 0 k v hk hne
      rw [Nat.zero_add] at hm
      exact h3 _ hm
    · rw [List.getElem?_append_right (by omega)] at hk
      have hv : v = am_J := by
        rw [List.getElem?_replicate] at hk
        split at hk
        · exact (Option.some.inj hk).symm
        · cases hk
      exact absurd hv hne
end RUN
/-- THE THEOREM: a call of the abstract machine is a contract of the machine -/
theorem sd_sound {mi : List (MethodName × ByteArray × Nat × Option FieldType)} (hgood : ∀ z mL C, PG.1 z = some (mL, C) → ∃ y b ret, mi[z]? = some (y, b, mL, ret) ∧ sd_Good mi y b mL ret C) {G : sd_G} {l : Launch} {N : Nat} : ∀ (d z : Nat) (as : List Value) (w : am_W) (x : Option Value × am_W), am_call PG N d z as w = some x → sd_MetZ mi G l d z as w x.1 x.2
  | 0, _, _, _, _, h => by simp [am_call] at h
  | d + 1, z, as, w, x, h => by
    unfold am_call at h
    cases hz : PG.1 z with
    | none => rw [hz] at h; simp at h
    | some q =>
      obtain ⟨mL, C⟩ := q
      rw [hz] at h
      dsimp only at h
      split at h
      · rename_i hl
        obtain ⟨y, b, ret, hmi, hpl, bp, hb0, hal⟩ := hgood z mL C hz
        refine ⟨y, b, mL, ret, hmi, ?_⟩
        refine va_MetF (cc := b) (maxL := mL) (ret := ret) hpl rfl ?_
        intro p e s m args below meth c s₁ B hml hv
        obtain ⟨rfl, hH, hK⟩ := hv
        have hts := atoms_spec (ws := sd_ws y b mL ret) B.pre
        have X : sd_C G p s m (as.map (sd_tr G)).toArray c b mL y.cls := ⟨B.exec, B.bytes, hml, findClass_of_methodNamed B.named, fun w hw => hts w (List.mem_cons_of_mem _ hw), hK⟩
        have hnm : meth.name = y.name := (name_of_methodNamed B.named B.method).1
        rw [lg_entry_eq]
        have hle := am_run_le (am_call_le d) N _ _ _ _ _ h
        have hrun := sd_run (mi := mi) (x := x) (R := sd_rm (d + 1) (x.2.2.1 - w.2.1) (x.2.2.2 - w.2.2)) (n0 := w.2.1) (z0 := w.2.2) (d := d) (bp := bp) (l := l) (e := e) (below := below) (meth := meth) (C := C) (cf := am_call PG N d) (Q := MQ below (sd_Qc G x.1 x.2) (as.map (sd_tr G)).toArray s (x.2.2.1 - w.2.1) (x.2.2.2 - w.2.2) (sd_A G)) X hnm ⟨Nat.le_refl _, Nat.le_refl _, Nat.le_refl _, Nat.le_refl _⟩
          (fun z' as' w' y' h' => ⟨sd_sound hgood d z' as' w' y' h', am_call_le d z' as' w' y' h'⟩) hal
          (fun i L st w' v pc hro hi hx => by
            subst hx
            exact sd_end X B.returns B.notSynchronized hro hi) N 0 (am_ent mL as) [] w h (Nat.le_refl _) (Nat.le_refl _)
        rw [hb0] at hrun
        have hW := hrun _ s.heap [] (sd_entry hK.1 hl) hH va_S.rf
        rw [Nat.sub_self, Nat.sub_self] at hW
        exact hW
      · cases h
