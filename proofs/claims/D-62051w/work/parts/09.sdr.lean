/-! SOUNDNESS, third part: rows. sd_C: what holds in a method's body; sd_W: the machine stands where the abstract machine does, and goes to Q. -/
def sd_C (G : sd_G) (p : Program) (s : State) (m : MethodId) (args : Array Value) (c : Code) (cc : ByteArray) (nL : Nat) (own : String) : Prop := p.tables.exec = Jvm.exec ∧ c.code = cc ∧ c.maxLocals = nL ∧ s.vm.findClass own = some m.cls ∧ (∀ w ∈ gws, w.before args s = true) ∧ sd_K G s s.heap
def sd_W (G : sd_G) (p : Program) (l : Launch) (e : Env) (R : Room) (s : State) (m : MethodId) (args : Array Value) (below : List Frame) (meth : Method) (c : Code) (nL n0 z0 : Nat) (Q : State → Prop) (L st : List Value) (w : am_W) (pc : Nat) : Prop :=
  ∀ (ls : Array Slot) (H : Heap) (locs : List Loc), sd_lr G ls nL L → sd_H G w H → va_S (sd_A G) s.heap H locs → W p l e R s m args below meth c H locs (w.2.1 - n0) (w.2.2 - z0) Q (F0 m pc ls (st.map (sd_tr G)))
section SDR
variable {G : sd_G} {p : Program} {l : Launch} {e : Env} {R : Room} {s : State} {m : MethodId} {args : Array Value} {below : List Frame} {meth : Method} {c : Code} {cc : ByteArray} {nL n0 z0 : Nat} {own : String} {Q : State → Prop} {L st : List Value} {w : am_W} {pc : Nat}
theorem sd_lc_eq (x y : Int64) : lg_cmp x y = am_lc x y := by
  unfold lg_cmp am_lc
  by_cases h1 : y < x
  · have h2 : ¬ x < y := by rw [Int64.lt_iff_toInt_lt] at h1 ⊢; omega
    have h3 : ¬ x = y := by intro q; subst q; rw [Int64.lt_iff_toInt_lt] at h1; omega
    simp [h1, h2, h3]
  · by_cases h3 : x = y
    · have h2 : ¬ x < y := by subst h3; rw [Int64.lt_iff_toInt_lt]; omega
      simp [h1, h2, h3]
    · have h2 : x < y := by
        rw [Int64.lt_iff_toInt_lt] at h1 ⊢
        have : x.toInt ≠ y.toInt := fun q => h3 (Int64.toInt_inj.mp q)
        omega
      simp [h1, h2, h3]
theorem r_iconst {n : Int} {v : Int32} (X : sd_C G p s m args c cc nL own) (hd : decode cc pc = .ok (.iconst n, 1)) (hv : Int32.ofInt n = v) (k : sd_W G p l e R s m args below meth c nL n0 z0 Q L (.int v :: st) w (pc + 1)) : sd_W G p l e R s m args below meth c nL n0 z0 Q L st w pc := fun ls H locs hl hH hS => lv_iconst X.1 X.2.1 hd hv (k ls H locs hl hH hS)
theorem r_bipush {n : Int} {v : Int32} (X : sd_C G p s m args c cc nL own) (hd : decode cc pc = .ok (.bipush n, 2)) (hv : (Int8.ofInt n).toInt32 = v) (k : sd_W G p l e R s m args below meth c nL n0 z0 Q L (.int v :: st) w (pc + 2)) : sd_W G p l e R s m args below meth c nL n0 z0 Q L st w pc := fun ls H locs hl hH hS => lv_bipush X.1 X.2.1 hd hv (k ls H locs hl hH hS)
theorem r_sipush {n : Int} {v : Int32} (X : sd_C G p s m args c cc nL own) (hd : decode cc pc = .ok (.sipush n, 3)) (hv : (Int16.ofInt n).toInt32 = v) (k : sd_W G p l e R s m args below meth c nL n0 z0 Q L (.int v :: st) w (pc + 3)) : sd_W G p l e R s m args below meth c nL n0 z0 Q L st w pc := fun ls H locs hl hH hS => lv_sipush X.1 X.2.1 hd hv (k ls H locs hl hH hS)
theorem r_lconst {n : Fin 2} {v : Int64} (X : sd_C G p s m args c cc nL own) (hd : decode cc pc = .ok (.lconst n, 1)) (hv : Int64.ofNat (n : Nat) = v) (k : sd_W G p l e R s m args below meth c nL n0 z0 Q L (.long v :: st) w (pc + 1)) : sd_W G p l e R s m args below meth c nL n0 z0 Q L st w pc := fun ls H locs hl hH hS => lv_lconst X.1 X.2.1 hd hv (k ls H locs hl hH hS)
theorem r_ldc {i : Nat} {v : Int32} (X : sd_C G p s m args c cc nL own) (hc : Cond.constant own i v ∈ gws) (hd : decode cc pc = .ok (.ldc i, 2)) (k : sd_W G p l e R s m args below meth c nL n0 z0 Q L (.int v :: st) w (pc + 2)) : sd_W G p l e R s m args below meth c nL n0 z0 Q L st w pc := fun ls H locs hl hH hS => lv_ldc X.1 X.2.1 X.2.2.2.1 (X.2.2.2.2.1 _ hc) hd (k ls H locs hl hH hS)
theorem r_ldcw {i : Nat} {v : Int32} (X : sd_C G p s m args c cc nL own) (hc : Cond.constant own i v ∈ gws) (hd : decode cc pc = .ok (.ldc_w i, 3)) (k : sd_W G p l e R s m args below meth c nL n0 z0 Q L (.int v :: st) w (pc + 3)) : sd_W G p l e R s m args below meth c nL n0 z0 Q L st w pc := fun ls H locs hl hH hS => lv_ldcw X.1 X.2.1 X.2.2.2.1 (X.2.2.2.2.1 _ hc) hd (k ls H locs hl hH hS)
theorem r_ldc2 {i : Nat} {v : Int64} (X : sd_C G p s m args c cc nL own) (hc : Cond.constantLong own i v ∈ gws) (hd : decode cc pc = .ok (.ldc2_w i, 3)) (k : sd_W G p l e R s m args below meth c nL n0 z0 Q L (.long v :: st) w (pc + 3)) : sd_W G p l e R s m args below meth c nL n0 z0 Q L st w pc := fun ls H locs hl hH hS => lv_ldc2 X.1 X.2.1 X.2.2.2.1 (X.2.2.2.2.1 _ hc) hd (k ls H locs hl hH hS)
theorem r_null (X : sd_C G p s m args c cc nL own) (hd : decode cc pc = .ok (.aconst_null, 1)) (k : sd_W G p l e R s m args below meth c nL n0 z0 Q L (.null :: st) w (pc + 1)) : sd_W G p l e R s m args below meth c nL n0 z0 Q L st w pc := fun ls H locs hl hH hS => lv_null X.1 X.2.1 hd (k ls H locs hl hH hS)
theorem r_iload_n {q : Fin 4} {i : Nat} {x : Int32} (X : sd_C G p s m args c cc nL own) (hd : decode cc pc = .ok (.iload_n q, 1)) (hi : (q : Nat) = i) (hv : L.getD i am_J = .int x) (k : sd_W G p l e R s m args below meth c nL n0 z0 Q L (.int x :: st) w (pc + 1)) : sd_W G p l e R s m args below meth c nL n0 z0 Q L st w pc := fun ls H locs hl hH hS => lv_iload_n X.1 X.2.1 hd hi (hl.get hv (by simp)) (k ls H locs hl hH hS)
theorem r_iload {i : Nat} {x : Int32} (X : sd_C G p s m args c cc nL own) (hd : decode cc pc = .ok (.iload i, 2)) (hv : L.getD i am_J = .int x) (k : sd_W G p l e R s m args below meth c nL n0 z0 Q L (.int x :: st) w (pc + 2)) : sd_W G p l e R s m args below meth c nL n0 z0 Q L st w pc := fun ls H locs hl hH hS => lv_iload X.1 X.2.1 hd (hl.get hv (by simp)) (k ls H locs hl hH hS)
theorem r_lload_n {q : Fin 4} {i : Nat} {x : Int64} (X : sd_C G p s m args c cc nL own) (hd : decode cc pc = .ok (.lload_n q, 1)) (hi : (q : Nat) = i) (hv : L.getD i am_J = .long x) (k : sd_W G p l e R s m args below meth c nL n0 z0 Q L (.long x :: st) w (pc + 1)) : sd_W G p l e R s m args below meth c nL n0 z0 Q L st w pc := fun ls H locs hl hH hS => lv_lload_n X.1 X.2.1 hd hi (hl.get hv (by simp)) (k ls H locs hl hH hS)
theorem r_lload {i : Nat} {x : Int64} (X : sd_C G p s m args c cc nL own) (hd : decode cc pc = .ok (.lload i, 2)) (hv : L.getD i am_J = .long x) (k : sd_W G p l e R s m args below meth c nL n0 z0 Q L (.long x :: st) w (pc + 2)) : sd_W G p l e R s m args below meth c nL n0 z0 Q L st w pc := fun ls H locs hl hH hS => lv_lload X.1 X.2.1 hd (hl.get hv (by simp)) (k ls H locs hl hH hS)
theorem r_aload_n {q : Fin 4} {i : Nat} {v : Value} (X : sd_C G p s m args c cc nL own) (hd : decode cc pc = .ok (.aload_n q, 1)) (hi : (q : Nat) = i) (hv : L.getD i am_J = v) (ha : am_isA v = true) (k : sd_W G p l e R s m args below meth c nL n0 z0 Q L (v :: st) w (pc + 1)) : sd_W G p l e R s m args below meth c nL n0 z0 Q L st w pc := by
  intro ls H locs hl hH hS
  have hg := hl.get hv (by intro q; rw [q] at ha; simp [am_isA] at ha)
  have kk := k ls H locs hl hH hS
  rw [List.map_cons] at kk
  rcases sd_tr_isA X.2.2.2.2.2.1 ha with h | ⟨a, h⟩
  · rw [h] at hg kk
    exact lv_aload_nN X.1 X.2.1 hd hi hg kk
  · rw [h] at hg kk
    exact lv_aload_n X.1 X.2.1 hd hi hg kk
theorem r_aload {i : Nat} {v : Value} (X : sd_C G p s m args c cc nL own) (hd : decode cc pc = .ok (.aload i, 2)) (hv : L.getD i am_J = v) (ha : am_isA v = true) (k : sd_W G p l e R s m args below meth c nL n0 z0 Q L (v :: st) w (pc + 2)) : sd_W G p l e R s m args below meth c nL n0 z0 Q L st w pc := by
  intro ls H locs hl hH hS
  have hg := hl.get hv (by intro q; rw [q] at ha; simp [am_isA] at ha)
  have kk := k ls H locs hl hH hS
  rw [List.map_cons] at kk
  rcases sd_tr_isA X.2.2.2.2.2.1 ha with h | ⟨a, h⟩
  · rw [h] at hg kk
    exact lv_aloadN X.1 X.2.1 hd hg kk
  · rw [h] at hg kk
    exact lv_aload X.1 X.2.1 hd hg kk
theorem r_istore_n {q : Fin 4} {i : Nat} {x : Int32} (X : sd_C G p s m args c cc nL own) (hd : decode cc pc = .ok (.istore_n q, 1)) (hi : (q : Nat) = i) (hn : i < L.length) (k : sd_W G p l e R s m args below meth c nL n0 z0 Q (am_s1 L i (.int x)) st w (pc + 1)) : sd_W G p l e R s m args below meth c nL n0 z0 Q L (.int x :: st) w pc := by
  intro ls H locs hl hH hS
  refine lv_istore_n X.1 X.2.1 hd hi hl.has (by rw [← hl.2.2.1]; exact hn) rfl (fun ls' hl' => ?_)
  exact k ls' H locs (hl.st1 X.2.2.2.2.2.1 (v := .int x) hl') hH hS
theorem r_istore {i : Nat} {x : Int32} (X : sd_C G p s m args c cc nL own) (hd : decode cc pc = .ok (.istore i, 2)) (hn : i < L.length) (k : sd_W G p l e R s m args below meth c nL n0 z0 Q (am_s1 L i (.int x)) st w (pc + 2)) : sd_W G p l e R s m args below meth c nL n0 z0 Q L (.int x :: st) w pc := by
  intro ls H locs hl hH hS
  refine lv_istore X.1 X.2.1 hd hl.has (by rw [← hl.2.2.1]; exact hn) rfl (fun ls' hl' => ?_)
  exact k ls' H locs (hl.st1 X.2.2.2.2.2.1 (v := .int x) hl') hH hS
theorem r_lstore_n {q : Fin 4} {i : Nat} {x : Int64} (X : sd_C G p s m args c cc nL own) (hd : decode cc pc = .ok (.lstore_n q, 1)) (hi : (q : Nat) = i) (hn : i + 1 < L.length) (k : sd_W G p l e R s m args below meth c nL n0 z0 Q (am_s2 L i (.long x)) st w (pc + 1)) : sd_W G p l e R s m args below meth c nL n0 z0 Q L (.long x :: st) w pc := by
  intro ls H locs hl hH hS
  refine lv_lstore_n X.1 X.2.1 hd hi hl.has (by rw [← hl.2.2.1]; exact hn) rfl (fun ls' hl' => ?_)
  exact k ls' H locs (hl.st2 X.2.2.2.2.2.1 (v := .long x) hl') hH hS
theorem r_lstore {i : Nat} {x : Int64} (X : sd_C G p s m args c cc nL own) (hd : decode cc pc = .ok (.lstore i, 2)) (hn : i + 1 < L.length) (k : sd_W G p l e R s m args below meth c nL n0 z0 Q (am_s2 L i (.long x)) st w (pc + 2)) : sd_W G p l e R s m args below meth c nL n0 z0 Q L (.long x :: st) w pc := by
  intro ls H locs hl hH hS
  refine lv_lstore X.1 X.2.1 hd hl.has (by rw [← hl.2.2.1]; exact hn) rfl (fun ls' hl' => ?_)
  exact k ls' H locs (hl.st2 X.2.2.2.2.2.1 (v := .long x) hl') hH hS
theorem r_astore_n {q : Fin 4} {i : Nat} {v : Value} (X : sd_C G p s m args c cc nL own) (hd : decode cc pc = .ok (.astore_n q, 1)) (hi : (q : Nat) = i) (hn : i < L.length) (ha : am_isA v = true) (k : sd_W G p l e R s m args below meth c nL n0 z0 Q (am_s1 L i v) st w (pc + 1)) : sd_W G p l e R s m args below meth c nL n0 z0 Q L (v :: st) w pc := by
  intro ls H locs hl hH hS
  rw [List.map_cons]
  have hn' : i < nL := by rw [← hl.2.2.1]; exact hn
  rcases sd_tr_isA X.2.2.2.2.2.1 ha with h | ⟨a, h⟩
  · rw [h]
    refine lv_astore_nN X.1 X.2.1 hd hi hl.has hn' rfl (fun ls' hl' => ?_)
    exact k ls' H locs (hl.st1 X.2.2.2.2.2.1 (v := v) (by rw [h]; exact hl')) hH hS
  · rw [h]
    refine lv_astore_n X.1 X.2.1 hd hi hl.has hn' rfl (fun ls' hl' => ?_)
    exact k ls' H locs (hl.st1 X.2.2.2.2.2.1 (v := v) (by rw [h]; exact hl')) hH hS
theorem r_astore {i : Nat} {v : Value} (X : sd_C G p s m args c cc nL own) (hd : decode cc pc = .ok (.astore i, 2)) (hn : i < L.length) (ha : am_isA v = true) (k : sd_W G p l e R s m args below meth c nL n0 z0 Q (am_s1 L i v) st w (pc + 2)) : sd_W G p l e R s m args below meth c nL n0 z0 Q L (v :: st) w pc := by
  intro ls H locs hl hH hS
  rw [List.map_cons]
  have hn' : i < nL := by rw [← hl.2.2.1]; exact hn
  rcases sd_tr_isA X.2.2.2.2.2.1 ha with h | ⟨a, h⟩
  · rw [h]
    refine lv_astoreN X.1 X.2.1 hd hl.has hn' rfl (fun ls' hl' => ?_)
    exact k ls' H locs (hl.st1 X.2.2.2.2.2.1 (v := v) (by rw [h]; exact hl')) hH hS
  · rw [h]
    refine lv_astore X.1 X.2.1 hd hl.has hn' rfl (fun ls' hl' => ?_)
    exact k ls' H locs (hl.st1 X.2.2.2.2.2.1 (v := v) (by rw [h]; exact hl')) hH hS
theorem r_iinc {i : Nat} {n : Int} {x : Int32} (X : sd_C G p s m args c cc nL own) (hd : decode cc pc = .ok (.iinc i n, 3)) (hv : L.getD i am_J = .int x) (hn : i < L.length) (k : sd_W G p l e R s m args below meth c nL n0 z0 Q (am_s1 L i (.int (x + Int32.ofInt n))) st w (pc + 3)) : sd_W G p l e R s m args below meth c nL n0 z0 Q L st w pc := by
  intro ls H locs hl hH hS
  have hm : (i, Value.int x) ∈ sd_al G L := by
    rw [List.getD_eq_getElem?_getD, List.getElem?_eq_getElem hn] at hv
    exact sd_al_mem.mpr ⟨.int x, by rw [List.getElem?_eq_getElem hn]; exact congrArg some hv, by simp, rfl⟩
  obtain ⟨q, hq⟩ := List.getElem?_of_mem hm
  refine lv_iinc (v := x + Int32.ofInt n) X.1 X.2.1 hd hl.has (k := q) hq rfl (by rw [← hl.2.2.1]; exact hn) rfl (fun ls' hl' => ?_)
  exact k ls' H locs (hl.st1 X.2.2.2.2.2.1 (v := .int (x + Int32.ofInt n)) hl') hH hS
theorem r_iadd {x y : Int32} (X : sd_C G p s m args c cc nL own) (hd : decode cc pc = .ok (.iadd, 1)) (k : sd_W G p l e R s m args below meth c nL n0 z0 Q L (.int (x + y) :: st) w (pc + 1)) : sd_W G p l e R s m args below meth c nL n0 z0 Q L (.int y :: .int x :: st) w pc := fun ls H locs hl hH hS => lv_iadd X.1 X.2.1 hd (k ls H locs hl hH hS)
theorem r_isub {x y : Int32} (X : sd_C G p s m args c cc nL own) (hd : decode cc pc = .ok (.isub, 1)) (k : sd_W G p l e R s m args below meth c nL n0 z0 Q L (.int (x - y) :: st) w (pc + 1)) : sd_W G p l e R s m args below meth c nL n0 z0 Q L (.int y :: .int x :: st) w pc := fun ls H locs hl hH hS => lv_isub X.1 X.2.1 hd (k ls H locs hl hH hS)
theorem r_imul {x y : Int32} (X : sd_C G p s m args c cc nL own) (hd : decode cc pc = .ok (.imul, 1)) (k : sd_W G p l e R s m args below meth c nL n0 z0 Q L (.int (x * y) :: st) w (pc + 1)) : sd_W G p l e R s m args below meth c nL n0 z0 Q L (.int y :: .int x :: st) w pc := fun ls H locs hl hH hS => lv_imul X.1 X.2.1 hd (k ls H locs hl hH hS)
theorem r_iand {x y : Int32} (X : sd_C G p s m args c cc nL own) (hd : decode cc pc = .ok (.iand, 1)) (k : sd_W G p l e R s m args below meth c nL n0 z0 Q L (.int (x &&& y) :: st) w (pc + 1)) : sd_W G p l e R s m args below meth c nL n0 z0 Q L (.int y :: .int x :: st) w pc := fun ls H locs hl hH hS => lv_iand X.1 X.2.1 hd (k ls H locs hl hH hS)
theorem r_ior {x y : Int32} (X : sd_C G p s m args c cc nL own) (hd : decode cc pc = .ok (.ior, 1)) (k : sd_W G p l e R s m args below meth c nL n0 z0 Q L (.int (x ||| y) :: st) w (pc + 1)) : sd_W G p l e R s m args below meth c nL n0 z0 Q L (.int y :: .int x :: st) w pc := fun ls H locs hl hH hS => lv_ior X.1 X.2.1 hd (k ls H locs hl hH hS)
theorem r_ishl {x y : Int32} (X : sd_C G p s m args c cc nL own) (hd : decode cc pc = .ok (.ishl, 1)) (k : sd_W G p l e R s m args below meth c nL n0 z0 Q L (.int (x <<< (y &&& 31)) :: st) w (pc + 1)) : sd_W G p l e R s m args below meth c nL n0 z0 Q L (.int y :: .int x :: st) w pc := fun ls H locs hl hH hS => lv_ishl X.1 X.2.1 hd (k ls H locs hl hH hS)
theorem r_ishr {x y : Int32} (X : sd_C G p s m args c cc nL own) (hd : decode cc pc = .ok (.ishr, 1)) (k : sd_W G p l e R s m args below meth c nL n0 z0 Q L (.int (x >>> (y &&& 31)) :: st) w (pc + 1)) : sd_W G p l e R s m args below meth c nL n0 z0 Q L (.int y :: .int x :: st) w pc := fun ls H locs hl hH hS => lv_ishr X.1 X.2.1 hd (k ls H locs hl hH hS)
theorem r_iushr {x y : Int32} (X : sd_C G p s m args c cc nL own) (hd : decode cc pc = .ok (.iushr, 1)) (k : sd_W G p l e R s m args below meth c nL n0 z0 Q L (.int ((x.toUInt32 >>> (y.toUInt32 &&& Int32.toUInt32 31)).toInt32) :: st) w (pc + 1)) : sd_W G p l e R s m args below meth c nL n0 z0 Q L (.int y :: .int x :: st) w pc := fun ls H locs hl hH hS => lv_iushr X.1 X.2.1 hd rfl (k ls H locs hl hH hS)
theorem r_ineg {x : Int32} (X : sd_C G p s m args c cc nL own) (hd : decode cc pc = .ok (.ineg, 1)) (k : sd_W G p l e R s m args below meth c nL n0 z0 Q L (.int (-x) :: st) w (pc + 1)) : sd_W G p l e R s m args below meth c nL n0 z0 Q L (.int x :: st) w pc := fun ls H locs hl hH hS => lv_ineg X.1 X.2.1 hd (k ls H locs hl hH hS)
theorem r_i2l {x : Int32} (X : sd_C G p s m args c cc nL own) (hd : decode cc pc = .ok (.i2l, 1)) (k : sd_W G p l e R s m args below meth c nL n0 z0 Q L (.long x.toInt64 :: st) w (pc + 1)) : sd_W G p l e R s m args below meth c nL n0 z0 Q L (.int x :: st) w pc := fun ls H locs hl hH hS => lv_i2l X.1 X.2.1 hd rfl (k ls H locs hl hH hS)
theorem r_i2c {x : Int32} (X : sd_C G p s m args c cc nL own) (hd : decode cc pc = .ok (.i2c, 1)) (k : sd_W G p l e R s m args below meth c nL n0 z0 Q L (.int (x.toUInt32 % 65536).toInt32 :: st) w (pc + 1)) : sd_W G p l e R s m args below meth c nL n0 z0 Q L (.int x :: st) w pc := fun ls H locs hl hH hS => lv_i2c X.1 X.2.1 hd rfl (k ls H locs hl hH hS)
theorem r_i2b {x : Int32} (X : sd_C G p s m args c cc nL own) (hd : decode cc pc = .ok (.i2b, 1)) (k : sd_W G p l e R s m args below meth c nL n0 z0 Q L (.int x.toInt8.toInt32 :: st) w (pc + 1)) : sd_W G p l e R s m args below meth c nL n0 z0 Q L (.int x :: st) w pc := fun ls H locs hl hH hS => lv_i2b X.1 X.2.1 hd rfl (k ls H locs hl hH hS)
theorem r_l2i {x : Int64} (X : sd_C G p s m args c cc nL own) (hd : decode cc pc = .ok (.l2i, 1)) (k : sd_W G p l e R s m args below meth c nL n0 z0 Q L (.int x.toInt32 :: st) w (pc + 1)) : sd_W G p l e R s m args below meth c nL n0 z0 Q L (.long x :: st) w pc := fun ls H locs hl hH hS => lv_l2i X.1 X.2.1 hd rfl (k ls H locs hl hH hS)
theorem r_lneg {x : Int64} (X : sd_C G p s m args c cc nL own) (hd : decode cc pc = .ok (.lneg, 1)) (k : sd_W G p l e R s m args below meth c nL n0 z0 Q L (.long (-x) :: st) w (pc + 1)) : sd_W G p l e R s m args below meth c nL n0 z0 Q L (.long x :: st) w pc := fun ls H locs hl hH hS => lv_lneg X.1 X.2.1 hd (k ls H locs hl hH hS)
theorem r_ladd {x y : Int64} (X : sd_C G p s m args c cc nL own) (hd : decode cc pc = .ok (.ladd, 1)) (k : sd_W G p l e R s m args below meth c nL n0 z0 Q L (.long (x + y) :: st) w (pc + 1)) : sd_W G p l e R s m args below meth c nL n0 z0 Q L (.long y :: .long x :: st) w pc := fun ls H locs hl hH hS => lv_ladd X.1 X.2.1 hd (k ls H locs hl hH hS)
theorem r_lsub {x y : Int64} (X : sd_C G p s m args c cc nL own) (hd : decode cc pc = .ok (.lsub, 1)) (k : sd_W G p l e R s m args below meth c nL n0 z0 Q L (.long (x - y) :: st) w (pc + 1)) : sd_W G p l e R s m args below meth c nL n0 z0 Q L (.long y :: .long x :: st) w pc := fun ls H locs hl hH hS => lv_lsub X.1 X.2.1 hd (k ls H locs hl hH hS)
theorem r_lmul {x y : Int64} (X : sd_C G p s m args c cc nL own) (hd : decode cc pc = .ok (.lmul, 1)) (k : sd_W G p l e R s m args below meth c nL n0 z0 Q L (.long (x * y) :: st) w (pc + 1)) : sd_W G p l e R s m args below meth c nL n0 z0 Q L (.long y :: .long x :: st) w pc := fun ls H locs hl hH hS => lv_lmul X.1 X.2.1 hd (k ls H locs hl hH hS)
theorem r_lcmp {x y : Int64} (X : sd_C G p s m args c cc nL own) (hd : decode cc pc = .ok (.lcmp, 1)) (k : sd_W G p l e R s m args below meth c nL n0 z0 Q L (.int (am_lc x y) :: st) w (pc + 1)) : sd_W G p l e R s m args below meth c nL n0 z0 Q L (.long y :: .long x :: st) w pc := fun ls H locs hl hH hS => W.lcmp X.1 X.2.1 hd (by rw [sd_lc_eq]; exact (k ls H locs hl hH hS))
theorem r_dup {v : Value} (X : sd_C G p s m args c cc nL own) (hd : decode cc pc = .ok (.dup, 1)) (h1 : v.category = 1) (k : sd_W G p l e R s m args below meth c nL n0 z0 Q L (v :: v :: st) w (pc + 1)) : sd_W G p l e R s m args below meth c nL n0 z0 Q L (v :: st) w pc := fun ls H locs hl hH hS => lv_dup X.1 X.2.1 hd (by rw [sd_tr_cat X.2.2.2.2.2.1]; exact h1) (k ls H locs hl hH hS)
theorem r_pop {v : Value} (X : sd_C G p s m args c cc nL own) (hd : decode cc pc = .ok (.pop, 1)) (h1 : v.category = 1) (k : sd_W G p l e R s m args below meth c nL n0 z0 Q L st w (pc + 1)) : sd_W G p l e R s m args below meth c nL n0 z0 Q L (v :: st) w pc := fun ls H locs hl hH hS => lv_pop X.1 X.2.1 hd (by rw [sd_tr_cat X.2.2.2.2.2.1]; exact h1) (k ls H locs hl hH hS)
theorem r_dup_x1 {v u : Value} (X : sd_C G p s m args c cc nL own) (hd : decode cc pc = .ok (.dup_x1, 1)) (h1 : v.category = 1) (h2 : u.category = 1) (k : sd_W G p l e R s m args below meth c nL n0 z0 Q L (v :: u :: v :: st) w (pc + 1)) : sd_W G p l e R s m args below meth c nL n0 z0 Q L (v :: u :: st) w pc := fun ls H locs hl hH hS => lv_dup_x1 X.1 X.2.1 hd (by rw [sd_tr_cat X.2.2.2.2.2.1]; exact h1) (by rw [sd_tr_cat X.2.2.2.2.2.1]; exact h2) (k ls H locs hl hH hS)
theorem r_dup2 {v u : Value} (X : sd_C G p s m args c cc nL own) (hd : decode cc pc = .ok (.dup2, 1)) (h1 : v.category = 1) (h2 : u.category = 1) (k : sd_W G p l e R s m args below meth c nL n0 z0 Q L (v :: u :: v :: u :: st) w (pc + 1)) : sd_W G p l e R s m args below meth c nL n0 z0 Q L (v :: u :: st) w pc := fun ls H locs hl hH hS => lv_dup2_11 X.1 X.2.1 hd (by rw [sd_tr_cat X.2.2.2.2.2.1]; exact h1) (by rw [sd_tr_cat X.2.2.2.2.2.1]; exact h2) (k ls H locs hl hH hS)
theorem r_ifeq {x : Int32} {off : Int} {tgt : Nat} (X : sd_C G p s m args c cc nL own) (hd : decode cc pc = .ok (.ifCond .eq off, 3)) (ht : (pc : Int) + off = (tgt : Int)) (kt : am_c .eq x 0 = true → sd_W G p l e R s m args below meth c nL n0 z0 Q L st w tgt) (kf : am_c .eq x 0 = false → sd_W G p l e R s m args below meth c nL n0 z0 Q L st w (pc + 3)) : sd_W G p l e R s m args below meth c nL n0 z0 Q L (.int x :: st) w pc :=
  fun ls H locs hl hH hS => lv_if_eq X.1 X.2.1 hd ht (fun h => kt (by simpa [am_c] using h) ls H locs hl hH hS) (fun h => kf (by simpa [am_c] using h) ls H locs hl hH hS)
theorem r_icmpeq {x y : Int32} {off : Int} {tgt : Nat} (X : sd_C G p s m args c cc nL own) (hd : decode cc pc = .ok (.if_icmp .eq off, 3)) (ht : (pc : Int) + off = (tgt : Int)) (kt : am_c .eq x y = true → sd_W G p l e R s m args below meth c nL n0 z0 Q L st w tgt) (kf : am_c .eq x y = false → sd_W G p l e R s m args below meth c nL n0 z0 Q L st w (pc + 3)) : sd_W G p l e R s m args below meth c nL n0 z0 Q L (.int y :: .int x :: st) w pc :=
  fun ls H locs hl hH hS => lv_icmp_eq X.1 X.2.1 hd ht (fun h => kt (by simpa [am_c] using h) ls H locs hl hH hS) (fun h => kf (by simpa [am_c] using h) ls H locs hl hH hS)
theorem r_ifne {x : Int32} {off : Int} {tgt : Nat} (X : sd_C G p s m args c cc nL own) (hd : decode cc pc = .ok (.ifCond .ne off, 3)) (ht : (pc : Int) + off = (tgt : Int)) (kt : am_c .ne x 0 = true → sd_W G p l e R s m args below meth c nL n0 z0 Q L st w tgt) (kf : am_c .ne x 0 = false → sd_W G p l e R s m args below meth c nL n0 z0 Q L st w (pc + 3)) : sd_W G p l e R s m args below meth c nL n0 z0 Q L (.int x :: st) w pc :=
  fun ls H locs hl hH hS => lv_if_ne X.1 X.2.1 hd ht (fun h => kt (by simpa [am_c] using h) ls H locs hl hH hS) (fun h => kf (by simpa [am_c] using h) ls H locs hl hH hS)
theorem r_icmpne {x y : Int32} {off : Int} {tgt : Nat} (X : sd_C G p s m args c cc nL own) (hd : decode cc pc = .ok (.if_icmp .ne off, 3)) (ht : (pc : Int) + off = (tgt : Int)) (kt : am_c .ne x y = true → sd_W G p l e R s m args below meth c nL n0 z0 Q L st w tgt) (kf : am_c .ne x y = false → sd_W G p l e R s m args below meth c nL n0 z0 Q L st w (pc + 3)) : sd_W G p l e R s m args below meth c nL n0 z0 Q L (.int y :: .int x :: st) w pc :=
  fun ls H locs hl hH hS => lv_icmp_ne X.1 X.2.1 hd ht (fun h => kt (by simpa [am_c] using h) ls H locs hl hH hS) (fun h => kf (by simpa [am_c] using h) ls H locs hl hH hS)
theorem r_iflt {x : Int32} {off : Int} {tgt : Nat} (X : sd_C G p s m args c cc nL own) (hd : decode cc pc = .ok (.ifCond .lt off, 3)) (ht : (pc : Int) + off = (tgt : Int)) (kt : am_c .lt x 0 = true → sd_W G p l e R s m args below meth c nL n0 z0 Q L st w tgt) (kf : am_c .lt x 0 = false → sd_W G p l e R s m args below meth c nL n0 z0 Q L st w (pc + 3)) : sd_W G p l e R s m args below meth c nL n0 z0 Q L (.int x :: st) w pc :=
  fun ls H locs hl hH hS => lv_if_lt X.1 X.2.1 hd ht (fun h => kt (by simpa [am_c] using h) ls H locs hl hH hS) (fun h => kf (by simpa [am_c] using h) ls H locs hl hH hS)
theorem r_icmplt {x y : Int32} {off : Int} {tgt : Nat} (X : sd_C G p s m args c cc nL own) (hd : decode cc pc = .ok (.if_icmp .lt off, 3)) (ht : (pc : Int) + off = (tgt : Int)) (kt : am_c .lt x y = true → sd_W G p l e R s m args below meth c nL n0 z0 Q L st w tgt) (kf : am_c .lt x y = false → sd_W G p l e R s m args below meth c nL n0 z0 Q L st w (pc + 3)) : sd_W G p l e R s m args below meth c nL n0 z0 Q L (.int y :: .int x :: st) w pc :=
  fun ls H locs hl hH hS => lv_icmp_lt X.1 X.2.1 hd ht (fun h => kt (by simpa [am_c] using h) ls H locs hl hH hS) (fun h => kf (by simpa [am_c] using h) ls H locs hl hH hS)
theorem r_ifge {x : Int32} {off : Int} {tgt : Nat} (X : sd_C G p s m args c cc nL own) (hd : decode cc pc = .ok (.ifCond .ge off, 3)) (ht : (pc : Int) + off = (tgt : Int)) (kt : am_c .ge x 0 = true → sd_W G p l e R s m args below meth c nL n0 z0 Q L st w tgt) (kf : am_c .ge x 0 = false → sd_W G p l e R s m args below meth c nL n0 z0 Q L st w (pc + 3)) : sd_W G p l e R s m args below meth c nL n0 z0 Q L (.int x :: st) w pc :=
  fun ls H locs hl hH hS => lv_if_ge X.1 X.2.1 hd ht (fun h => kt (by simpa [am_c] using h) ls H locs hl hH hS) (fun h => kf (by simpa [am_c] using h) ls H locs hl hH hS)
theorem r_icmpge {x y : Int32} {off : Int} {tgt : Nat} (X : sd_C G p s m args c cc nL own) (hd : decode cc pc = .ok (.if_icmp .ge off, 3)) (ht : (pc : Int) + off = (tgt : Int)) (kt : am_c .ge x y = true → sd_W G p l e R s m args below meth c nL n0 z0 Q L st w tgt) (kf : am_c .ge x y = false → sd_W G p l e R s m args below meth c nL n0 z0 Q L st w (pc + 3)) : sd_W G p l e R s m args below meth c nL n0 z0 Q L (.int y :: .int x :: st) w pc :=
  fun ls H locs hl hH hS => lv_icmp_ge X.1 X.2.1 hd ht (fun h => kt (by simpa [am_c] using h) ls H locs hl hH hS) (fun h => kf (by simpa [am_c] using h) ls H locs hl hH hS)
theorem r_ifgt {x : Int32} {off : Int} {tgt : Nat} (X : sd_C G p s m args c cc nL own) (hd : decode cc pc = .ok (.ifCond .gt off, 3)) (ht : (pc : Int) + off = (tgt : Int)) (kt : am_c .gt x 0 = true → sd_W G p l e R s m args below meth c nL n0 z0 Q L st w tgt) (kf : am_c .gt x 0 = false → sd_W G p l e R s m args below meth c nL n0 z0 Q L st w (pc + 3)) : sd_W G p l e R s m args below meth c nL n0 z0 Q L (.int x :: st) w pc :=
  fun ls H locs hl hH hS => lv_if_gt X.1 X.2.1 hd ht (fun h => kt (by simpa [am_c] using h) ls H locs hl hH hS) (fun h => kf (by simpa [am_c] using h) ls H locs hl hH hS)
theorem r_icmpgt {x y : Int32} {off : Int} {tgt : Nat} (X : sd_C G p s m args c cc nL own) (hd : decode cc pc = .ok (.if_icmp .gt off, 3)) (ht : (pc : Int) + off = (tgt : Int)) (kt : am_c .gt x y = true → sd_W G p l e R s m args below meth c nL n0 z0 Q L st w tgt) (kf : am_c .gt x y = false → sd_W G p l e R s m args below meth c nL n0 z0 Q L st w (pc + 3)) : sd_W G p l e R s m args below meth c nL n0 z0 Q L (.int y :: .int x :: st) w pc :=
  fun ls H locs hl hH hS => lv_icmp_gt X.1 X.2.1 hd ht (fun h => kt (by simpa [am_c] using h) ls H locs hl hH hS) (fun h => kf (by simpa [am_c] using h) ls H locs hl hH hS)
theorem r_ifle {x : Int32} {off : Int} {tgt : Nat} (X : sd_C G p s m args c cc nL own) (hd : decode cc pc = .ok (.ifCond .le off, 3)) (ht : (pc : Int) + off = (tgt : Int)) (kt : am_c .le x 0 = true → sd_W G p l e R s m args below meth c nL n0 z0 Q L st w tgt) (kf : am_c .le x 0 = false → sd_W G p l e R s m args below meth c nL n0 z0 Q L st w (pc + 3)) : sd_W G p l e R s m args below meth c nL n0 z0 Q L (.int x :: st) w pc :=
  fun ls H locs hl hH hS => lv_if_le X.1 X.2.1 hd ht (fun h => kt (by simpa [am_c] using h) ls H locs hl hH hS) (fun h => kf (by simpa [am_c] using h) ls H locs hl hH hS)
theorem r_icmple {x y : Int32} {off : Int} {tgt : Nat} (X : sd_C G p s m args c cc nL own) (hd : decode cc pc = .ok (.if_icmp .le off, 3)) (ht : (pc : Int) + off = (tgt : Int)) (kt : am_c .le x y = true → sd_W G p l e R s m args below meth c nL n0 z0 Q L st w tgt) (kf : am_c .le x y = false → sd_W G p l e R s m args below meth c nL n0 z0 Q L st w (pc + 3)) : sd_W G p l e R s m args below meth c nL n0 z0 Q L (.int y :: .int x :: st) w pc :=
  fun ls H locs hl hH hS => lv_icmp_le X.1 X.2.1 hd ht (fun h => kt (by simpa [am_c] using h) ls H locs hl hH hS) (fun h => kf (by simpa [am_c] using h) ls H locs hl hH hS)
theorem r_goto {off : Int} {tgt : Nat} (X : sd_C G p s m args c cc nL own) (hd : decode cc pc = .ok (.goto off, 3)) (ht : (pc : Int) + off = (tgt : Int)) (k : sd_W G p l e R s m args below meth c nL n0 z0 Q L st w tgt) : sd_W G p l e R s m args below meth c nL n0 z0 Q L st w pc := fun ls H locs hl hH hS => lv_goto X.1 X.2.1 hd ht (k ls H locs hl hH hS)
theorem r_ifnullR {a : Nat} {off : Int} (X : sd_C G p s m args c cc nL own) (h14 : a ≠ 14) (hd : decode cc pc = .ok (.ifnull off, 3)) (k : sd_W G p l e R s m args below meth c nL n0 z0 Q L st w (pc + 3)) : sd_W G p l e R s m args below meth c nL n0 z0 Q L (.ref a :: st) w pc := fun ls H locs hl hH hS => by rw [List.map_cons, sd_tr_ref h14]; exact lv_ifnull X.1 X.2.1 hd (k ls H locs hl hH hS)
theorem r_ifnnR {a : Nat} {off : Int} {tgt : Nat} (X : sd_C G p s m args c cc nL own) (h14 : a ≠ 14) (hd : decode cc pc = .ok (.ifnonnull off, 3)) (ht : (pc : Int) + off = (tgt : Int)) (k : sd_W G p l e R s m args below meth c nL n0 z0 Q L st w tgt) : sd_W G p l e R s m args below meth c nL n0 z0 Q L (.ref a :: st) w pc := fun ls H locs hl hH hS => by rw [List.map_cons, sd_tr_ref h14]; exact lv_ifnonnull X.1 X.2.1 hd ht (k ls H locs hl hH hS)
theorem r_ifnullN {off : Int} {tgt : Nat} (X : sd_C G p s m args c cc nL own) (hd : decode cc pc = .ok (.ifnull off, 3)) (ht : (pc : Int) + off = (tgt : Int)) (k : sd_W G p l e R s m args below meth c nL n0 z0 Q L st w tgt) : sd_W G p l e R s m args below meth c nL n0 z0 Q L (.null :: st) w pc := fun ls H locs hl hH hS => lv_ifnullN X.1 X.2.1 hd ht (k ls H locs hl hH hS)
theorem r_ifnnN {off : Int} (X : sd_C G p s m args c cc nL own) (hd : decode cc pc = .ok (.ifnonnull off, 3)) (k : sd_W G p l e R s m args below meth c nL n0 z0 Q L st w (pc + 3)) : sd_W G p l e R s m args below meth c nL n0 z0 Q L (.null :: st) w pc := fun ls H locs hl hH hS => lv_ifnonnullN X.1 X.2.1 hd (k ls H locs hl hH hS)
/-- a reference as an address, or null -/
def sd_q (G : sd_G) : Value → Option Nat
  | .ref a => some (sd_ad G a)
  | _ => none
theorem sd_st0_lt (hs : sd_stat G s s.heap) {a : Nat} (ha : a < 16) (h14 : a ≠ 14) : sd_a0 G a < sd_s0 G := hs.2.2.2.2.2.2.2.2 a ha h14
theorem sd_same_ad (hs : sd_stat G s s.heap) {a b : Nat} (ha : a ≠ 14) (hb : b ≠ 14) (hp : am_apart a b = true) : sd_ad G a = sd_ad G b ↔ a = b := by
  refine ⟨fun h => ?_, fun h => by rw [h]⟩
  by_cases h1 : 16 ≤ a
  · by_cases h2 : 16 ≤ b
    · exact sd_ad_inj h1 h2 h
    · have h3 := sd_st0_lt hs (show b < 16 by omega) hb
      rw [sd_ad_ge h1] at h
      simp only [sd_ad, show b < 16 by omega, if_true] at h
      omega
  · by_cases h2 : 16 ≤ b
    · have h3 := sd_st0_lt hs (show a < 16 by omega) ha
      rw [sd_ad_ge h2] at h
      simp only [sd_ad, show a < 16 by omega, if_true] at h
      omega
    · simp only [am_apart, Bool.or_eq_true, Bool.and_eq_true, decide_eq_true_eq] at hp
      rcases hp with ((h3 | h3) | h3) | h3
      · omega
      · omega
      · simp only [sd_ad, show a < 16 by omega, show b < 16 by omega, if_true] at h
        exact hs.1.2 a b h3.1 h3.2 h
      · exact h3
theorem sd_same_q (hs : sd_stat G s s.heap) {x y : Value} {q : Bool} (h : am_same x y = some q) : sd_tr G x = va_rf (sd_q G x) ∧ sd_tr G y = va_rf (sd_q G y) ∧ (sd_q G x = sd_q G y ↔ q = true) := by
  cases x with
  | ref a =>
    cases y with
    | ref b =>
      simp only [am_same] at h
      split at h
      · cases h
      · rename_i hn
        have h1 : a ≠ 14 := fun z => hn (Or.inl z)
        have h2 : b ≠ 14 := fun z => hn (Or.inr (Or.inl z))
        have h3 : am_apart a b = true := by
          cases hz : am_apart a b with
          | true => rfl
          | false => exact absurd (Or.inr (Or.inr hz)) hn
        cases h
        refine ⟨sd_tr_ref h1, sd_tr_ref h2, ?_⟩
        simp only [sd_q, Option.some.injEq, decide_eq_true_eq]
        exact sd_same_ad hs h1 h2 h3
    | null =>
      simp only [am_same] at h
      split at h
      · cases h
      · rename_i hn
        cases h
        exact ⟨sd_tr_ref hn, rfl, by simp [sd_q]⟩
    | _ => simp [am_same] at h
  | null =>
    cases y with
    | ref b =>
      simp only [am_same] at h
      split at h
      · cases h
      · rename_i hn
        cases h
        exact ⟨rfl, sd_tr_ref hn, by simp [sd_q]⟩
    | null =>
      simp only [am_same, Option.some.injEq] at h
      subst h
      exact ⟨rfl, rfl, by simp [sd_q]⟩
    | _ => simp [am_same] at h
  | _ => cases y <;> simp [am_same] at h
theorem r_acmpeq {x y : Value} {q : Bool} {off : Int} {tgt : Nat} (X : sd_C G p s m args c cc nL own) (hq : am_same x y = some q) (hd : decode cc pc = .ok (.if_acmp .eq off, 3)) (ht : (pc : Int) + off = (tgt : Int)) (kt : q = true → sd_W G p l e R s m args below meth c nL n0 z0 Q L st w tgt) (kf : q = false → sd_W G p l e R s m args below meth c nL n0 z0 Q L st w (pc + 3)) : sd_W G p l e R s m args below meth c nL n0 z0 Q L (y :: x :: st) w pc := by
  intro ls H locs hl hH hS
  obtain ⟨h1, h2, h3⟩ := sd_same_q X.2.2.2.2.2.2.2 hq
  rw [List.map_cons, List.map_cons, h1, h2]
  refine lv_acmp_eq X.1 X.2.1 hd ht (fun h => kt ?_ ls H locs hl hH hS) (fun h => kf ?_ ls H locs hl hH hS)
  · exact h3.mp h
  · cases q with | false => rfl | true => exact absurd (h3.mpr rfl) h
theorem r_acmpne {x y : Value} {q : Bool} {off : Int} {tgt : Nat} (X : sd_C G p s m args c cc nL own) (hq : am_same x y = some q) (hd : decode cc pc = .ok (.if_acmp .ne off, 3)) (ht : (pc : Int) + off = (tgt : Int)) (kt : q = false → sd_W G p l e R s m args below meth c nL n0 z0 Q L st w tgt) (kf : q = true → sd_W G p l e R s m args below meth c nL n0 z0 Q L st w (pc + 3)) : sd_W G p l e R s m args below meth c nL n0 z0 Q L (y :: x :: st) w pc := by
  intro ls H locs hl hH hS
  obtain ⟨h1, h2, h3⟩ := sd_same_q X.2.2.2.2.2.2.2 hq
  rw [List.map_cons, List.map_cons, h1, h2]
  refine lv_acmp_ne X.1 X.2.1 hd ht (fun h => kt ?_ ls H locs hl hH hS) (fun h => kf ?_ ls H locs hl hH hS)
  · cases q with | false => rfl | true => exact absurd (h3.mpr rfl) h
  · exact h3.mp h
end SDR
