/-! SOUNDNESS, eighth part: calls. -/
def sd_rm (d mc ms : Nat) : Room := { frames := d + 1, cells := mc, slots := ms, locals := 64 * (d + 1) }
def sd_Pc (G : sd_G) (as : List Value) (w : am_W) : Array Value → State → Prop := fun v U => v = (as.map (sd_tr G)).toArray ∧ sd_H G w U.heap ∧ sd_K G U U.heap
def sd_Qc (G : sd_G) (r : Option Value) (w' : am_W) : Array Value → State → Outcome → State → Prop := fun _ st oc t => oc = .returned (r.map (sd_tr G)) ∧ sd_H G w' t.heap ∧ va_F (sd_A G) st t
def sd_ws (y : MethodName) (b : ByteArray) (mL : Nat) (ret : Option FieldType) : List Cond := Cond.code y b mL ret :: gws
def sd_Met (G : sd_G) (l : Launch) (d : Nat) (y : MethodName) (b : ByteArray) (mL : Nat) (ret : Option FieldType) (as : List Value) (w : am_W) (r : Option Value) (w' : am_W) : Prop :=
  Met l y (sd_ws y b mL ret) (sd_rm d (w'.2.1 - w.2.1) (w'.2.2 - w.2.2)) (sd_Pc G as w) (sd_Qc G r w') (w'.2.1 - w.2.1) (w'.2.2 - w.2.2) (sd_A G)
theorem sd_blind {G : sd_G} {as : List Value} {w : am_W} : FrameBlind (sd_Pc G as w) := by
  intro a U g mk ⟨h1, h2, h3, h4, h5⟩
  exact ⟨h1, h2, h3, sd_tab.same (u := U) rfl h4, sd_stat.moved (s := U) (Vm.Alike.refl _) h5⟩
theorem gws_good : ∀ w ∈ gws, ((w.onTables && w.keeps) = true ∨ ∃ ty, w = .arrayClass ty) := fun w hw => good_of_word (List.mem_filter.mp hw).2
theorem sd_good {ex : List Cond} {y : MethodName} {b : ByteArray} {mL : Nat} {ret : Option FieldType} (h : ∀ w ∈ ex, w ∈ gws) (hc : Cond.code y b mL ret ∈ gws) : GoodIn gws (ex ++ sd_ws y b mL ret) := by
  intro w hw
  have hm : w ∈ gws := by
    rcases List.mem_append.mp hw with hw | hw
    · exact h w hw
    · rcases List.mem_cons.mp hw with rfl | hw
      · exact hc
      · exact hw
  exact ⟨hm, gws_good w hm⟩
section SDK
variable {G : sd_G} {p : Program} {l : Launch} {e : Env} {R : Room} {s : State} {m : MethodId} {args : Array Value} {below : List Frame} {meth : Method} {c : Code} {cc : ByteArray} {nL n0 z0 : Nat} {own : String} {Q : State → Prop} {L st rest as : List Value} {w w1 : am_W} {pc : Nat} {r : Option Value}
/-- behind a call -/
theorem sd_after (hn0 : n0 ≤ w.2.1) (hz0 : z0 ≤ w.2.2) (h1 : w.2.1 ≤ w1.2.1) (h2 : w.2.2 ≤ w1.2.2) {a : Array Value} {ls : Array Slot} {H : Heap} {locs : List Loc} (hl : sd_lr G ls nL L) (hS : va_S (sd_A G) s.heap H locs)
    (hr : va_Run p l e R s m args below meth c H locs (w.2.1 - n0) (w.2.2 - z0) (w1.2.1 - w.2.1) (w1.2.2 - w.2.2) (F0 m pc ls (st.map (sd_tr G))) (rest.map (sd_tr G)) (sd_Qc G r w1 a) (sd_A G))
    (kk : sd_W G p l e R s m args below meth c nL n0 z0 Q L (r.toList ++ rest) w1 (pc + 3)) : W p l e R s m args below meth c H locs (w.2.1 - n0) (w.2.2 - z0) Q (F0 m pc ls (st.map (sd_tr G))) := by
  intro T hT X
  obtain ⟨v, st₀, t, T', Lc, h0, X', hL, e1, e2, ⟨hv, hH', hz, hk⟩, go⟩ := hr T hT X
  cases hv
  rw [h0] at hz hk
  have hS' : va_S (sd_A G) s.heap T'.heap (locs ++ Lc) := ⟨Nat.le_trans hS.1 (by rw [e1]; exact hz), fun q g1 g2 => by rw [e1, hk q (Nat.lt_of_lt_of_le g1 hS.1) g2]; exact hS.2.1 q g1 g2, fun q hq => by
    rcases List.mem_append.mp hq with h | h
    · exact hS.2.2 q h
    · exact hL q h⟩
  have k2 := kk ls T'.heap (locs ++ Lc) hl (by rw [e1]; exact hH') hS'
  have c1 : w.2.1 - n0 + (w1.2.1 - w.2.1) = w1.2.1 - n0 := by omega
  have c2 : w.2.2 - z0 + (w1.2.2 - w.2.2) = w1.2.2 - z0 := by omega
  rw [c1, c2] at X'
  obtain ⟨t2, a1, b1⟩ := k2 T' rfl X'
  refine ⟨t2, go t2 ?_, b1⟩
  have e3 : (r.map (sd_tr G)).toList ++ rest.map (sd_tr G) = (r.toList ++ rest).map (sd_tr G) := by cases r <;> simp
  rw [← e3] at a1
  exact a1
theorem sd_after5 (hn0 : n0 ≤ w.2.1) (hz0 : z0 ≤ w.2.2) (h1 : w.2.1 ≤ w1.2.1) (h2 : w.2.2 ≤ w1.2.2) {a : Array Value} {ls : Array Slot} {H : Heap} {locs : List Loc} (hl : sd_lr G ls nL L) (hS : va_S (sd_A G) s.heap H locs)
    (hr : va_Run5 p l e R s m args below meth c H locs (w.2.1 - n0) (w.2.2 - z0) (w1.2.1 - w.2.1) (w1.2.2 - w.2.2) (F0 m pc ls (st.map (sd_tr G))) (rest.map (sd_tr G)) (sd_Qc G r w1 a) (sd_A G))
    (kk : sd_W G p l e R s m args below meth c nL n0 z0 Q L (r.toList ++ rest) w1 (pc + 5)) : W p l e R s m args below meth c H locs (w.2.1 - n0) (w.2.2 - z0) Q (F0 m pc ls (st.map (sd_tr G))) := by
  intro T hT X
  obtain ⟨v, st₀, t, T', Lc, h0, X', hL, e1, e2, ⟨hv, hH', hz, hk⟩, go⟩ := hr T hT X
  cases hv
  rw [h0] at hz hk
  have hS' : va_S (sd_A G) s.heap T'.heap (locs ++ Lc) := ⟨Nat.le_trans hS.1 (by rw [e1]; exact hz), fun q g1 g2 => by rw [e1, hk q (Nat.lt_of_lt_of_le g1 hS.1) g2]; exact hS.2.1 q g1 g2, fun q hq => by
    rcases List.mem_append.mp hq with h | h
    · exact hS.2.2 q h
    · exact hL q h⟩
  have k2 := kk ls T'.heap (locs ++ Lc) hl (by rw [e1]; exact hH') hS'
  have c1 : w.2.1 - n0 + (w1.2.1 - w.2.1) = w1.2.1 - n0 := by omega
  have c2 : w.2.2 - z0 + (w1.2.2 - w.2.2) = w1.2.2 - z0 := by omega
  rw [c1, c2] at X'
  obtain ⟨t2, a1, b1⟩ := k2 T' rfl X'
  refine ⟨t2, go t2 ?_, b1⟩
  have e3 : (r.map (sd_tr G)).toList ++ rest.map (sd_tr G) = (r.toList ++ rest).map (sd_tr G) := by cases r <;> simp
  rw [← e3] at a1
  exact a1
end SDK
/-- a call of y by the instruction j: receiver of kind ci (for a virtual one) -/
def sd_Callable (own : String) (j : Instr) (len n : Nat) (y : MethodName) (b : ByteArray) (mL : Nat) (ret : Option FieldType) (recv : Option Nat) : Prop :=
  ∀ (G : sd_G) (p : Program) (l : Launch) (e : Env) (R : Room) (s : State) (m : MethodId) (args : Array Value) (below : List Frame) (meth : Method) (c : Code) (cc : ByteArray) (nL n0 z0 : Nat) (Q : State → Prop) (L rest as : List Value) (w w1 : am_W) (pc d : Nat) (r : Option Value),
    sd_C G p s m args c cc nL own → decode cc pc = .ok (j, len) → as.length = n → (∀ ci, recv = some ci → ∃ a f as', as = .ref a :: as' ∧ w.1 a = some (.inr (ci, f))) → am_cats rest = true → sd_Met G l d y b mL ret as w r w1 →
    (d + 2 ≤ R.frames ∧ 64 * (d + 2) ≤ R.locals ∧ w1.2.1 - n0 ≤ R.cells ∧ w1.2.2 - z0 ≤ R.slots) → n0 ≤ w.2.1 → z0 ≤ w.2.2 → w.2.1 ≤ w1.2.1 → w.2.2 ≤ w1.2.2 →
    sd_W G p l e R s m args below meth c nL n0 z0 Q L (r.toList ++ rest) w1 (pc + len) → sd_W G p l e R s m args below meth c nL n0 z0 Q L (as.reverse ++ rest) w pc
abbrev sd_nMH (C : String) : Prop := C ≠ "java/lang/invoke/MethodHandle" ∧ C ≠ "java/lang/invoke/VarHandle"
theorem sd_cats_le {G : sd_G} (hf : sd_fmok G) {rest : List Value} (h : am_cats rest = true) : ((rest.map (sd_tr G)).map fun v => v.category).sum ≤ 8 := by
  rw [sd_map_cat hf]
  simpa [am_cats] using h
theorem sd_params {y : MethodName} {n : Nat} (h : (parseMethodDescriptor y.desc).map (fun d => d.parameters.length) = some n) : ∀ sig, parseMethodDescriptor y.desc = some sig → n = sig.parameters.length := by
  intro sig hs
  rw [hs] at h
  exact (Option.some.inj h).symm
/-- a static method -/
theorem sd_callS {own : String} {i n : Nat} {y : MethodName} {b : ByteArray} {mL : Nat} {ret : Option FieldType} (hlink : Cond.methodLink own i y ∈ gws) (hst : Cond.static y ∈ gws) (hini : Cond.initialized y.cls ∈ gws) (hcode : Cond.code y b mL ret ∈ gws) (hd : y.cls ≠ "java/lang/invoke/MethodHandle" ∧ y.cls ≠ "java/lang/invoke/VarHandle" ∧ (parseMethodDescriptor y.desc).map (fun d => d.parameters.length) = some n) (hmL : mL ≤ 40) : sd_Callable own (.invokestatic i) 3 n y b mL ret none := by
  intro G p l e R s m args below meth c cc nL n0 z0 Q L rest as w w1 pc d r X hdc hn _ hcats hM hR hn0 hz0 h1 h2 kk ls H locs hl hH hS
  have hts := X.2.2.2.2.1
  refine sd_after hn0 hz0 h1 h2 hl hS (a := (as.map (sd_tr G)).toArray) ?_ kk
  have hG : GoodIn gws (sd_ws y b mL ret) := sd_good (ex := []) (fun _ h => by cases h) hcode
  exact va_runS (As := as.map (sd_tr G)) (rest := rest.map (sd_tr G)) (g := F0 m pc ls ((as.reverse ++ rest).map (sd_tr G))) ⟨X.1, X.2.1, X.2.2.1, X.2.2.2.1, hts⟩ hM
    ⟨callB_of n hts hG rfl rfl rfl (hts _ hini) (hts _ hlink) hd ⟨by show d + 1 + 1 ≤ _; omega, by show 8 + (mL + 11) + 64 * (d + 1) ≤ _; omega⟩, hts _ hst⟩
    ⟨sd_blind, fun U hU hW => ⟨rfl, by rw [hU]; exact hH, X.2.2.2.2.2.1, X.2.2.2.2.2.2.1.moved hW, by rw [hU]; exact (X.2.2.2.2.2.2.2.at hS).moved hW.alike⟩⟩
    rfl (by rw [List.length_map]; exact hn) hl.1 (by simp) (lv_room (sd_cats_le X.2.2.2.2.2.1 hcats)) hdc ⟨by omega, by omega⟩
/-- a static method of a nest mate -/
theorem sd_callSN {own host : String} {i n : Nat} {y : MethodName} {b : ByteArray} {mL : Nat} {ret : Option FieldType} (hlink : Cond.methodLinkNest own i y host ∈ nws) (hst : Cond.static y ∈ gws) (hini : Cond.initialized y.cls ∈ gws) (hcode : Cond.code y b mL ret ∈ gws) (hd : y.cls ≠ "java/lang/invoke/MethodHandle" ∧ y.cls ≠ "java/lang/invoke/VarHandle" ∧ (parseMethodDescriptor y.desc).map (fun d => d.parameters.length) = some n) (hmL : mL ≤ 40) : sd_Callable own (.invokestatic i) 3 n y b mL ret none := by
  intro G p l e R s m args below meth c cc nL n0 z0 Q L rest as w w1 pc d r X hdc hn _ hcats hM hR hn0 hz0 h1 h2 kk ls H locs hl hH hS
  have hts := X.2.2.2.2.1
  refine sd_after hn0 hz0 h1 h2 hl hS (a := (as.map (sd_tr G)).toArray) ?_ kk
  have hG : GoodIn gws (sd_ws y b mL ret) := sd_good (ex := []) (fun _ h => by cases h) hcode
  exact va_runSN (As := as.map (sd_tr G)) (rest := rest.map (sd_tr G)) (g := F0 m pc ls ((as.reverse ++ rest).map (sd_tr G))) ⟨X.1, X.2.1, X.2.2.1, X.2.2.2.1, hts⟩ hM
    ⟨va_cnB n hts hG rfl rfl rfl (X.2.2.2.2.2.2.1.2.2.1 _ hlink) (hts _ hini) hd ⟨by show d + 1 + 1 ≤ _; omega, by show 8 + (mL + 11) + 64 * (d + 1) ≤ _; omega⟩, hts _ hst, trivial⟩
    ⟨sd_blind, fun U hU hW => ⟨rfl, by rw [hU]; exact hH, X.2.2.2.2.2.1, X.2.2.2.2.2.2.1.moved hW, by rw [hU]; exact (X.2.2.2.2.2.2.2.at hS).moved hW.alike⟩⟩
    rfl (by rw [List.length_map]; exact hn) hl.1 (by simp) (lv_room (sd_cats_le X.2.2.2.2.2.1 hcats)) hdc ⟨by omega, by omega⟩
/-- a constructor -/
theorem sd_callI {own : String} {i n ci : Nat} {y : MethodName} {b : ByteArray} {mL : Nat} (hlink : Cond.methodLink own i y ∈ gws) (hin : Cond.instanceMethod y ∈ gws) (hini : Cond.initialized y.cls ∈ gws) (hcode : Cond.code y b mL none ∈ gws) (hy : y.name = "<init>") (hd : y.cls ≠ "java/lang/invoke/MethodHandle" ∧ y.cls ≠ "java/lang/invoke/VarHandle" ∧ (parseMethodDescriptor y.desc).map (fun d => d.parameters.length) = some n) (hmL : mL ≤ 40) (h12 : ci ≠ 12) : sd_Callable own (.invokespecial i) 3 (n + 1) y b mL none (some ci) := by
  intro G p l e R s m args below meth c cc nL n0 z0 Q L rest as w w1 pc d r X hdc hn hI hcats hM hR hn0 hz0 h1 h2 kk ls H locs hl hH hS
  have hts := X.2.2.2.2.1
  obtain ⟨a, f, as', rfl, hw⟩ := hI ci rfl
  have h14 := (sd_obj hH hw h12).2.1
  refine sd_after hn0 hz0 h1 h2 hl hS (a := ((Value.ref a :: as').map (sd_tr G)).toArray) ?_ kk
  have hG : GoodIn gws (sd_ws y b mL none) := sd_good (ex := []) (fun _ h => by cases h) hcode
  have e0 : ((Value.ref a :: as').map (sd_tr G)).toArray = (Value.ref (sd_ad G a) :: as'.map (sd_tr G)).toArray := by rw [List.map_cons, sd_tr_ref h14]
  rw [e0]
  exact va_runI (b := sd_ad G a) (As := as'.map (sd_tr G)) (rest := rest.map (sd_tr G)) (g := F0 m pc ls (((Value.ref a :: as').reverse ++ rest).map (sd_tr G))) ⟨X.1, X.2.1, X.2.2.1, X.2.2.2.1, hts⟩ hM
    ⟨callB_of n hts hG rfl rfl rfl (hts _ hini) (hts _ hlink) hd ⟨by show d + 1 + 1 ≤ _; omega, by show 8 + (mL + 11) + 64 * (d + 1) ≤ _; omega⟩, hy, hts _ hin⟩
    ⟨sd_blind, fun U hU hW => ⟨e0.symm, by rw [hU]; exact hH, X.2.2.2.2.2.1, X.2.2.2.2.2.2.1.moved hW, by rw [hU]; exact (X.2.2.2.2.2.2.2.at hS).moved hW.alike⟩⟩
    rfl (by rw [List.length_map]; simpa using hn) hl.1 (by simp [sd_tr_ref h14]) (lv_room (sd_cats_le X.2.2.2.2.2.1 hcats)) hdc ⟨by omega, by omega⟩
/-- a virtual method that is itself selected -/
theorem sd_callV {own C : String} {i n ci : Nat} {y : MethodName} {b : ByteArray} {mL : Nat} {ret : Option FieldType} (hC : (ci = 12 ∧ C = "ConeForms$Kind") ∨ ∃ T N, classes[ci]? = some (C, T, N)) (hlink : Cond.methodLink own i y ∈ gws) (hin : Cond.instanceMethod y ∈ gws) (hsel : Cond.selects C y y ∈ gws) (hini : Cond.initialized y.cls ∈ gws) (hcode : Cond.code y b mL ret ∈ gws) (hd : y.cls ≠ "java/lang/invoke/MethodHandle" ∧ y.cls ≠ "java/lang/invoke/VarHandle" ∧ (parseMethodDescriptor y.desc).map (fun d => d.parameters.length) = some n) (hmL : mL ≤ 40) : sd_Callable own (.invokevirtual i) 3 (n + 1) y b mL ret (some ci) := by
  intro G p l e R s m args below meth c cc nL n0 z0 Q L rest as w w1 pc d r X hdc hn hr hcats hM hR hn0 hz0 h1 h2 kk ls H locs hl hH hS
  have hts := X.2.2.2.2.1
  obtain ⟨a, f, as', rfl, hw⟩ := hr ci rfl
  obtain ⟨h14, hrecv⟩ := sd_recv X hH hS hw hC
  refine sd_after hn0 hz0 h1 h2 hl hS (a := ((Value.ref a :: as').map (sd_tr G)).toArray) ?_ kk
  have hG : GoodIn gws (sd_ws y b mL ret) := sd_good (ex := []) (fun _ h => by cases h) hcode
  have e0 : ((Value.ref a :: as').map (sd_tr G)).toArray = (Value.ref (sd_ad G a) :: as'.map (sd_tr G)).toArray := by rw [List.map_cons, sd_tr_ref h14]
  rw [e0]
  exact va_runV (C := C) (b := sd_ad G a) (As := as'.map (sd_tr G)) (rest := rest.map (sd_tr G)) (g := F0 m pc ls (((Value.ref a :: as').reverse ++ rest).map (sd_tr G))) ⟨X.1, X.2.1, X.2.2.1, X.2.2.2.1, hts⟩ hM
    ⟨callB_of n hts hG rfl rfl rfl (hts _ hini) (hts _ hlink) hd ⟨by show d + 1 + 1 ≤ _; omega, by show 8 + (mL + 11) + 64 * (d + 1) ≤ _; omega⟩, hts _ hin, hts _ hsel⟩
    ⟨sd_blind, hrecv, fun U hU hW => ⟨e0.symm, by rw [hU]; exact hH, X.2.2.2.2.2.1, X.2.2.2.2.2.2.1.moved hW, by rw [hU]; exact (X.2.2.2.2.2.2.2.at hS).moved hW.alike⟩⟩
    rfl (by rw [List.length_map]; simpa using hn) hl.1 (by simp [sd_tr_ref h14]) (lv_room (sd_cats_le X.2.2.2.2.2.1 hcats)) hdc ⟨by omega, by omega⟩
/-- an overriding or inherited method: the reference names x -/
theorem sd_callU {own C owner : String} {i n ci : Nat} {x y : MethodName} {b : ByteArray} {mL : Nat} {ret : Option FieldType} (hC : (ci = 12 ∧ C = "ConeForms$Kind") ∨ ∃ T N, classes[ci]? = some (C, T, N)) (hlink : Cond.methodLink own i x ∈ gws) (hsame : Cond.sameMethod x.cls owner x.name x.desc ∈ gws) (hin : Cond.instanceMethod y ∈ gws) (hsel : Cond.selects C x y ∈ gws) (hini : Cond.initialized y.cls ∈ gws) (hcode : Cond.code y b mL ret ∈ gws)
    (hdecl : Cond.declares ⟨owner, x.name, x.desc⟩ ∈ nws ∨ (Cond.instanceMethod ⟨owner, x.name, x.desc⟩ ∈ gws ∧ ∃ b0 m0 r0, Cond.code ⟨owner, x.name, x.desc⟩ b0 m0 r0 ∈ gws)) (hd : owner ≠ "java/lang/invoke/MethodHandle" ∧ owner ≠ "java/lang/invoke/VarHandle" ∧ (parseMethodDescriptor x.desc).map (fun d => d.parameters.length) = some n) (hmL : mL ≤ 40) : sd_Callable own (.invokevirtual i) 3 (n + 1) y b mL ret (some ci) := by
  intro G p l e R s m args below meth c cc nL n0 z0 Q L rest as w w1 pc d r X hdc hn hr hcats hM hR hn0 hz0 h1 h2 kk ls H locs hl hH hS
  have hts := X.2.2.2.2.1
  obtain ⟨a, f, as', rfl, hw⟩ := hr ci rfl
  obtain ⟨h14, hrecv⟩ := sd_recv X hH hS hw hC
  refine sd_after hn0 hz0 h1 h2 hl hS (a := ((Value.ref a :: as').map (sd_tr G)).toArray) ?_ kk
  have hG : GoodIn gws (sd_ws y b mL ret) := sd_good (ex := []) (fun _ h => by cases h) hcode
  have e0 : ((Value.ref a :: as').map (sd_tr G)).toArray = (Value.ref (sd_ad G a) :: as'.map (sd_tr G)).toArray := by rw [List.map_cons, sd_tr_ref h14]
  rw [e0]
  have hD : va_Decl s ⟨owner, x.name, x.desc⟩ := by
    rcases hdecl with h | ⟨h, b0, m0, r0, hc0⟩
    · exact va_Decl.abs (X.2.2.2.2.2.2.1.2.2.1 _ h)
    · exact va_Decl.of (hts _ h) (hts _ hc0)
  have hcw : va_CU R s args own C owner i x y b mL ret (sd_ws y b mL ret) (sd_rm d (w1.2.1 - w.2.1) (w1.2.2 - w.2.2)) (w1.2.1 - w.2.1) (w1.2.2 - w.2.2) n :=
    ⟨⟨rfl, rfl, by show d + 1 + 1 ≤ _; omega, by show 8 + (mL + 11) + 64 * (d + 1) ≤ _; omega, pay_in hts hG, List.mem_cons_self⟩, hts _ hcode, hts _ hini, ⟨hd.1, hd.2.1⟩, sd_params (y := x) hd.2.2, hts _ hlink, hts _ hsame, hD, hts _ hsel, hts _ hin⟩
  exact va_runU (b := sd_ad G a) (As := as'.map (sd_tr G)) (rest := rest.map (sd_tr G)) (g := F0 m pc ls (((Value.ref a :: as').reverse ++ rest).map (sd_tr G))) ⟨X.1, X.2.1, X.2.2.1, X.2.2.2.1, hts⟩ hM hcw
    ⟨sd_blind, hrecv, fun U hU hW => ⟨e0.symm, by rw [hU]; exact hH, X.2.2.2.2.2.1, X.2.2.2.2.2.2.1.moved hW, by rw [hU]; exact (X.2.2.2.2.2.2.2.at hS).moved hW.alike⟩⟩
    rfl (by rw [List.length_map]; simpa using hn) hl.1 (by simp [sd_tr_ref h14]) (lv_room (sd_cats_le X.2.2.2.2.2.1 hcats)) hdc ⟨by omega, by omega⟩
/-- super.m(..) -/
theorem sd_callSU {own C : String} {i n ci : Nat} {y : MethodName} {b : ByteArray} {mL : Nat} {ret : Option FieldType} {T : u_T} {N : Nat} (hC : classes[ci]? = some (C, T, N)) (hlink : Cond.methodLink own i y ∈ gws) (hsame : Cond.sameMethod y.cls y.cls y.name y.desc ∈ gws) (hsup : Cond.superclass own y.cls ∈ gws) (hin : Cond.instanceMethod y ∈ gws) (hini : Cond.initialized y.cls ∈ gws) (hcode : Cond.code y b mL ret ∈ gws) (hd : y.name ≠ "<init>" ∧ (parseMethodDescriptor y.desc).map (fun d => d.parameters.length) = some n) (hmL : mL ≤ 40) : sd_Callable own (.invokespecial i) 3 (n + 1) y b mL ret (some ci) := by
  intro G p l e R s m args below meth c cc nL n0 z0 Q L rest as w w1 pc d r X hdc hn hr hcats hM hR hn0 hz0 h1 h2 kk ls H locs hl hH hS
  have hts := X.2.2.2.2.1
  obtain ⟨a, f, as', rfl, hw⟩ := hr ci rfl
  obtain ⟨h14, hrecv⟩ := sd_recv X hH hS hw (Or.inr ⟨T, N, hC⟩)
  refine sd_after hn0 hz0 h1 h2 hl hS (a := ((Value.ref a :: as').map (sd_tr G)).toArray) ?_ kk
  have hG : GoodIn gws (sd_ws y b mL ret) := sd_good (ex := []) (fun _ h => by cases h) hcode
  have e0 : ((Value.ref a :: as').map (sd_tr G)).toArray = (Value.ref (sd_ad G a) :: as'.map (sd_tr G)).toArray := by rw [List.map_cons, sd_tr_ref h14]
  rw [e0]
  have hcw : va_CS R s args own i y b mL ret (sd_ws y b mL ret) (sd_rm d (w1.2.1 - w.2.1) (w1.2.2 - w.2.2)) (w1.2.1 - w.2.1) (w1.2.2 - w.2.2) n :=
    ⟨⟨rfl, rfl, by show d + 1 + 1 ≤ _; omega, by show 8 + (mL + 11) + 64 * (d + 1) ≤ _; omega, pay_in hts hG, List.mem_cons_self⟩, hts _ hlink, hts _ hsame, hts _ hsup, hts _ hin, hts _ hini, hts _ hcode, hd.1, sd_params hd.2⟩
  exact va_runSU (b := sd_ad G a) (As := as'.map (sd_tr G)) (rest := rest.map (sd_tr G)) (g := F0 m pc ls (((Value.ref a :: as').reverse ++ rest).map (sd_tr G))) (X.2.2.2.2.2.2.1.1.1 ci _ hC).2 ⟨X.1, X.2.1, X.2.2.1, X.2.2.2.1, hts⟩ hM hcw
    ⟨sd_blind, hrecv, fun U hU hW => ⟨e0.symm, by rw [hU]; exact hH, X.2.2.2.2.2.1, X.2.2.2.2.2.2.1.moved hW, by rw [hU]; exact (X.2.2.2.2.2.2.2.at hS).moved hW.alike⟩⟩
    rfl (by rw [List.length_map]; simpa using hn) hl.1 (by simp [sd_tr_ref h14]) (lv_room (sd_cats_le X.2.2.2.2.2.1 hcats)) hdc ⟨by omega, by omega⟩
/-- through an interface -/
theorem sd_callF {own C : String} {i n ci cnt : Nat} {x y : MethodName} {b : ByteArray} {mL : Nat} {ret : Option FieldType} {T : u_T} {N : Nat} (hC : classes[ci]? = some (C, T, N)) (hlink : Cond.methodLink own i x ∈ gws) (hin : Cond.instanceMethod y ∈ gws) (hsel : Cond.selects C x y ∈ gws) (hini : Cond.initialized y.cls ∈ gws) (hcode : Cond.code y b mL ret ∈ gws)
    (f1 : Cond.declares x ∈ nws) (f2 : Cond.interfaceMethod x.cls x.cls x.name x.desc ∈ nws) (f3 : Cond.publicMethod y ∈ nws) (f4 : Cond.unhidden C x.name x.desc ∈ nws) (f5 : Cond.castable C x.cls ∈ nws) (hd : x.cls ≠ "java/lang/invoke/MethodHandle" ∧ x.cls ≠ "java/lang/invoke/VarHandle" ∧ (parseMethodDescriptor x.desc).map (fun d => d.parameters.length) = some n) (hmL : mL ≤ 40) : sd_Callable own (.invokeinterface i cnt) 5 (n + 1) y b mL ret (some ci) := by
  intro G p l e R s m args below meth c cc nL n0 z0 Q L rest as w w1 pc d r X hdc hn hr hcats hM hR hn0 hz0 h1 h2 kk ls H locs hl hH hS
  have hts := X.2.2.2.2.1
  obtain ⟨a, f, as', rfl, hw⟩ := hr ci rfl
  obtain ⟨h14, hrecv⟩ := sd_recv X hH hS hw (Or.inr ⟨T, N, hC⟩)
  refine sd_after5 hn0 hz0 h1 h2 hl hS (a := ((Value.ref a :: as').map (sd_tr G)).toArray) ?_ kk
  have hG : GoodIn gws (sd_ws y b mL ret) := sd_good (ex := []) (fun _ h => by cases h) hcode
  have e0 : ((Value.ref a :: as').map (sd_tr G)).toArray = (Value.ref (sd_ad G a) :: as'.map (sd_tr G)).toArray := by rw [List.map_cons, sd_tr_ref h14]
  rw [e0]
  have hN := X.2.2.2.2.2.2.1.2.2.1
  have hcw : va_CI R s args own C i x y b mL ret (sd_ws y b mL ret) (sd_rm d (w1.2.1 - w.2.1) (w1.2.2 - w.2.2)) (w1.2.1 - w.2.1) (w1.2.2 - w.2.2) n :=
    ⟨⟨rfl, rfl, by show d + 1 + 1 ≤ _; omega, by show 8 + (mL + 11) + 64 * (d + 1) ≤ _; omega, pay_in hts hG, List.mem_cons_self⟩, hts _ hlink, va_Nw.use rfl (hN _ f1), va_Nw.use rfl (hN _ f2), hts _ hsel, hts _ hin, va_Nw.use rfl (hN _ f3), va_Nw.use rfl (hN _ f4), va_Nw.use rfl (hN _ f5), hts _ hini, hts _ hcode, ⟨hd.1, hd.2.1⟩, sd_params (y := x) hd.2.2⟩
  exact va_runF (b := sd_ad G a) (As := as'.map (sd_tr G)) (rest := rest.map (sd_tr G)) (g := F0 m pc ls (((Value.ref a :: as').reverse ++ rest).map (sd_tr G))) (X.2.2.2.2.2.2.1.1.1 ci _ hC).2 ⟨X.1, X.2.1, X.2.2.1, X.2.2.2.1, hts⟩ hM hcw
    ⟨sd_blind, hrecv, fun U hU hW => ⟨e0.symm, by rw [hU]; exact hH, X.2.2.2.2.2.1, X.2.2.2.2.2.2.1.moved hW, by rw [hU]; exact (X.2.2.2.2.2.2.2.at hS).moved hW.alike⟩⟩
    rfl (by rw [List.length_map]; simpa using hn) hl.1 (by simp [sd_tr_ref h14]) (lv_room (sd_cats_le X.2.2.2.2.2.1 hcats)) hdc ⟨by omega, by omega⟩
