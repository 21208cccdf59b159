/-! SOUNDNESS, seventh part: casts, natives. -/
section SDC
variable {G : sd_G} {p : Program} {l : Launch} {e : Env} {R : Room} {s : State} {m : MethodId} {args : Array Value} {below : List Frame} {meth : Method} {c : Code} {cc : ByteArray} {nL n0 z0 : Nat} {own : String} {Q : State → Prop} {L st : List Value} {w : am_W} {pc : Nat}
theorem sd_g5 {ci : Nat} (h : am_g ci = 5) : ci = 5 ∨ ci = 6 ∨ ci = 7 ∨ ci = 8 := by
  unfold am_g at h
  split at h
  · rename_i hh; omega
  · omega
theorem sd_castN {i g : Nat} (X : sd_C G p s m args c cc nL own) (hd : decode cc pc = .ok (.checkcast i, 3))
    (kk : sd_W G p l e R s m args below meth c nL n0 z0 Q L (.null :: st) w (pc + 3)) : sd_W G p l e R s m args below meth c nL n0 z0 Q L (.null :: st) w pc :=
  fun ls H locs hl hH hS => lv_castN X.1 X.2.1 hd (kk ls H locs hl hH hS)
theorem sd_instN {i : Nat} (X : sd_C G p s m args c cc nL own) (hd : decode cc pc = .ok (.instanceof i, 3))
    (kk : sd_W G p l e R s m args below meth c nL n0 z0 Q L (.int 0 :: st) w (pc + 3)) : sd_W G p l e R s m args below meth c nL n0 z0 Q L (.null :: st) w pc :=
  fun ls H locs hl hH hS => lv_instN X.1 X.2.1 hd (kk ls H locs hl hH hS)
/-- checkcast of an object to Node or to Bend -/
theorem sd_castO {i a ci : Nat} {f : Nat → Value} {Cn nm : String} (X : sd_C G p s m args c cc nL own) (h : w.1 a = some (.inr (ci, f))) (hC : ∃ T N, classes[ci]? = some (Cn, T, N)) (hcast : Cond.castable Cn nm ∈ nws) (hlink : Cond.classLink own i nm ∈ gws) (hd : decode cc pc = .ok (.checkcast i, 3))
    (kk : sd_W G p l e R s m args below meth c nL n0 z0 Q L (.ref a :: st) w (pc + 3)) : sd_W G p l e R s m args below meth c nL n0 z0 Q L (.ref a :: st) w pc := by
  intro ls H locs hl hH hS
  obtain ⟨h14, hr⟩ := sd_recv X hH hS h (Or.inr hC)
  have kk' := kk ls H locs hl hH hS
  rw [List.map_cons, sd_tr_ref h14] at kk' ⊢
  exact va_castY X.1 X.2.1 X.2.2.2.1 (X.2.2.2.2.1 _ hlink) (X.2.2.2.2.2.2.1.2.2.1 _ hcast) hr hd kk'
theorem sd_cast0 {i a : Nat} (X : sd_C G p s m args c cc nL own) (h : am_cast (w.1 a) 0 = true) (hlink : Cond.classLink own i "ConeForms$Node" ∈ gws) (hd : decode cc pc = .ok (.checkcast i, 3))
    (kk : sd_W G p l e R s m args below meth c nL n0 z0 Q L (.ref a :: st) w (pc + 3)) : sd_W G p l e R s m args below meth c nL n0 z0 Q L (.ref a :: st) w pc := by
  cases hx : w.1 a with
  | none => rw [hx] at h; cases h
  | some x =>
    cases x with
    | inl x => rw [hx] at h; simp [am_cast] at h
    | inr o =>
      rw [hx] at h
      obtain ⟨ci, f⟩ := o
      simp [am_cast] at h
      obtain ⟨Cn, T, N, hc, hN, hO⟩ := sd_nodeC (sd_g5 h)
      exact sd_castO X hx ⟨T, N, hc⟩ hN hlink hd kk
theorem sd_cast1 {i a : Nat} (X : sd_C G p s m args c cc nL own) (h : am_cast (w.1 a) 1 = true) (hlink : Cond.classLink own i "ConeForms$Bend" ∈ gws) (hd : decode cc pc = .ok (.checkcast i, 3))
    (kk : sd_W G p l e R s m args below meth c nL n0 z0 Q L (.ref a :: st) w (pc + 3)) : sd_W G p l e R s m args below meth c nL n0 z0 Q L (.ref a :: st) w pc := by
  cases hx : w.1 a with
  | none => rw [hx] at h; cases h
  | some x =>
    cases x with
    | inl x => rw [hx] at h; simp [am_cast] at h
    | inr o =>
      rw [hx] at h
      obtain ⟨ci, f⟩ := o
      simp [am_cast] at h
      subst h
      exact sd_castO X hx ⟨_, _, rfl⟩ sd_kn5.2.2.2.2.1 hlink hd kk
/-- checkcast of an array to its own class -/
theorem sd_castA {i a k n : Nat} {y : am_Ar} {nm : String} (X : sd_C G p s m args c cc nL own) (ha : 16 ≤ a) (h : w.1 a = some (.inl (k, n, y))) (hnm : s.vm.findClass nm = some (sd_cA G k)) (hlink : Cond.classLink own i nm ∈ gws) (hd : decode cc pc = .ok (.checkcast i, 3))
    (kk : sd_W G p l e R s m args below meth c nL n0 z0 Q L (.ref a :: st) w (pc + 3)) : sd_W G p l e R s m args below meth c nL n0 z0 Q L (.ref a :: st) w pc := by
  intro ls H locs hl hH hS
  have hc := sd_arr hH ha h
  have kk' := kk ls H locs hl hH hS
  rw [List.map_cons, sd_tr_ref (by omega)] at kk' ⊢
  intro T hT X0
  obtain ⟨vm', X', st'⟩ := X0.checkcastYes X.1 X.2.2.2.1 (X.2.2.2.2.1 _ hlink) (by rw [hT]; exact hc.2) rfl hnm (va_asg _ _) (g := F0 m pc ls (.ref (sd_ad G a) :: List.map (sd_tr G) st)) rfl rfl (by rw [X.2.1]; exact hd)
  obtain ⟨t, a1, b1⟩ := kk' (T.setVm vm') hT X'
  exact ⟨t, st' t a1, b1⟩
theorem sd_inst {i a : Nat} (X : sd_C G p s m args c cc nL own) (h : am_isn (w.1 a) = true) (hlink : Cond.classLink own i "ConeForms$Bend" ∈ gws) (hd : decode cc pc = .ok (.instanceof i, 3))
    (kk : sd_W G p l e R s m args below meth c nL n0 z0 Q L (.int (am_inst (w.1 a)) :: st) w (pc + 3)) : sd_W G p l e R s m args below meth c nL n0 z0 Q L (.ref a :: st) w pc := by
  intro ls H locs hl hH hS
  have kk' := kk ls H locs hl hH hS
  cases hx : w.1 a with
  | none => rw [hx] at h; cases h
  | some x =>
    cases x with
    | inl x => rw [hx] at h; simp [am_isn] at h
    | inr o =>
      rw [hx] at h kk'
      obtain ⟨ci, f⟩ := o
      simp [am_isn] at h
      obtain ⟨-, -, -, -, -, -, h7, h8, h9⟩ := X.2.2.2.2.2.2.1
      have hno : ∀ Cn : String, (∃ T N, classes[ci]? = some (Cn, T, N)) → va_Nc Cn "ConeForms$Bend" s → am_inst (some (.inr (ci, f))) = 0 → W p l e R s m args below meth c H locs (w.2.1 - n0) (w.2.2 - z0) Q (F0 m pc ls (List.map (sd_tr G) (.ref a :: st))) := by
        intro Cn hC hN hz
        obtain ⟨h14, hr⟩ := sd_recv X hH hS hx (Or.inr hC)
        rw [hz] at kk'
        rw [List.map_cons, sd_tr_ref h14]
        exact va_instNo X.1 X.2.1 X.2.2.2.1 (X.2.2.2.2.1 _ hlink) hN hr hd kk'
      rcases sd_g5 h with rfl | rfl | rfl | rfl
      · exact hno _ ⟨_, _, rfl⟩ h7 rfl
      · obtain ⟨h14, hr⟩ := sd_recv X hH hS hx (Or.inr ⟨_, _, rfl⟩)
        rw [List.map_cons, sd_tr_ref h14]
        exact va_instY X.1 X.2.1 X.2.2.2.1 (X.2.2.2.2.1 _ hlink) (X.2.2.2.2.2.2.1.2.2.1 _ sd_kn5.2.2.2.2.1) hr hd kk'
      · exact hno _ ⟨_, _, rfl⟩ h8 rfl
      · exact hno _ ⟨_, _, rfl⟩ h9 rfl
/-- Object's constructor -/
theorem sd_oinit {i a : Nat} (X : sd_C G p s m args c cc nL own) (h14 : a ≠ 14) (hcats : am_cats st = true) (hlink : Cond.methodLink own i Lib.objectInit ∈ gws) (hinst : Cond.instanceMethod Lib.objectInit ∈ gws) (hcode : Cond.code Lib.objectInit ⟨#[0xb1]⟩ 1 none ∈ gws) (hd : decode cc pc = .ok (.invokespecial i, 3)) (hR : 1 ≤ R.frames ∧ 64 ≤ R.locals)
    (kk : sd_W G p l e R s m args below meth c nL n0 z0 Q L st w (pc + 3)) : sd_W G p l e R s m args below meth c nL n0 z0 Q L (.ref a :: st) w pc := by
  intro ls H locs hl hH hS
  rw [List.map_cons, sd_tr_ref h14]
  have hw : ((st.map (sd_tr G)).map fun v => v.category).sum ≤ 8 := by
    rw [sd_map_cat X.2.2.2.2.2.1]
    simpa [am_cats] using hcats
  refine W.objInit X.1 X.2.1 X.2.2.2.1 (X.2.2.2.2.1 _ hlink) (X.2.2.2.2.1 _ hinst) (X.2.2.2.2.1 _ hcode) (g := F0 m pc ls (.ref (sd_ad G a) :: List.map (sd_tr G) st)) rfl (by rw [X.2.2.1]; exact hl.1) rfl hd hR.1 ?_ (kk ls H locs hl hH hS)
  show 2 * 0 + _ + 12 ≤ _
  omega
/-- getClass of an Object[] -/
theorem sd_getC {i a : Nat} (X : sd_C G p s m args c cc nL own) (ha : 16 ≤ a) (hk : am_akind (w.1 a) = 5) (hcats : am_cats st = true) (hlink : Cond.methodLink own i ⟨"java/lang/Object", "getClass", "()Ljava/lang/Class;"⟩ ∈ gws) (hdecl : Cond.declares ⟨"java/lang/Object", "getClass", "()Ljava/lang/Class;"⟩ ∈ nws)
    (hsel : Cond.selects "[Ljava/lang/Object;" ⟨"java/lang/Object", "getClass", "()Ljava/lang/Class;"⟩ ⟨"java/lang/Object", "getClass", "()Ljava/lang/Class;"⟩ ∈ gws) (hinst : Cond.instanceMethod ⟨"java/lang/Object", "getClass", "()Ljava/lang/Class;"⟩ ∈ gws) (hnat : Cond.native ⟨"java/lang/Object", "getClass", "()Ljava/lang/Class;"⟩ ∈ gws) (hd : decode cc pc = .ok (.invokevirtual i, 3)) (hR : 1 ≤ R.frames ∧ 64 ≤ R.locals)
    (kk : sd_W G p l e R s m args below meth c nL n0 z0 Q L (.ref 13 :: st) w (pc + 3)) : sd_W G p l e R s m args below meth c nL n0 z0 Q L (.ref a :: st) w pc := by
  intro ls H locs hl hH hS
  have kk' := kk ls H locs hl hH hS
  cases hx : w.1 a with
  | none => rw [hx] at hk; simp [am_akind] at hk
  | some x =>
    cases x with
    | inr o => rw [hx] at hk; simp [am_akind] at hk
    | inl x =>
      obtain ⟨k, n, y⟩ := x
      rw [hx] at hk
      have hk5 : k = 5 := hk
      subst hk5
      have hc := sd_arr hH ha hx
      have hw : ((st.map (sd_tr G)).map fun v => v.category).sum ≤ 8 := by
        rw [sd_map_cat X.2.2.2.2.2.1]
        simpa [am_cats] using hcats
      have hfc : s.vm.findClass "[Ljava/lang/Object;" = some (sd_cA G 5) := va_nmO (C := "java/lang/Object") ((X.2.2.2.2.2.2.1.1.2 5 _ (sd_tys_at G (by omega))).2) (by decide +kernel)
      rw [List.map_cons, sd_tr_ref (by omega)]
      exact va_getC X.1 X.2.1 (by rw [X.2.2.1]; exact hl.1.symm) X.2.2.2.1 (X.2.2.2.2.1 _ hlink) (va_Nw.use rfl (X.2.2.2.2.2.2.1.2.2.1 _ hdecl)) (X.2.2.2.2.1 _ hsel) (X.2.2.2.2.1 _ hinst) (X.2.2.2.2.1 _ hnat) X.2.2.2.2.2.2.1.2.1 ⟨_, hc.2, rfl, hfc⟩ hR.1 (by omega) hd kk'
theorem sd_nn {z : Int32} (hz : ¬ z < 0) : z.toInt = (z.toNatClampNeg : Int) := by
  have hz0 : (0 : Int) ≤ z.toInt := by
    have := Int32.le_iff_toInt_le.mp (Int32.not_lt.mp hz)
    simpa using this
  show z.toInt = ((z.toInt.toNat : Nat) : Int)
  omega
/-- System.arraycopy between two arrays of a kind -/
theorem sd_copy {i x y k nx ny : Nat} {f g h' : am_Ar} {sp dp n : Int32} (X : sd_C G p s m args c cc nL own) (hx16 : 16 ≤ x) (hy16 : 16 ≤ y) (hx : w.1 x = some (.inl (k, nx, f))) (hy : w.1 y = some (.inl (k, ny, g))) (h1 : ¬ sp < 0) (h2 : ¬ dp < 0) (h3 : ¬ n < 0) (h4 : sp.toNatClampNeg + n.toNatClampNeg ≤ nx) (h5 : dp.toNatClampNeg + n.toNatClampNeg ≤ ny) (hcats : am_cats st = true)
    (hkind : (k = 4 ∧ ∀ j, j < n.toNatClampNeg → fits .byte (sd_ct G f (sp.toNatClampNeg + j)) = true) ∨ (k = 5 ∧ ∃ f0, f = .inr (.inr f0)))
    (hres : sd_ct G h' = va_cpy (sd_ct G f) (sd_ct G g) sp.toNatClampNeg dp.toNatClampNeg n.toNatClampNeg) (hkk : sd_kk k h') (hel : ∀ f, h' = .inr (.inr f) → ∀ q z, f q = some z → am_asg (w.1 z) k = true)
    (hlink : Cond.methodLink own i arraycopyName ∈ gws) (hnat : Cond.native arraycopyName ∈ gws) (hstat : Cond.static arraycopyName ∈ gws) (hini : Cond.initialized "java/lang/System" ∈ gws) (hd : decode cc pc = .ok (.invokestatic i, 3)) (hR : 1 ≤ R.frames ∧ 64 ≤ R.locals)
    (kk : sd_W G p l e R s m args below meth c nL n0 z0 Q L st (am_set w y (.inl (k, ny, h'))) (pc + 3)) : sd_W G p l e R s m args below meth c nL n0 z0 Q L (.int n :: .int dp :: .ref y :: .int sp :: .ref x :: st) w pc := by
  intro ls H locs hl hH hS
  have hcx := sd_arr hH hx16 hx
  have hcy := sd_arr hH hy16 hy
  have hk8 : k < 8 := hcx.1.lt
  have hw : ((st.map (sd_tr G)).map fun v => v.category).sum ≤ 8 := by
    rw [sd_map_cat X.2.2.2.2.2.1]
    simpa [am_cats] using hcats
  obtain ⟨-, kx, hkx, cmx, hkkx⟩ := sd_arrOf X hk8 nx (sd_ct G f)
  rw [List.map_cons, List.map_cons, List.map_cons, List.map_cons, List.map_cons, sd_tr_ref (show y ≠ 14 by omega), sd_tr_ref (show x ≠ 14 by omega)]
  intro T hT X0
  have hwords : nativeFrameWords "java/lang/System" "arraycopy" 5 = 7 := by decide
  obtain ⟨vm', X', step⟩ := X0.arraycopy X.1 X.2.2.2.1 (X.2.2.2.2.1 _ hlink) (X.2.2.2.2.1 _ hnat) (X.2.2.2.2.1 _ hstat) (X.2.2.2.2.1 _ hini) (src := sd_ad G x) (dst := sd_ad G y) (cs := arrV (sd_cA G k) nx (sd_ct G f)) (cd := arrV (sd_cA G k) ny (sd_ct G g)) (srcPos := sp) (destPos := dp) (n := n) (by rw [hT]; exact hcx.2) (by rw [hT]; exact hcy.2)
    (fun _ h => by cases h) (fun _ h => by cases h) (fun h => by cases h) (fun h => by cases h) hkx hkx hkkx hkkx (by simp) h1 h2 h3
    (by rw [sd_nn h1, sd_nn h3, arrV_size]; omega) (by rw [sd_nn h2, sd_nn h3, arrV_size]; omega)
    (fun vm₁ hal j hj => by
      have e : (arrV (sd_cA G k) nx (sd_ct G f)).slots.getD (sp.toNatClampNeg + j) .null = sd_ct G f (sp.toNatClampNeg + j) := by
        rw [Array.getD_eq_getD_getElem?, arrV_read _ _ (by omega)]
        rfl
      rw [e]
      rcases hkind with ⟨rfl, hfit⟩ | ⟨rfl, f0, rfl⟩
      · refine ⟨hfit j hj, ?_⟩
        have hfj := hfit j hj
        cases hv : sd_ct G f (sp.toNatClampNeg + j) with
        | int v => exact trivial
        | _ => rw [hv] at hfj; simp [fits, sd_ty] at hfj
      · cases hz : f0 (sp.toNatClampNeg + j) with
        | none =>
          have e2 : sd_ct G (.inr (.inr f0)) (sp.toNatClampNeg + j) = .null := by simp [sd_ct, hz, va_rf, sd_tr]
          rw [e2]
          exact ⟨rfl, trivial⟩
        | some z =>
          have hasg := hH.2.2.2.2 x 5 nx f0 hx _ z hz
          obtain ⟨h14, cellV, g1, g2, ⟨kC, hkC⟩, hasg⟩ := sd_elem X hH hS hasg (Cn := "java/lang/Object") rfl (Or.inl rfl)
          have e2 : sd_ct G (.inr (.inr f0)) (sp.toNatClampNeg + j) = .ref (sd_ad G z) := by simp [sd_ct, hz, va_rf, sd_tr_ref h14]
          rw [e2]
          obtain ⟨kA, comp, r1, r2, r3, -⟩ : va_RA s (sd_cA G 5) (.object "java/lang/Object") := (X.2.2.2.2.2.2.1.1.2 5 _ (sd_tys_at G (by omega))).2
          have hkx' : s.vm.classes[sd_cA G 5]? = some kx := hkx
          cases hkx'.symm.trans r1
          cases hkkx.symm.trans r2
          obtain ⟨kE, hkE, -⟩ := Vm.findClass_spec r3
          obtain ⟨kC', hkC', -⟩ := hal.2.2 _ _ hkC
          obtain ⟨kE', hkE', -⟩ := hal.2.2 _ _ hkE
          refine ⟨rfl, cellV, (show T.heap[sd_ad G z]? = some cellV by rw [hT]; exact g1), (fun q h => by rw [h] at g2; cases g2), ⟨kC', hkC'⟩, ⟨kE', hkE'⟩, ?_⟩
          show vm₁.assignable _ _ = true
          rw [hal.assignable]
          exact hasg _ r3)
    (g := F0 m pc ls (.int n :: .int dp :: .ref (sd_ad G y) :: .int sp :: .ref (sd_ad G x) :: List.map (sd_tr G) st)) rfl (by rw [X.2.2.1]; exact hl.1) (rest := List.map (sd_tr G) st) rfl (by rw [X.2.1]; exact hd) hR.1 (by show 2 * 0 + _ + _ ≤ _; rw [hwords]; omega)
  have e1 : copied (arrV (sd_cA G k) nx (sd_ct G f)) (arrV (sd_cA G k) ny (sd_ct G g)) sp dp n = arrV (sd_cA G k) ny (sd_ct G h') := by
    rw [hres]
    exact va_copied (fun z => z) (sd_cA G k) (sd_cA G k) (sd_ct G f) (sd_ct G g) h4
  rw [e1] at X' step
  have hlt : sd_ad G y < H.size := (Array.getElem?_eq_some_iff.mp hcy.2).1
  have hheap : ((T.setVm vm').setCell (sd_ad G y) (arrV (sd_cA G k) ny (sd_ct G h'))).heap = H.setIfInBounds (sd_ad G y) (arrV (sd_cA G k) ny (sd_ct G h')) := by rw [← hT]; rfl
  have oq : ∀ q : Nat, q ≠ sd_ad G y → (H.setIfInBounds (sd_ad G y) (arrV (sd_cA G k) ny (sd_ct G h')))[q]? = H[q]? := fun q hq => by simp [Array.getElem?_setIfInBounds, Ne.symm hq]
  have hA : sd_A G (sd_ad G y) := by show sd_s0 G ≤ _; rw [sd_ad_ge hy16]; omega
  obtain ⟨t, a1, b1⟩ := kk ls _ _ hl (hH.set hy16 hy (sd_like_a _ _) ⟨hkk, by simp [Array.getElem?_setIfInBounds, hlt]⟩ (by simp) oq (fun k' n' f' hh => by cases hh; exact hel f' rfl)) ⟨by simp; exact hS.1, fun q g1 g2 => by
      rw [oq q (fun z => g2 (by rw [z]; exact hA))]
      exact hS.2.1 q g1 g2, fun q hq => by
      rcases List.mem_append.mp hq with hq | hq
      · exact hS.2.2 q hq
      · obtain ⟨z, -, hz⟩ := List.mem_map.mp hq
        rw [← hz]
        exact hA⟩ _ hheap X'
  exact ⟨t, step t a1, b1⟩
end SDC
