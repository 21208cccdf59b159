/-! SOUNDNESS, fifth part: rows of statics, arrays and new cells. -/
section SDA
variable {G : sd_G} {p : Program} {l : Launch} {e : Env} {R : Room} {s : State} {m : MethodId} {args : Array Value} {below : List Frame} {meth : Method} {c : Code} {cc : ByteArray} {nL n0 z0 : Nat} {own : String} {Q : State → Prop} {L st : List Value} {w : am_W} {pc : Nat}
/-- a static of an unwritten kind -/
theorem sd_gets {C ref n d : String} {i : Nat} {v : Value} (X : sd_C G p s m args c cc nL own) (hZ : va_Z C n d (sd_tr G v) (sd_A G) s s.heap) (hsame : C = ref) (hlink : Cond.fieldLink own i ref n d ∈ gws) (hd : decode cc pc = .ok (.getstatic i, 3))
    (kk : sd_W G p l e R s m args below meth c nL n0 z0 Q L (v :: st) w (pc + 3)) : sd_W G p l e R s m args below meth c nL n0 z0 Q L st w pc := by
  intro ls H locs hl hH hS
  subst hsame
  exact va_gets X.1 X.2.1 hZ hS X.2.2.2.1 (X.2.2.2.2.1 _ hlink) (fun _ h => h) hd (kk ls H locs hl hH hS)
theorem sd_getsK {i a : Nat} {nm : String} (X : sd_C G p s m args c cc nL own) (ha : a < 12) (hn : sd_nm.getD a "" = nm) (hlink : Cond.fieldLink own i "ConeForms$Kind" nm "LConeForms$Kind;" ∈ gws) (hd : decode cc pc = .ok (.getstatic i, 3))
    (kk : sd_W G p l e R s m args below meth c nL n0 z0 Q L (.ref a :: st) w (pc + 3)) : sd_W G p l e R s m args below meth c nL n0 z0 Q L st w pc := by
  refine sd_gets X (C := "ConeForms$Kind") (n := nm) (d := "LConeForms$Kind;") (v := .ref a) ?_ rfl hlink hd kk
  have h := (X.2.2.2.2.2.2.2.1.1 a ha).1
  rw [hn] at h
  rw [sd_tr_ref (by omega)]
  simp only [sd_ad, show a < 16 by omega, if_true]
  exact h
theorem sd_getsE {i : Nat} (X : sd_C G p s m args c cc nL own) (hlink : Cond.fieldLink own i "java/util/ArrayList" "DEFAULTCAPACITY_EMPTY_ELEMENTDATA" "[Ljava/lang/Object;" ∈ gws) (hd : decode cc pc = .ok (.getstatic i, 3))
    (kk : sd_W G p l e R s m args below meth c nL n0 z0 Q L (.ref 12 :: st) w (pc + 3)) : sd_W G p l e R s m args below meth c nL n0 z0 Q L st w pc := sd_gets X (v := .ref 12) X.2.2.2.2.2.2.2.2.1 rfl hlink hd kk
theorem sd_getsF {i : Nat} (X : sd_C G p s m args c cc nL own) (hlink : Cond.fieldLink own i "jdk/internal/util/Preconditions" "SIOOBE_FORMATTER" "Ljava/util/function/BiFunction;" ∈ gws) (hd : decode cc pc = .ok (.getstatic i, 3))
    (kk : sd_W G p l e R s m args below meth c nL n0 z0 Q L (.ref 14 :: st) w (pc + 3)) : sd_W G p l e R s m args below meth c nL n0 z0 Q L st w pc := sd_gets X (v := .ref 14) X.2.2.2.2.2.2.2.2.2.2.2.1 rfl hlink hd kk
theorem sd_getsC {i : Nat} (X : sd_C G p s m args c cc nL own) (hlink : Cond.fieldLink own i "java/lang/String" "COMPACT_STRINGS" "Z" ∈ gws) (hd : decode cc pc = .ok (.getstatic i, 3))
    (kk : sd_W G p l e R s m args below meth c nL n0 z0 Q L (.int 1 :: st) w (pc + 3)) : sd_W G p l e R s m args below meth c nL n0 z0 Q L st w pc := sd_gets X (v := .int 1) X.2.2.2.2.2.2.2.2.2.2.1 rfl hlink hd kk
/-- the class constant Object[] -/
theorem sd_ldcM {i : Nat} (X : sd_C G p s m args c cc nL own) (hlink : Cond.classLink own i "[Ljava/lang/Object;" ∈ gws) (hd : decode cc pc = .ok (.ldc i, 2))
    (kk : sd_W G p l e R s m args below meth c nL n0 z0 Q L (.ref 13 :: st) w (pc + 2)) : sd_W G p l e R s m args below meth c nL n0 z0 Q L st w pc :=
  fun ls H locs hl hH hS => va_ldcM X.1 X.2.1 X.2.2.2.1 (X.2.2.2.2.1 _ hlink) X.2.2.2.2.2.2.1.2.1 hd (kk ls H locs hl hH hS)
/-! arrays: the script (number 15) is read where it lies -/
theorem sd_arrOf (X : sd_C G p s m args c cc nL own) {k : Nat} (hk : k < 8) (n : Nat) (f : Nat → Value) : s.isArrayOf (arrV (sd_cA G k) n f) (sd_ty k) := (X.2.2.2.2.2.2.1.1.2 k _ (sd_tys_at G hk)).1 n f
theorem am_iok_at {a t : Nat} {i : Int32} (h : am_iok (w.1 a) t i = true) : ∃ n f, w.1 a = some (.inl (t, n, .inl f)) ∧ vp_in i n ∧ am_iv (w.1 a) i = f i.toNatClampNeg := by
  unfold am_iok at h
  split at h
  · rename_i k n f hk
    simp only [Bool.and_eq_true, beq_iff_eq, Bool.not_eq_true', Bool.or_eq_false_iff, decide_eq_false_iff_not] at h
    obtain ⟨rfl, h1, h2⟩ := h
    exact ⟨n, f, hk, fun z => z.elim h1 h2, by rw [hk]; rfl⟩
  · cases h
theorem am_lok_at {a : Nat} {i : Int32} (h : am_lok (w.1 a) i = true) : ∃ n f, w.1 a = some (.inl (1, n, .inr (.inl f))) ∧ vp_in i n ∧ am_lv (w.1 a) i = f i.toNatClampNeg := by
  unfold am_lok at h
  split at h
  · rename_i k n f hk
    simp only [Bool.and_eq_true, beq_iff_eq, Bool.not_eq_true', Bool.or_eq_false_iff, decide_eq_false_iff_not] at h
    obtain ⟨rfl, h1, h2⟩ := h
    exact ⟨n, f, hk, fun z => z.elim h1 h2, by rw [hk]; rfl⟩
  · cases h
theorem am_qok_at {a : Nat} {i : Int32} (h : am_qok (w.1 a) i = true) : ∃ k n f, w.1 a = some (.inl (k, n, .inr (.inr f))) ∧ vp_in i n ∧ am_qv (w.1 a) i = va_rf (f i.toNatClampNeg) := by
  unfold am_qok at h
  split at h
  · rename_i k n f hk
    simp only [Bool.not_eq_true', Bool.or_eq_false_iff, decide_eq_false_iff_not] at h
    exact ⟨k, n, f, hk, fun z => z.elim h.1 h.2, by rw [hk]; rfl⟩
  · cases h
/-- an array of ints, or so, is dynamic or the script -/
theorem sd_arrI {H : Heap} (hH : sd_H G w H) {a t n : Nat} {f : Nat → Int32} (h : w.1 a = some (.inl (t, n, .inl f))) : 16 ≤ a ∨ (a = 15 ∧ t = 0 ∧ n = sd_L G ∧ f = sd_xs G) := by
  by_cases ha : a < 16
  · rw [hH.2.2.1 a ha] at h
    unfold sd_st0 at h
    split at h
    · cases h
    · split at h
      · cases h
      · split at h
        · rename_i h15
          cases h
          exact Or.inr ⟨h15, rfl, rfl, rfl⟩
        · cases h
  · exact Or.inl (by omega)
theorem sd_arrD {H : Heap} (hH : sd_H G w H) {a t n : Nat} {y : (Nat → Int64) ⊕ (Nat → Option Nat)} (h : w.1 a = some (.inl (t, n, .inr y))) : 16 ≤ a ∨ (a = 12 ∧ t = 5 ∧ n = 0 ∧ y = .inr (fun _ => none)) := by
  by_cases ha : a < 16
  · rw [hH.2.2.1 a ha] at h
    unfold sd_st0 at h
    split at h
    · cases h
    · split at h
      · rename_i h12
        cases h
        exact Or.inr ⟨h12, rfl, rfl, rfl⟩
      · split at h
        · cases h
        · cases h
  · exact Or.inl (by omega)
theorem sd_in_size {cA : ClassId} {n : Nat} {f : Nat → Value} {i : Int32} (h : vp_in i n) : ¬ (i < 0 ∨ (arrV cA n f).slots.size ≤ i.toNatClampNeg) := by rw [arrV_size]; exact h
theorem sd_in_lt {n : Nat} {i : Int32} (h : vp_in i n) : i.toNatClampNeg < n := Nat.not_le.mp fun q => h (Or.inr q)
theorem sd_iaload {a : Nat} {i : Int32} (X : sd_C G p s m args c cc nL own) (h : am_iok (w.1 a) 0 i = true) (hd : decode cc pc = .ok (.iaload, 1))
    (kk : sd_W G p l e R s m args below meth c nL n0 z0 Q L (.int (am_iv (w.1 a) i) :: st) w (pc + 1)) : sd_W G p l e R s m args below meth c nL n0 z0 Q L (.int i :: .ref a :: st) w pc := by
  intro ls H locs hl hH hS
  obtain ⟨n, f, h1, h2, h3⟩ := am_iok_at h
  have kk' := kk ls H locs hl hH hS
  rw [h3] at kk'
  rcases sd_arrI hH h1 with ha | ⟨rfl, -, rfl, rfl⟩
  · have hc := sd_arr hH ha h1
    rw [List.map_cons, List.map_cons, sd_tr_ref (by omega)]
    exact W.iald X.1 X.2.1 hc.2 (sd_arrOf X (k := 0) (by omega) _ _) (fun q => by cases q) (sd_in_size h2) (by rw [arrV_read _ _ (sd_in_lt h2)]; rfl) rfl rfl hd kk'
  · have hs := X.2.2.2.2.2.2.2
    exact va_sld X.1 X.2.1 hs.2.2.2.2.2.1 hs.2.2.2.2.2.2.1 (Nat.not_le.mpr (hs.2.2.2.2.2.2.2.2 15 (by omega) (by omega))) hS h2 hd kk'
-- PRINTED
theorem sd_saload {a : Nat} {i : Int32} (X : sd_C G p s m args c cc nL own) (h : am_iok (w.1 a) 2 i = true) (hd : decode cc pc = .ok (.baload, 1))
    (kk : sd_W G p l e R s m args below meth c nL n0 z0 Q L (.int (am_iv (w.1 a) i) :: st) w (pc + 1)) : sd_W G p l e R s m args below meth c nL n0 z0 Q L (.int i :: .ref a :: st) w pc := by
  intro ls H locs hl hH hS
  obtain ⟨n, f, h1, h2, h3⟩ := am_iok_at h
  have kk' := kk ls H locs hl hH hS
  rw [h3] at kk'
  rcases sd_arrI hH h1 with ha | ⟨-, q, -⟩
  · have hc := sd_arr hH ha h1
    rw [List.map_cons, List.map_cons, sd_tr_ref (by omega)]
    exact W.zald X.1 X.2.1 hc.2 (sd_arrOf X (k := 2) (by omega) _ _) (fun q => by cases q) (sd_in_size h2) (by rw [arrV_read _ _ (sd_in_lt h2)]; rfl) rfl rfl hd kk'
  · cases q
theorem sd_caload {a : Nat} {i : Int32} (X : sd_C G p s m args c cc nL own) (h : am_iok (w.1 a) 3 i = true) (hd : decode cc pc = .ok (.caload, 1))
    (kk : sd_W G p l e R s m args below meth c nL n0 z0 Q L (.int (am_iv (w.1 a) i) :: st) w (pc + 1)) : sd_W G p l e R s m args below meth c nL n0 z0 Q L (.int i :: .ref a :: st) w pc := by
  intro ls H locs hl hH hS
  obtain ⟨n, f, h1, h2, h3⟩ := am_iok_at h
  have kk' := kk ls H locs hl hH hS
  rw [h3] at kk'
  rcases sd_arrI hH h1 with ha | ⟨-, q, -⟩
  · have hc := sd_arr hH ha h1
    rw [List.map_cons, List.map_cons, sd_tr_ref (by omega)]
    exact W.cald X.1 X.2.1 hc.2 (sd_arrOf X (k := 3) (by omega) _ _) (fun q => by cases q) (sd_in_size h2) (by rw [arrV_read _ _ (sd_in_lt h2)]; rfl) rfl rfl hd kk'
  · cases q
theorem sd_baload {a : Nat} {i : Int32} (X : sd_C G p s m args c cc nL own) (h : am_iok (w.1 a) 4 i = true) (hd : decode cc pc = .ok (.baload, 1))
    (kk : sd_W G p l e R s m args below meth c nL n0 z0 Q L (.int (am_iv (w.1 a) i) :: st) w (pc + 1)) : sd_W G p l e R s m args below meth c nL n0 z0 Q L (.int i :: .ref a :: st) w pc := by
  intro ls H locs hl hH hS
  obtain ⟨n, f, h1, h2, h3⟩ := am_iok_at h
  have kk' := kk ls H locs hl hH hS
  rw [h3] at kk'
  rcases sd_arrI hH h1 with ha | ⟨-, q, -⟩
  · have hc := sd_arr hH ha h1
    rw [List.map_cons, List.map_cons, sd_tr_ref (by omega)]
    exact W.bald X.1 X.2.1 hc.2 (sd_arrOf X (k := 4) (by omega) _ _) (fun q => by cases q) (sd_in_size h2) (by rw [arrV_read _ _ (sd_in_lt h2)]; rfl) rfl rfl hd kk'
  · cases q
theorem sd_laload {a : Nat} {i : Int32} (X : sd_C G p s m args c cc nL own) (h : am_lok (w.1 a) i = true) (hd : decode cc pc = .ok (.laload, 1))
    (kk : sd_W G p l e R s m args below meth c nL n0 z0 Q L (.long (am_lv (w.1 a) i) :: st) w (pc + 1)) : sd_W G p l e R s m args below meth c nL n0 z0 Q L (.int i :: .ref a :: st) w pc := by
  intro ls H locs hl hH hS
  obtain ⟨n, f, h1, h2, h3⟩ := am_lok_at h
  have kk' := kk ls H locs hl hH hS
  rw [h3] at kk'
  rcases sd_arrD hH h1 with ha | ⟨-, q, -⟩
  · have hc := sd_arr hH ha h1
    rw [List.map_cons, List.map_cons, sd_tr_ref (by omega)]
    exact W.lald X.1 X.2.1 hc.2 (sd_arrOf X (k := 1) (by omega) _ _) (fun q => by cases q) (sd_in_size h2) (by rw [arrV_read _ _ (sd_in_lt h2)]; rfl) rfl rfl hd kk'
  · cases q
theorem sd_aaload {a : Nat} {i : Int32} (X : sd_C G p s m args c cc nL own) (h : am_qok (w.1 a) i = true) (hd : decode cc pc = .ok (.aaload, 1))
    (kk : sd_W G p l e R s m args below meth c nL n0 z0 Q L (am_qv (w.1 a) i :: st) w (pc + 1)) : sd_W G p l e R s m args below meth c nL n0 z0 Q L (.int i :: .ref a :: st) w pc := by
  intro ls H locs hl hH hS
  obtain ⟨k, n, f, h1, h2, h3⟩ := am_qok_at h
  have kk' := kk ls H locs hl hH hS
  rw [h3] at kk'
  rcases sd_arrD hH h1 with ha | ⟨-, -, rfl, -⟩
  · have hc := sd_arr hH ha h1
    rw [List.map_cons, List.map_cons, sd_tr_ref (by omega)]
    have hk : k = 5 ∨ k = 6 ∨ k = 7 := hc.1
    exact W.aald X.1 X.2.1 hc.2 (sd_arrOf X (k := k) (by omega) _ _) (by rcases hk with rfl | rfl | rfl <;> rfl) (fun q => by cases q) (sd_in_size h2) (by rw [arrV_read _ _ (sd_in_lt h2)]; rfl) rfl rfl hd kk'
  · exact absurd (sd_in_lt h2) (Nat.not_lt_zero _)
theorem sd_set_a {H H' : Heap} (hH : sd_H G w H) {a k n j : Nat} {x y : am_Ar} {v : Value} (ha : 16 ≤ a) (h : w.1 a = some (.inl (k, n, x))) (hk : sd_kk k y) (hxy : updV (sd_ct G x) j v = sd_ct G y) (hel : ∀ f, y = .inr (.inr f) → ∀ q z, f q = some z → am_asg (w.1 z) k = true)
    (e1 : H'[sd_ad G a]? = some ((arrV (sd_cA G k) n (sd_ct G x)).setSlot j v)) (e2 : H'.size = H.size) (e3 : ∀ q, q ≠ sd_ad G a → H'[q]? = H[q]?) : sd_H G (am_set w a (.inl (k, n, y))) H' := by
  refine hH.set ha h (sd_like_a _ _) ⟨hk, ?_⟩ e2 e3 (fun k' n' f' hh => by cases hh; exact hel f' rfl)
  rw [e1, arrV_store, hxy]
theorem sd_iastore {a : Nat} {i x : Int32} (X : sd_C G p s m args c cc nL own) (ha : 16 ≤ a) (h : am_iok (w.1 a) 0 i = true) (hd : decode cc pc = .ok (.iastore, 1))
    (kk : sd_W G p l e R s m args below meth c nL n0 z0 Q L st (am_iput w a i x) (pc + 1)) : sd_W G p l e R s m args below meth c nL n0 z0 Q L (.int x :: .int i :: .ref a :: st) w pc := by
  intro ls H locs hl hH hS
  obtain ⟨n, f, h1, h2, -⟩ := am_iok_at h
  have e0 : am_iput w a i x = am_set w a (.inl (0, n, .inl (upd f i.toNatClampNeg x))) := by simp [am_iput, h1]
  rw [e0] at kk
  have hc := sd_arr hH ha h1
  rw [List.map_cons, List.map_cons, List.map_cons, sd_tr_ref (by omega)]
  refine W.iast X.1 X.2.1 hc.2 (sd_arrOf X (k := 0) (by omega) _ _) (fun q => by cases q) (sd_in_size h2) rfl rfl hd fun H' e1 e2 e3 => ?_
  refine kk ls H' _ hl (sd_set_a hH ha h1 (y := .inl (upd f i.toNatClampNeg x)) (by simp [sd_kk]) ?_ (fun f' hh => by cases hh) e1 e2 e3) (sd_S_put hS ha e2 e3)
  funext q
  by_cases hq : q = i.toNatClampNeg
  · subst hq
    simp [updV, upd, sd_ct, vp_nar]
    try rfl
  · simp [updV, upd, hq, sd_ct]
theorem sd_sastore {a : Nat} {i x : Int32} (X : sd_C G p s m args c cc nL own) (ha : 16 ≤ a) (h : am_iok (w.1 a) 2 i = true) (hd : decode cc pc = .ok (.bastore, 1))
    (kk : sd_W G p l e R s m args below meth c nL n0 z0 Q L st (am_iput w a i (vp_nar .boolean x)) (pc + 1)) : sd_W G p l e R s m args below meth c nL n0 z0 Q L (.int x :: .int i :: .ref a :: st) w pc := by
  intro ls H locs hl hH hS
  obtain ⟨n, f, h1, h2, -⟩ := am_iok_at h
  have e0 : am_iput w a i (vp_nar .boolean x) = am_set w a (.inl (2, n, .inl (upd f i.toNatClampNeg (vp_nar .boolean x)))) := by simp [am_iput, h1]
  rw [e0] at kk
  have hc := sd_arr hH ha h1
  rw [List.map_cons, List.map_cons, List.map_cons, sd_tr_ref (by omega)]
  refine W.zast X.1 X.2.1 hc.2 (sd_arrOf X (k := 2) (by omega) _ _) (fun q => by cases q) (sd_in_size h2) rfl rfl hd fun H' e1 e2 e3 => ?_
  refine kk ls H' _ hl (sd_set_a hH ha h1 (y := .inl (upd f i.toNatClampNeg (vp_nar .boolean x))) (by simp [sd_kk]) ?_ (fun f' hh => by cases hh) e1 e2 e3) (sd_S_put hS ha e2 e3)
  funext q
  by_cases hq : q = i.toNatClampNeg
  · subst hq
    simp [updV, upd, sd_ct, vp_nar]
    try rfl
  · simp [updV, upd, hq, sd_ct]
theorem sd_castore {a : Nat} {i x : Int32} (X : sd_C G p s m args c cc nL own) (ha : 16 ≤ a) (h : am_iok (w.1 a) 3 i = true) (hd : decode cc pc = .ok (.castore, 1))
    (kk : sd_W G p l e R s m args below meth c nL n0 z0 Q L st (am_iput w a i (vp_nar .char x)) (pc + 1)) : sd_W G p l e R s m args below meth c nL n0 z0 Q L (.int x :: .int i :: .ref a :: st) w pc := by
  intro ls H locs hl hH hS
  obtain ⟨n, f, h1, h2, -⟩ := am_iok_at h
  have e0 : am_iput w a i (vp_nar .char x) = am_set w a (.inl (3, n, .inl (upd f i.toNatClampNeg (vp_nar .char x)))) := by simp [am_iput, h1]
  rw [e0] at kk
  have hc := sd_arr hH ha h1
  rw [List.map_cons, List.map_cons, List.map_cons, sd_tr_ref (by omega)]
  refine W.cast X.1 X.2.1 hc.2 (sd_arrOf X (k := 3) (by omega) _ _) (fun q => by cases q) (sd_in_size h2) rfl rfl hd fun H' e1 e2 e3 => ?_
  refine kk ls H' _ hl (sd_set_a hH ha h1 (y := .inl (upd f i.toNatClampNeg (vp_nar .char x))) (by simp [sd_kk]) ?_ (fun f' hh => by cases hh) e1 e2 e3) (sd_S_put hS ha e2 e3)
  funext q
  by_cases hq : q = i.toNatClampNeg
  · subst hq
    simp [updV, upd, sd_ct, vp_nar]
    try rfl
  · simp [updV, upd, hq, sd_ct]
theorem sd_bastore {a : Nat} {i x : Int32} (X : sd_C G p s m args c cc nL own) (ha : 16 ≤ a) (h : am_iok (w.1 a) 4 i = true) (hd : decode cc pc = .ok (.bastore, 1))
    (kk : sd_W G p l e R s m args below meth c nL n0 z0 Q L st (am_iput w a i (vp_nar .byte x)) (pc + 1)) : sd_W G p l e R s m args below meth c nL n0 z0 Q L (.int x :: .int i :: .ref a :: st) w pc := by
  intro ls H locs hl hH hS
  obtain ⟨n, f, h1, h2, -⟩ := am_iok_at h
  have e0 : am_iput w a i (vp_nar .byte x) = am_set w a (.inl (4, n, .inl (upd f i.toNatClampNeg (vp_nar .byte x)))) := by simp [am_iput, h1]
  rw [e0] at kk
  have hc := sd_arr hH ha h1
  rw [List.map_cons, List.map_cons, List.map_cons, sd_tr_ref (by omega)]
  refine W.bast X.1 X.2.1 hc.2 (sd_arrOf X (k := 4) (by omega) _ _) (fun q => by cases q) (sd_in_size h2) rfl rfl hd fun H' e1 e2 e3 => ?_
  refine kk ls H' _ hl (sd_set_a hH ha h1 (y := .inl (upd f i.toNatClampNeg (vp_nar .byte x))) (by simp [sd_kk]) ?_ (fun f' hh => by cases hh) e1 e2 e3) (sd_S_put hS ha e2 e3)
  funext q
  by_cases hq : q = i.toNatClampNeg
  · subst hq
    simp [updV, upd, sd_ct, vp_nar]
    try rfl
  · simp [updV, upd, hq, sd_ct]
theorem sd_lastore {a : Nat} {i : Int32} {x : Int64} (X : sd_C G p s m args c cc nL own) (ha : 16 ≤ a) (h : am_lok (w.1 a) i = true) (hd : decode cc pc = .ok (.lastore, 1))
    (kk : sd_W G p l e R s m args below meth c nL n0 z0 Q L st (am_lput w a i x) (pc + 1)) : sd_W G p l e R s m args below meth c nL n0 z0 Q L (.long x :: .int i :: .ref a :: st) w pc := by
  intro ls H locs hl hH hS
  obtain ⟨n, f, h1, h2, -⟩ := am_lok_at h
  have e0 : am_lput w a i x = am_set w a (.inl (1, n, .inr (.inl (vp_updL f i.toNatClampNeg x)))) := by simp [am_lput, h1]
  rw [e0] at kk
  have hc := sd_arr hH ha h1
  rw [List.map_cons, List.map_cons, List.map_cons, sd_tr_ref (by omega)]
  refine W.last X.1 X.2.1 hc.2 (sd_arrOf X (k := 1) (by omega) _ _) (fun q => by cases q) (sd_in_size h2) rfl rfl hd fun H' e1 e2 e3 => ?_
  refine kk ls H' _ hl (sd_set_a hH ha h1 (y := .inr (.inl (vp_updL f i.toNatClampNeg x))) (by simp [sd_kk]) ?_ (fun f' hh => by cases hh) e1 e2 e3) (sd_S_put hS ha e2 e3)
  funext q
  by_cases hq : q = i.toNatClampNeg
  · subst hq
    simp [updV, vp_updL, sd_ct]
  · simp [updV, vp_updL, hq, sd_ct]
theorem sd_aastoreN {a : Nat} {i : Int32} (X : sd_C G p s m args c cc nL own) (ha : 16 ≤ a) (h : am_qok (w.1 a) i = true) (hd : decode cc pc = .ok (.aastore, 1))
    (kk : sd_W G p l e R s m args below meth c nL n0 z0 Q L st (am_qput w a i none) (pc + 1)) : sd_W G p l e R s m args below meth c nL n0 z0 Q L (.null :: .int i :: .ref a :: st) w pc := by
  intro ls H locs hl hH hS
  obtain ⟨k, n, f, h1, h2, -⟩ := am_qok_at h
  have e0 : am_qput w a i none = am_set w a (.inl (k, n, .inr (.inr (va_up f i.toNatClampNeg none)))) := by simp [am_qput, h1]
  rw [e0] at kk
  have hc := sd_arr hH ha h1
  have hk : k = 5 ∨ k = 6 ∨ k = 7 := hc.1
  obtain ⟨Cn, hCn⟩ : ∃ Cn, sd_ty k = .object Cn := by rcases hk with rfl | rfl | rfl <;> exact ⟨_, rfl⟩
  rw [List.map_cons, List.map_cons, List.map_cons, sd_tr_ref (by omega)]
  refine va_WaastN (C := Cn) X.1 X.2.1 hc.2 (by rw [← hCn]; exact sd_arrOf X (k := k) (by omega) _ _) (fun q => by cases q) (sd_in_size h2) rfl rfl hd fun H' e1 e2 e3 => ?_
  refine kk ls H' _ hl (sd_set_a hH ha h1 (y := .inr (.inr (va_up f i.toNatClampNeg none))) hk ?_ (fun f' hh q z hz => ?_) e1 e2 e3) (sd_S_put hS ha e2 e3)
  · funext q
    by_cases hq : q = i.toNatClampNeg
    · subst hq
      simp [updV, va_up, sd_ct, va_rf, sd_tr]
    · simp [updV, va_up, hq, sd_ct]
  · cases hh
    by_cases hq : q = i.toNatClampNeg
    · subst hq; simp [va_up] at hz
    · rw [va_up_ne _ _ hq] at hz
      exact hH.2.2.2.2 a k n f h1 q z hz
/-- the cell of an object: any kind of ours, and the enum's constants -/
theorem sd_recv {H : Heap} {locs : List Loc} (X : sd_C G p s m args c cc nL own) (hH : sd_H G w H) (hS : va_S (sd_A G) s.heap H locs) {a ci : Nat} {f : Nat → Value} (h : w.1 a = some (.inr (ci, f))) {Cn : String} (hC : (ci = 12 ∧ Cn = "ConeForms$Kind") ∨ ∃ T N, classes[ci]? = some (Cn, T, N)) : a ≠ 14 ∧ ∃ cell : Cell, H[sd_ad G a]? = some cell ∧ cell.vm.isStatics = false ∧ s.vm.findClass Cn = some cell.cls := by
  rcases hC with ⟨rfl, rfl⟩ | ⟨T, N, hc⟩
  · obtain ⟨h12, -⟩ := sd_kind hH h
    obtain ⟨cell, h1, h2, h3, -⟩ := ((X.2.2.2.2.2.2.2.at hS).1.1 a h12).2.1
    refine ⟨by omega, cell, ?_, h2, h3⟩
    simp only [sd_ad, show a < 16 by omega, if_true]
    exact h1
  · have h12 : ci ≠ 12 := by intro q; subst q; simp [classes] at hc
    obtain ⟨h16, h14, -, r, hr, cell, q1, q2, q3, -⟩ := sd_obj hH h h12
    exact ⟨h14, cell, q1, by rw [q3]; rfl, by rw [q2]; exact (X.2.2.2.2.2.2.1.1.1 ci _ hc).2.1⟩
theorem sd_asg_at {v k : Nat} (h : am_asg (w.1 v) k = true) : ∃ ci f, w.1 v = some (.inr (ci, f)) ∧ ((k = 5 ∧ (ci = 5 ∨ ci = 6 ∨ ci = 7 ∨ ci = 8)) ∨ (k = 6 ∧ ci = 12) ∨ (k = 7 ∧ (ci = 5 ∨ ci = 6 ∨ ci = 7 ∨ ci = 8))) := by
  cases hv : w.1 v with
  | none => rw [hv] at h; simp [am_asg] at h
  | some x =>
    cases x with
    | inl y => rw [hv] at h; simp [am_asg] at h
    | inr o =>
      rw [hv] at h
      refine ⟨o.1, o.2, rfl, ?_⟩
      have hg : ∀ ci, am_g ci = 5 → ci = 5 ∨ ci = 6 ∨ ci = 7 ∨ ci = 8 := by
        intro ci hci
        unfold am_g at hci
        split at hci
        · rename_i hh; omega
        · omega
      simp only [am_asg, Bool.or_eq_true, Bool.and_eq_true, beq_iff_eq] at h
      rcases h with (⟨h1, h2⟩ | ⟨h1, h2⟩) | ⟨h1, h2⟩
      · exact Or.inl ⟨h1, hg _ h2⟩
      · exact Or.inr (Or.inl ⟨h1, h2⟩)
      · exact Or.inr (Or.inr ⟨h1, hg _ h2⟩)
end SDA
