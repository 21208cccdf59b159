/-! SOUNDNESS, fourth part: rows of fields, statics, arrays, new cells. -/
section SDO
variable {G : sd_G} {p : Program} {l : Launch} {e : Env} {R : Room} {s : State} {m : MethodId} {args : Array Value} {below : List Frame} {meth : Method} {c : Code} {cc : ByteArray} {nL n0 z0 : Nat} {own : String} {Q : State → Prop} {L st : List Value} {w : am_W} {pc : Nat}
theorem sd_obj {H : Heap} (hH : sd_H G w H) {a : Nat} {o : Nat × (Nat → Value)} (h : w.1 a = some (.inr o)) (h12 : o.1 ≠ 12) : 16 ≤ a ∧ a ≠ 14 ∧ a < w.2.1 ∧ sd_cell G (sd_ad G a) (.inr o) H := by
  by_cases ha : a < 16
  · rw [hH.2.2.1 a ha] at h
    unfold sd_st0 at h
    split at h
    · cases h; exact absurd rfl h12
    · split at h
      · cases h
      · split at h
        · cases h
        · cases h
  · obtain ⟨h1, h2⟩ := hH.2.2.2.1 a _ (by omega) h
    exact ⟨by omega, by omega, h1, h2⟩
theorem sd_kind {H : Heap} (hH : sd_H G w H) {a : Nat} {f : Nat → Value} (h : w.1 a = some (.inr (12, f))) : a < 12 ∧ f = sd_kf a := by
  by_cases ha : a < 16
  · rw [hH.2.2.1 a ha] at h
    unfold sd_st0 at h
    split at h
    · rename_i h12
      cases h
      exact ⟨h12, rfl⟩
    · split at h
      · cases h
      · split at h
        · cases h
        · cases h
  · obtain ⟨-, r, h1, -⟩ := hH.2.2.2.1 a _ (by omega) h
    simp [classes] at h1
theorem sd_arr {H : Heap} (hH : sd_H G w H) {a : Nat} {x : Nat × Nat × am_Ar} (ha : 16 ≤ a) (h : w.1 a = some (.inl x)) : sd_cell G (sd_ad G a) (.inl x) H := (hH.2.2.2.1 a _ ha h).2
/-- an object's field, by the words of its table -/
theorem sd_getf {C : String} {T : u_T} {N ci k : Nat} {ref name desc : String} (X : sd_C G p s m args c cc nL own) (hin : ∀ w ∈ u_ws C T N, w ∈ gws) (hc : classes[ci]? = some (C, T, N)) (hk : k < N) (hnm : (T k).2.1 = name) (hds : (T k).2.2.1 = desc) (hsame : (T k).1 = ref ∨ Cond.sameField ref (T k).1 name desc ∈ gws)
    {i : Nat} (hlink : Cond.fieldLink own i ref name desc ∈ gws ∨ ∃ host, Cond.fieldLinkNest own i ref name desc host ∈ nws) (hd : decode cc pc = .ok (.getfield i, 3)) {a : Nat} {f : Nat → Value} (h : w.1 a = some (.inr (ci, f))) (h12 : ci ≠ 12)
    (kk : sd_W G p l e R s m args below meth c nL n0 z0 Q L (f k :: st) w (pc + 3)) : sd_W G p l e R s m args below meth c nL n0 z0 Q L (.ref a :: st) w pc := by
  intro ls H locs hl hH hS
  obtain ⟨h16, h14, -, r, hr, cell, q1, q2, q3, q4⟩ := sd_obj hH h h12
  have hr' : r = (C, T, N) := Option.some.inj (hr.symm.trans hc)
  subst hr'
  have hK := X.2.2.2.2.2.2.1.1
  obtain ⟨hSl, hfc, kC, hkC, hkind⟩ := hK.1 ci _ hc
  obtain ⟨cf, kf, fi, fd, hi, hsl⟩ := hSl k hk
  have hi2 : s.fieldFound? ref name desc = some (cf, kf, fi, fd) := by
    rw [hnm, hds] at hi
    rcases hsame with h0 | h0
    · rw [← h0]; exact hi
    · exact u_same (X.2.2.2.2.1 _ h0) _ hi
  have hst := (u_facts hfc hkC (u_lays X.2.2.2.2.1 hin hk) hi).1
  have kk' := kk ls H locs hl hH hS
  rw [List.map_cons] at kk' ⊢
  rw [sd_tr_ref h14]
  have hslot : cell.slots[fd.slot]? = some (sd_tr G (f k)) := by rw [hsl, q4 k hk]
  rcases hlink with hlk | ⟨host, hlk⟩
  · exact W.getf X.1 X.2.1 X.2.2.2.1 (X.2.2.2.2.1 _ hlk) hi2 hst q1 (by rw [q3]; exact fun h => by cases h) hslot rfl rfl hd kk'
  · exact va_Wgetf X.1 X.2.1 X.2.2.2.1 (va_Nw.use rfl (X.2.2.2.2.2.2.1.2.2.1 _ hlk)) hi2 hst q1 (by rw [q3]; exact fun h => by cases h) hslot rfl rfl hd kk'
/-- a field of an enum's constant -/
theorem sd_getk {q : String × String × String × List Int32} {k : Nat} {ref : String} (X : sd_C G p s m args c cc nL own) (hq : q ∈ sd_FF) (hv : ∀ a, a < 12 → sd_kf a k = .int (q.2.2.2.getD a 0)) (hsame : q.1 = ref ∨ Cond.sameField ref q.1 q.2.1 q.2.2.1 ∈ gws)
    {i : Nat} (hlink : Cond.fieldLink own i ref q.2.1 q.2.2.1 ∈ gws ∨ ∃ host, Cond.fieldLinkNest own i ref q.2.1 q.2.2.1 host ∈ nws) (hd : decode cc pc = .ok (.getfield i, 3)) {a : Nat} {f : Nat → Value} (h : w.1 a = some (.inr (12, f)))
    (kk : sd_W G p l e R s m args below meth c nL n0 z0 Q L (f k :: st) w (pc + 3)) : sd_W G p l e R s m args below meth c nL n0 z0 Q L (.ref a :: st) w pc := by
  intro ls H locs hl hH hS
  obtain ⟨h12, hf⟩ := sd_kind hH h
  have hE := (X.2.2.2.2.2.2.2.at hS).1
  obtain ⟨cf, k0, fi, fd, cell, h1, h2, h3, h4, h5, h6⟩ := (hE.1 a h12).2.2 q hq
  have hi2 : s.fieldFound? ref q.2.1 q.2.2.1 = some (cf, k0, fi, fd) := by
    rcases hsame with h0 | h0
    · rw [← h0]; exact h1
    · exact u_same (X.2.2.2.2.1 _ h0) _ h1
  have kk' := kk ls H locs hl hH hS
  rw [hf, hv a h12, List.map_cons] at kk'
  rw [List.map_cons, sd_tr_ref (by omega)]
  simp only [sd_ad, show a < 16 by omega, if_true]
  rcases hlink with hlk | ⟨host, hlk⟩
  · exact W.getf X.1 X.2.1 X.2.2.2.1 (X.2.2.2.2.1 _ hlk) hi2 h2 h3 h4 h5 rfl rfl hd kk'
  · exact va_Wgetf X.1 X.2.1 X.2.2.2.1 (va_Nw.use rfl (X.2.2.2.2.2.2.1.2.2.1 _ hlk)) hi2 h2 h3 h4 h5 rfl rfl hd kk'
/-- what a field of a type keeps of a value that fits -/
theorem sd_fit (hf : sd_fmok G) {t : Nat} {ty : FieldType} {v : Value} (h : am_fit t v = true) (ht : (t = 0 ∧ ty = .int) ∨ (t = 1 ∧ ty = .boolean) ∨ (t = 2 ∧ ((∃ n, ty = .object n) ∨ ∃ n, ty = .array n)) ∨ (t = 3 ∧ ty = .byte) ∨ (t = 4 ∧ ty = .char)) : narrow ty (sd_tr G v) = sd_tr G v ∧ fits ty (sd_tr G v) = true := by
  rcases ht with ⟨rfl, rfl⟩ | ⟨rfl, rfl⟩ | ⟨rfl, ht⟩ | ⟨rfl, rfl⟩ | ⟨rfl, rfl⟩
  · cases v <;> simp_all [am_fit, sd_tr, narrow, fits]
  · cases v with
    | int x =>
      simp only [am_fit, Bool.or_eq_true, beq_iff_eq] at h
      rcases h with rfl | rfl <;> exact ⟨rfl, rfl⟩
    | _ => simp [am_fit] at h
  · have hv : am_isA v = true := by cases v <;> simp_all [am_fit, am_isA]
    rcases sd_tr_isA hf hv with h0 | ⟨a, h0⟩ <;> rw [h0] <;> rcases ht with ⟨n, rfl⟩ | ⟨n, rfl⟩ <;> exact ⟨rfl, rfl⟩
  · cases v with
    | int x =>
      simp only [am_fit, Bool.and_eq_true, decide_eq_true_eq] at h
      refine ⟨?_, by simp [sd_tr, fits, h.1, h.2]⟩
      show Value.int x.toInt8.toInt32 = .int x
      have h1 := Int32.le_iff_toInt_le.mp h.1
      have h2 := Int32.le_iff_toInt_le.mp h.2
      congr 1
      apply Int32.toInt_inj.mp
      rw [Int8.toInt_toInt32, Int32.toInt_toInt8]
      have e1 : (-128 : Int32).toInt = -128 := by decide
      have e2 : (127 : Int32).toInt = 127 := by decide
      rw [e1] at h1
      rw [e2] at h2
      rw [Int.bmod_eq_of_le (by omega) (by omega)]
    | _ => simp [am_fit] at h
  · cases v with
    | int x =>
      simp only [am_fit, Bool.and_eq_true, decide_eq_true_eq] at h
      refine ⟨?_, by simp [sd_tr, fits, h.1, h.2]⟩
      have h1 := Int32.le_iff_toInt_le.mp h.1
      have h2 := Int32.le_iff_toInt_le.mp h.2
      have e1 : (0 : Int32).toInt = 0 := by decide
      have e2 : (65535 : Int32).toInt = 65535 := by decide
      rw [e1] at h1
      rw [e2] at h2
      obtain ⟨q, hq, rfl⟩ : ∃ q : Nat, q < 65536 ∧ x = nI q := by
        obtain ⟨j, h3, h4⟩ := nI_of (x := x) (by rw [Int32.lt_iff_toInt_lt, e1]; omega)
        refine ⟨j, ?_, h4⟩
        rw [h4, nI_toInt h3] at h2
        omega
      exact (pk_charN hq).1
    | _ => simp [am_fit] at h
theorem sd_S_put {H H' : Heap} {locs : List Loc} {a k : Nat} (hS : va_S (sd_A G) s.heap H locs) (ha : 16 ≤ a) (hz : H'.size = H.size) (ho : ∀ q : Nat, q ≠ sd_ad G a → H'[q]? = H[q]?) : va_S (sd_A G) s.heap H' (locs ++ [⟨sd_ad G a, k⟩]) := by
  have hA : sd_A G (sd_ad G a) := by show sd_s0 G ≤ _; rw [sd_ad_ge ha]; omega
  refine ⟨by rw [hz]; exact hS.1, fun q h1 h2 => ?_, fun q hq => ?_⟩
  · rw [ho q (fun z => h2 (by rw [z]; exact hA))]
    exact hS.2.1 q h1 h2
  · rcases List.mem_append.mp hq with h | h
    · exact hS.2.2 q h
    · rw [List.mem_singleton.mp h]
      exact hA
theorem sd_put_o {H H' : Heap} (hH : sd_H G w H) {a ci k N : Nat} {C : String} {T : u_T} {f : Nat → Value} {v : Value} {cell : Cell} (h16 : 16 ≤ a) (h : w.1 a = some (.inr (ci, f))) (hc : classes[ci]? = some (C, T, N)) (hk : k < N) (hap : ∀ x y, x < N → y < N → x ≠ y → (sd_D G).2 ci x ≠ (sd_D G).2 ci y)
    (q2 : cell.cls = (sd_D G).1 ci) (q3 : cell.vm = .none) (q4 : ∀ j, j < N → cell.slots[(sd_D G).2 ci j]? = some (sd_tr G (f j))) (e1 : H'[sd_ad G a]? = some (cell.setSlot ((sd_D G).2 ci k) (sd_tr G v))) (e2 : H'.size = H.size) (e3 : ∀ q, q ≠ sd_ad G a → H'[q]? = H[q]?) : sd_H G (am_set w a (.inr (ci, va_up f k v))) H' := by
  refine hH.set h16 h (sd_like_o ci f _) ⟨_, hc, ?_⟩ e2 e3 (fun k' n' f' hh => by cases hh)
  refine t_OB.to (V := updV (fun j => sd_tr G (f j)) k (sd_tr G v)) ⟨_, e1, q2, q3, t_set q4 hap hk _⟩ (fun j hj => ?_)
  by_cases hjk : j = k
  · subst hjk; simp [updV, va_up]
  · simp [updV, va_up, hjk]
theorem sd_putf {C : String} {T : u_T} {N ci k t : Nat} {ref name desc : String} {ty : FieldType} (ty0 : Nat → FieldType) (X : sd_C G p s m args c cc nL own) (hin : ∀ w ∈ u_ws C T N, w ∈ gws) (hty : ∀ k, k < N → parseFieldDescriptor (T k).2.2.1 = some (ty0 k)) (hnms : ∀ a, a < N → ∀ b, b < N → a ≠ b → (T a).2.1 ≠ (T b).2.1)
    (hc : classes[ci]? = some (C, T, N)) (hk : k < N) (hnm : (T k).2.1 = name) (hds : (T k).2.2.1 = desc) (hsame : (T k).1 = ref ∨ Cond.sameField ref (T k).1 name desc ∈ gws)
    {i : Nat} (hlink : (Cond.fieldLink own i ref name desc ∈ gws ∧ ((T k).2.2.2 = false ∨ ((T k).2.2.2 = true ∧ meth.name = "<init>" ∧ (T k).1 = own))) ∨ ((T k).2.2.2 = false ∧ ∃ host, Cond.fieldLinkNest own i ref name desc host ∈ nws)) (hd : decode cc pc = .ok (.putfield i, 3)) {a : Nat} {f : Nat → Value} (h : w.1 a = some (.inr (ci, f))) (h12 : ci ≠ 12)
    {v : Value} (hdt : parseFieldDescriptor desc = some ty) (hfit : am_fit t v = true) (ht : (t = 0 ∧ ty = .int) ∨ (t = 1 ∧ ty = .boolean) ∨ (t = 2 ∧ ((∃ n, ty = .object n) ∨ ∃ n, ty = .array n)) ∨ (t = 3 ∧ ty = .byte) ∨ (t = 4 ∧ ty = .char))
    (kk : sd_W G p l e R s m args below meth c nL n0 z0 Q L st (am_set w a (.inr (ci, va_up f k v))) (pc + 3)) : sd_W G p l e R s m args below meth c nL n0 z0 Q L (v :: .ref a :: st) w pc := by
  intro ls H locs hl hH hS
  obtain ⟨h16, h14, -, r, hr, cell, q1, q2, q3, q4⟩ := sd_obj hH h h12
  have hr' : r = (C, T, N) := Option.some.inj (hr.symm.trans hc)
  subst hr'
  have hK := X.2.2.2.2.2.2.1.1
  have hap := va_apart (own := own) X.2.2.2.2.1 hin ty0 hty hnms hK hc
  obtain ⟨hSl, hfc, kC, hkC, hkind⟩ := hK.1 ci _ hc
  obtain ⟨cf, kf, fi, fd, hi, hsl⟩ := hSl k hk
  have hi2 : s.fieldFound? ref name desc = some (cf, kf, fi, fd) := by
    have hi := hi
    rw [hnm, hds] at hi
    rcases hsame with h0 | h0
    · rw [← h0]; exact hi
    · exact u_same (X.2.2.2.2.1 _ h0) _ hi
  have hst := (u_facts hfc hkC (u_lays X.2.2.2.2.1 hin hk) hi).1
  obtain ⟨hn, hfi⟩ := sd_fit (G := G) X.2.2.2.2.2.1 hfit ht
  have hlay := X.2.2.2.2.1 _ (hin _ (u_in_lay hk))
  unfold u_lay at hlay
  rw [List.map_cons, List.map_cons, sd_tr_ref h14]
  have hgo : ∀ H' : Heap, H'[sd_ad G a]? = some (cell.setSlot fd.slot (sd_tr G v)) → H'.size = H.size → (∀ q, q ≠ sd_ad G a → H'[q]? = H[q]?) → W p l e R s m args below meth c H' (locs ++ [⟨sd_ad G a, fd.slot⟩]) (w.2.1 - n0) (w.2.2 - z0) Q (F0 m (pc + 3) ls (st.map (sd_tr G))) := by
    intro H' e1 e2 e3
    rw [hsl] at e1
    exact kk ls H' _ hl (sd_put_o hH h16 h hc hk hap q2 q3 q4 e1 e2 e3) (sd_S_put hS h16 e2 e3)
  have hlt : fd.slot < cell.slots.size := by rw [hsl]; exact k2_hasslot (q4 k hk)
  rw [hds] at hlay
  rcases hlink with ⟨hlk, hfin | ⟨hfin, hinit, hown2⟩⟩ | ⟨hfin, host, hlk⟩
  · rw [if_neg (by rw [hfin]; decide)] at hlay
    exact W.putK X.1 X.2.1 (f := fd) ⟨X.2.2.2.1, X.2.2.2.2.1 _ hlk, ⟨_, _, _, hi2⟩, hst⟩ (by rw [q2]; exact u_store hfc hkC hkind hlay (by rw [hds] at hi; exact hi) hdt hn hfi) q1 q3 hlt rfl rfl hd hgo
  · rw [if_pos hfin] at hlay
    have hcf : m.cls = cf := by
      obtain ⟨_, _, c', _, _, _, -, -, hf', -, -, -, hown3, -⟩ := Cond.laysFinal_spec hlay
      rw [hds] at hi
      have e1 : c' = cf := by have := hi.symm.trans hf'; simp at this; exact this.1.symm
      rw [hown2] at hown3
      rw [← e1]; exact Option.some.inj (X.2.2.2.1.symm.trans hown3)
    exact W.putFinK X.1 X.2.1 X.2.2.2.1 (X.2.2.2.2.1 _ hlk) hi2 hst hcf hinit (by rw [q2]; exact u_fits hfc hkC hkind (Or.inr hlay) (by rw [hds] at hi; exact hi) hdt hn hfi) q1 q3 hlt rfl rfl hd hgo
  · rw [if_neg (by rw [hfin]; decide)] at hlay
    exact va_WputK X.1 X.2.1 (f := fd) X.2.2.2.1 (va_Nw.use rfl (X.2.2.2.2.2.2.1.2.2.1 _ hlk)) hi2 hst (by rw [q2]; exact u_store hfc hkC hkind hlay (by rw [hds] at hi; exact hi) hdt hn hfi) q1 q3 hlt rfl rfl hd hgo
end SDO
