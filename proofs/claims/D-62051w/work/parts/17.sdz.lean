/-! SOUNDNESS, eleventh part: switches, calls, and the theorem. -/
section SDZ
variable {mi : List (MethodName × ByteArray × Nat × Option FieldType)} {own nm : String} {cc : ByteArray} {nL : Nat} {ret : Option FieldType} {bp : Int → Nat} {pc : Nat}
theorem sd_ofInt {x : Int32} {n : Int} (h1 : -2147483648 ≤ n) (h2 : n ≤ 2147483647) : x = Int32.ofInt n ↔ x.toInt = n := by
  have e : (Int32.ofInt n).toInt = n := Int32.toInt_ofInt_of_le (by simpa using h1) (by omega)
  constructor
  · intro h; rw [h, e]
  · intro h; apply Int32.toInt_inj.mp; rw [e, h]
theorem am_sw_spec (x : Int32) (d : Int) : ∀ (bs : List Int) (lo : Int), -2147483648 ≤ lo → lo + bs.length ≤ 2147483647 → (am_sw x lo bs d = d ∧ (x.toInt < lo ∨ lo + bs.length ≤ x.toInt)) ∨ (lo ≤ x.toInt ∧ x.toInt < lo + bs.length ∧ bs[(x.toInt - lo).toNat]? = some (am_sw x lo bs d))
  | [], lo, h1, h2 => by
    left
    refine ⟨rfl, ?_⟩
    simp only [List.length_nil]
    omega
  | b :: bs, lo, h1, h2 => by
    simp only [List.length_cons] at h2 ⊢
    by_cases hx : x = Int32.ofInt lo
    · right
      have e := (sd_ofInt h1 (by omega)).mp hx
      refine ⟨by omega, by omega, ?_⟩
      rw [e]
      simp [am_sw, ← hx]
    · have e : ¬ x.toInt = lo := fun z => hx ((sd_ofInt h1 (by omega)).mpr z)
      have hs : am_sw x lo (b :: bs) d = am_sw x (lo + 1) bs d := by simp [am_sw, hx]
      rw [hs]
      rcases am_sw_spec x d bs (lo + 1) (by omega) (by omega) with ⟨g1, g2⟩ | ⟨g1, g2, g3⟩
      · left
        exact ⟨g1, by omega⟩
      · right
        refine ⟨by omega, by omega, ?_⟩
        have e2 : (x.toInt - lo).toNat = (x.toInt - (lo + 1)).toNat + 1 := by omega
        rw [e2, List.getElem?_cons_succ]
        exact g3
theorem ok_tsw {d lo hi d' : Int} {bs offs : Array Int} {len pc' : Nat} (hd : decode cc pc = .ok (.tableswitch d' lo hi offs, len)) (h1 : -2147483648 ≤ lo) (h2 : lo + bs.toList.length ≤ 2147483647) (hlen : hi + 1 = lo + bs.toList.length) (hdf : (pc : Int) + d' = (bp d : Int)) (hoff : offs.toList.map (fun o => (pc : Int) + o) = bs.toList.map (fun b => (bp b : Int))) : sd_Ok mi own nm cc nL ret bp (.tableswitch d lo hi bs) pc pc' := by
  refine ok_bx (fun L st w x h => ?_) ?_
  · simp only [am_ins, am_jp] at h
    split at h <;> cases h
  · intro G p l e R s m args below meth c n0 z0 Q X L st w
    refine ⟨fun L' st' w' hi => ?_, fun b' L' st' hi k => ?_⟩
    · simp only [am_ins, am_jp] at hi
      split at hi <;> cases hi
    · simp only [am_ins, am_jp] at hi
      split at hi
      · rename_i x r
        cases hi
        intro ls H locs hl hH hS
        have kk := k ls H locs hl hH hS
        rcases am_sw_spec x d bs.toList lo h1 h2 with ⟨g1, g2⟩ | ⟨g1, g2, g3⟩
        · rw [g1] at kk
          exact lv_tableOut X.1 X.2.1 hd (by omega) hdf kk
        · have hm := congrArg (fun l : List Int => l[(x.toInt - lo).toNat]?) hoff
          simp only [List.getElem?_map, g3, Option.map_some] at hm
          cases ho : offs.toList[(x.toInt - lo).toNat]? with
          | none => rw [ho] at hm; cases hm
          | some o =>
            rw [ho] at hm
            simp only [Option.map_some, Option.some.injEq] at hm
            exact lv_tableIn X.1 X.2.1 hd (by omega) (by omega) (by rw [← Array.getElem?_toList]; exact ho) hm kk
      · cases hi
theorem ok_lsw {d d' : Int} {ps offs : Array (Int × Int)} {len pc' : Nat} (hd : decode cc pc = .ok (.lookupswitch d' offs, len)) (hsrt : (offs.toList.zip (offs.toList.drop 1)).all (fun (a, next) => a.1 < next.1) = true) (hr : ∀ q ∈ ps.toList, -2147483648 ≤ q.1 ∧ q.1 ≤ 2147483647) (hdf : (pc : Int) + d' = (bp d : Int)) (hoff : offs.toList.map (fun o => (o.1, (pc : Int) + o.2)) = ps.toList.map (fun b => (b.1, (bp b.2 : Int)))) : sd_Ok mi own nm cc nL ret bp (.lookupswitch d ps) pc pc' := by
  refine ok_bx (fun L st w x h => ?_) ?_
  · simp only [am_ins, am_jp] at h
    split at h <;> cases h
  · intro G p l e R s m args below meth c n0 z0 Q X L st w
    refine ⟨fun L' st' w' hi => ?_, fun b' L' st' hi k => ?_⟩
    · simp only [am_ins, am_jp] at hi
      split at hi <;> cases hi
    · simp only [am_ins, am_jp] at hi
      split at hi
      · rename_i x r
        cases hi
        intro ls H locs hl hH hS
        have kk := k ls H locs hl hH hS
        have key : ∀ (os ps : List (Int × Int)), (∀ q ∈ ps, -2147483648 ≤ q.1 ∧ q.1 ≤ 2147483647) → os.map (fun o => (o.1, (pc : Int) + o.2)) = ps.map (fun b => (b.1, (bp b.2 : Int))) → (pc : Int) + Op.lookupswitch.offset os d' x.toInt = (bp (am_lk x ps d) : Int) := by
          intro os
          induction os with
          | nil =>
            intro ps _ h
            cases ps with
            | nil => simpa [am_lk, Op.lookupswitch.offset] using hdf
            | cons q ps => cases h
          | cons o os ih =>
            intro ps hps h
            cases ps with
            | nil => cases h
            | cons q ps =>
              simp only [List.map_cons, List.cons.injEq, Prod.mk.injEq] at h
              obtain ⟨⟨e1, e2⟩, e3⟩ := h
              obtain ⟨o1, o2⟩ := o
              obtain ⟨q1, q2⟩ := q
              dsimp only at e1 e2
              subst e1
              have hq := hps (o1, q2) List.mem_cons_self
              rw [Op.lookupswitch.offset_cons]
              by_cases hx : x.toInt = o1
              · have hx' : x = Int32.ofInt o1 := (sd_ofInt hq.1 hq.2).mpr hx
                rw [if_pos (by first | exact hx | exact hx.symm)]
                simp only [am_lk, hx', if_true]
                exact e2
              · have hx' : ¬ x = Int32.ofInt o1 := fun z => hx ((sd_ofInt hq.1 hq.2).mp z)
                rw [if_neg (by first | exact hx | exact fun z => hx z.symm)]
                simp only [am_lk, hx', if_false]
                exact ih ps (fun q hq => hps q (List.mem_cons_of_mem _ hq)) e3
        exact lv_lookup X.1 X.2.1 hd hsrt rfl (key offs.toList ps.toList hr hoff) kk
      · cases hi
/-- a static call -/
theorem ok_calls {j : Instr} {len z n : Nat} {y : MethodName} {b : ByteArray} {mL : Nat} {r0 : Option FieldType} (hd : decode cc pc = .ok (j, len)) (hz : mi[z]? = some (y, b, mL, r0)) (hc : sd_Callable own j len n y b mL r0 none) : sd_Ok mi own nm cc nL ret bp (.invokeinterface z n) pc (pc + len) := by
  intro G p l e R s m args below meth c n0 z0 Q X hnm hR L st w hn0 hz0
  refine ⟨fun L' st' w' hi => ?_, fun b' L' st' hi => ?_, fun z' as st' hi d r w1 hM hroom h1 h2 k => ?_, fun v hi => ?_⟩
  · simp only [am_ins, am_cl] at hi
    split at hi <;> cases hi
  · simp only [am_ins, am_cl] at hi
    split at hi <;> cases hi
  · simp only [am_ins, am_cl] at hi
    split at hi
    · rename_i hok
      cases hi
      obtain ⟨y', b', mL', r0', hz', hM'⟩ := hM
      cases hz.symm.trans hz'
      have e0 : st = (st.take n).reverse.reverse ++ st.drop n := by rw [List.reverse_reverse, List.take_append_drop]
      rw [e0]
      exact hc G p l e R s m args below meth c cc nL n0 z0 Q L (st.drop n) (st.take n).reverse w w1 pc d r X hd (by simp; omega) (fun ci h => by cases h) hok.2 hM' hroom hn0 hz0 h1 h2 k
    · cases hi
  · simp only [am_ins, am_cl] at hi
    split at hi <;> cases hi
theorem vt_mem {k ci z : Nat} (h : vt_f k ci = some z) : (ci, z) ∈ vt_l.getD k [] := by
  unfold vt_f at h
  generalize vt_l.getD k [] = l at h ⊢
  induction l with
  | nil => cases h
  | cons q l ih =>
    obtain ⟨a, b⟩ := q
    rw [List.lookup_cons] at h
    cases hq : ci == a with
    | true =>
      rw [hq] at h
      have : ci = a := by simpa using hq
      subst this
      cases h
      exact List.mem_cons_self
    | false =>
      rw [hq] at h
      exact List.mem_cons_of_mem _ (ih h)
/-- a call by the receiver's kind -/
theorem ok_callv {j : Instr} {len k n : Nat} (hn : 1 ≤ n) (hd : decode cc pc = .ok (j, len)) (hv : ∀ q ∈ vt_l.getD k [], ∃ y b mL r0, mi[q.2]? = some (y, b, mL, r0) ∧ sd_Callable own j len n y b mL r0 (some q.1)) : sd_Ok mi own nm cc nL ret bp (.multianewarray k n) pc (pc + len) := by
  intro G p l e R s m args below meth c n0 z0 Q X hnm hR L st w hn0 hz0
  refine ⟨fun L' st' w' hi => ?_, fun b' L' st' hi => ?_, fun z' as st' hi d r w1 hM hroom h1 h2 k0 => ?_, fun v hi => ?_⟩
  · simp only [am_ins, am_cl] at hi
    (repeat' split at hi) <;> cases hi
  · simp only [am_ins, am_cl] at hi
    (repeat' split at hi) <;> cases hi
  · simp only [am_ins, am_cl] at hi
    split at hi
    · rename_i a r' hdrop
      split at hi
      · rename_i hcats
        split at hi
        · rename_i ci hci
          split at hi
          · rename_i z hz
            cases hi
            obtain ⟨y, b, mL, r0, hz1, hc⟩ := hv _ (vt_mem hz)
            obtain ⟨y', b', mL', r0', hz', hM'⟩ := hM
            cases hz1.symm.trans hz'
            obtain ⟨f, hw⟩ : ∃ f, w.1 a = some (.inr (ci, f)) := by
              cases hx : w.1 a with
              | none => rw [hx] at hci; cases hci
              | some x =>
                cases x with
                | inl x => rw [hx] at hci; cases hci
                | inr o => rw [hx] at hci; cases hci; exact ⟨_, rfl⟩
            have e0 : st = (Value.ref a :: (st.take (n - 1)).reverse).reverse ++ st' := by
              rw [List.reverse_cons, List.reverse_reverse, List.append_assoc, List.singleton_append, ← hdrop, List.take_append_drop]
            have hl : (st.take (n - 1)).length = n - 1 := by
              have : (n - 1) < st.length := by
                rcases Nat.lt_or_ge (n - 1) st.length with h | h
                · exact h
                · rw [List.drop_eq_nil_of_le h] at hdrop; cases hdrop
              rw [List.length_take]; omega
            rw [e0]
            exact hc G p l e R s m args below meth c cc nL n0 z0 Q L st' (.ref a :: (st.take (n - 1)).reverse) w w1 pc d r X hd (by simp only [List.length_cons, List.length_reverse, hl]; omega) (fun ci' h => by cases h; exact ⟨a, f, _, rfl, hw⟩) hcats hM' hroom hn0 hz0 h1 h2 k0
          · cases hi
        · cases hi
      · cases hi
    · cases hi
  · simp only [am_ins, am_cl] at hi
    (repeat' split at hi) <;> cases hi
/-- System.arraycopy -/
theorem ok_copy {j : Nat} (hd : decode cc pc = .ok (.invokestatic j, 3)) (hlink : Cond.methodLink own j arraycopyName ∈ gws) (hnat : Cond.native arraycopyName ∈ gws) (hstat : Cond.static arraycopyName ∈ gws) (hini : Cond.initialized "java/lang/System" ∈ gws) : sd_Ok mi own nm cc nL ret bp .monitorenter pc (pc + 3) := by
  refine ok_nx (fun L st w x h => ?_) ?_
  · simp only [am_ins, am_nx] at h
    (repeat' split at h) <;> cases h
  · intro G p l e R s m args below meth c n0 z0 Q X hnm hR L st w hn0 hz0 L' st' w' hi hroom k
    simp only [am_ins, am_nx] at hi
    split at hi
    · rename_i n yp y xp x r
      split at hi
      · rename_i w2 hcp
        split at hi
        · rename_i hcats
          cases hi
          unfold am_copy at hcp
          split at hcp
          · rename_i nx f ny g hx hy
            split at hcp
            · cases hcp
            · rename_i hno
              cases hcp
              simp only [not_or] at hno
              obtain ⟨q1, q2, q3, q4, q5, q6, q7, q8, q9⟩ := hno
              intro ls H locs hl hH hS
              refine sd_copy (h' := .inl (va_cpy f g xp.toNatClampNeg yp.toNatClampNeg n.toNatClampNeg)) X (by omega) (by omega) hx hy q2 q3 q4 (by omega) (by omega) hcats (Or.inl ⟨rfl, fun i hi => ?_⟩) ?_ (by simp [sd_kk]) (fun f' hh => by cases hh) hlink hnat hstat hini hd hR k ls H locs hl hH hS
              · have hb : am_bfit f xp.toNatClampNeg n.toNatClampNeg = true := by simpa using q9
                have hb2 := List.all_eq_true.mp hb i (List.mem_range.mpr hi)
                simpa [sd_ct, fits] using hb2
              · funext i
                simp only [sd_ct, va_cpy]
                split <;> rfl
          · rename_i nx f ny g hx hy
            split at hcp
            · cases hcp
            · rename_i hno
              cases hcp
              simp only [not_or] at hno
              obtain ⟨q1, q2, q3, q4, q5, q6, q7, q8⟩ := hno
              intro ls H locs hl hH hS
              refine sd_copy (h' := .inr (.inr (va_cpy f g xp.toNatClampNeg yp.toNatClampNeg n.toNatClampNeg))) X (by omega) (by omega) hx hy q2 q3 q4 (by omega) (by omega) hcats (Or.inr ⟨rfl, f, rfl⟩) ?_ (by simp [sd_kk]) (fun f' hh q z hz => ?_) hlink hnat hstat hini hd hR k ls H locs hl hH hS
              · funext i
                simp only [sd_ct, va_cpy]
                split <;> rfl
              · cases hh
                unfold va_cpy at hz
                split at hz
                · exact hH.2.2.2.2 x 5 nx f hx _ z hz
                · exact hH.2.2.2.2 y 5 ny g hy _ z hz
          · cases hcp
        · cases hi
      · cases hi
    · cases hi
/-- ends -/
theorem ok_ret {i : Instr} {pc' : Nat} (h1 : ∀ L st w x, am_ins vt_f i L st w = some x → ∃ v, x = .inr (.inr (.inr v))) (h : sd_RetOk cc ret i pc) : sd_Ok mi own nm cc nL ret bp i pc pc' := by
  intro G p l e R s m args below meth c n0 z0 Q X hnm hR L st w hn0 hz0
  refine ⟨fun L' st' w' hi => ?_, fun b' L' st' hi => ?_, fun z as st' hi => ?_, fun v hi => h⟩
  · obtain ⟨v, hv⟩ := h1 _ _ _ _ hi; cases hv
  · obtain ⟨v, hv⟩ := h1 _ _ _ _ hi; cases hv
  · obtain ⟨v, hv⟩ := h1 _ _ _ _ hi; cases hv
theorem am_ret_only (t : Nat) (L st : List Value) (w : am_W) (x : am_Act) (h : am_ins vt_f (.ret t) L st w = some x) : ∃ v, x = .inr (.inr (.inr v)) := by
  simp only [am_ins, am_rt] at h
  (repeat' split at h) <;> first | (cases h; exact ⟨_, rfl⟩) | cases h
theorem am_lret_only (L st : List Value) (w : am_W) (x : am_Act) (h : am_ins vt_f .lreturn L st w = some x) : ∃ v, x = .inr (.inr (.inr v)) := by
  simp only [am_ins, am_rt] at h
  (repeat' split at h) <;> first | (cases h; exact ⟨_, rfl⟩) | cases h
theorem am_vret_only (L st : List Value) (w : am_W) (x : am_Act) (h : am_ins vt_f .return_ L st w = some x) : ∃ v, x = .inr (.inr (.inr v)) := by
  simp only [am_ins, am_rt] at h
  (repeat' split at h) <;> first | (cases h; exact ⟨_, rfl⟩) | cases h
theorem ok_ireti {pc' : Nat} (hd : decode cc pc = .ok (.ireturn, 1)) (hr : ret = some .int) : sd_Ok mi own nm cc nL ret bp (.ret 0) pc pc' := ok_ret (am_ret_only 0) (Or.inl ⟨rfl, hr, hd⟩)
theorem ok_iretz {pc' : Nat} (hd : decode cc pc = .ok (.ireturn, 1)) (hr : ret = some .boolean) : sd_Ok mi own nm cc nL ret bp (.ret 1) pc pc' := ok_ret (am_ret_only 1) (Or.inr (Or.inl ⟨rfl, hr, hd⟩))
theorem ok_iretc {pc' : Nat} (hd : decode cc pc = .ok (.ireturn, 1)) (hr : ret = some .char) : sd_Ok mi own nm cc nL ret bp (.ret 4) pc pc' := ok_ret (am_ret_only 4) (Or.inr (Or.inr (Or.inl ⟨rfl, hr, hd⟩)))
theorem ok_aret {pc' : Nat} (hd : decode cc pc = .ok (.areturn, 1)) (hr : (∃ n, ret = some (.object n)) ∨ ∃ t, ret = some (.array t)) : sd_Ok mi own nm cc nL ret bp (.ret 2) pc pc' := ok_ret (am_ret_only 2) (Or.inr (Or.inr (Or.inr (Or.inl ⟨rfl, hr, hd⟩))))
theorem ok_lret {pc' : Nat} (hd : decode cc pc = .ok (.lreturn, 1)) (hr : ret = some .long) : sd_Ok mi own nm cc nL ret bp .lreturn pc pc' := ok_ret am_lret_only (Or.inr (Or.inr (Or.inr (Or.inr (Or.inl ⟨rfl, hr, hd⟩)))))
theorem ok_vret {pc' : Nat} (hd : decode cc pc = .ok (.return_, 1)) (hr : ret = none) : sd_Ok mi own nm cc nL ret bp .return_ pc pc' := ok_ret am_vret_only (Or.inr (Or.inr (Or.inr (Or.inr (Or.inr ⟨rfl, hr, hd⟩)))))
end SDZ
