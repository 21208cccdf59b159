/-! SOUNDNESS, sixth part: rows of new cells, casts, natives. -/
section SDN
variable {G : sd_G} {p : Program} {l : Launch} {e : Env} {R : Room} {s : State} {m : MethodId} {args : Array Value} {below : List Frame} {meth : Method} {c : Code} {cc : ByteArray} {nL n0 z0 : Nat} {own : String} {Q : State → Prop} {L st : List Value} {w : am_W} {pc : Nat}
theorem nm_i {w : Cond} (i : Nat) (h : tables_1[i]? = some w) (hg : nwOk w = true) : w ∈ nws := List.mem_filter.mpr ⟨List.mem_of_getElem? h, hg⟩
theorem sd_castable (X : sd_C G p s m args c cc nL own) {C E : String} (h : Cond.castable C E ∈ nws) {c1 c2 : ClassId} (h1 : s.vm.findClass C = some c1) (h2 : s.vm.findClass E = some c2) : s.vm.assignable c1 c2 = true := by
  obtain ⟨c0, t0, f1, f2, f3⟩ := Cond.castable_spec (va_Nw.use (A := args) rfl (X.2.2.2.2.2.2.1.2.2.1 _ h))
  cases h1.symm.trans f1
  cases h2.symm.trans f2
  exact f3
theorem sd_kn5 : Cond.castable "ConeForms$Leaf" "ConeForms$Node" ∈ nws ∧ Cond.castable "ConeForms$Bend" "ConeForms$Node" ∈ nws ∧ Cond.castable "ConeForms$Product" "ConeForms$Node" ∈ nws ∧ Cond.castable "ConeForms$Linear" "ConeForms$Node" ∈ nws ∧ Cond.castable "ConeForms$Bend" "ConeForms$Bend" ∈ nws ∧ Cond.castable "ConeForms$Leaf" "java/lang/Object" ∈ nws ∧ Cond.castable "ConeForms$Bend" "java/lang/Object" ∈ nws ∧ Cond.castable "ConeForms$Product" "java/lang/Object" ∈ nws ∧ Cond.castable "ConeForms$Linear" "java/lang/Object" ∈ nws :=
  ⟨nm_i 1444 (by decide +kernel) rfl, nm_i 1443 (by decide +kernel) rfl, nm_i 1446 (by decide +kernel) rfl, nm_i 1445 (by decide +kernel) rfl, nm_i 1447 (by decide +kernel) rfl, nm_i 1455 (by decide +kernel) rfl, nm_i 1456 (by decide +kernel) rfl, nm_i 1457 (by decide +kernel) rfl, nm_i 1458 (by decide +kernel) rfl⟩
/-- a node is of one of four kinds: its name, and that it can stand for a Node and an Object -/
theorem sd_nodeC {ci : Nat} (h : ci = 5 ∨ ci = 6 ∨ ci = 7 ∨ ci = 8) : ∃ Cn T N, classes[ci]? = some (Cn, T, N) ∧ Cond.castable Cn "ConeForms$Node" ∈ nws ∧ Cond.castable Cn "java/lang/Object" ∈ nws := by
  obtain ⟨h1, h2, h3, h4, h5, h6, h7, h8, h9⟩ := sd_kn5
  rcases h with rfl | rfl | rfl | rfl
  · exact ⟨_, _, _, rfl, h1, h6⟩
  · exact ⟨_, _, _, rfl, h2, h7⟩
  · exact ⟨_, _, _, rfl, h3, h8⟩
  · exact ⟨_, _, _, rfl, h4, h9⟩
/-- what stands in an array of references may stand there -/
theorem sd_elem {H : Heap} {locs : List Loc} (X : sd_C G p s m args c cc nL own) (hH : sd_H G w H) (hS : va_S (sd_A G) s.heap H locs) {v k : Nat} (h : am_asg (w.1 v) k = true) {Cn : String} (hty : sd_ty k = .object Cn) (hk : k = 5 ∨ k = 6 ∨ k = 7) : v ≠ 14 ∧ ∃ cell : Cell, H[sd_ad G v]? = some cell ∧ cell.vm.isStatics = false ∧ (∃ kC : Class, s.vm.classes[cell.cls]? = some kC) ∧ ∀ comp : ClassId, s.vm.findClass Cn = some comp → s.vm.assignable cell.cls comp = true := by
  obtain ⟨ci, f, hv, hh⟩ := sd_asg_at h
  rcases hh with ⟨rfl, hci⟩ | ⟨rfl, rfl⟩ | ⟨rfl, hci⟩
  · cases hty
    obtain ⟨C1, T, N, hc, hN, hO⟩ := sd_nodeC hci
    obtain ⟨h14, cell, g1, g2, g3⟩ := sd_recv X hH hS hv (Or.inr ⟨T, N, hc⟩)
    obtain ⟨kC, hkC, -⟩ := Vm.findClass_spec g3
    exact ⟨h14, cell, g1, g2, ⟨kC, hkC⟩, fun comp hcomp => sd_castable X hO g3 hcomp⟩
  · cases hty
    obtain ⟨h14, cell, g1, g2, g3⟩ := sd_recv X hH hS hv (Or.inl ⟨rfl, rfl⟩)
    obtain ⟨kC, hkC, -⟩ := Vm.findClass_spec g3
    refine ⟨h14, cell, g1, g2, ⟨kC, hkC⟩, fun comp hcomp => ?_⟩
    cases g3.symm.trans hcomp
    exact va_asg _ _
  · cases hty
    obtain ⟨C1, T, N, hc, hN, hO⟩ := sd_nodeC hci
    obtain ⟨h14, cell, g1, g2, g3⟩ := sd_recv X hH hS hv (Or.inr ⟨T, N, hc⟩)
    obtain ⟨kC, hkC, -⟩ := Vm.findClass_spec g3
    exact ⟨h14, cell, g1, g2, ⟨kC, hkC⟩, fun comp hcomp => sd_castable X hN g3 hcomp⟩
theorem sd_aastoreR {a v : Nat} {i : Int32} (X : sd_C G p s m args c cc nL own) (ha : 16 ≤ a) (h : am_qok (w.1 a) i = true) (hv : am_asg (w.1 v) (am_akind (w.1 a)) = true) (hd : decode cc pc = .ok (.aastore, 1))
    (kk : sd_W G p l e R s m args below meth c nL n0 z0 Q L st (am_qput w a i (some v)) (pc + 1)) : sd_W G p l e R s m args below meth c nL n0 z0 Q L (.ref v :: .int i :: .ref a :: st) w pc := by
  intro ls H locs hl hH hS
  obtain ⟨k, n, f, h1, h2, -⟩ := am_qok_at h
  have hak : am_akind (w.1 a) = k := by rw [h1]; rfl
  rw [hak] at hv
  have e0 : am_qput w a i (some v) = am_set w a (.inl (k, n, .inr (.inr (va_up f i.toNatClampNeg (some v))))) := by simp [am_qput, h1]
  rw [e0] at kk
  have hc := sd_arr hH ha h1
  have hk : k = 5 ∨ k = 6 ∨ k = 7 := hc.1
  obtain ⟨Cn, hCn⟩ : ∃ Cn, sd_ty k = .object Cn := by rcases hk with rfl | rfl | rfl <;> exact ⟨_, rfl⟩
  obtain ⟨h14, cellV, g1, g3, ⟨kC, hkC⟩, hasg⟩ := sd_elem X hH hS hv hCn hk
  obtain ⟨kA, comp, k1, k2, k3, -⟩ : va_RA s (sd_cA G k) (.object Cn) := by rw [← hCn]; exact (X.2.2.2.2.2.2.1.1.2 k _ (sd_tys_at G (by omega))).2
  obtain ⟨kE, hkE, -⟩ := Vm.findClass_spec k3
  rw [List.map_cons, List.map_cons, List.map_cons, sd_tr_ref (show a ≠ 14 by omega), sd_tr_ref h14]
  refine W.aast X.1 X.2.1 hc.2 (fun q h => by cases h) (fun h => by cases h) k1 k2 rfl hkE ⟨fun q => h2 (Or.inl q), by rw [arrV_size]; exact sd_in_lt h2⟩ g1 (fun q h => by rw [h] at g3; cases g3) hkC (hasg _ k3) rfl rfl hd fun H' e1 e2 e3 => ?_
  refine kk ls H' _ hl (sd_set_a hH ha h1 (y := .inr (.inr (va_up f i.toNatClampNeg (some v)))) hk ?_ (fun f' hh q z hz => ?_) e1 e2 e3) (sd_S_put hS ha e2 e3)
  · funext q
    by_cases hq : q = i.toNatClampNeg
    · subst hq
      simp [updV, va_up, sd_ct, va_rf, sd_tr_ref h14]
    · simp [updV, va_up, hq, sd_ct]
  · cases hh
    by_cases hq : q = i.toNatClampNeg
    · subst hq
      rw [va_up_self] at hz
      cases hz
      exact hv
    · rw [va_up_ne _ _ hq] at hz
      exact hH.2.2.2.2 a k n f h1 q z hz
theorem sd_alen {a : Nat} (X : sd_C G p s m args c cc nL own) (h : am_isarr (w.1 a) = true) (hd : decode cc pc = .ok (.arraylength, 1))
    (kk : sd_W G p l e R s m args below meth c nL n0 z0 Q L (.int (Int32.ofNat (am_len (w.1 a))) :: st) w (pc + 1)) : sd_W G p l e R s m args below meth c nL n0 z0 Q L (.ref a :: st) w pc := by
  intro ls H locs hl hH hS
  have kk' := kk ls H locs hl hH hS
  cases hx : w.1 a with
  | none => rw [hx] at h; cases h
  | some x =>
    cases x with
    | inr o => rw [hx] at h; cases h
    | inl x =>
      obtain ⟨k, n, y⟩ := x
      have hlen : am_len (w.1 a) = n := by rw [hx]; rfl
      rw [hlen] at kk'
      have hgo : 16 ≤ a → W p l e R s m args below meth c H locs (w.2.1 - n0) (w.2.2 - z0) Q (F0 m pc ls (List.map (sd_tr G) (.ref a :: st))) := by
        intro ha
        have hc := sd_arr hH ha hx
        rw [List.map_cons, sd_tr_ref (by omega)]
        exact W.alen (n := Int32.ofNat n) X.1 X.2.1 hc.2 (sd_arrOf X (k := k) hc.1.lt _ _) (by rw [arrV_size] <;> rfl) rfl rfl hd kk'
      rcases y with f | y
      · rcases sd_arrI hH hx with ha | ⟨rfl, -, rfl, rfl⟩
        · exact hgo ha
        · have hs := X.2.2.2.2.2.2.2
          exact va_slen X.1 X.2.1 hs.2.2.2.2.2.1 hs.2.2.2.2.2.2.1 (Nat.not_le.mpr (hs.2.2.2.2.2.2.2.2 15 (by omega) (by omega))) hS hd kk'
      · rcases sd_arrD hH hx with ha | ⟨rfl, rfl, rfl, -⟩
        · exact hgo ha
        · obtain ⟨cell, q1, q2, q3, q4, q5, -⟩ := (X.2.2.2.2.2.2.2.at hS).2.2.1
          exact W.alen (n := Int32.ofNat 0) X.1 X.2.1 q1 q2 q5 rfl rfl hd kk'
theorem sd_S_new {H H' : Heap} {locs : List Loc} (hS : va_S (sd_A G) s.heap H locs) (hz : H'.size = H.size + 1) (ho : ∀ q : Nat, q < H.size → H'[q]? = H[q]?) : va_S (sd_A G) s.heap H' locs :=
  ⟨Nat.le_trans hS.1 (by omega), fun q h1 h2 => (ho q (Nat.lt_of_lt_of_le h1 hS.1)).trans (hS.2.1 q h1 h2), hS.2.2⟩
theorem sd_newref {H : Heap} (hH : sd_H G w H) : sd_tr G (.ref w.2.1) = .ref H.size := by
  rw [sd_tr_ref (by have := hH.1; omega), hH.fresh.2]
/-- a new array of numbers -/
theorem sd_newa {k : Nat} {n : Int32} {at' : ArrayType} (X : sd_C G p s m args c cc nL own) (hk : k < 5) (hty : newarray.typeOf at' = sd_ty k) (hw : Cond.arrayClass (sd_ty k) ∈ gws) (hn : ¬ n < 0) (hN : n.toNatClampNeg ≤ 5000) (hd : decode cc pc = .ok (.newarray at', 2)) (hn0 : n0 ≤ w.2.1) (hz0 : z0 ≤ w.2.2) (hR : w.2.1 + 1 - n0 ≤ R.cells ∧ w.2.2 + n.toNatClampNeg - z0 ≤ R.slots)
    (kk : sd_W G p l e R s m args below meth c nL n0 z0 Q L (.ref w.2.1 :: st) (am_newa w k n.toNatClampNeg) (pc + 2)) : sd_W G p l e R s m args below meth c nL n0 z0 Q L (.int n :: st) w pc := by
  intro ls H locs hl hH hS
  have hb : componentBytes (newarray.typeOf at') ≤ 8 := by cases at' <;> simp [newarray.typeOf, componentBytes]
  have hby : n.toNatClampNeg * componentBytes (newarray.typeOf at') ≤ 536870912 := Nat.le_trans (Nat.mul_le_mul hN hb) (by omega)
  refine va_newaK X.1 X.2.1 (by rw [hty]; exact X.2.2.2.2.1 _ hw) (g := F0 m pc ls (List.map (sd_tr G) (.int n :: st))) rfl hd rfl hn rfl hby (by omega) (by omega) rfl fun H' cA e1 e2 e3 hAr hfc => ?_
  have hcA : cA = sd_cA G k := by
    have h1 := (X.2.2.2.2.2.2.1.1.2 k _ (sd_tys_at G (by omega))).2
    have h2 : s.vm.findClass ("[" ++ (sd_ty k).toString) = some (sd_cA G k) := by
      rcases (show k = 0 ∨ k = 1 ∨ k = 2 ∨ k = 3 ∨ k = 4 by omega) with rfl | rfl | rfl | rfl | rfl <;> exact h1
    rw [hty] at hfc
    exact Option.some.inj (hfc.symm.trans h2)
  subst hcA
  have hcell : sd_cell G H.size (.inl (k, n.toNatClampNeg, am_zero k)) H' := by
    refine ⟨?_, ?_⟩
    · rcases (show k = 0 ∨ k = 1 ∨ k = 2 ∨ k = 3 ∨ k = 4 by omega) with rfl | rfl | rfl | rfl | rfl <;> simp [sd_kk, am_zero]
    · rw [e1, hty]
      rcases (show k = 0 ∨ k = 1 ∨ k = 2 ∨ k = 3 ∨ k = 4 by omega) with rfl | rfl | rfl | rfl | rfl <;> rfl
  have kk' := kk ls H' locs hl (hH.new hcell e2 e3 (fun k' n' f' hh j => by
    rcases (show k = 0 ∨ k = 1 ∨ k = 2 ∨ k = 3 ∨ k = 4 by omega) with rfl | rfl | rfl | rfl | rfl <;> simp [am_zero] at hh)) (sd_S_new hS e2 e3)
  rw [List.map_cons, sd_newref hH] at kk'
  have c1 : w.2.1 - n0 + 1 = (am_newa w k n.toNatClampNeg).2.1 - n0 := by show _ = w.2.1 + 1 - n0; omega
  have c2 : w.2.2 - z0 + n.toNatClampNeg = (am_newa w k n.toNatClampNeg).2.2 - z0 := by show _ = w.2.2 + n.toNatClampNeg - z0; omega
  exact W.cs c1 c2 kk'
/-- a new array of references -/
theorem sd_newq {k i : Nat} {n : Int32} {Cn : String} (X : sd_C G p s m args c cc nL own) (hk : k = 5 ∨ k = 6 ∨ k = 7) (hty : sd_ty k = .object Cn) (hlink : Cond.classLink own i Cn ∈ gws) (hover : va_AO Cn s) (hn : ¬ n < 0) (hN : n.toNatClampNeg ≤ 5000) (hd : decode cc pc = .ok (.anewarray i, 3)) (hn0 : n0 ≤ w.2.1) (hz0 : z0 ≤ w.2.2) (hR : w.2.1 + 1 - n0 ≤ R.cells ∧ w.2.2 + n.toNatClampNeg - z0 ≤ R.slots)
    (kk : sd_W G p l e R s m args below meth c nL n0 z0 Q L (.ref w.2.1 :: st) (am_newa w k n.toNatClampNeg) (pc + 3)) : sd_W G p l e R s m args below meth c nL n0 z0 Q L (.int n :: st) w pc := by
  intro ls H locs hl hH hS
  refine W.anew X.1 X.2.1 X.2.2.2.1 (X.2.2.2.2.1 _ hlink) (va_AO.use hover) (g := F0 m pc ls (List.map (sd_tr G) (.int n :: st))) rfl hd rfl hn (by omega) (by omega) (by omega) fun cA kA comp f1 f2 f3 f4 => ?_
  generalize hH1 : H.push ({ cls := cA, slots := Array.replicate n.toNatClampNeg .null, vm := .none } : Cell) = H'
  have e2 : H'.size = H.size + 1 := by rw [← hH1, Array.size_push]
  have e1 : H'[H.size]? = some (arrV cA n.toNatClampNeg (fun _ => .null)) := by rw [← hH1, Array.getElem?_push_size, ← arrV_new]
  have e3 : ∀ q : Nat, q < H.size → H'[q]? = H[q]? := fun q hq => by rw [← hH1, Array.getElem?_push, if_neg (Nat.ne_of_lt hq)]
  have hcA : cA = sd_cA G k := by
    obtain ⟨-, -, -, -, -, h4⟩ : va_RA s (sd_cA G k) (.object Cn) := by rw [← hty]; exact (X.2.2.2.2.2.2.1.1.2 k _ (sd_tys_at G (by omega))).2
    exact Option.some.inj (f1.symm.trans h4)
  subst hcA
  have hcell : sd_cell G H.size (.inl (k, n.toNatClampNeg, am_zero k)) H' := by
    refine ⟨?_, ?_⟩
    · rcases hk with rfl | rfl | rfl <;> simp [sd_kk, am_zero]
    · rw [e1]
      rcases hk with rfl | rfl | rfl <;> rfl
  have kk' := kk ls H' locs hl (hH.new hcell e2 e3 (fun k' n' f' hh j => by
    rcases hk with rfl | rfl | rfl <;> simp [am_zero] at hh <;> (obtain ⟨-, -, rfl⟩ := hh; rfl))) (sd_S_new hS e2 e3)
  rw [List.map_cons, sd_newref hH] at kk'
  have c1 : w.2.1 - n0 + 1 = (am_newa w k n.toNatClampNeg).2.1 - n0 := by show _ = w.2.1 + 1 - n0; omega
  have c2 : w.2.2 - z0 + n.toNatClampNeg = (am_newa w k n.toNatClampNeg).2.2 - z0 := by show _ = w.2.2 + n.toNatClampNeg - z0; omega
  exact W.cs c1 c2 kk'
/-- a new object -/
theorem sd_newo {ci i : Nat} {Cn : String} {T : u_T} {N : Nat} (ty : Nat → FieldType) (X : sd_C G p s m args c cc nL own) (hc : classes[ci]? = some (Cn, T, N)) (hin : ∀ w ∈ u_ws Cn T N, w ∈ gws) (hty : ∀ k, k < N → parseFieldDescriptor (T k).2.2.1 = some (ty k)) (hdef : ∀ k, k < N → defaultValue (ty k) = sd_tr G (am_born ci k)) (hN : am_size ci = N)
    (hlink : Cond.classLink own i Cn ∈ gws) (hinst : Cond.instantiable Cn N ∈ gws) (hini : Cond.initialized Cn ∈ gws) (hd : decode cc pc = .ok (.new i, 3)) (hn0 : n0 ≤ w.2.1) (hz0 : z0 ≤ w.2.2) (hR : w.2.1 + 1 - n0 ≤ R.cells ∧ w.2.2 + N - z0 ≤ R.slots)
    (kk : sd_W G p l e R s m args below meth c nL n0 z0 Q L (.ref w.2.1 :: st) (am_new w (.inr (ci, am_born ci)) (am_size ci)) (pc + 3)) : sd_W G p l e R s m args below meth c nL n0 z0 Q L st w pc := by
  intro ls H locs hl hH hS
  have hKn := X.2.2.2.2.2.2.1.1.1 ci _ hc
  refine W.newcK X.1 X.2.1 X.2.2.2.1 (X.2.2.2.2.1 _ hlink) (X.2.2.2.2.1 _ hinst) (X.2.2.2.2.1 _ hini) (g := F0 m pc ls (List.map (sd_tr G) st)) rfl hd (by omega) (by omega) hKn.2.1 rfl fun H' kC hkC e1 e2 e3 => ?_
  have hcell : sd_cell G H.size (.inr (ci, am_born ci)) H' := ⟨_, hc, (u_born ty X.2.2.2.2.1 hin hKn hkC e1 hty).to (fun k hk => hdef k hk)⟩
  have kk' := kk ls H' locs hl (hH.new hcell e2 e3 (fun k' n' f' hh => by cases hh)) (sd_S_new hS e2 e3)
  rw [List.map_cons, sd_newref hH] at kk'
  have c1 : w.2.1 - n0 + 1 = (am_new w (.inr (ci, am_born ci)) (am_size ci)).2.1 - n0 := by show _ = w.2.1 + 1 - n0; omega
  have c2 : w.2.2 - z0 + N = (am_new w (.inr (ci, am_born ci)) (am_size ci)).2.2 - z0 := by show _ = w.2.2 + am_size ci - z0; omega
  exact W.cs c1 c2 kk'
end SDN
