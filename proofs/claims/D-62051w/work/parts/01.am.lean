/-! THE ABSTRACT MACHINE: instructions with resolved operands over a heap that is a function. -/
abbrev am_Ar : Type := (Nat → Int32) ⊕ (Nat → Int64) ⊕ (Nat → Option Nat)
/-- an array: its kind, its length, its contents; an object: the number of its kind, its fields -/
abbrev am_Cell : Type := (Nat × Nat × am_Ar) ⊕ (Nat × (Nat → Value))
/-- the heap; the next number; the slots made -/
abbrev am_W : Type := (Nat → Option am_Cell) × Nat × Nat
abbrev am_R : Type := Option (Option Value × am_W)
abbrev am_Act : Type := (List Value × List Value × am_W) ⊕ (Int × List Value × List Value) ⊕ (Nat × List Value × List Value) ⊕ Option Value
/-- the code of a method by its number: how many locals, its blocks; the virtual table: site, kind of the receiver -/
abbrev am_P : Type := (Nat → Option (Nat × (Int → List Instr))) × (Nat → Nat → Option Nat)
abbrev am_J : Value := .retAddr 0
def am_nx (L st : List Value) (w : am_W) : Option am_Act := some (.inl (L, st, w))
def am_jp (b : Int) (L st : List Value) : Option am_Act := some (.inr (.inl (b, L, st)))
def am_cl (z : Nat) (as st : List Value) : Option am_Act := some (.inr (.inr (.inl (z, as, st))))
def am_rt (v : Option Value) : Option am_Act := some (.inr (.inr (.inr v)))
def am_isI : Value → Bool | .int _ => true | _ => false
def am_isL : Value → Bool | .long _ => true | _ => false
def am_isA : Value → Bool | .ref _ => true | .null => true | _ => false
def am_kill : Value → Value | .long _ => am_J | .double _ => am_J | v => v
/-- a value of one slot into the locals -/
def am_s1 : List Value → Nat → Value → List Value
  | [], _, _ => []
  | _ :: t, 0, v => v :: t
  | a :: t, k + 1, v => (if k = 0 then am_kill a else a) :: am_s1 t k v
def am_s2 : List Value → Nat → Value → List Value
  | [], _, _ => []
  | _ :: t, 0, v => v :: (match t with | [] => [] | _ :: t' => am_J :: t')
  | a :: t, k + 1, v => (if k = 0 then am_kill a else a) :: am_s2 t k v
def am_ld (ok : Value → Bool) (L : List Value) (k : Nat) (st : List Value) (w : am_W) : Option am_Act := if ok (L.getD k am_J) = true then am_nx L (L.getD k am_J :: st) w else none
def am_i2 (f : Int32 → Int32 → Int32) (L st : List Value) (w : am_W) : Option am_Act := match st with
  | .int y :: .int x :: r => am_nx L (.int (f x y) :: r) w
  | _ => none
def am_l2 (f : Int64 → Int64 → Value) (L st : List Value) (w : am_W) : Option am_Act := match st with
  | .long y :: .long x :: r => am_nx L (f x y :: r) w
  | _ => none
def am_i1 (f : Int32 → Value) (L st : List Value) (w : am_W) : Option am_Act := match st with
  | .int x :: r => am_nx L (f x :: r) w
  | _ => none
def am_l1 (f : Int64 → Value) (L st : List Value) (w : am_W) : Option am_Act := match st with
  | .long x :: r => am_nx L (f x :: r) w
  | _ => none
def am_lc (x y : Int64) : Int32 := if x < y then -1 else if x = y then 0 else 1
def am_c (c : Jvm.ClassFile.Cond) (x y : Int32) : Bool := match c with
  | .eq => decide (x = y)
  | .ne => decide (¬ x = y)
  | .lt => decide (x < y)
  | .ge => decide (y ≤ x)
  | .gt => decide (y < x)
  | .le => decide (x ≤ y)
/-- a branch -/
def am_br (c : Bool) (b : Int) (L st : List Value) (w : am_W) : Option am_Act := if c = true then am_jp b L st else am_nx L st w
/-- the same reference? (number 14 is a static that may be null: nobody asks) -/
def am_apart (a b : Nat) : Bool := decide (16 ≤ a) || decide (16 ≤ b) || (decide (a < 12) && decide (b < 12)) || decide (a = b)
def am_same : Value → Value → Option Bool
  | .ref a, .ref b => if a = 14 ∨ b = 14 ∨ am_apart a b = false then none else some (decide (a = b))
  | .null, .ref b => if b = 14 then none else some false
  | .ref a, .null => if a = 14 then none else some false
  | .null, .null => some true
  | _, _ => none
def am_sw (x : Int32) : Int → List Int → Int → Int
  | _, [], d => d
  | lo, b :: bs, d => if x = Int32.ofInt lo then b else am_sw x (lo + 1) bs d
def am_lk (x : Int32) : List (Int × Int) → Int → Int
  | [], d => d
  | (k, b) :: ps, d => if x = Int32.ofInt k then b else am_lk x ps d
def am_set (w : am_W) (a : Nat) (c : am_Cell) : am_W := (fun b => if b = a then some c else w.1 b, w.2)
def am_new (w : am_W) (c : am_Cell) (k : Nat) : am_W := (fun b => if b = w.2.1 then some c else w.1 b, w.2.1 + 1, w.2.2 + k)
/-- kinds that share their first fields -/
def am_g (ci : Nat) : Nat := if ci = 6 ∨ ci = 7 ∨ ci = 8 then 5 else ci
/-- the field word: type * 4096 + kind * 64 + place -/
def am_fok (c : Option am_Cell) (x : Nat) : Bool := match c with
  | some (.inr o) => am_g o.1 == x / 64 % 64 || o.1 == x / 64 % 64
  | _ => false
def am_fv (c : Option am_Cell) (x : Nat) : Value := match c with
  | some (.inr o) => o.2 (x % 64)
  | _ => .null
def am_fit (t : Nat) (v : Value) : Bool := match t, v with
  | 0, .int _ => true
  | 1, .int v => v == 0 || v == 1
  | 2, .ref _ => true
  | 2, .null => true
  | 3, .int v => decide (-128 ≤ v) && decide (v ≤ 127)
  | 4, .int v => decide (0 ≤ v) && decide (v ≤ 65535)
  | _, _ => false
def am_put (w : am_W) (a x : Nat) (v : Value) : am_W := match w.1 a with
  | some (.inr o) => am_set w a (.inr (o.1, va_up o.2 (x % 64) v))
  | _ => w
def am_iok (c : Option am_Cell) (t : Nat) (i : Int32) : Bool := match c with
  | some (.inl (k, n, .inl _)) => (k == t) && !(decide (i < 0) || decide (n ≤ i.toNatClampNeg))
  | _ => false
def am_iv (c : Option am_Cell) (i : Int32) : Int32 := match c with
  | some (.inl (_, _, .inl f)) => f i.toNatClampNeg
  | _ => 0
def am_iput (w : am_W) (a : Nat) (i x : Int32) : am_W := match w.1 a with
  | some (.inl (k, n, .inl f)) => am_set w a (.inl (k, n, .inl (upd f i.toNatClampNeg x)))
  | _ => w
def am_lok (c : Option am_Cell) (i : Int32) : Bool := match c with
  | some (.inl (k, n, .inr (.inl _))) => (k == 1) && !(decide (i < 0) || decide (n ≤ i.toNatClampNeg))
  | _ => false
def am_lv (c : Option am_Cell) (i : Int32) : Int64 := match c with
  | some (.inl (_, _, .inr (.inl f))) => f i.toNatClampNeg
  | _ => 0
def am_lput (w : am_W) (a : Nat) (i : Int32) (x : Int64) : am_W := match w.1 a with
  | some (.inl (k, n, .inr (.inl f))) => am_set w a (.inl (k, n, .inr (.inl (vp_updL f i.toNatClampNeg x))))
  | _ => w
def am_qok (c : Option am_Cell) (i : Int32) : Bool := match c with
  | some (.inl (_, n, .inr (.inr _))) => !(decide (i < 0) || decide (n ≤ i.toNatClampNeg))
  | _ => false
def am_qv (c : Option am_Cell) (i : Int32) : Value := match c with
  | some (.inl (_, _, .inr (.inr f))) => va_rf (f i.toNatClampNeg)
  | _ => .null
/-- may a cell stand in an array of references of that kind: 5 any object, 6 a constant of the enum, 7 a node -/
def am_asg (c : Option am_Cell) (k : Nat) : Bool := match c with
  | some (.inr o) => (k == 5 && am_g o.1 == 5) || (k == 6 && o.1 == 12) || (k == 7 && am_g o.1 == 5)
  | _ => false
def am_akind (c : Option am_Cell) : Nat := match c with
  | some (.inl x) => x.1
  | _ => 99
def am_qput (w : am_W) (a : Nat) (i : Int32) (r : Option Nat) : am_W := match w.1 a with
  | some (.inl (k, n, .inr (.inr f))) => am_set w a (.inl (k, n, .inr (.inr (va_up f i.toNatClampNeg r))))
  | _ => w
def am_isarr (c : Option am_Cell) : Bool := match c with
  | some (.inl _) => true
  | _ => false
def am_len (c : Option am_Cell) : Nat := match c with
  | some (.inl x) => x.2.1
  | _ => 0
def am_cls (c : Option am_Cell) : Option Nat := match c with
  | some (.inr o) => some o.1
  | _ => none
/-- fresh contents of an array of a kind -/
def am_zero (k : Nat) : am_Ar := if k = 1 then .inr (.inl (fun _ => 0)) else if 5 ≤ k then .inr (.inr (fun _ => none)) else .inl (fun _ => 0)
/-- bytes of an element, as newarray counts them -/
def am_bytes (k : Nat) : Nat := if k = 1 then 8 else if k = 0 then 4 else if 5 ≤ k then 4 else if k = 3 then 2 else 1
def am_newa (w : am_W) (k N : Nat) : am_W := am_new w (.inl (k, N, am_zero k)) N
/-- fields of a new object -/
def am_born (ci : Nat) : Nat → Value :=
  if ci = 0 then fun k => if k = 0 then .null else .int 0
  else if ci = 1 then fun k => if k = 0 ∨ k = 4 ∨ k = 5 ∨ k = 6 ∨ k = 7 then .null else .int 0
  else if ci = 2 then fun k => if k = 0 then .null else .int 0
  else if ci = 3 then fun _ => .null
  else if ci = 4 then fun k => if k = 2 ∨ k = 3 ∨ k = 7 ∨ k = 9 ∨ k = 10 ∨ 14 ≤ k then .int 0 else .null
  else if ci = 5 ∨ ci = 6 ∨ ci = 7 ∨ ci = 8 then fun k => if k = 0 ∨ k = 2 ∨ k = 3 ∨ k = 4 then .null else .int 0
  else if ci = 9 then fun k => if k = 0 then .int 0 else .null
  else if ci = 10 then fun k => if k = 3 then .null else .int 0
  else fun k => if k = 1 ∨ k = 2 ∨ k = 3 ∨ k = 4 ∨ k = 5 ∨ k = 8 ∨ k = 12 ∨ k = 28 ∨ k = 29 ∨ k = 30 ∨ k = 34 then .int 0 else .null
def am_size (ci : Nat) : Nat := if ci = 0 then 4 else if ci = 1 then 9 else if ci = 2 then 3 else if ci = 3 then 2 else if ci = 4 then 17 else if ci = 6 then 15 else if ci = 5 ∨ ci = 7 ∨ ci = 8 then 14 else if ci = 9 then 4 else if ci = 10 then 4 else 36
def am_cast (c : Option am_Cell) (g : Nat) : Bool := match c with
  | some (.inr o) => (g == 0 && am_g o.1 == 5) || (g == 1 && o.1 == 6)
  | some (.inl x) => (g == 2 && x.1 == 4) || (g == 3 && x.1 == 5)
  | none => false
def am_inst (c : Option am_Cell) : Int32 := if am_cls c = some 6 then 1 else 0
def am_isn (c : Option am_Cell) : Bool := match c with
  | some (.inr o) => am_g o.1 == 5
  | _ => false
def am_cats (st : List Value) : Bool := decide ((st.map Value.category).sum ≤ 8)
def am_bfit (f : Nat → Int32) (xp n : Nat) : Bool := (List.range n).all (fun i => decide (-128 ≤ f (xp + i)) && decide (f (xp + i) ≤ 127))
/-- System.arraycopy, within one kind: bytes, or references -/
def am_copy (w : am_W) (x : Nat) (xp : Int32) (y : Nat) (yp n : Int32) : Option am_W := match w.1 x, w.1 y with
  | some (.inl (4, nx, .inl f)), some (.inl (4, ny, .inl g)) => if x = y ∨ xp < 0 ∨ yp < 0 ∨ n < 0 ∨ y < 16 ∨ x < 16 ∨ nx < xp.toNatClampNeg + n.toNatClampNeg ∨ ny < yp.toNatClampNeg + n.toNatClampNeg ∨ am_bfit f xp.toNatClampNeg n.toNatClampNeg = false then none else some (am_set w y (.inl (4, ny, .inl (va_cpy f g xp.toNatClampNeg yp.toNatClampNeg n.toNatClampNeg))))
  | some (.inl (5, nx, .inr (.inr f))), some (.inl (5, ny, .inr (.inr g))) => if x = y ∨ xp < 0 ∨ yp < 0 ∨ n < 0 ∨ y < 16 ∨ x < 16 ∨ nx < xp.toNatClampNeg + n.toNatClampNeg ∨ ny < yp.toNatClampNeg + n.toNatClampNeg then none else some (am_set w y (.inl (5, ny, .inr (.inr (va_cpy f g xp.toNatClampNeg yp.toNatClampNeg n.toNatClampNeg)))))
  | _, _ => none
def am_ins (vt : Nat → Nat → Option Nat) (i : Instr) (L st : List Value) (w : am_W) : Option am_Act := match i with
  | .iconst n => am_nx L (.int (Int32.ofInt n) :: st) w
  | .jsr_w n => am_nx L (.long (Int64.ofInt n) :: st) w
  | .aconst_null => am_nx L (.null :: st) w
  | .iload k => am_ld am_isI L k st w
  | .lload k => am_ld am_isL L k st w
  | .aload k => am_ld am_isA L k st w
  | .istore k => match st with
    | .int x :: r => if k < L.length then am_nx (am_s1 L k (.int x)) r w else none
    | _ => none
  | .lstore k => match st with
    | .long x :: r => if k + 1 < L.length then am_nx (am_s2 L k (.long x)) r w else none
    | _ => none
  | .astore k => match st with
    | v :: r => if k < L.length ∧ am_isA v = true then am_nx (am_s1 L k v) r w else none
    | _ => none
  | .iinc k n => match L.getD k am_J with
    | .int x => if k < L.length then am_nx (am_s1 L k (.int (x + Int32.ofInt n))) st w else none
    | _ => none
  | .iadd => am_i2 (fun x y => x + y) L st w
  | .isub => am_i2 (fun x y => x - y) L st w
  | .imul => am_i2 (fun x y => x * y) L st w
  | .iand => am_i2 (fun x y => x &&& y) L st w
  | .ior => am_i2 (fun x y => x ||| y) L st w
  | .ishl => am_i2 (fun x y => x <<< (y &&& 31)) L st w
  | .ishr => am_i2 (fun x y => x >>> (y &&& 31)) L st w
  | .iushr => am_i2 (fun x y => (x.toUInt32 >>> (y.toUInt32 &&& Int32.toUInt32 31)).toInt32) L st w
  | .ineg => am_i1 (fun x => .int (-x)) L st w
  | .i2l => am_i1 (fun x => .long x.toInt64) L st w
  | .i2c => am_i1 (fun x => .int (x.toUInt32 % 65536).toInt32) L st w
  | .i2b => am_i1 (fun x => .int x.toInt8.toInt32) L st w
  | .l2i => am_l1 (fun x => .int x.toInt32) L st w
  | .lneg => am_l1 (fun x => .long (-x)) L st w
  | .ladd => am_l2 (fun x y => .long (x + y)) L st w
  | .lsub => am_l2 (fun x y => .long (x - y)) L st w
  | .lmul => am_l2 (fun x y => .long (x * y)) L st w
  | .lcmp => am_l2 (fun x y => .int (am_lc x y)) L st w
  | .dup => match st with
    | v :: r => if v.category = 1 then am_nx L (v :: v :: r) w else none
    | _ => none
  | .pop => match st with
    | v :: r => if v.category = 1 then am_nx L r w else none
    | _ => none
  | .dup_x1 => match st with
    | v :: u :: r => if v.category = 1 ∧ u.category = 1 then am_nx L (v :: u :: v :: r) w else none
    | _ => none
  | .dup2 => match st with
    | v :: u :: r => if v.category = 1 ∧ u.category = 1 then am_nx L (v :: u :: v :: u :: r) w else none
    | _ => none
  | .ifCond c b => match st with
    | .int x :: r => am_br (am_c c x 0) b L r w
    | _ => none
  | .if_icmp c b => match st with
    | .int y :: .int x :: r => am_br (am_c c x y) b L r w
    | _ => none
  | .if_acmp c b => match st with
    | y :: x :: r => match am_same x y with
      | some q => am_br (match c with | .eq => q | .ne => !q) b L r w
      | none => none
    | _ => none
  | .ifnull b => match st with
    | x :: r => match am_same x .null with
      | some q => am_br q b L r w
      | none => none
    | _ => none
  | .ifnonnull b => match st with
    | x :: r => match am_same x .null with
      | some q => am_br (!q) b L r w
      | none => none
    | _ => none
  | .goto b => am_jp b L st
  | .goto_w b => am_jp b L st
  | .tableswitch d lo _ bs => match st with
    | .int x :: r => am_jp (am_sw x lo bs.toList d) L r
    | _ => none
  | .lookupswitch d ps => match st with
    | .int x :: r => am_jp (am_lk x ps.toList d) L r
    | _ => none
  | .getstatic a => am_nx L (.ref a :: st) w
  | .getfield x => match st with
    | .ref a :: r => if am_fok (w.1 a) x = true then am_nx L (am_fv (w.1 a) x :: r) w else none
    | _ => none
  | .putfield x => match st with
    | v :: .ref a :: r => if 16 ≤ a ∧ am_fok (w.1 a) x = true ∧ am_fit (x / 4096) v = true then am_nx L r (am_put w a x v) else none
    | _ => none
  | .iaload => match st with
    | .int i :: .ref a :: r => if am_iok (w.1 a) 0 i = true then am_nx L (.int (am_iv (w.1 a) i) :: r) w else none
    | _ => none
  | .saload => match st with
    | .int i :: .ref a :: r => if am_iok (w.1 a) 2 i = true then am_nx L (.int (am_iv (w.1 a) i) :: r) w else none
    | _ => none
  | .caload => match st with
    | .int i :: .ref a :: r => if am_iok (w.1 a) 3 i = true then am_nx L (.int (am_iv (w.1 a) i) :: r) w else none
    | _ => none
  | .baload => match st with
    | .int i :: .ref a :: r => if am_iok (w.1 a) 4 i = true then am_nx L (.int (am_iv (w.1 a) i) :: r) w else none
    | _ => none
  | .laload => match st with
    | .int i :: .ref a :: r => if am_lok (w.1 a) i = true then am_nx L (.long (am_lv (w.1 a) i) :: r) w else none
    | _ => none
  | .aaload => match st with
    | .int i :: .ref a :: r => if am_qok (w.1 a) i = true then am_nx L (am_qv (w.1 a) i :: r) w else none
    | _ => none
  | .iastore => match st with
    | .int x :: .int i :: .ref a :: r => if 16 ≤ a ∧ am_iok (w.1 a) 0 i = true then am_nx L r (am_iput w a i x) else none
    | _ => none
  | .sastore => match st with
    | .int x :: .int i :: .ref a :: r => if 16 ≤ a ∧ am_iok (w.1 a) 2 i = true then am_nx L r (am_iput w a i (vp_nar .boolean x)) else none
    | _ => none
  | .castore => match st with
    | .int x :: .int i :: .ref a :: r => if 16 ≤ a ∧ am_iok (w.1 a) 3 i = true then am_nx L r (am_iput w a i (vp_nar .char x)) else none
    | _ => none
  | .bastore => match st with
    | .int x :: .int i :: .ref a :: r => if 16 ≤ a ∧ am_iok (w.1 a) 4 i = true then am_nx L r (am_iput w a i (vp_nar .byte x)) else none
    | _ => none
  | .lastore => match st with
    | .long x :: .int i :: .ref a :: r => if 16 ≤ a ∧ am_lok (w.1 a) i = true then am_nx L r (am_lput w a i x) else none
    | _ => none
  | .aastore => match st with
    | .null :: .int i :: .ref a :: r => if 16 ≤ a ∧ am_qok (w.1 a) i = true then am_nx L r (am_qput w a i none) else none
    | .ref v :: .int i :: .ref a :: r => if 16 ≤ a ∧ am_qok (w.1 a) i = true ∧ am_asg (w.1 v) (am_akind (w.1 a)) = true then am_nx L r (am_qput w a i (some v)) else none
    | _ => none
  | .arraylength => match st with
    | .ref a :: r => if am_isarr (w.1 a) = true then am_nx L (.int (Int32.ofNat (am_len (w.1 a))) :: r) w else none
    | _ => none
  | .anewarray k => match st with
    | .int n :: r => if ¬ n < 0 ∧ n.toNatClampNeg ≤ 5000 then am_nx L (.ref w.2.1 :: r) (am_newa w k n.toNatClampNeg) else none
    | _ => none
  | .new ci => am_nx L (.ref w.2.1 :: st) (am_new w (.inr (ci, am_born ci)) (am_size ci))
  | .checkcast g => match st with
    | .null :: r => am_nx L (.null :: r) w
    | .ref a :: r => if 16 ≤ a ∧ am_cast (w.1 a) g = true then am_nx L (.ref a :: r) w else none
    | _ => none
  | .instanceof _ => match st with
    | .null :: r => am_nx L (.int 0 :: r) w
    | .ref a :: r => if am_isn (w.1 a) = true then am_nx L (.int (am_inst (w.1 a)) :: r) w else none
    | _ => none
  | .invokeinterface z n => if n ≤ st.length ∧ am_cats (st.drop n) = true then am_cl z (st.take n).reverse (st.drop n) else none
  | .multianewarray k n => match st.drop (n - 1) with
    | .ref a :: r => if am_cats r = true then (match am_cls (w.1 a) with
      | some ci => (match vt k ci with
        | some z => am_cl z (.ref a :: (st.take (n - 1)).reverse) r
        | none => none)
      | none => none) else none
    | _ => none
  | .ret t => match st with
    | [v] => if am_fit t v = true then am_rt (some v) else none
    | _ => none
  | .lreturn => match st with
    | [.long x] => am_rt (some (.long x))
    | _ => none
  | .return_ => match st with
    | [] => am_rt none
    | _ => none
  | .swap => match st with
    | .ref a :: r => if ¬ a = 14 ∧ am_cats r = true then am_nx L r w else none
    | _ => none
  | .monitorenter => match st with
    | .int n :: .int yp :: .ref y :: .int xp :: .ref x :: r => match am_copy w x xp y yp n with
      | some w' => if am_cats r = true then am_nx L r w' else none
      | none => none
    | _ => none
  | .monitorexit => match st with
    | .ref a :: r => if 16 ≤ a ∧ am_akind (w.1 a) = 5 ∧ am_cats r = true then am_nx L (.ref 13 :: r) w else none
    | _ => none
  | _ => none
def am_blk (vt : Nat → Nat → Option Nat) (cf : Nat → List Value → am_W → am_R) (jp : Int → List Value → List Value → am_W → am_R) : List Instr → List Value → List Value → am_W → am_R
  | [], _, _, _ => none
  | i :: is, L, st, w => match am_ins vt i L st w with
    | none => none
    | some (.inl (L', st', w')) => am_blk vt cf jp is L' st' w'
    | some (.inr (.inl (b, L', st'))) => jp b L' st' w
    | some (.inr (.inr (.inl (z, as, st')))) => match cf z as w with
      | none => none
      | some x => am_blk vt cf jp is L (x.1.toList ++ st') x.2
    | some (.inr (.inr (.inr v))) => some (v, w)
def am_run (vt : Nat → Nat → Option Nat) (C : Int → List Instr) (cf : Nat → List Value → am_W → am_R) : Nat → Int → List Value → List Value → am_W → am_R
  | 0, _, _, _, _ => none
  | f + 1, b, L, st, w => am_blk vt cf (am_run vt C cf f) (C b) L st w
/-- arguments into locals: a long takes two -/
def am_args : List Value → List Value
  | [] => []
  | .long x :: t => .long x :: am_J :: am_args t
  | .double x :: t => .double x :: am_J :: am_args t
  | v :: t => v :: am_args t
def am_ent (mL : Nat) (as : List Value) : List Value := am_args as ++ List.replicate (mL - (am_args as).length) am_J
def am_call (P : am_P) (N : Nat) : Nat → Nat → List Value → am_W → am_R
  | 0, _, _, _ => none
  | d + 1, z, as, w => match P.1 z with
    | none => none
    | some x => if (am_args as).length ≤ x.1 then am_run P.2 x.2 (am_call P N d) N 0 (am_ent x.1 as) [] w else none
