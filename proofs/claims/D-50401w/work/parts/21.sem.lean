/-! INSTRUCTIONS of the pure machine -/
set_option maxRecDepth 100000
def st1 (lv : List V) (i : Nat) (v : V) : List V := match i with
  | 0 => lv.set 0 v
  | j + 1 => bif Nat.beq (vcat (lv.getD j vU)) 2 then (lv.set (j + 1) v).set j vU else lv.set (j + 1) v
def st2 (lv : List V) (i : Nat) (v : V) : List V := (st1 lv i v).set (i + 1) vU
def asc (l : List (Nat × Nat)) (c : Nat) : Option Nat := match l with
  | [] => none
  | q :: l => bif Nat.beq q.1 c then some q.2 else asc l c
def mem (l : List Nat) (c : Nat) : Bool := match l with
  | [] => false
  | q :: l => bif Nat.beq q c then true else mem l c
def i_push (v : V) (n : Nat) : Sem := fun lv st S => nx n lv (v :: st) S
def i_iload (i n : Nat) : Sem := fun lv st S => match lv[i]? with
  | some (.inl z) => nx n lv (vI z :: st) S
  | _ => none
def i_lload (i n : Nat) : Sem := fun lv st S => match lv[i]? with
  | some (.inr (.inl z)) => nx n lv (vL z :: st) S
  | _ => none
def i_aload (i n : Nat) : Sem := fun lv st S => match lv[i]? with
  | some (.inr (.inr (.inl r))) => nx n lv (vR r :: st) S
  | _ => none
def i_dload (i n : Nat) : Sem := fun lv st S => match lv[i]? with
  | some (.inr (.inr (.inr (.inr (.inl z))))) => nx n lv (vD z :: st) S
  | _ => none
def i_istore (i n : Nat) : Sem := fun lv st S => match st with
  | .inl z :: st => nx n (st1 lv i (vI z)) st S
  | _ => none
def i_astore (i n : Nat) : Sem := fun lv st S => match st with
  | .inr (.inr (.inl r)) :: st => nx n (st1 lv i (vR r)) st S
  | _ => none
def i_lstore (i n : Nat) : Sem := fun lv st S => match st with
  | .inr (.inl z) :: st => nx n (st2 lv i (vL z)) st S
  | _ => none
def i_dstore (i n : Nat) : Sem := fun lv st S => match st with
  | .inr (.inr (.inr (.inr (.inl z)))) :: st => nx n (st2 lv i (vD z)) st S
  | _ => none
def i_iinc (i : Nat) (d : Int) (n : Nat) : Sem := fun lv st S => match lv[i]? with
  | some (.inl z) => nx n (st1 lv i (vI (w32 (z + d)))) st S
  | _ => none
/-- two ints -/
def i_ii (f : Int → Int → Int) (n : Nat) : Sem := fun lv st S => match st with
  | .inl y :: .inl x :: st => nx n lv (vI (f x y) :: st) S
  | _ => none
def i_idiv (n : Nat) : Sem := fun lv st S => match st with
  | .inl y :: .inl x :: st => if y = 0 then none else nx n lv (vI (w32 (x.tdiv y)) :: st) S
  | _ => none
def i_irem (n : Nat) : Sem := fun lv st S => match st with
  | .inl y :: .inl x :: st => if y = 0 then none else nx n lv (vI (x.tmod y) :: st) S
  | _ => none
def i_i1 (f : Int → Int) (n : Nat) : Sem := fun lv st S => match st with
  | .inl x :: st => nx n lv (vI (f x) :: st) S
  | _ => none
def i_ll (f : Int → Int → Int) (n : Nat) : Sem := fun lv st S => match st with
  | .inr (.inl y) :: .inr (.inl x) :: st => nx n lv (vL (f x y) :: st) S
  | _ => none
def i_ldiv (n : Nat) : Sem := fun lv st S => match st with
  | .inr (.inl y) :: .inr (.inl x) :: st => if y = 0 then none else nx n lv (vL (w64 (x.tdiv y)) :: st) S
  | _ => none
def i_lrem (n : Nat) : Sem := fun lv st S => match st with
  | .inr (.inl y) :: .inr (.inl x) :: st => if y = 0 then none else nx n lv (vL (x.tmod y) :: st) S
  | _ => none
/-- a long and an int: shifts -/
def i_li (f : Int → Int → Int) (n : Nat) : Sem := fun lv st S => match st with
  | .inl y :: .inr (.inl x) :: st => nx n lv (vL (f x y) :: st) S
  | _ => none
def i_lcmp (n : Nat) : Sem := fun lv st S => match st with
  | .inr (.inl y) :: .inr (.inl x) :: st => nx n lv (vI (if x < y then -1 else if x = y then 0 else 1) :: st) S
  | _ => none
def i_i2l (n : Nat) : Sem := fun lv st S => match st with
  | .inl x :: st => nx n lv (vL x :: st) S
  | _ => none
def i_l2i (n : Nat) : Sem := fun lv st S => match st with
  | .inr (.inl x) :: st => nx n lv (vI (w32 x) :: st) S
  | _ => none
def i_dup (n : Nat) : Sem := fun lv st S => match st with
  | v :: st => bif Nat.beq (vcat v) 1 then nx n lv (v :: v :: st) S else none
  | _ => none
def i_dup_x1 (n : Nat) : Sem := fun lv st S => match st with
  | v :: w :: st => bif Nat.beq (vcat v) 1 && Nat.beq (vcat w) 1 then nx n lv (v :: w :: v :: st) S else none
  | _ => none
def i_dup2 (n : Nat) : Sem := fun lv st S => match st with
  | v :: w :: st => bif Nat.beq (vcat v) 1 && Nat.beq (vcat w) 1 then nx n lv (v :: w :: v :: w :: st) S else none
  | _ => none
def i_pop (n : Nat) : Sem := fun lv st S => match st with
  | v :: st => bif Nat.beq (vcat v) 1 then nx n lv st S else none
  | _ => none
/-- branches -/
def i_if (f : Int → Bool) (t n : Nat) : Sem := fun lv st S => match st with
  | .inl x :: st => bif f x then nx t lv st S else nx n lv st S
  | _ => none
def i_ifc (f : Int → Int → Bool) (t n : Nat) : Sem := fun lv st S => match st with
  | .inl y :: .inl x :: st => bif f x y then nx t lv st S else nx n lv st S
  | _ => none
def i_acmp (b : Bool) (t n : Nat) : Sem := fun lv st S => match st with
  | .inr (.inr (.inl y)) :: .inr (.inr (.inl x)) :: st => bif decide (x = y) == b then nx t lv st S else nx n lv st S
  | _ => none
def i_null (b : Bool) (t n : Nat) : Sem := fun lv st S => match st with
  | .inr (.inr (.inl x)) :: st => bif decide (x = none) == b then nx t lv st S else nx n lv st S
  | _ => none
def i_goto (t : Nat) : Sem := fun lv st S => nx t lv st S
def swT (lo : Int) (ts : List Nat) (d : Nat) (z : Int) : Nat := if z < lo then d else ts.getD (z - lo).toNat d
def i_tsw (lo : Int) (ts : List Nat) (d : Nat) : Sem := fun lv st S => match st with
  | .inl z :: st => nx (swT lo ts d z) lv st S
  | _ => none
def swL (ps : List (Int × Nat)) (d : Nat) (z : Int) : Nat := match ps with
  | [] => d
  | q :: ps => if z = q.1 then q.2 else swL ps d z
def i_lsw (ps : List (Int × Nat)) (d : Nat) : Sem := fun lv st S => match st with
  | .inl z :: st => nx (swL ps d z) lv st S
  | _ => none
/-- fields: by the cell's class, its slot -/
def i_getI (ok : List (Nat × Nat)) (n : Nat) : Sem := fun lv st S => match st with
  | .inr (.inr (.inl (some a))) :: st => match asc ok (hC S a) with
    | some k => nx n lv (vI (hI S a k) :: st) S
    | none => none
  | _ => none
def i_getL (ok : List (Nat × Nat)) (n : Nat) : Sem := fun lv st S => match st with
  | .inr (.inr (.inl (some a))) :: st => match asc ok (hC S a) with
    | some k => nx n lv (vL (hI S a k) :: st) S
    | none => none
  | _ => none
def i_getR (ok : List (Nat × Nat)) (n : Nat) : Sem := fun lv st S => match st with
  | .inr (.inr (.inl (some a))) :: st => match asc ok (hC S a) with
    | some k => nx n lv (vR (hR S a k) :: st) S
    | none => none
  | _ => none
def i_putI (ok : List (Nat × Nat)) (n : Nat) : Sem := fun lv st S => match st with
  | .inl z :: .inr (.inr (.inl (some a))) :: st => match asc ok (hC S a) with
    | some k => nx n lv st (sI S a k z)
    | none => none
  | _ => none
/-- a field of a small type -/
def i_putT (lo hi : Int) (ok : List (Nat × Nat)) (n : Nat) : Sem := fun lv st S => match st with
  | .inl z :: .inr (.inr (.inl (some a))) :: st => match asc ok (hC S a) with
    | some k => if lo ≤ z ∧ z ≤ hi then nx n lv st (sI S a k z) else none
    | none => none
  | _ => none
def i_putL (ok : List (Nat × Nat)) (n : Nat) : Sem := fun lv st S => match st with
  | .inr (.inl z) :: .inr (.inr (.inl (some a))) :: st => match asc ok (hC S a) with
    | some k => nx n lv st (sI S a k z)
    | none => none
  | _ => none
def i_putR (ok : List (Nat × Nat)) (n : Nat) : Sem := fun lv st S => match st with
  | .inr (.inr (.inl r)) :: .inr (.inr (.inl (some a))) :: st => match asc ok (hC S a) with
    | some k => nx n lv st (sR S a k r)
    | none => none
  | _ => none
/-- a constant of the world: a text, a static that holds a cell -/
def i_gs (k n : Nat) : Sem := fun lv st S => nx n lv (vR (some (hG S k)) :: st) S
/-- new cells -/
def fitN (S : SS) (k : Nat) : Bool := Nat.blt (hN S) (hG S 0 + LC) && Nat.ble (hU S + k) LU
def i_new (c k n : Nat) : Sem := fun lv st S => bif fitN S k then nx n lv (vR (some (hN S)) :: st) (sNew S c 0 k) else none
def i_newa (c n : Nat) : Sem := fun lv st S => match st with
  | .inl z :: st => if z < 0 then none else bif fitN S z.toNat then nx n lv (vR (some (hN S)) :: st) (sNew S c z.toNat z.toNat) else none
  | _ => none
def i_len (ok : List Nat) (n : Nat) : Sem := fun lv st S => match st with
  | .inr (.inr (.inl (some a))) :: st => bif mem ok (hC S a) then nx n lv (vI (hL S a : Int) :: st) S else none
  | _ => none
def okix (S : SS) (ok : List Nat) (a : Nat) (i : Int) : Bool := mem ok (hC S a) && decide (0 ≤ i) && decide (i < (hL S a : Int))
def i_aldI (ok : List Nat) (n : Nat) : Sem := fun lv st S => match st with
  | .inl i :: .inr (.inr (.inl (some a))) :: st => bif okix S ok a i then nx n lv (vI (hI S a i.toNat) :: st) S else none
  | _ => none
def i_aldL (ok : List Nat) (n : Nat) : Sem := fun lv st S => match st with
  | .inl i :: .inr (.inr (.inl (some a))) :: st => bif okix S ok a i then nx n lv (vL (hI S a i.toNat) :: st) S else none
  | _ => none
def i_aldR (ok : List Nat) (n : Nat) : Sem := fun lv st S => match st with
  | .inl i :: .inr (.inr (.inl (some a))) :: st => bif okix S ok a i then nx n lv (vR (hR S a i.toNat) :: st) S else none
  | _ => none
def w8 (z : Int) : Int := (Int8.ofInt z).toInt
def i_astI (ok : List Nat) (n : Nat) : Sem := fun lv st S => match st with
  | .inl z :: .inl i :: .inr (.inr (.inl (some a))) :: st => bif okix S ok a i then nx n lv st (sI S a i.toNat z) else none
  | _ => none
def i_astB (ok : List Nat) (n : Nat) : Sem := fun lv st S => match st with
  | .inl z :: .inl i :: .inr (.inr (.inl (some a))) :: st => bif okix S ok a i then nx n lv st (sI S a i.toNat (w8 z)) else none
  | _ => none
def i_astZ (ok : List Nat) (n : Nat) : Sem := fun lv st S => match st with
  | .inl z :: .inl i :: .inr (.inr (.inl (some a))) :: st => bif okix S ok a i then (if 0 ≤ z ∧ z ≤ 1 then nx n lv st (sI S a i.toNat z) else none) else none
  | _ => none
def i_astL (ok : List Nat) (n : Nat) : Sem := fun lv st S => match st with
  | .inr (.inl z) :: .inl i :: .inr (.inr (.inl (some a))) :: st => bif okix S ok a i then nx n lv st (sI S a i.toNat z) else none
  | _ => none
def okr (S : SS) (ok : List Nat) (r : Option Nat) : Bool := match r with
  | none => true
  | some v => mem ok (hC S v)
def i_astR (ok vs : List Nat) (n : Nat) : Sem := fun lv st S => match st with
  | .inr (.inr (.inl r)) :: .inl i :: .inr (.inr (.inl (some a))) :: st => bif okix S ok a i && okr S vs r then nx n lv st (sR S a i.toNat r) else none
  | _ => none
def i_cast (ok : List Nat) (n : Nat) : Sem := fun lv st S => match st with
  | .inr (.inr (.inl r)) :: st => bif okr S ok r then nx n lv (vR r :: st) S else none
  | _ => none
def i_inst (yes no : List Nat) (n : Nat) : Sem := fun lv st S => match st with
  | .inr (.inr (.inl (some a))) :: st => bif mem yes (hC S a) then nx n lv (vI 1 :: st) S else bif mem no (hC S a) then nx n lv (vI 0 :: st) S else none
  | .inr (.inr (.inl none)) :: st => nx n lv (vI 0 :: st) S
  | _ => none
/-- ends -/
def i_iret : Sem := fun _ st S => match st with
  | [.inl z] => some (.inr (.inl (some (vI z), S)))
  | _ => none
def i_tret (lo hi : Int) : Sem := fun _ st S => match st with
  | [.inl z] => if lo ≤ z ∧ z ≤ hi then some (.inr (.inl (some (vI z), S))) else none
  | _ => none
def i_lret : Sem := fun _ st S => match st with
  | [.inr (.inl z)] => some (.inr (.inl (some (vL z), S)))
  | _ => none
def i_aret : Sem := fun _ st S => match st with
  | [.inr (.inr (.inl r))] => some (.inr (.inl (some (vR r), S)))
  | _ => none
def i_fret : Sem := fun _ st S => match st with
  | [.inr (.inr (.inr (.inl b)))] => some (.inr (.inl (some (vF b), S)))
  | _ => none
def i_dret : Sem := fun _ st S => match st with
  | [.inr (.inr (.inr (.inr (.inl b))))] => some (.inr (.inl (some (vD b), S)))
  | _ => none
def i_vret : Sem := fun _ st S => match st with
  | [] => some (.inr (.inl (none, S)))
  | _ => none
def i_athrow (ok : List Nat) : Sem := fun _ st S => match st with
  | .inr (.inr (.inl (some a))) :: _ => bif mem ok (hC S a) then some (.inr (.inr (a, S))) else none
  | _ => none
/-- calls: n values, the receiver among them -/
def room8 (st : List V) : Bool := Nat.ble ((st.map vcat).sum) 8
def i_call (n : Nat) (f : Dec) (m : Nat) : Sem := fun lv st S => bif Nat.ble n st.length && room8 (st.drop n) then (match f (st.take n).reverse S with
  | none => none
  | some (.inl v, S') => nx m lv (v.toList ++ st.drop n) S'
  | some (.inr a, S') => some (.inr (.inr (a, S')))) else none
def ascD (l : List (Nat × Dec)) (c : Nat) : Option Dec := match l with
  | [] => none
  | q :: l => bif Nat.beq q.1 c then some q.2 else ascD l c
/-- by the receiver's class -/
def dsp (tab : List (Nat × Dec)) : Dec := fun as S => match as with
  | .inr (.inr (.inl (some a))) :: _ => match ascD tab (hC S a) with
    | some d => d as S
    | none => none
  | _ => none
/-- the receiver isn't null -/
def nn (f : Dec) : Dec := fun as S => match as with
  | .inr (.inr (.inl (some _))) :: _ => f as S
  | _ => none
