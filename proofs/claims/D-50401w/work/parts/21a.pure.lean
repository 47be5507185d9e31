/-! THE PURE MACHINE: the rest of its instructions (no program in sight) -/
set_option maxRecDepth 100000
def unE (k : Nat) : Option Nat := match k with
  | 0 => none
  | k + 1 => some k
/-- bits -/
def band (x y : Int) : Int := (Int32.ofInt x &&& Int32.ofInt y).toInt
def bor (x y : Int) : Int := (Int32.ofInt x ||| Int32.ofInt y).toInt
def bxor (x y : Int) : Int := (Int32.ofInt x ^^^ Int32.ofInt y).toInt
def bshl (x y : Int) : Int := (Int32.ofInt x <<< (Int32.ofInt y &&& 31)).toInt
def bshr (x y : Int) : Int := (Int32.ofInt x >>> (Int32.ofInt y &&& 31)).toInt
def bushr (x y : Int) : Int := (((Int32.ofInt x).toUInt32 >>> ((Int32.ofInt y).toUInt32 &&& Int32.toUInt32 31)).toInt32).toInt
def land (x y : Int) : Int := (Int64.ofInt x &&& Int64.ofInt y).toInt
def lor (x y : Int) : Int := (Int64.ofInt x ||| Int64.ofInt y).toInt
def lshl (x y : Int) : Int := (Int64.ofInt x <<< ((Int32.ofInt y).toInt64 &&& 63)).toInt
def lushr (x y : Int) : Int := (((Int64.ofInt x).toUInt64 >>> ((Int32.ofInt y).toInt64.toUInt64 &&& Int64.toUInt64 63)).toInt64).toInt
def i2b (x : Int) : Int := ((Int32.ofInt x).toInt8.toInt32).toInt
def i2c (x : Int) : Int := (((Int32.ofInt x).toUInt32 % 65536).toInt32).toInt
/-- Object's constructor -/
def o_init : Dec := fun as S => match as with
  | [.inr (.inr (.inl (some _)))] => some (.inl none, S)
  | _ => none
/-- Math.max, Math.min -/
def i_mx (b : Bool) (n : Nat) : Sem := fun lv st S => match st with
  | .inl y :: .inl x :: st => bif room8 st then nx n lv (vI (bif b then (if x < y then y else x) else (if y < x then y else x)) :: st) S else none
  | _ => none
/-- pushes a constant of the world -/
def i_gr (k n : Nat) : Sem := fun lv st S => nx n lv (vR (some (hG S k)) :: st) S
/-- a constant that may be null -/
def i_gq (k n : Nat) : Sem := fun lv st S => nx n lv (vR (unE (hG S k)) :: st) S
def cpy (S : SS) (a sp b dp k : Nat) : SS := (S.1, S.2.1, S.2.2.1, fun c j => if c = b ∧ dp ≤ j ∧ j < dp + k then hI S a (sp + (j - dp)) else hI S c j, fun c j => if c = b ∧ dp ≤ j ∧ j < dp + k then hR S a (sp + (j - dp)) else hR S c j, S.2.2.2.2.2)
def memP (l : List (Nat × Nat)) (a b : Nat) : Bool := match l with
  | [] => false
  | q :: l => bif Nat.beq q.1 a && Nat.beq q.2 b then true else memP l a b
/-- System.arraycopy; vs: the classes of the references that may be copied -/
def i_copy (prs : List (Nat × Nat)) (vs : List Nat) (n : Nat) : Sem := fun lv st S => match st with
  | .inl k :: .inl dp :: .inr (.inr (.inl (some b))) :: .inl sp :: .inr (.inr (.inl (some a))) :: st =>
    bif memP prs (hC S a) (hC S b) && (room8 st && (decide (0 ≤ sp ∧ 0 ≤ dp ∧ 0 ≤ k ∧ sp + k ≤ hL S a ∧ dp + k ≤ hL S b) && (vs.isEmpty || (List.range k.toNat).all (fun i => okr S vs (hR S a (sp.toNat + i)))))) then nx n lv st (cpy S a sp.toNat b dp.toNat k.toNat) else none
  | _ => none
/-- a new cell that is like the cell a -/
def sClo (S : SS) (a : Nat) : SS := (S.1, u1 S.2.1 (hN S) (hC S a), u1 S.2.2.1 (hN S) (hL S a), u1 S.2.2.2.1 (hN S) (S.2.2.2.1 a), u1 S.2.2.2.2.1 (hN S) (S.2.2.2.2.1 a), hN S + 1, hU S + hL S a)
/-- clone of an array -/
def i_clone (k n : Nat) : Sem := fun lv st S => match st with
  | .inr (.inr (.inl (some a))) :: st => bif Nat.beq (hC S a) k && (room8 st && fitN S (hL S a)) then nx n lv (vR (some (hN S)) :: st) (sClo S a) else none
  | _ => none
/-- getClass of an Object[] -/
def i_getC (n : Nat) : Sem := fun lv st S => match st with
  | .inr (.inr (.inl (some a))) :: st => bif Nat.beq (hC S a) 104 && room8 st then nx n lv (vR (some (hG S 60)) :: st) S else none
  | _ => none
/-- new E(); dup; E.<init>() -/
def i_exc (k n : Nat) : Sem := fun lv st S => bif room8 st then i_new k 6 n lv st S else none
def i_i2d (n : Nat) : Sem := fun lv st S => match st with
  | .inl z :: st => nx n lv (vD (FP.i2d (Int32.ofInt z)) :: st) S
  | _ => none
def i_i2f (n : Nat) : Sem := fun lv st S => match st with
  | .inl z :: st => nx n lv (vF (FP.i2f (Int32.ofInt z)) :: st) S
  | _ => none
def i_ddiv (n : Nat) : Sem := fun lv st S => match st with
  | .inr (.inr (.inr (.inr (.inl y)))) :: .inr (.inr (.inr (.inr (.inl x)))) :: st => bif decide (FP.ddiv x y &&& 0x7fffffffffffffff ≤ 0x7ff0000000000000) then nx n lv (vD (FP.ddiv x y) :: st) S else none
  | _ => none
def i_fdiv (n : Nat) : Sem := fun lv st S => match st with
  | .inr (.inr (.inr (.inl y))) :: .inr (.inr (.inr (.inl x))) :: st => bif decide (FP.fdiv x y &&& 0x7fffffff ≤ 0x7f800000) then nx n lv (vF (FP.fdiv x y) :: st) S else none
  | _ => none
def i_f2d (n : Nat) : Sem := fun lv st S => match st with
  | .inr (.inr (.inr (.inl x))) :: st => bif decide (FP.f2d x &&& 0x7fffffffffffffff ≤ 0x7ff0000000000000) then nx n lv (vD (FP.f2d x) :: st) S else none
  | _ => none
def i_dcmp (op : CmpOp) (n : Nat) : Sem := fun lv st S => match st with
  | .inr (.inr (.inr (.inr (.inl y)))) :: .inr (.inr (.inr (.inr (.inl x)))) :: st => nx n lv (vI (Op.cmpValue (FP.dcmp x y) op).toInt :: st) S
  | _ => none
/-- an entry: from, to, handler, catch type; the classes that it catches, those that it lets pass -/
abbrev HE : Type := (Nat × Nat × Nat × Nat) × List Nat × List Nat
def handOf : List HE → Hand
  | [], _, _ => some none
  | q :: l, pc, k => bif decide (q.1.1 ≤ pc) && decide (pc < q.1.2.1) then (bif Nat.beq q.1.2.2.2 0 || mem q.2.1 k then some (some q.1.2.2.1) else (bif mem q.2.2 k then handOf l pc k else none)) else handOf l pc k
/-- the cells that lambdas make: the captured values in their order -/
def caps (S : SS) (a : Nat) : List Bool → Nat → List V
  | [], _ => []
  | b :: bs, k => (bif b then vR (hR S a k) else vI (hI S a k)) :: caps S a bs (k + 1)
/-- a call of such a cell: the captured values first -/
def lamD (ks : List Bool) (f : Dec) : Dec := fun as S => match as with
  | .inr (.inr (.inl (some a))) :: r => f (caps S a ks 0 ++ r) S
  | _ => none
def putV (S : SS) (a k : Nat) : V → SS
  | .inl z => sI S a k z
  | .inr (.inr (.inl r)) => sR S a k r
  | _ => S
def putVs (S : SS) (a : Nat) : List V → Nat → SS
  | [], _ => S
  | v :: vs, k => putVs (putV S a k v) a vs (k + 1)
def okVs : List Bool → List V → Bool
  | [], [] => true
  | true :: bs, .inr (.inr (.inl _)) :: vs => okVs bs vs
  | false :: bs, .inl _ :: vs => okVs bs vs
  | _, _ => false
def i_lam (c : Nat) (ks : List Bool) (n : Nat) : Sem := fun lv st S => bif okVs ks (st.take ks.length).reverse && (room8 (st.drop ks.length) && fitN S ks.length) then nx n lv (vR (some (hN S)) :: st.drop ks.length) (putVs (sNew S c 0 ks.length) (hN S) (st.take ks.length).reverse 0) else none
