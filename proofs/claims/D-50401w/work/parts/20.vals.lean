/-! THE PURE MACHINE: values, states, instructions, runs. No program in sight. -/
set_option maxRecDepth 100000
/-- a value: int, long, reference or null, float, double, nothing -/
abbrev V : Type := Int ⊕ Int ⊕ Option Nat ⊕ UInt32 ⊕ UInt64 ⊕ Unit
abbrev vI (z : Int) : V := .inl z
abbrev vL (z : Int) : V := .inr (.inl z)
abbrev vR (r : Option Nat) : V := .inr (.inr (.inl r))
abbrev vF (b : UInt32) : V := .inr (.inr (.inr (.inl b)))
abbrev vD (b : UInt64) : V := .inr (.inr (.inr (.inr (.inl b))))
abbrev vU : V := .inr (.inr (.inr (.inr (.inr ()))))
def w32 (z : Int) : Int := (Int32.ofInt z).toInt
def w64 (z : Int) : Int := (Int64.ofInt z).toInt
def in32 (z : Int) : Prop := -2147483648 ≤ z ∧ z < 2147483648
def in64 (z : Int) : Prop := -9223372036854775808 ≤ z ∧ z < 9223372036854775808
theorem in32_to (x : Int32) : in32 x.toInt := ⟨Int32.le_toInt x, Int32.toInt_lt x⟩
theorem in64_to (x : Int64) : in64 x.toInt := ⟨Int64.le_toInt x, Int64.toInt_lt x⟩
theorem w32_in (z : Int) : in32 (w32 z) := in32_to _
theorem w64_in (z : Int) : in64 (w64 z) := in64_to _
theorem w32_id {z : Int} (h : in32 z) : w32 z = z := Int32.toInt_ofInt_of_le h.1 h.2
theorem w64_id {z : Int} (h : in64 z) : w64 z = z := Int64.toInt_ofInt_of_le h.1 h.2
theorem of_w32 (z : Int) : Int32.ofInt (w32 z) = Int32.ofInt z := Int32.ofInt_toInt _
theorem of_w64 (z : Int) : Int64.ofInt (w64 z) = Int64.ofInt z := Int64.ofInt_toInt _
theorem of_to32 (x : Int32) : Int32.ofInt x.toInt = x := Int32.ofInt_toInt _
theorem of_to64 (x : Int64) : Int64.ofInt x.toInt = x := Int64.ofInt_toInt _
theorem to_of32 {z : Int} (h : in32 z) : (Int32.ofInt z).toInt = z := w32_id h
theorem to_of64 {z : Int} (h : in64 z) : (Int64.ofInt z).toInt = z := w64_id h
theorem lt32 {x y : Int} (hx : in32 x) (hy : in32 y) : Int32.ofInt x < Int32.ofInt y ↔ x < y := by
  rw [Int32.lt_iff_toInt_lt, to_of32 hx, to_of32 hy]
theorem le32 {x y : Int} (hx : in32 x) (hy : in32 y) : Int32.ofInt x ≤ Int32.ofInt y ↔ x ≤ y := by
  rw [Int32.le_iff_toInt_le, to_of32 hx, to_of32 hy]
theorem eq32 {x y : Int} (hx : in32 x) (hy : in32 y) : Int32.ofInt x = Int32.ofInt y ↔ x = y :=
  ⟨fun h => by have := congrArg Int32.toInt h; rwa [to_of32 hx, to_of32 hy] at this, fun h => by rw [h]⟩
theorem lt64 {x y : Int} (hx : in64 x) (hy : in64 y) : Int64.ofInt x < Int64.ofInt y ↔ x < y := by
  rw [Int64.lt_iff_toInt_lt, to_of64 hx, to_of64 hy]
theorem eq64 {x y : Int} (hx : in64 x) (hy : in64 y) : Int64.ofInt x = Int64.ofInt y ↔ x = y :=
  ⟨fun h => by have := congrArg Int64.toInt h; rwa [to_of64 hx, to_of64 hy] at this, fun h => by rw [h]⟩
theorem in32_0 : in32 0 := ⟨by decide, by decide⟩
/-- a small number of a type that is kept -/
def inT (ty : FieldType) (z : Int) : Prop := match ty with
  | .boolean => 0 ≤ z ∧ z ≤ 1
  | .byte => -128 ≤ z ∧ z ≤ 127
  | .char => 0 ≤ z ∧ z ≤ 65535
  | .short => -32768 ≤ z ∧ z ≤ 32767
  | .long => in64 z
  | _ => in32 z
def inV : V → Prop
  | .inl z => in32 z
  | .inr (.inl z) => in64 z
  | _ => True
def inVs (l : List V) : Prop := ∀ v ∈ l, inV v
theorem inVs_nil : inVs [] := fun _ h => by cases h
theorem inVs_cons {v : V} {l : List V} : inVs (v :: l) ↔ inV v ∧ inVs l := List.forall_mem_cons
def tv : V → Value
  | .inl z => .int (Int32.ofInt z)
  | .inr (.inl z) => .long (Int64.ofInt z)
  | .inr (.inr (.inl r)) => va_rf r
  | .inr (.inr (.inr (.inl b))) => .float b
  | .inr (.inr (.inr (.inr (.inl b)))) => .double b
  | .inr (.inr (.inr (.inr (.inr ())))) => .null
def vcat : V → Nat
  | .inr (.inl _) => 2
  | .inr (.inr (.inr (.inr (.inl _)))) => 2
  | _ => 1
theorem tv_cat (v : V) : (tv v).category = vcat v := by
  rcases v with z | z | r | b | b | u
  · rfl
  · rfl
  · cases r <;> rfl
  · rfl
  · rfl
  · rfl
/-- STATES: the world's constants (0: where the cells begin), class numbers, lengths, numbers, references, how many cells there are, how many slots are used -/
abbrev SS : Type := (Nat → Nat) × (Nat → Nat) × (Nat → Nat) × (Nat → Nat → Int) × (Nat → Nat → Option Nat) × Nat × Nat
def hG (S : SS) (k : Nat) : Nat := S.1 k
def hC (S : SS) (a : Nat) : Nat := S.2.1 a
def hL (S : SS) (a : Nat) : Nat := S.2.2.1 a
def hI (S : SS) (a k : Nat) : Int := S.2.2.2.1 a k
def hR (S : SS) (a k : Nat) : Option Nat := S.2.2.2.2.1 a k
def hN (S : SS) : Nat := S.2.2.2.2.2.1
def hU (S : SS) : Nat := S.2.2.2.2.2.2
def u1 {α : Type} (f : Nat → α) (a : Nat) (v : α) : Nat → α := fun b => if b = a then v else f b
def u2 {α : Type} (f : Nat → Nat → α) (a k : Nat) (v : α) : Nat → Nat → α := fun b j => if b = a ∧ j = k then v else f b j
def sI (S : SS) (a k : Nat) (z : Int) : SS := (S.1, S.2.1, S.2.2.1, u2 S.2.2.2.1 a k z, S.2.2.2.2)
def sR (S : SS) (a k : Nat) (r : Option Nat) : SS := (S.1, S.2.1, S.2.2.1, S.2.2.2.1, u2 S.2.2.2.2.1 a k r, S.2.2.2.2.2)
/-- a new cell of class c, length n, with k slots -/
def sNew (S : SS) (c n k : Nat) : SS := (S.1, u1 S.2.1 (hN S) c, u1 S.2.2.1 (hN S) n, u1 S.2.2.2.1 (hN S) (fun _ => 0), u1 S.2.2.2.2.1 (hN S) (fun _ => none), hN S + 1, hU S + k)
/-- the bounds of the claim's room -/
def LC : Nat := 603072
def LU : Nat := 7145578
/-- what a method answers: a value, none, or the cell that it throws -/
abbrev RV : Type := Option V ⊕ Nat
/-- what an instruction comes to: the next one, an answer, a throw -/
abbrev Out : Type := (Nat × List V × List V × SS) ⊕ (Option V × SS) ⊕ (Nat × SS)
abbrev Sem : Type := List V → List V → SS → Option Out
abbrev Dec : Type := List V → SS → Option (RV × SS)
def nx (pc : Nat) (lv st : List V) (S : SS) : Option Out := some (.inl (pc, lv, st, S))
def i_no : Sem := fun _ _ _ => none
def cb (k : Nat) (A B : Nat → Sem) : Nat → Sem := fun pc => bif Nat.blt pc k then A pc else B pc
def cl (k : Nat) (f : Sem) : Nat → Sem := fun pc => bif Nat.beq pc k then f else i_no
abbrev Hand : Type := Nat → Nat → Option (Option Nat)
def h_no : Hand := fun _ _ => some none
def run (code : Nat → Sem) (hand : Hand) : Nat → Nat → List V → List V → SS → Option (RV × SS)
  | 0, _, _, _, _ => none
  | f + 1, pc, lv, st, S => match code pc lv st S with
    | none => none
    | some (.inl (pc', lv', st', S')) => run code hand f pc' lv' st' S'
    | some (.inr (.inl (v, S'))) => some (.inl v, S')
    | some (.inr (.inr (a, S'))) => match hand pc (hC S' a) with
      | none => none
      | some none => some (.inr a, S')
      | some (some hp) => run code hand f hp lv [vR (some a)] S'
def Runs (code : Nat → Sem) (hand : Hand) (pc : Nat) (lv st : List V) (S : SS) (r : RV × SS) : Prop := ∃ f, run code hand f pc lv st S = some r
theorem run_mono (code : Nat → Sem) (hand : Hand) : ∀ (f g : Nat) (pc : Nat) (lv st : List V) (S : SS) (r : RV × SS), f ≤ g → run code hand f pc lv st S = some r → run code hand g pc lv st S = some r := by
  intro f
  induction f with
  | zero => intro g pc lv st S r _ h; simp [run] at h
  | succ f ih =>
    intro g pc lv st S r hg h
    obtain ⟨g, rfl⟩ : ∃ k, g = k + 1 := ⟨g - 1, by omega⟩
    simp only [run] at h ⊢
    split at h
    · cases h
    · exact ih g _ _ _ _ _ (by omega) h
    · exact h
    · split at h
      · cases h
      · exact h
      · exact ih g _ _ _ _ _ (by omega) h
theorem Runs.det {code : Nat → Sem} {hand : Hand} {pc : Nat} {lv st : List V} {S : SS} {r r' : RV × SS} (h : Runs code hand pc lv st S r) (h' : Runs code hand pc lv st S r') : r = r' := by
  obtain ⟨f, h⟩ := h
  obtain ⟨g, h'⟩ := h'
  have a := run_mono code hand f (f + g) _ _ _ _ _ (by omega) h
  have b := run_mono code hand g (f + g) _ _ _ _ _ (by omega) h'
  exact Option.some.inj (a.symm.trans b)
theorem Runs.nx {code : Nat → Sem} {hand : Hand} {pc pc' : Nat} {lv st lv' st' : List V} {S S' : SS} {r : RV × SS} (h : code pc lv st S = some (.inl (pc', lv', st', S'))) (k : Runs code hand pc' lv' st' S' r) : Runs code hand pc lv st S r := by
  obtain ⟨f, k⟩ := k
  refine ⟨f + 1, ?_⟩
  simp only [run, h]
  exact k
theorem Runs.ret {code : Nat → Sem} {hand : Hand} {pc : Nat} {lv st : List V} {S S' : SS} {v : Option V} (h : code pc lv st S = some (.inr (.inl (v, S')))) : Runs code hand pc lv st S (.inl v, S') := by
  refine ⟨1, ?_⟩
  simp only [run, h]
theorem Runs.out {code : Nat → Sem} {hand : Hand} {pc a : Nat} {lv st : List V} {S S' : SS} (h : code pc lv st S = some (.inr (.inr (a, S')))) (hh : hand pc (hC S' a) = some none) : Runs code hand pc lv st S (.inr a, S') := by
  refine ⟨1, ?_⟩
  simp only [run, h, hh]
theorem Runs.caught {code : Nat → Sem} {hand : Hand} {pc a hp : Nat} {lv st : List V} {S S' : SS} {r : RV × SS} (h : code pc lv st S = some (.inr (.inr (a, S')))) (hh : hand pc (hC S' a) = some (some hp)) (k : Runs code hand hp lv [vR (some a)] S' r) : Runs code hand pc lv st S r := by
  obtain ⟨f, k⟩ := k
  refine ⟨f + 1, ?_⟩
  simp only [run, h, hh]
  exact k
/-- the locals at a method's entry -/
def ent1 : List V → List V
  | [] => []
  | v :: l => bif Nat.beq (vcat v) 2 then v :: vU :: ent1 l else v :: ent1 l
def ent (n : Nat) (as : List V) : List V := ent1 as ++ List.replicate (n - (ent1 as).length) vU
noncomputable def dec (code : Nat → Sem) (hand : Hand) (nL : Nat) : Dec := fun as S => bif Nat.ble (ent1 as).length nL then @dite _ (∃ r, Runs code hand 0 (ent nL as) [] S r) (Classical.propDecidable _) (fun h => some h.choose) (fun _ => none) else none
theorem dec_of {code : Nat → Sem} {hand : Hand} {nL : Nat} {as : List V} {S : SS} {r : RV × SS} (hl : Nat.ble (ent1 as).length nL = true) (h : Runs code hand 0 (ent nL as) [] S r) : dec code hand nL as S = some r := by
  have hx : ∃ r, Runs code hand 0 (ent nL as) [] S r := ⟨r, h⟩
  unfold dec
  rw [hl, cond_true, dif_pos hx, hx.choose_spec.det h]
theorem dec_len {code : Nat → Sem} {hand : Hand} {nL : Nat} {as : List V} {S : SS} {r : RV × SS} (h : dec code hand nL as S = some r) : (ent1 as).length ≤ nL := by
  unfold dec at h
  cases hb : Nat.ble (ent1 as).length nL with
  | false => rw [hb] at h; cases h
  | true => exact Nat.ble_eq.mp hb
theorem dec_to {code : Nat → Sem} {hand : Hand} {nL : Nat} {as : List V} {S : SS} {r : RV × SS} (h : dec code hand nL as S = some r) : Runs code hand 0 (ent nL as) [] S r := by
  have hl := dec_len h
  unfold dec at h
  rw [Nat.ble_eq.mpr hl, cond_true] at h
  split at h
  · rename_i hx
    rw [← Option.some.inj h]
    exact hx.choose_spec
  · cases h
