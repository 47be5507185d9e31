/-! THE PURE STATE AND THE MACHINE's HEAP -/
set_option maxRecDepth 100000
def fval (ty : FieldType) (z : Int) (r : Option Nat) : Value := match ty with
  | .long => .long (Int64.ofInt z)
  | .object _ => va_rf r
  | .array _ => va_rf r
  | .float => .float 0
  | .double => .double 0
  | _ => .int (Int32.ofInt z)
/-- types that a cell of the pure state may hold: no floats -/
def okT (ty : FieldType) : Bool := match ty with
  | .float => false
  | .double => false
  | _ => true
def isI (ty : FieldType) : Bool := match ty with
  | .int => true
  | .boolean => true
  | .byte => true
  | .char => true
  | .short => true
  | _ => false
def isRf (ty : FieldType) : Bool := match ty with
  | .object _ => true
  | .array _ => true
  | _ => false
theorem fval_I {ty : FieldType} (h : isI ty = true) (z : Int) (r : Option Nat) : fval ty z r = .int (Int32.ofInt z) := by
  cases ty <;> first | rfl | cases h
theorem fval_R {ty : FieldType} (h : isRf ty = true) (z : Int) (r : Option Nat) : fval ty z r = va_rf r := by
  cases ty <;> first | rfl | cases h
theorem inT_32 {ty : FieldType} (h : isI ty = true) {z : Int} (hz : inT ty z) : in32 z := by
  cases ty <;> first | (simp only [inT, in32] at hz ⊢; omega) | (exact absurd h (by decide))| (cases h)
abbrev Dt : Type := (Nat → ClassId) × (Nat → Nat → Nat)
/-- what a cell is, by its class's number -/
def CellO (D : Dt) (S : SS) (H : Heap) (a : Nat) : Prop := ∀ x : CI, ct (hC S a) = some x → ∃ cell : Cell, H[a]? = some cell ∧ cell.cls = D.1 (hC S a) ∧ cell.vm ≠ .unknown ∧ cell.vm.isStatics = false ∧ (ro (hC S a) = false → cell.vm = .none ∧ hG S 0 ≤ a) ∧
  ∀ k, k < x.2.2.1 → cell.slots[D.2 (hC S a) k]? = some (fval (x.2.2.2 k) (hI S a k) (hR S a k)) ∧ inT (x.2.2.2 k) (hI S a k)
def CellA (s0 : State) (S : SS) (H : Heap) (a : Nat) : Prop := ∀ ty : FieldType, act (hC S a) = some ty → ∃ cell : Cell, H[a]? = some cell ∧ s0.isArrayOf cell ty ∧ cell.vm ≠ .unknown ∧ (ro (hC S a) = false → cell.vm = .none ∧ hG S 0 ≤ a ∧ va_RA s0 cell.cls ty) ∧ cell.slots.size = hL S a ∧ hL S a < 2147483648 ∧
  ∀ j, j < hL S a → cell.slots[j]? = some (fval ty (hI S a j) (hR S a j)) ∧ inT ty (hI S a j)
def HRel (s0 : State) (D : Dt) (S : SS) (H : Heap) : Prop :=
  H.size = hN S ∧ hG S = gW s0 ∧ s0.heap.size ≤ H.size ∧ (∀ q, q < s0.heap.size → H[q]? = s0.heap[q]?) ∧ True ∧ (∀ a, CellO D S H a) ∧ (∀ a, CellA s0 S H a) ∧ hN S ≤ hG S 0 + LC ∧ hU S ≤ LU
theorem HRel.g0 {s0 : State} {D : Dt} {S : SS} {H : Heap} (h : HRel s0 D S H) : hG S 0 = s0.heap.size := by rw [h.2.1]; rfl
/-- what is known of the start -/
def Wd (s0 : State) (D : Dt) : Prop := (∀ w ∈ lw_tbl, w.before #[] s0 = true) ∧ (∀ (c : Nat) (x : CI), ct c = some x → u_Kn s0 x.1 x.2.1 x.2.2.1 (D.1 c) (D.2 c)) ∧ WK s0
/-- LOCALS -/
def isU : V → Bool
  | .inr (.inr (.inr (.inr (.inr _)))) => true
  | _ => false
def Lv (ls : Array Slot) (nL : Nat) (lv : List V) : Prop := ls.size = nL ∧ lv_wf ls ∧ lv.length = nL ∧ ∀ (i : Nat) (v : V), lv[i]? = some v → isU v = false → ls[i]? = some (.val (tv v))
def lvq (lv : List V) : List (Nat × Value) := (List.range lv.length).filterMap fun i => match lv[i]? with
  | some v => if isU v then none else some (i, tv v)
  | none => none
theorem lvq_mem {lv : List V} {q : Nat × Value} : q ∈ lvq lv ↔ ∃ v, lv[q.1]? = some v ∧ isU v = false ∧ q.2 = tv v := by
  unfold lvq
  rw [List.mem_filterMap]
  constructor
  · rintro ⟨i, -, h⟩
    split at h
    · rename_i v hv
      split at h
      · cases h
      · rename_i hu
        cases h
        exact ⟨v, hv, by simpa using hu, rfl⟩
    · cases h
  · rintro ⟨v, hv, hu, e⟩
    have hl : q.1 < lv.length := (List.getElem?_eq_some_iff.mp hv).1
    refine ⟨q.1, List.mem_range.mpr hl, ?_⟩
    rw [hv]
    simp only [hu]
    rw [← e]
    rfl
theorem Lv.has {ls : Array Slot} {nL : Nat} {lv : List V} (h : Lv ls nL lv) : lv_has ls nL (lvq lv) := by
  refine ⟨h.1, h.2.1, fun q hq => ?_⟩
  obtain ⟨v, hv, hu, e⟩ := lvq_mem.mp hq
  rw [h.2.2.2 _ _ hv hu, e]
theorem Lv.at {ls : Array Slot} {nL : Nat} {lv : List V} (h : Lv ls nL lv) {i : Nat} {v : V} (hv : lv[i]? = some v) (hu : isU v = false) : ls[i]? = some (.val (tv v)) := h.2.2.2 i v hv hu
theorem st1_len (lv : List V) (i : Nat) (v : V) : (st1 lv i v).length = lv.length := by
  unfold st1
  split
  · simp
  · cases Nat.beq (vcat (lv.getD _ vU)) 2 <;> simp
theorem Lv_st1 {ls ls' : Array Slot} {nL i : Nat} {lv : List V} {v : V} (h : Lv ls nL lv) (hs : lv_has ls' nL ((i, tv v) :: (lvq lv).filter (fun q => !(q.1 == i) && !(q.1 + 1 == i && q.2.category == 2)))) : Lv ls' nL (st1 lv i v) := by
  refine ⟨hs.1, hs.2.1, by rw [st1_len]; exact h.2.2.1, fun j w hw hu => ?_⟩
  have key : (j = i ∧ w = v) ∨ (j ≠ i ∧ lv[j]? = some w ∧ ¬ (j + 1 = i ∧ vcat w = 2)) := by
    by_cases hj : j = i
    · subst hj
      left
      refine ⟨rfl, ?_⟩
      unfold st1 at hw
      split at hw
      · rw [List.getElem?_set] at hw; simp at hw; exact hw.2.symm
      · rename_i k
        cases hb : Nat.beq (vcat (lv.getD k vU)) 2 with
        | false => rw [hb] at hw; simp only [cond_false] at hw; rw [List.getElem?_set] at hw; simp at hw; exact hw.2.symm
        | true => rw [hb] at hw; simp only [cond_true] at hw; rw [List.getElem?_set_ne (by omega), List.getElem?_set] at hw; simp at hw; exact hw.2.symm
    · right
      refine ⟨hj, ?_⟩
      unfold st1 at hw
      split at hw
      · rw [List.getElem?_set_ne (by omega)] at hw
        exact ⟨hw, by omega⟩
      · rename_i k
        cases hb : Nat.beq (vcat (lv.getD k vU)) 2 with
        | false =>
          rw [hb] at hw; simp only [cond_false] at hw; rw [List.getElem?_set_ne (by omega)] at hw
          refine ⟨hw, fun ⟨e1, e2⟩ => ?_⟩
          have : j = k := by omega
          subst this
          rw [List.getD_eq_getElem?_getD, hw] at hb
          simp only [Option.getD_some] at hb
          rw [e2] at hb
          cases hb
        | true =>
          rw [hb] at hw; simp only [cond_true] at hw
          by_cases hk : j = k
          · subst hk
            rw [List.getElem?_set] at hw
            simp at hw
            rw [← hw.2] at hu
            cases hu
          · rw [List.getElem?_set_ne (by omega), List.getElem?_set_ne (by omega)] at hw
            exact ⟨hw, by omega⟩
  rcases key with ⟨rfl, rfl⟩ | ⟨hj, hw, hc⟩
  · exact hs.2.2 (j, tv w) List.mem_cons_self
  · refine hs.2.2 (j, tv w) (List.mem_cons_of_mem _ (List.mem_filter.mpr ⟨lvq_mem.mpr ⟨w, hw, hu, rfl⟩, ?_⟩))
    simp only [Bool.and_eq_true, Bool.not_eq_true', beq_eq_false_iff_ne, ne_eq, Bool.and_eq_false_iff]
    refine ⟨hj, ?_⟩
    by_cases h1 : j + 1 = i
    · right
      rw [tv_cat]
      exact fun e => hc ⟨h1, e⟩
    · left; exact h1
theorem Lv_st2 {ls ls' : Array Slot} {nL i : Nat} {lv : List V} {v : V} (h : Lv ls nL lv) (hs : lv_has ls' nL ((i, tv v) :: (lvq lv).filter (fun q => !(q.1 == i) && (!(q.1 == i + 1) && !(q.1 + 1 == i && q.2.category == 2))))) : Lv ls' nL (st2 lv i v) := by
  refine ⟨hs.1, hs.2.1, by unfold st2; rw [List.length_set, st1_len]; exact h.2.2.1, fun j w hw hu => ?_⟩
  unfold st2 at hw
  have hj1 : j ≠ i + 1 := by
    intro e
    subst e
    rw [List.getElem?_set] at hw
    simp at hw
    rw [← hw.2] at hu
    cases hu
  rw [List.getElem?_set_ne (by omega)] at hw
  have key : (j = i ∧ w = v) ∨ (j ≠ i ∧ lv[j]? = some w ∧ ¬ (j + 1 = i ∧ vcat w = 2)) := by
    by_cases hj : j = i
    · subst hj
      left
      refine ⟨rfl, ?_⟩
      unfold st1 at hw
      split at hw
      · rw [List.getElem?_set] at hw; simp at hw; exact hw.2.symm
      · rename_i k
        cases hb : Nat.beq (vcat (lv.getD k vU)) 2 with
        | false => rw [hb] at hw; simp only [cond_false] at hw; rw [List.getElem?_set] at hw; simp at hw; exact hw.2.symm
        | true => rw [hb] at hw; simp only [cond_true] at hw; rw [List.getElem?_set_ne (by omega), List.getElem?_set] at hw; simp at hw; exact hw.2.symm
    · right
      refine ⟨hj, ?_⟩
      unfold st1 at hw
      split at hw
      · rw [List.getElem?_set_ne (by omega)] at hw
        exact ⟨hw, by omega⟩
      · rename_i k
        cases hb : Nat.beq (vcat (lv.getD k vU)) 2 with
        | false =>
          rw [hb] at hw; simp only [cond_false] at hw; rw [List.getElem?_set_ne (by omega)] at hw
          refine ⟨hw, fun ⟨e1, e2⟩ => ?_⟩
          have : j = k := by omega
          subst this
          rw [List.getD_eq_getElem?_getD, hw] at hb
          simp only [Option.getD_some] at hb
          rw [e2] at hb
          cases hb
        | true =>
          rw [hb] at hw; simp only [cond_true] at hw
          by_cases hk : j = k
          · subst hk
            rw [List.getElem?_set] at hw
            simp at hw
            rw [← hw.2] at hu
            cases hu
          · rw [List.getElem?_set_ne (by omega), List.getElem?_set_ne (by omega)] at hw
            exact ⟨hw, by omega⟩
  rcases key with ⟨rfl, rfl⟩ | ⟨hj, hw, hc⟩
  · exact hs.2.2 (j, tv w) List.mem_cons_self
  · refine hs.2.2 (j, tv w) (List.mem_cons_of_mem _ (List.mem_filter.mpr ⟨lvq_mem.mpr ⟨w, hw, hu, rfl⟩, ?_⟩))
    simp only [Bool.and_eq_true, Bool.not_eq_true', beq_eq_false_iff_ne, ne_eq, Bool.and_eq_false_iff]
    refine ⟨hj, hj1, ?_⟩
    by_cases h1 : j + 1 = i
    · right
      rw [tv_cat]
      exact fun e => hc ⟨h1, e⟩
    · left; exact h1
