/-! CELLS OF THE START by words -/
set_option maxRecDepth 100000
theorem fld_at {args : Array Value} {s : State} {D : Dt} (hw : Wd s D) {c k : Nat} {x : CI} (hx : ct c = some x) (hk : k < x.2.2.1) {t : Term} {a : Nat} {v : Value} (ht : t.eval args s none [] s = some (.ref a)) (h : (Term.field t (x.2.1 k).1 (x.2.1 k).2.1 (x.2.1 k).2.2.1).eval args s none [] s = some v) : ∃ cell : Cell, s.heap[a]? = some cell ∧ cell.vm ≠ .unknown ∧ cell.vm.isStatics = false ∧ cell.slots[D.2 c k]? = some v := by
  obtain ⟨hS, -⟩ := hw.2.1 c x hx
  obtain ⟨cf, kf, fi, fd, h1, h2⟩ := hS k hk
  obtain ⟨-, cell, g1, g2, g3, -, g5⟩ := Term.field_spec h1 ht h
  exact ⟨cell, g1, g2, g3, by rw [← h2]; exact g5⟩
theorem arr_at {args : Array Value} {s : State} {t : Term} {ty : FieldType} {N : Nat} (hN : N < 2147483648) (harr : (Cond.arrayOf t ty).before args s = true) (hlen : (Cond.eq (.length t) (.int (Int32.ofNat N))).before args s = true) : ∃ (a : Nat) (cell : Cell), t.eval args s none [] s = some (.ref a) ∧ s.arrayAt? a = some cell ∧ s.heap[a]? = some cell ∧ s.isArrayOf cell ty ∧ cell.vm ≠ .unknown ∧ cell.slots.size = N := by
  have hv := va_eqt hlen
  obtain ⟨a, cell, ht, hat, hvv⟩ := Term.length_spec hv
  obtain ⟨hcell, hkn, -, -⟩ := State.arrayAt?_spec hat
  obtain ⟨hof, -⟩ := Cond.arrayOf_spec harr ht hcell
  have hsz : cell.slots.size < 2147483648 := by
    simp only [Term.eval, ht, hat, Option.bind_eq_bind, Option.bind_some] at hv
    by_cases hlt : cell.slots.size < 2147483648
    · exact hlt
    · simp [hlt] at hv
  refine ⟨a, cell, ht, hat, hcell, hof, hkn, ?_⟩
  have e : Int32.ofNat cell.slots.size = Int32.ofNat N := (Value.int.inj hvv).symm
  have e2 := congrArg Int32.toInt e
  rw [Int32.toInt_ofNat_of_lt (by omega), Int32.toInt_ofNat_of_lt (by omega)] at e2
  omega
theorem el_at {args : Array Value} {s : State} {t : Term} {a j : Nat} {cell : Cell} {z : Int32} (hj : j < 2147483648) (ht : t.eval args s none [] s = some (.ref a)) (hat : s.arrayAt? a = some cell) (h : (Cond.eq (.elem t (.int (Int32.ofNat j))) (.int z)).before args s = true) : cell.slots[j]? = some (.int z) := by
  obtain ⟨a', i, cell2, h1, h2, h3, h4, h5⟩ := Term.elem_spec (va_eqt h)
  cases ht.symm.trans h1
  cases hat.symm.trans h3
  have hi : i = Int32.ofNat j := by
    have e : (Term.int (Int32.ofNat j)).eval args s none [] s = some (.int (Int32.ofNat j)) := rfl
    cases h2.symm.trans e
    rfl
  have hc : i.toNatClampNeg = j := by rw [hi]; exact Int32.toNatClampNeg_ofNat_of_lt hj
  rw [hc] at h5
  exact h5
/-- the numbers l lie in the cell from place j on -/
def Els (cell : Cell) : Nat → List Int → Prop
  | _, [] => True
  | j, z :: l => cell.slots[j]? = some (.int (Int32.ofInt z)) ∧ Els cell (j + 1) l
theorem Els.at {cell : Cell} : ∀ {l : List Int} {j : Nat}, Els cell j l → ∀ (i : Nat) (z : Int), l[i]? = some z → cell.slots[j + i]? = some (.int (Int32.ofInt z)) := by
  intro l
  induction l with
  | nil => intro j _ i z h; simp at h
  | cons y l ih =>
    intro j h i z hz
    match i, hz with
    | 0, hz => cases hz; exact h.1
    | i + 1, hz =>
      have := ih h.2 i z hz
      rw [show j + 1 + i = j + (i + 1) by omega] at this
      exact this
/-- a byte array of the start, with its bytes -/
def BsAt (s : State) (v : Nat) (l : List Int) : Prop := ∃ cell : Cell, s.heap[v]? = some cell ∧ s.isArrayOf cell .byte ∧ cell.vm ≠ .unknown ∧ cell.slots.size = l.length ∧ Els cell 0 l
/-- a String of the start: its value array, its hash -/
def StrAt (s : State) (D : Dt) (a v : Nat) (h : Int32) : Prop := ∃ cell : Cell, s.heap[a]? = some cell ∧ cell.cls = D.1 120 ∧ cell.vm ≠ .unknown ∧ cell.vm.isStatics = false ∧ cell.slots[D.2 120 0]? = some (.ref v) ∧ cell.slots[D.2 120 1]? = some (.int 0) ∧ cell.slots[D.2 120 2]? = some (.int h) ∧ cell.slots[D.2 120 3]? = some (.int 0)
theorem BsAt.kn {s : State} {D : Dt} {v : Nat} {l : List Int} (h : BsAt s v l) (hl : l.length < 2147483648) (hb : ∀ z ∈ l, -128 ≤ z ∧ z ≤ 127) : Kn s D v 107 := by
  obtain ⟨cell, h1, h2, h3, h4, h5⟩ := h
  refine ⟨rfl, Or.inr ⟨.byte, rfl, rfl, cell, h1, h2, h3, by omega, fun j hj => ?_⟩⟩
  have hj' : j < l.length := by omega
  have e := h5.at j l[j] (List.getElem?_eq_getElem hj')
  rw [Nat.zero_add] at e
  exact ⟨l[j], none, e, hb _ (List.getElem_mem hj')⟩
theorem StrAt.kn {s : State} {D : Dt} {a v : Nat} {h : Int32} (hs : StrAt s D a v h) : Kn s D a 120 := by
  obtain ⟨cell, h1, h2, h3, h4, h5, h6, h7, h8⟩ := hs
  refine ⟨rfl, Or.inl ⟨_, rfl, cell, h1, h2, h3, h4, fun k hk => ?_⟩⟩
  have hk4 : k < 4 := hk
  match k, hk4 with
  | 0, _ => exact ⟨0, some v, h5, in32_0⟩
  | 1, _ => exact ⟨0, none, h6, by decide, by decide⟩
  | 2, _ => exact ⟨h.toInt, none, by rw [h7]; exact congrArg (fun q => some (Value.int q)) (of_to32 h).symm, in32_to h⟩
  | 3, _ => exact ⟨0, none, h8, by decide, by decide⟩
theorem str_cell {args : Array Value} {s : State} {D : Dt} (hw : Wd s D) {own : String} {idx k : Nat} {h : Int32} {N : Nat} {l : List Int} (hN : l.length = N) (hN2 : N < 2147483648) (hk : ascT gTm (k + 1) = some (.string own idx)) (h69 : Nat.blt k 69 = true)
    (he : (Cond.exactly (.string own idx) "java/lang/String").before args s = true) (hco : (Cond.eq (.field (.string own idx) "java/lang/String" "coder" "B") (.int 0)).before args s = true) (hh : (Cond.eq (.field (.string own idx) "java/lang/String" "hash" "I") (.int h)).before args s = true) (hz : (Cond.eq (.field (.string own idx) "java/lang/String" "hashIsZero" "Z") (.int 0)).before args s = true)
    (ha : (Cond.arrayOf (.field (.string own idx) "java/lang/String" "value" "[B") .byte).before args s = true) (hl : (Cond.eq (.length (.field (.string own idx) "java/lang/String" "value" "[B")) (.int (Int32.ofNat N))).before args s = true)
    (hel : ∀ (v : Nat) (cell : Cell), (Term.field (.string own idx) "java/lang/String" "value" "[B").eval args s none [] s = some (.ref v) → s.arrayAt? v = some cell → Els cell 0 l) : ∃ v, StrAt s D (gW s (k + 1)) v h ∧ BsAt s v l := by
  obtain ⟨a, c, cell, kk, h1, h2, h3, h4, h5, h6, -⟩ := Cond.exactly_spec he
  have hg : (Term.string own idx).eval #[] s none [] s = some (.ref a) := by simpa [Term.eval] using h1
  rw [gW_str hk h69 hg]
  obtain ⟨v, cv, g1, g2, g3, g4, g5, g6⟩ := arr_at hN2 ha hl
  obtain ⟨c0, f1, f2, f3, f4⟩ := fld_at (c := 120) (k := 0) hw rfl (by decide) h1 g1
  obtain ⟨c1, e1, -, -, e4⟩ := fld_at (c := 120) (k := 1) hw rfl (by decide) h1 (va_eqt hco)
  obtain ⟨c2, d1, -, -, d4⟩ := fld_at (c := 120) (k := 2) hw rfl (by decide) h1 (va_eqt hh)
  obtain ⟨c3, b1, -, -, b4⟩ := fld_at (c := 120) (k := 3) hw rfl (by decide) h1 (va_eqt hz)
  cases h3.symm.trans f1
  cases h3.symm.trans e1
  cases h3.symm.trans d1
  cases h3.symm.trans b1
  obtain ⟨-, hfc, -⟩ := hw.2.1 120 _ rfl
  have hcl : cell.cls = D.1 120 := by
    rw [h6]
    exact Option.some.inj (h2.symm.trans hfc)
  exact ⟨v, ⟨cell, h3, hcl, f2, f3, f4, e4, d4, b4⟩, cv, g3, g4, g5, by rw [g6, hN], hel v cv g1 g2⟩
