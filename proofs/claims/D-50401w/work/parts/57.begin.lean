/-! THE FIRST STATE: read from the heap at the cells that are known -/
set_option maxRecDepth 100000
def rdI : Option Value → Int
  | some (.int z) => z.toInt
  | some (.long z) => z.toInt
  | _ => 0
def rdR : Option Value → Option Nat
  | some (.ref a) => some a
  | _ => none
def slotOf (D : Dt) (c k : Nat) : Nat := bif (ct c).isSome then D.2 c k else k
def lkC : List (Nat × Nat) → Nat → Nat
  | [], _ => 0
  | q :: l, a => bif Nat.beq q.1 a then q.2 else lkC l a
def S0of (s : State) (D : Dt) (K : List (Nat × Nat)) : SS := (gW s, lkC K, fun a => ((s.heap[a]?).map (fun c => c.slots.size)).getD 0, fun a k => rdI ((s.heap[a]?).bind fun c => c.slots[slotOf D (lkC K a) k]?), fun a k => rdR ((s.heap[a]?).bind fun c => c.slots[slotOf D (lkC K a) k]?), s.heap.size, 0)
/-- the cell a of the start is of class c -/
def KnO (s : State) (D : Dt) (a c : Nat) : Prop := ∃ x : CI, ct c = some x ∧ ∃ cell : Cell, s.heap[a]? = some cell ∧ cell.cls = D.1 c ∧ cell.vm ≠ .unknown ∧ cell.vm.isStatics = false ∧ ∀ k, k < x.2.2.1 → ∃ (z : Int) (r : Option Nat), cell.slots[D.2 c k]? = some (fval (x.2.2.2 k) z r) ∧ inT (x.2.2.2 k) z
def KnA (s : State) (a c : Nat) : Prop := ∃ ty : FieldType, act c = some ty ∧ okT ty = true ∧ ∃ cell : Cell, s.heap[a]? = some cell ∧ s.isArrayOf cell ty ∧ cell.vm ≠ .unknown ∧ cell.slots.size < 2147483648 ∧ ∀ j, j < cell.slots.size → ∃ (z : Int) (r : Option Nat), cell.slots[j]? = some (fval ty z r) ∧ inT ty z
def Kn (s : State) (D : Dt) (a c : Nat) : Prop := ro c = true ∧ (KnO s D a c ∨ KnA s a c)
theorem rd_fval {ty : FieldType} (h : okT ty = true) {z : Int} (hz : inT ty z) (r : Option Nat) : fval ty (rdI (some (fval ty z r))) (rdR (some (fval ty z r))) = fval ty z r ∧ inT ty (rdI (some (fval ty z r))) := by
  have key : isI ty = true → rdI (some (fval ty z r)) = z := fun hi => by
    rw [fval_I hi]
    exact to_of32 (inT_32 hi hz)
  cases ty with
  | float => cases h
  | double => cases h
  | object C => cases r <;> exact ⟨rfl, in32_0⟩
  | array t => cases r <;> exact ⟨rfl, in32_0⟩
  | long =>
    have e : rdI (some (fval .long z r)) = z := to_of64 hz
    rw [e]
    exact ⟨rfl, hz⟩
  | _ =>
    rw [key rfl]
    exact ⟨rfl, hz⟩
theorem lkC_mem : ∀ {K : List (Nat × Nat)} {a : Nat}, lkC K a = 0 ∨ (a, lkC K a) ∈ K := by
  intro K
  induction K with
  | nil => intro a; exact Or.inl rfl
  | cons q K ih =>
    intro a
    unfold lkC
    cases hb : Nat.beq q.1 a with
    | true =>
      right
      have e := Nat.eq_of_beq_eq_true hb
      rw [cond_true, ← e]
      exact List.mem_cons_self
    | false =>
      rcases ih (a := a) with h | h
      · exact Or.inl h
      · exact Or.inr (List.mem_cons_of_mem _ h)
theorem start_rel {s : State} {D : Dt} {K : List (Nat × Nat)} (hK : ∀ q ∈ K, Kn s D q.1 q.2) : HRel s D (S0of s D K) s.heap := by
  refine ⟨rfl, rfl, Nat.le_refl _, fun q _ => rfl, trivial, fun a => ?_, fun a => ?_, ?_, Nat.zero_le _⟩
  · intro x hx
    have hx' : ct (lkC K a) = some x := hx
    rcases lkC_mem (K := K) (a := a) with h | h
    · rw [h] at hx'; cases hx'
    · obtain ⟨hro, h1 | h1⟩ := hK _ h
      · obtain ⟨x2, g1, cell, g2, g3, g4, g5, g6⟩ := h1
        cases hx'.symm.trans g1
        refine ⟨cell, g2, g3, g4, g5, fun hr => ?_, fun k hk => ?_⟩
        · rw [show ro (hC (S0of s D K) a) = ro (lkC K a) from rfl, hro] at hr; cases hr
        · obtain ⟨z, r, e1, e2⟩ := g6 k hk
          have es : slotOf D (lkC K a) k = D.2 (lkC K a) k := by unfold slotOf; rw [hx']; rfl
          have eI : hI (S0of s D K) a k = rdI (some (fval (x.2.2.2 k) z r)) := by
            show rdI ((s.heap[a]?).bind fun c => c.slots[slotOf D (lkC K a) k]?) = _
            rw [g2, es]
            exact congrArg rdI e1
          have eR : hR (S0of s D K) a k = rdR (some (fval (x.2.2.2 k) z r)) := by
            show rdR ((s.heap[a]?).bind fun c => c.slots[slotOf D (lkC K a) k]?) = _
            rw [g2, es]
            exact congrArg rdR e1
          rw [eI, eR]
          obtain ⟨f1, f2⟩ := rd_fval (ctl_okT _ (ascC_mem hx') k hk) e2 r
          exact ⟨by rw [f1]; exact e1, f2⟩
      · obtain ⟨ty, g1, -⟩ := h1
        rw [act_ct g1] at hx'
        cases hx'
  · intro ty hty
    have hty' : act (lkC K a) = some ty := hty
    rcases lkC_mem (K := K) (a := a) with h | h
    · rw [h] at hty'; cases hty'
    · obtain ⟨hro, h1 | h1⟩ := hK _ h
      · obtain ⟨x2, g1, -⟩ := h1
        rw [act_ct hty'] at g1
        cases g1
      · obtain ⟨ty2, g1, g0, cell, g2, g3, g4, g5, g6⟩ := h1
        cases hty'.symm.trans g1
        have eL : hL (S0of s D K) a = cell.slots.size := by
          show ((s.heap[a]?).map (fun c => c.slots.size)).getD 0 = _
          rw [g2]; rfl
        refine ⟨cell, g2, g3, g4, fun hr => ?_, eL.symm, by rw [eL]; exact g5, fun j hj => ?_⟩
        · rw [show ro (hC (S0of s D K) a) = ro (lkC K a) from rfl, hro] at hr; cases hr
        · rw [eL] at hj
          obtain ⟨z, r, e1, e2⟩ := g6 j hj
          have es : slotOf D (lkC K a) j = j := by unfold slotOf; rw [act_ct hty']; rfl
          have eI : hI (S0of s D K) a j = rdI (some (fval ty z r)) := by
            show rdI ((s.heap[a]?).bind fun c => c.slots[slotOf D (lkC K a) j]?) = _
            rw [g2, es]
            exact congrArg rdI e1
          have eR : hR (S0of s D K) a j = rdR (some (fval ty z r)) := by
            show rdR ((s.heap[a]?).bind fun c => c.slots[slotOf D (lkC K a) j]?) = _
            rw [g2, es]
            exact congrArg rdR e1
          rw [eI, eR]
          obtain ⟨f1, f2⟩ := rd_fval g0 e2 r
          exact ⟨by rw [f1]; exact e1, f2⟩
  · show s.heap.size ≤ s.heap.size + LC
    omega
theorem ro_mem {c : Nat} (h : ro c = true) : c = 106 ∨ c = 107 ∨ c = 108 ∨ c = 109 ∨ c = 120 ∨ c = 121 := by
  have := mem_mem h
  simpa using this
theorem kn_oo {s : State} {D : Dt} (hw : Wd s D) {a c c' : Nat} (h : KnO s D a c) (h' : KnO s D a c') (x x' : CI) (hx : ct c = some x) (hx' : ct c' = some x') : x.1 = x'.1 := by
  obtain ⟨y, g1, cell, g2, g3, -⟩ := h
  obtain ⟨y', g1', cell', g2', g3', -⟩ := h'
  cases g2.symm.trans g2'
  obtain ⟨-, f1, -⟩ := hw.2.1 c x hx
  obtain ⟨-, f2, -⟩ := hw.2.1 c' x' hx'
  rw [← g3] at f1
  rw [← g3'] at f2
  obtain ⟨k1, e1, n1⟩ := Vm.findClass_spec f1
  obtain ⟨k2, e2, n2⟩ := Vm.findClass_spec f2
  cases e1.symm.trans e2
  exact n1.symm.trans n2
theorem kn_oa {s : State} {D : Dt} (hw : Wd s D) {a c c' : Nat} (h : KnO s D a c) (h' : KnA s a c') : False := by
  obtain ⟨y, g1, cell, g2, g3, -⟩ := h
  obtain ⟨ty, -, -, cell', g2', ⟨-, k, hk, comp, hkind⟩, -⟩ := h'
  cases g2.symm.trans g2'
  obtain ⟨-, -, kC, hkC, hord⟩ := hw.2.1 c y g1
  rw [← g3] at hkC
  cases hk.symm.trans hkC
  rw [hkind] at hord
  cases hord
theorem kn_aa {s : State} {a c c' : Nat} (h : KnA s a c) (h' : KnA s a c') : act c = act c' := by
  obtain ⟨ty, e1, -, cell, g2, ⟨-, k, hk, comp, hkind⟩, -⟩ := h
  obtain ⟨ty', e1', -, cell', g2', ⟨-, k', hk', comp', hkind'⟩, -⟩ := h'
  cases g2.symm.trans g2'
  cases hk.symm.trans hk'
  rw [hkind] at hkind'
  injection hkind' with _ h2
  rw [e1, e1', h2]
theorem kn_uniq {s : State} {D : Dt} (hw : Wd s D) {a c c' : Nat} (h : Kn s D a c) (h' : Kn s D a c') : c = c' := by
  obtain ⟨r, h | h⟩ := h <;> obtain ⟨r', h' | h'⟩ := h'
  · have hO := h
    have hO' := h'
    obtain ⟨x, hx, -⟩ := h
    obtain ⟨x', hx', -⟩ := h'
    have key := kn_oo hw hO hO' x x' hx hx'
    rcases ro_mem r with rfl | rfl | rfl | rfl | rfl | rfl <;> first | (cases hx; done) | skip
    all_goals (rcases ro_mem r' with rfl | rfl | rfl | rfl | rfl | rfl <;> first | rfl | (cases hx'; done) | (cases hx; cases hx'; exact absurd key (by decide)))
  · exact (kn_oa hw h h').elim
  · exact (kn_oa hw h' h).elim
  · have key := kn_aa h h'
    obtain ⟨ty, e1, -⟩ := h
    obtain ⟨ty', e2, -⟩ := h'
    rcases ro_mem r with rfl | rfl | rfl | rfl | rfl | rfl <;> first | (cases e1; done) | skip
    all_goals (rcases ro_mem r' with rfl | rfl | rfl | rfl | rfl | rfl <;> first | rfl | (cases e2; done) | exact absurd key (by decide))
theorem lkC_at {s : State} {D : Dt} (hw : Wd s D) : ∀ {K : List (Nat × Nat)}, (∀ q ∈ K, Kn s D q.1 q.2) → ∀ {a c : Nat}, (a, c) ∈ K → lkC K a = c := by
  intro K hK a c h
  have h1 : Kn s D a c := hK _ h
  rcases lkC_mem (K := K) (a := a) with h2 | h2
  · exfalso
    have : ∀ (L : List (Nat × Nat)), (∀ q ∈ L, Kn s D q.1 q.2) → (a, c) ∈ L → lkC L a ≠ 0 := by
      intro L
      induction L with
      | nil => intro _ h; cases h
      | cons q L ih =>
        intro hL hm
        unfold lkC
        cases hb : Nat.beq q.1 a with
        | true =>
          rw [cond_true]
          intro h0
          have := (hL q List.mem_cons_self).1
          rw [h0] at this
          cases this
        | false =>
          rw [cond_false]
          rcases List.mem_cons.mp hm with e | e
          · rw [← e] at hb
            simp at hb
          · exact ih (fun q hq => hL q (List.mem_cons_of_mem _ hq)) e
    exact this K hK h h2
  · exact kn_uniq hw (hK _ h2) h1
