/-! HANDLERS: a table of handlers as a function -/
set_option maxRecDepth 100000
section G15
variable {p : Program} {l : Launch} {e : Env} {R : Room} {s : State} {m : MethodId} {args : Array Value} {below : List Frame} {meth : Method} {c : Code} {s0 : State} {D : Dt} {S0 : SS} {nL d : Nat} {cc : ByteArray} {own : String} {ret : Option FieldType} {x : RV × SS} {pc : Nat}
def HGood (own : String) (q : HE) : Prop := q.1.2.2.2 = 0 ∨ (q.1.2.2.2 ≠ 0 ∧ q.2.1 = [] ∧ q.2.2 = []) ∨ (q.1.2.2.2 ≠ 0 ∧ ∃ nm : String, Cond.classLink own q.1.2.2.2 nm ∈ lw_all ∧ (∀ v ∈ q.2.1, CanC v nm) ∧ ∀ v ∈ q.2.2, ∃ y : CI, ct v = some y ∧ Nc y.1 nm)
theorem hand_pass (C : Cx p l R s m args meth c s0 D S0 nL d cc own ret) {q : HE} (hq : HGood own q) {k pc : Nat} {y : CI} (hy : ct k = some y) (h : ((decide (q.1.1 ≤ pc) && decide (pc < q.1.2.1)) = false) ∨ (Nat.beq q.1.2.2.2 0 = false ∧ mem q.2.2 k = true)) : HPass own s0 pc y.1 ⟨q.1.1, q.1.2.1, q.1.2.2.1, q.1.2.2.2⟩ := by
  rcases h with h | ⟨h, h'⟩
  · exact Or.inl h
  · rcases hq with h0 | ⟨-, -, h0⟩ | ⟨h0, nm, h1, -, h3⟩
    · rw [h0] at h; cases h
    · rw [h0] at h'; cases h'
    · obtain ⟨y', hy', hn⟩ := h3 _ (mem_mem h')
      cases hy.symm.trans hy'
      exact Or.inr ⟨h0, nm, h1, C.wd.2.2.2.2.2.2.2.1 _ hn⟩
theorem hand_out (C : Cx p l R s m args meth c s0 D S0 nL d cc own ret) : ∀ (L : List HE), (∀ q ∈ L, HGood own q) → ∀ (pc k : Nat) (y : CI), ct k = some y → handOf L pc k = some none → ∀ z ∈ tableOf (L.map (·.1)), HPass own s0 pc y.1 z := by
  intro L
  induction L with
  | nil => intro _ pc k y _ _ z hz; cases hz
  | cons q L ih =>
    intro hL pc k y hy h z hz
    have hz' : z ∈ (⟨q.1.1, q.1.2.1, q.1.2.2.1, q.1.2.2.2⟩ : ExceptionTableEntry) :: tableOf (L.map (·.1)) := hz
    unfold handOf at h
    cases hc : (decide (q.1.1 ≤ pc) && decide (pc < q.1.2.1)) with
    | false =>
      rw [hc] at h
      rcases List.mem_cons.mp hz' with rfl | hz2
      · exact hand_pass C (hL q List.mem_cons_self) hy (Or.inl hc)
      · exact ih (fun q' hq' => hL q' (List.mem_cons_of_mem _ hq')) pc k y hy h z hz2
    | true =>
      rw [hc, cond_true] at h
      cases hb : (Nat.beq q.1.2.2.2 0 || mem q.2.1 k) with
      | true => rw [hb] at h; cases h
      | false =>
        rw [hb, cond_false] at h
        cases hm : mem q.2.2 k with
        | false => rw [hm] at h; cases h
        | true =>
          rw [hm, cond_true] at h
          rcases List.mem_cons.mp hz' with rfl | hz2
          · exact hand_pass C (hL q List.mem_cons_self) hy (Or.inr ⟨(Bool.or_eq_false_iff.mp hb).1, hm⟩)
          · exact ih (fun q' hq' => hL q' (List.mem_cons_of_mem _ hq')) pc k y hy h z hz2
theorem hand_in (C : Cx p l R s m args meth c s0 D S0 nL d cc own ret) {S : SS} {lv : List V} {a pc hp : Nat} : ∀ (L : List HE) (pre : List ExceptionTableEntry), (∀ q ∈ L, HGood own q) → c.exceptionTable.toList = pre ++ tableOf (L.map (·.1)) → (∀ y : CI, ct (hC S a) = some y → ∀ z ∈ pre, HPass own s0 pc y.1 z) → handOf L pc (hC S a) = some (some hp) → GG p l e R s m args below meth c s0 D S0 nL x S hp lv [vR (some a)] → GT p l e R s m args below meth c s0 D S0 nL x S pc lv a := by
  intro L
  induction L with
  | nil => intro pre _ _ _ h; cases h
  | cons q L ih =>
    intro pre hL ht hpre h kk
    have ht' : c.exceptionTable.toList = pre ++ (⟨q.1.1, q.1.2.1, q.1.2.2.1, q.1.2.2.2⟩ : ExceptionTableEntry) :: tableOf (L.map (·.1)) := ht
    have ht2 : c.exceptionTable.toList = (pre ++ [(⟨q.1.1, q.1.2.1, q.1.2.2.1, q.1.2.2.2⟩ : ExceptionTableEntry)]) ++ tableOf (L.map (·.1)) := by rw [ht', List.append_assoc]; rfl
    have hL2 : ∀ q' ∈ L, HGood own q' := fun q' hq' => hL q' (List.mem_cons_of_mem _ hq')
    have hnext : (((decide (q.1.1 ≤ pc) && decide (pc < q.1.2.1)) = false) ∨ (Nat.beq q.1.2.2.2 0 = false ∧ mem q.2.2 (hC S a) = true)) → ∀ y : CI, ct (hC S a) = some y → ∀ z ∈ pre ++ [(⟨q.1.1, q.1.2.1, q.1.2.2.1, q.1.2.2.2⟩ : ExceptionTableEntry)], HPass own s0 pc y.1 z := fun hh y hy z hz => by
      rcases List.mem_append.mp hz with h | h
      · exact hpre y hy z h
      · rw [List.mem_singleton.mp h]
        exact hand_pass C (hL q List.mem_cons_self) hy hh
    unfold handOf at h
    cases hc : (decide (q.1.1 ≤ pc) && decide (pc < q.1.2.1)) with
    | false =>
      rw [hc] at h
      exact ih _ hL2 ht2 (hnext (Or.inl hc)) h kk
    | true =>
      rw [hc, cond_true] at h
      cases hb : (Nat.beq q.1.2.2.2 0 || mem q.2.1 (hC S a)) with
      | true =>
        rw [hb] at h
        have e : q.1.2.2.1 = hp := Option.some.inj (Option.some.inj h)
        rcases hL q List.mem_cons_self with h0 | ⟨h0, h1, -⟩ | ⟨h0, nm, h1, h2, -⟩
        · exact gt_catchAny C ht' hpre hc h0 (by rw [← e] at kk; exact kk)
        · rw [Bool.or_eq_true] at hb
          rcases hb with hb | hb
          · exact absurd (Nat.eq_of_beq_eq_true hb) h0
          · rw [h1] at hb; cases hb
        · rw [Bool.or_eq_true] at hb
          rcases hb with hb | hb
          · exact absurd (Nat.eq_of_beq_eq_true hb) h0
          · exact gt_catch C ht' hpre hc h0 h1 (h2 _ (mem_mem hb)) (by rw [← e] at kk; exact kk)
      | false =>
        rw [hb, cond_false] at h
        cases hm : mem q.2.2 (hC S a) with
        | false => rw [hm] at h; cases h
        | true =>
          rw [hm, cond_true] at h
          exact ih _ hL2 ht2 (hnext (Or.inr ⟨(Bool.or_eq_false_iff.mp hb).1, hm⟩)) h kk
theorem hok_of (C : Cx p l R s m args meth c s0 D S0 nL d cc own ret) {L : List HE} {hh : List (Nat × Nat × Nat × Nat)} (ht : c.exceptionTable.toList = tableOf hh) (e0 : hh = L.map (·.1)) (hL : ∀ q ∈ L, HGood own q) : HOk p l e R s m args below meth c s0 D S0 nL x (handOf L) := by
  subst e0
  refine ⟨fun pc S lv a h hx => gt_out C (fun y hy z hz => ?_) hx, fun pc hp S lv a h kk => hand_in C L [] hL ht (fun _ _ z hz => by cases hz) h kk⟩
  rw [ht] at hz
  exact hand_out C L hL pc _ y hy h z hz
end G15
theorem ra_B {s0 : State} {cA : ClassId} (h : va_RA s0 cA .byte) : s0.vm.findClass "[B" = some cA := h
theorem ra_J {s0 : State} {cA : ClassId} (h : va_RA s0 cA .long) : s0.vm.findClass "[J" = some cA := h
