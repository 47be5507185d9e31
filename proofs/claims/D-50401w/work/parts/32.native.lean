/-! NATIVES: arraycopy, clone of an array, getClass of an Object[] -/
set_option maxRecDepth 100000
theorem memP_mem {l : List (Nat × Nat)} {a b : Nat} (h : memP l a b = true) : (a, b) ∈ l := by
  induction l with
  | nil => cases h
  | cons q l ih =>
    unfold memP at h
    cases hb : Nat.beq q.1 a && Nat.beq q.2 b with
    | true =>
      rw [Bool.and_eq_true] at hb
      have e : q = (a, b) := Prod.ext (Nat.eq_of_beq_eq_true hb.1) (Nat.eq_of_beq_eq_true hb.2)
      rw [e]; exact List.mem_cons_self
    | false => rw [hb] at h; exact List.mem_cons_of_mem _ (ih h)
theorem fval_fits {ty : FieldType} (h : okT ty = true) {z : Int} (hz : inT ty z) (r : Option Nat) : fits ty (fval ty z r) = true := by
  have key : in32 z → (Int32.ofInt z).toInt = z := fun h => to_of32 h
  cases ty with
  | float => cases h
  | double => cases h
  | int => rfl
  | long => rfl
  | object C => cases r <;> rfl
  | array t => cases r <;> rfl
  | boolean =>
    simp only [inT] at hz
    have : z = 0 ∨ z = 1 := by omega
    rcases this with rfl | rfl <;> rfl
  | byte =>
    simp only [inT] at hz
    have e := key ⟨by omega, by omega⟩
    show (decide (-128 ≤ Int32.ofInt z) && decide (Int32.ofInt z ≤ 127)) = true
    rw [Bool.and_eq_true, decide_eq_true_eq, decide_eq_true_eq, Int32.le_iff_toInt_le, Int32.le_iff_toInt_le, e]
    exact ⟨hz.1, hz.2⟩
  | char =>
    simp only [inT] at hz
    have e := key ⟨by omega, by omega⟩
    show (decide (0 ≤ Int32.ofInt z) && decide (Int32.ofInt z ≤ 65535)) = true
    rw [Bool.and_eq_true, decide_eq_true_eq, decide_eq_true_eq, Int32.le_iff_toInt_le, Int32.le_iff_toInt_le, e]
    exact ⟨hz.1, hz.2⟩
  | short =>
    simp only [inT] at hz
    have e := key ⟨by omega, by omega⟩
    show (decide (-32768 ≤ Int32.ofInt z) && decide (Int32.ofInt z ≤ 32767)) = true
    rw [Bool.and_eq_true, decide_eq_true_eq, decide_eq_true_eq, Int32.le_iff_toInt_le, Int32.le_iff_toInt_le, e]
    exact ⟨hz.1, hz.2⟩
section G11
variable {p : Program} {l : Launch} {e : Env} {R : Room} {s : State} {m : MethodId} {args : Array Value} {below : List Frame} {meth : Method} {c : Code} {s0 : State} {D : Dt} {S0 : SS} {nL d : Nat} {cc : ByteArray} {own : String} {ret : Option FieldType} {x : RV × SS} {pc : Nat}
theorem sn_copy (C : Cx p l R s m args meth c s0 D S0 nL d cc own ret) {idx : Nat} {prs : List (Nat × Nat)} {vs : List Nat} {ty : FieldType} (hd : decode cc pc = .ok (.invokestatic idx, 3)) (hl : Cond.methodLink own idx arraycopyName ∈ lw_all) (hnat : Cond.native arraycopyName ∈ lw_all) (hstat : Cond.static arraycopyName ∈ lw_all) (hini : Cond.initialized "java/lang/System" ∈ lw_all)
    (hp : ∀ q ∈ prs, act q.1 = some ty ∧ act q.2 = some ty ∧ ro q.2 = false) (hot : okT ty = true) (hv : ∀ K, ty = .object K → ∀ v ∈ vs, CanC v K) (hvs : ∀ K, ty = .object K → vs.isEmpty = false) (hna : ∀ t, ty ≠ .array t) (h1d : 1 ≤ d) : Snd p l e R s m args below meth c s0 D S0 nL x pc (i_copy prs vs (pc + 3)) := by
  intro lv st S o ho hk
  unfold i_copy at ho
  split at ho
  · rename_i k dp b sp a st
    cases hb : (memP prs (hC S a) (hC S b) && (room8 st && (decide (0 ≤ sp ∧ 0 ≤ dp ∧ 0 ≤ k ∧ sp + k ≤ hL S a ∧ dp + k ≤ hL S b) && (vs.isEmpty || (List.range k.toNat).all (fun i => okr S vs (hR S a (sp.toNat + i))))))) with
    | false => rw [hb] at ho; cases ho
    | true =>
      rw [hb] at ho
      rw [nx_some ho] at hk
      rw [Bool.and_eq_true, Bool.and_eq_true, Bool.and_eq_true, decide_eq_true_eq] at hb
      obtain ⟨b1, b2, ⟨q1, q2, q3, q4, q5⟩, b4⟩ := hb
      obtain ⟨p1, p2, p3⟩ := hp _ (memP_mem b1)
      intro H locs ls h1 h2 h3 h4 h5 h6 h7
      obtain ⟨ik, h6a⟩ := inVs_cons.mp h6
      obtain ⟨idp, h6b⟩ := inVs_cons.mp h6a
      obtain ⟨-, h6c⟩ := inVs_cons.mp h6b
      obtain ⟨isp, h6d⟩ := inVs_cons.mp h6c
      obtain ⟨-, h6e⟩ := inVs_cons.mp h6d
      obtain ⟨cs, s1, s2, s3, s4, s5, s6, s7⟩ := h1.2.2.2.2.2.2.1 a ty p1
      obtain ⟨cd, d1, d2, d3, d4, d5, d6, d7⟩ := h1.2.2.2.2.2.2.1 b ty p2
      obtain ⟨dv, dg, dra⟩ := d4 p3
      obtain ⟨s2a, ks, s2b, sc, s2c⟩ := State.isArrayOf_alike C.wm.alike s2
      obtain ⟨d2a, kd, d2b, dc, d2c⟩ := State.isArrayOf_alike C.wm.alike d2
      have ek : (Int32.ofInt k).toInt = k := to_of32 ik
      have edp : (Int32.ofInt dp).toInt = dp := to_of32 idp
      have esp : (Int32.ofInt sp).toInt = sp := to_of32 isp
      have nn : ∀ z : Int, in32 z → 0 ≤ z → ¬ Int32.ofInt z < 0 := fun z hz h0 => by
        rw [Int32.lt_iff_toInt_lt, to_of32 hz]; simp; omega
      intro T hT X
      obtain ⟨vm', X', step⟩ := X.arraycopy C.ex C.ow (C.ts hl) (C.ts hnat) (C.ts hstat) (C.ts hini) (src := a) (dst := b) (cs := cs) (cd := cd) (srcPos := Int32.ofInt sp) (destPos := Int32.ofInt dp) (n := Int32.ofInt k) (by rw [hT]; exact s1) (by rw [hT]; exact d1) s2a d2a s3 d3 s2b d2b s2c d2c (by cases hr : refKind ty <;> simp [hr]) (nn sp isp q1) (nn dp idp q2) (nn k ik q3) (by rw [esp, ek, s5]; omega) (by rw [edp, ek, d5]; omega)
        (fun vm₁ hal i hi => by
          rw [clamp32 ik] at hi
          rw [clamp32 isp]
          have hj : sp.toNat + i < hL S a := by omega
          have ev : cs.slots.getD (sp.toNat + i) .null = fval ty (hI S a (sp.toNat + i)) (hR S a (sp.toNat + i)) := by
            rw [Array.getD_eq_getD_getElem?, (s7 _ hj).1]; rfl
          rw [ev]
          refine ⟨fval_fits hot (s7 _ hj).2 _, ?_⟩
          cases ty with
          | float => cases hot
          | double => cases hot
          | array t => exact absurd rfl (hna t)
          | object K =>
            show State.takes _ _ (va_rf (hR S a (sp.toNat + i)))
            cases hy : hR S a (sp.toNat + i) with
            | none => trivial
            | some y =>
              rw [hvs K rfl, Bool.false_or] at b4
              have hok := List.all_eq_true.mp b4 i (List.mem_range.mpr hi)
              rw [hy] at hok
              obtain ⟨cv, kv, t, v1, v2, v3, v4, v5, v6, -⟩ := can_asg C h1 (hv K rfl _ (okr_spec hok))
              obtain ⟨kA, comp, g1, g2, g3, g4⟩ := dra.moved C.wm.alike
              cases d2b.symm.trans g1
              cases d2c.symm.trans g2
              cases g3.symm.trans v5
              obtain ⟨kE, hkE, -⟩ := Vm.findClass_spec v5
              obtain ⟨kC', hkC', -⟩ := hal.2.2 _ _ v4
              obtain ⟨kE', hkE', -⟩ := hal.2.2 _ _ hkE
              refine ⟨cv, (show T.heap[y]? = some cv by rw [hT]; exact v1), (fun q h => by rw [h] at v3; cases v3), ⟨kC', hkC'⟩, ⟨kE', hkE'⟩, ?_⟩
              show vm₁.assignable _ _ = true
              rw [hal.assignable]
              exact v6
          | _ => trivial)
        (g := F0 m pc ls (.int (Int32.ofInt k) :: .int (Int32.ofInt dp) :: .ref b :: .int (Int32.ofInt sp) :: .ref a :: st.map tv)) rfl (by show ls.size = _; rw [C.2.2.1]; exact h4.1) (rest := st.map tv) rfl (by rw [C.by]; exact hd) (by rw [C.rm]; exact h1d)
        (by
          rw [C.rm, map_cat]
          have h8 : (st.map vcat).sum ≤ 8 := Nat.ble_eq.mp b2
          have hw : nativeFrameWords "java/lang/System" "arraycopy" 5 ≤ 40 := by decide
          show 2 * 0 + _ + _ ≤ 64 * d
          omega)
      have hst : (cs.stretch (Int32.ofInt sp).toNatClampNeg (Int32.ofInt k).toNatClampNeg).length = k.toNat := by rw [Cell.stretch_length, clamp32 ik]
      generalize hcd : copied cs cd (Int32.ofInt sp) (Int32.ofInt dp) (Int32.ofInt k) = cell' at X' step
      obtain ⟨f1, f2, f3, f4, f5⟩ := Cell.storeRun_facts cd (Int32.ofInt dp).toNatClampNeg (cs.stretch (Int32.ofInt sp).toNatClampNeg (Int32.ofInt k).toNatClampNeg)
      rw [show cd.storeRun (Int32.ofInt dp).toNatClampNeg (cs.stretch (Int32.ofInt sp).toNatClampNeg (Int32.ofInt k).toNatClampNeg) = cell' from hcd] at f1 f2 f3
      have hlt : b < H.size := (Array.getElem?_eq_some_iff.mp d1).1
      have e1 : (H.setIfInBounds b cell')[b]? = some cell' := by simp [hlt]
      have e2 : (H.setIfInBounds b cell').size = H.size := by simp
      have e3 : ∀ q, q ≠ b → (H.setIfInBounds b cell')[q]? = H[q]? := fun q hq => by simp [Array.getElem?_setIfInBounds, Ne.symm hq]
      have hge : s0.heap.size ≤ b := by rw [← h1.g0]; exact dg
      have hread : ∀ j, j < hL S b → cell'.slots[j]? = some (fval ty (hI (cpy S a sp.toNat b dp.toNat k.toNat) b j) (hR (cpy S a sp.toNat b dp.toNat k.toNat) b j)) ∧ inT ty (hI (cpy S a sp.toNat b dp.toNat k.toNat) b j) := by
        intro j hj
        rw [← hcd, Cell.storeRun_get _ _ _ _ (by rw [hst, clamp32 idp, d5]; omega), hst, clamp32 idp]
        show (if dp.toNat ≤ j ∧ j < dp.toNat + k.toNat then _ else _) = some (fval ty (if b = b ∧ dp.toNat ≤ j ∧ j < dp.toNat + k.toNat then _ else _) (if b = b ∧ dp.toNat ≤ j ∧ j < dp.toNat + k.toNat then _ else _)) ∧ inT ty (if b = b ∧ dp.toNat ≤ j ∧ j < dp.toNat + k.toNat then _ else _)
        by_cases hin : dp.toNat ≤ j ∧ j < dp.toNat + k.toNat
        · rw [if_pos hin, if_pos ⟨rfl, hin⟩, if_pos ⟨rfl, hin⟩]
          have hj2 : sp.toNat + (j - dp.toNat) < hL S a := by omega
          refine ⟨?_, (s7 _ hj2).2⟩
          unfold Cell.stretch
          rw [List.getElem?_map, List.getElem?_range (by rw [clamp32 ik]; omega), clamp32 isp]
          show some (cs.slots.getD _ _) = _
          rw [Array.getD_eq_getD_getElem?, (s7 _ hj2).1]; rfl
        · rw [if_neg hin, if_neg (fun h => hin h.2), if_neg (fun h => hin h.2)]
          exact d7 j hj
      have hoth : ∀ c' j, c' ≠ b → hI (cpy S a sp.toNat b dp.toNat k.toNat) c' j = hI S c' j ∧ hR (cpy S a sp.toNat b dp.toNat k.toNat) c' j = hR S c' j := fun c' j hc => ⟨if_neg fun h => hc h.1, if_neg fun h => hc h.1⟩
      have hr1 : HRel s0 D (cpy S a sp.toNat b dp.toNat k.toNat) (H.setIfInBounds b cell') := by
        refine h1.upd ⟨rfl, rfl, rfl, rfl, rfl⟩ d1 dg e1 f3 e2 e3 hoth ?_ ?_
        · intro y hy
          rw [show hC (cpy S a sp.toNat b dp.toNat k.toNat) b = hC S b from rfl, act_ct p2] at hy
          cases hy
        · intro ty' hty'
          cases p2.symm.trans (show act (hC S b) = some ty' from hty')
          refine ⟨cell', e1, ⟨by rw [f2]; exact d2.1, by rw [f1]; exact d2.2⟩, by rw [f2]; exact d3, fun _ => ⟨by rw [f2]; exact dv, dg, by rw [f1]; exact dra⟩, by rw [f3]; exact d5, d6, fun j hj => hread j hj⟩
      have hgo := hk (H.setIfInBounds b cell') (locs ++ (cs.stretch (Int32.ofInt sp).toNatClampNeg (Int32.ofInt k).toNatClampNeg).zipIdx.map fun q => ⟨b, (Int32.ofInt dp).toNatClampNeg + q.2⟩) ls hr1 (by rw [e2]; exact h2)
        (fun q hq => by
          rcases List.mem_append.mp hq with h | h
          · exact h3 q h
          · obtain ⟨z, -, hz⟩ := List.mem_map.mp h
            rw [← hz]; exact hge) h4 h5 h6e h7
      have hheap : ((T.setVm vm').setCell b cell').heap = H.setIfInBounds b cell' := by rw [← hT]; rfl
      obtain ⟨t, a1, c1⟩ := hgo _ hheap X'
      exact ⟨t, step t a1, c1⟩
  · cases ho
theorem HRel.pushG {S S' : SS} {H H' : Heap} (h : HRel s0 D S H) {k : Nat} (e2 : H'.size = hN S + 1) (e3 : ∀ q, q < hN S → H'[q]? = H[q]?) (hft : fitN S k = true) (d1 : hG S' = hG S) (d2 : hN S' = hN S + 1) (d3 : hU S' = hU S + k) (d4 : ∀ b, b ≠ hN S → hC S' b = hC S b ∧ hL S' b = hL S b ∧ ∀ j, hI S' b j = hI S b j ∧ hR S' b j = hR S b j) (hO : CellO D S' H' (hN S)) (hA : CellA s0 S' H' (hN S)) : HRel s0 D S' H' := by
  obtain ⟨h1, h2, h3, h4, h5, h6, h7, h8, h9⟩ := h
  simp only [fitN, Bool.and_eq_true, Nat.blt_eq, Nat.ble_eq] at hft
  have hlt : ∀ b, (∃ ce, H[b]? = some ce) → b < hN S := fun b ⟨ce, hb⟩ => by rw [← h1]; exact (Array.getElem?_eq_some_iff.mp hb).1
  refine ⟨by rw [d2]; exact e2, by rw [d1]; exact h2, by rw [e2]; omega, fun q hq => ?_, ?_, fun b => ?_, fun b => ?_, by rw [d1, d2]; exact hft.1, by rw [d3]; exact hft.2⟩
  · rw [e3 q (by omega)]; exact h4 q hq
  · trivial
  · by_cases hb : b = hN S
    · subst hb; exact hO
    · obtain ⟨g1, g4, g5⟩ := d4 b hb
      intro x hx
      rw [g1] at hx ⊢
      obtain ⟨ce, c1, c2, c3, c4, c5, c6⟩ := h6 b x hx
      refine ⟨ce, by rw [e3 b (hlt b ⟨_, c1⟩)]; exact c1, c2, c3, c4, by rw [d1]; exact c5, fun j hj => ?_⟩
      rw [(g5 j).1, (g5 j).2]
      exact c6 j hj
  · by_cases hb : b = hN S
    · subst hb; exact hA
    · obtain ⟨g1, g4, g5⟩ := d4 b hb
      intro ty hty
      rw [g1] at hty ⊢
      rw [g4]
      obtain ⟨ce, c1, c2, c3, c4, c5, c6, c7⟩ := h7 b ty hty
      refine ⟨ce, by rw [e3 b (hlt b ⟨_, c1⟩)]; exact c1, c2, c3, by rw [d1]; exact c4, c5, c6, fun j hj => ?_⟩
      rw [(g5 j).1, (g5 j).2]
      exact c7 j hj
theorem sn_clone (C : Cx p l R s m args meth c s0 D S0 nL d cc own ret) {idx k : Nat} {ad : String} {ty : FieldType} (hd : decode cc pc = .ok (.invokevirtual idx, 3)) (hl : Cond.methodLink own idx ⟨ad, "clone", "()Ljava/lang/Object;"⟩ ∈ lw_all) (hsame : Cond.sameMethod ad "java/lang/Object" "clone" "()Ljava/lang/Object;" ∈ lw_all) (hnat : Cond.native ⟨"java/lang/Object", "clone", "()Ljava/lang/Object;"⟩ ∈ lw_all) (hinst : Cond.instanceMethod ⟨"java/lang/Object", "clone", "()Ljava/lang/Object;"⟩ ∈ lw_all) (hsel : Cond.selects ad ⟨ad, "clone", "()Ljava/lang/Object;"⟩ ⟨"java/lang/Object", "clone", "()Ljava/lang/Object;"⟩ ∈ lw_all) (hcl : Cond.castable ad "java/lang/Cloneable" ∈ lw_tbl)
    (hk0 : act k = some ty) (hro : ro k = false) (hot : okT ty = true) (hra : ∀ cA, va_RA s0 cA ty → s0.vm.findClass ad = some cA) (h1d : 1 ≤ d) : Snd p l e R s m args below meth c s0 D S0 nL x pc (i_clone k (pc + 3)) := by
  intro lv st S o ho hk
  unfold i_clone at ho
  split at ho
  · rename_i a st
    cases hb : Nat.beq (hC S a) k && (room8 st && fitN S (hL S a)) with
    | false => rw [hb] at ho; cases ho
    | true =>
      rw [hb] at ho
      rw [nx_some ho] at hk
      rw [Bool.and_eq_true, Bool.and_eq_true] at hb
      obtain ⟨b1, b2, b3⟩ := hb
      have b1' := Nat.eq_of_beq_eq_true b1
      intro H locs ls h1 h2 h3 h4 h5 h6 h7
      have hty : act (hC S a) = some ty := by rw [b1']; exact hk0
      have hro' : ro (hC S a) = false := by rw [b1']; exact hro
      obtain ⟨cs, s1, s2, s3, s4, s5, s6, s7⟩ := h1.2.2.2.2.2.2.1 a ty hty
      obtain ⟨sv, sg, sra⟩ := s4 hro'
      have hnm : s.vm.findClass ad = some cs.cls := by rw [C.wm.alike.findClass]; exact hra _ sra
      obtain ⟨c0, t0', f1, f2, f3⟩ := Cond.castable_spec (va_Nw.use (A := args) rfl (va_Nw.warmC C.wm (C.wd.1 _ hcl)))
      cases hnm.symm.trans f1
      obtain ⟨s2a, ks, s2b, sc, s2c⟩ := State.isArrayOf_alike C.wm.alike s2
      have hf2 := b3
      simp only [fitN, Bool.and_eq_true, Nat.blt_eq, Nat.ble_eq] at hf2
      have h0 : hN S0 ≤ hN S := by rw [← h1.1, ← C.hr.1]; exact h2
      intro T hT X
      obtain ⟨-, kA, hkA, comp, hkind⟩ := State.isArrayOf_alike X.warmed.alike (State.isArrayOf_alike C.wm.alike s2)
      obtain ⟨vm', X', step⟩ := X.cloneArray C.ex C.ow (C.ts hl) (C.ts hsame) (C.ts hnat) (C.ts hinst) (C.ts hsel) (a := a) (cell := cs) (by rw [hT]; exact s1) s2a s3 hnm f2 f3
        (fun i v hv => by
          have hk' : T.vm.classes[cs.cls]? = some kA := hkA
          have hi : i < hL S a := by rw [← s5]; exact (Array.getElem?_eq_some_iff.mp hv).1
          have := (s7 i hi).1
          cases hv.symm.trans this
          simpa [State.fitsSlot, State.slotType?, hk', hkind] using fval_fits hot (s7 i hi).2 _)
        (g := F0 m pc ls (.ref a :: st.map tv)) rfl (by show ls.size = _; rw [C.2.2.1]; exact h4.1) rfl (by rw [C.by]; exact hd) (by rw [C.rm]; exact h1d)
        (by
          rw [C.rm, map_cat]
          have h8 : (st.map vcat).sum ≤ 8 := Nat.ble_eq.mp b2
          show 2 * 0 + _ + 14 ≤ 64 * d
          omega) (by rw [C.rm]; show _ ≤ hG S0 0 + LC - hN S0; rw [← h7.1]; omega) (by rw [C.rm, s5]; show _ ≤ LU - hU S0; have := h7.2; omega) (hloader := Vm.clonesLoader_of_array s2b s2c)
      have hsz : T.heap.size = hN S := by rw [hT]; exact h1.1
      have hcell : ({ cls := cs.cls, slots := cs.slots } : Cell).vm = .none := rfl
      have e1 : (H.push { cls := cs.cls, slots := cs.slots })[hN S]? = some { cls := cs.cls, slots := cs.slots } := by rw [← h1.1, Array.getElem?_push_size]
      have e2 : (H.push { cls := cs.cls, slots := cs.slots }).size = hN S + 1 := by rw [Array.size_push, h1.1]
      have e3 : ∀ q, q < hN S → (H.push { cls := cs.cls, slots := cs.slots })[q]? = H[q]? := fun q hq => by rw [Array.getElem?_push, if_neg (by rw [h1.1]; omega)]
      have gC : hC (sClo S a) (hN S) = hC S a := by simp [hC, sClo, u1]
      have gL : hL (sClo S a) (hN S) = hL S a := by simp [hL, sClo, u1]
      have gI : ∀ j, hI (sClo S a) (hN S) j = hI S a j := fun j => by simp [hI, sClo, u1]
      have gR : ∀ j, hR (sClo S a) (hN S) j = hR S a j := fun j => by simp [hR, sClo, u1]
      have hr1 : HRel s0 D (sClo S a) (H.push { cls := cs.cls, slots := cs.slots }) := by
        refine h1.pushG e2 e3 b3 rfl rfl rfl (fun b hb => ⟨by simp [hC, sClo, u1, hb], by simp [hL, sClo, u1, hb], fun j => ⟨by simp [hI, sClo, u1, hb], by simp [hR, sClo, u1, hb]⟩⟩) ?_ ?_
        · intro y hy
          rw [gC, act_ct hty] at hy
          cases hy
        · intro ty' hty'
          rw [gC] at hty' ⊢
          cases hty.symm.trans hty'
          rw [gL]
          refine ⟨_, e1, ⟨fun q z => (by cases z), s2.2⟩, fun z => (by cases z), fun _ => ⟨rfl, ?_, sra⟩, s5, s6, fun j hj => ?_⟩
          · show hG S 0 ≤ hN S
            rw [h1.g0, ← h1.1]; exact h1.2.2.1
          · rw [gI, gR]; exact s7 j hj
      have hgo := hk _ locs ls hr1 (by rw [e2, ← h1.1]; omega) h3 h4 h5 (inVs_cons.mpr ⟨trivial, (inVs_cons.mp h6).2⟩) ⟨h7.1, by show hU S0 ≤ hU S + _; have := h7.2; omega⟩
      have e5 : hN (sClo S a) - hN S0 = hN S - hN S0 + 1 := by show hN S + 1 - hN S0 = _; omega
      have e6 : hU (sClo S a) - hU S0 = hU S - hU S0 + hL S a := by show hU S + hL S a - hU S0 = _; have := h7.2; omega
      rw [e5, e6] at hgo
      rw [s5] at X'
      have hheap : ((T.setVm vm').pushCell { cls := cs.cls, slots := cs.slots }).heap = H.push { cls := cs.cls, slots := cs.slots } := by rw [← hT]; rfl
      obtain ⟨t, a1, c1⟩ := hgo _ hheap X'
      rw [hsz] at step
      exact ⟨t, step t a1, c1⟩
  · cases ho
theorem sn_getC (C : Cx p l R s m args meth c s0 D S0 nL d cc own ret) {idx : Nat} (hd : decode cc pc = .ok (.invokevirtual idx, 3)) (hl : Cond.methodLink own idx ⟨"java/lang/Object", "getClass", "()Ljava/lang/Class;"⟩ ∈ lw_all) (hdecl : Cond.declares ⟨"java/lang/Object", "getClass", "()Ljava/lang/Class;"⟩ ∈ lw_tbl)
    (hsel : Cond.selects "[Ljava/lang/Object;" ⟨"java/lang/Object", "getClass", "()Ljava/lang/Class;"⟩ ⟨"java/lang/Object", "getClass", "()Ljava/lang/Class;"⟩ ∈ lw_all) (hinst : Cond.instanceMethod ⟨"java/lang/Object", "getClass", "()Ljava/lang/Class;"⟩ ∈ lw_all) (hnat : Cond.native ⟨"java/lang/Object", "getClass", "()Ljava/lang/Class;"⟩ ∈ lw_all) (h1d : 1 ≤ d) : Snd p l e R s m args below meth c s0 D S0 nL x pc (i_getC (pc + 3)) := by
  intro lv st S o ho hk
  unfold i_getC at ho
  split at ho
  · rename_i a st
    cases hb : Nat.beq (hC S a) 104 && room8 st with
    | false => rw [hb] at ho; cases ho
    | true =>
      rw [hb] at ho
      rw [nx_some ho] at hk
      rw [Bool.and_eq_true] at hb
      have b1 := Nat.eq_of_beq_eq_true hb.1
      intro H locs ls h1 h2 h3 h4 h5 h6 h7
      obtain ⟨cs, s1, s2, s3, s4, s5, s6, s7⟩ := h1.2.2.2.2.2.2.1 a (.object "java/lang/Object") (by rw [b1]; rfl)
      obtain ⟨sv, sg, sra⟩ := s4 (by rw [b1]; rfl)
      obtain ⟨kA, comp, g1, g2, g3, g4⟩ := sra.moved C.wm.alike
      refine va_getC C.ex C.by (C.2.2.1.trans h4.1.symm) C.ow (C.ts hl) (va_Nw.use rfl (va_Nw.warmD C.wm (C.wd.1 _ hdecl))) (C.ts hsel) (C.ts hinst) (C.ts hnat) (C := "[Ljava/lang/Object;") (mi := hG S 60) (by rw [h1.2.1]; exact (C.wd.2.2.2.2.2.2.1).moved C.wm.alike) ⟨cs, s1, by rw [sv]; rfl, g4⟩ (by rw [C.rm]; exact h1d) (by
          rw [C.rm, map_cat]
          have h8 : (st.map vcat).sum ≤ 8 := Nat.ble_eq.mp hb.2
          show _ + 14 ≤ 64 * d
          omega) hd (hk H locs ls h1 h2 h3 h4 h5 (inVs_cons.mpr ⟨trivial, (inVs_cons.mp h6).2⟩) h7)
  · cases ho
end G11
