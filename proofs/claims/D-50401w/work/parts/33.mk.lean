/-! new E() of an exception: three instructions as one -/
set_option maxRecDepth 100000
section G12
variable {p : Program} {l : Launch} {e : Env} {R : Room} {s : State} {m : MethodId} {args : Array Value} {below : List Frame} {meth : Method} {c : Code} {s0 : State} {D : Dt} {S0 : SS} {nL d : Nat} {cc : ByteArray} {own : String} {ret : Option FieldType} {x : RV × SS} {pc : Nat}
set_option maxHeartbeats 1000000 in
theorem mk_exc (C : Cx p l R s m args meth c s0 D S0 nL d cc own ret) {cls : String} {names : List String} {ik ic k : Nat} (hcls : Bundle.fit cls = true) (hnames : ∀ n ∈ names, Bundle.fit n = true)
    (hk : (Cond.classLink own ik cls).before args s = true) (hini : (Cond.initialized cls).before args s = true) (hat : ∀ w ∈ vx_at0 own ic cls names, w.before args s = true)
    (hgood : ∀ w ∈ Cond.classLink own ik cls :: Cond.initialized cls :: vx_at0 own ic cls names, vx_ot w = true)
    (d0 : decode cc pc = .ok (.new ik, 3)) (d3 : decode cc (pc + 3) = .ok (.dup, 1)) (d4 : decode cc (pc + 4) = .ok (.invokespecial ic, 3)) (hc : ct k = some (cls, cT0, 0, cty0)) (hro : ro k = false)
    (hRf : names.length + 3 < d) : Snd p l e R s m args below meth c s0 D S0 nL x pc (i_exc k (pc + 7)) := by
  intro lv st S o ho hkk
  unfold i_exc at ho
  cases hrm : room8 st with
  | false => rw [hrm] at ho; cases ho
  | true =>
  rw [hrm, cond_true] at ho
  have hrs : (st.map vcat).sum ≤ 8 := Nat.ble_eq.mp hrm
  unfold i_new at ho
  cases hf : fitN S 6 with
  | false => rw [hf] at ho; cases ho
  | true =>
  rw [hf] at ho
  rw [nx_some ho] at hkk
  intro H locs ls h1 h2 h3 h4 h5 h6 h7
  have hf2 := hf
  simp only [fitN, Bool.and_eq_true, Nat.blt_eq, Nat.ble_eq] at hf2
  have h0 : hN S0 ≤ hN S := by rw [← h1.1, ← C.hr.1]; exact h2
  have hs1 : hN S - hN S0 + 1 ≤ R.cells := by rw [C.rm]; show _ ≤ hG S0 0 + LC - hN S0; rw [← h7.1]; omega
  have hs2 : hU S - hU S0 + 6 ≤ R.slots := by rw [C.rm]; show _ ≤ LU - hU S0; have := h7.2; omega
  have hRframes : names.length + 3 < R.frames := by rw [C.rm]; exact hRf
  have hRlocals : ((st.map tv).map fun v => v.category).sum + (13 * (names.length + 1) + 42) ≤ R.locals := by rw [C.rm, map_cat]; show _ ≤ 64 * d; omega
  have hl : l.stackTraces = false := by
    unfold Launch.stackTraces
    rw [C.fl]
    decide +kernel
  have hsize : ls.size = c.maxLocals := by rw [C.2.2.1]; exact h4.1
  intro T hT X
  subst hT
  have htr : e.platform.stackTraces = false := (show e.platform.stackTraces = l.stackTraces by rw [X.admits.platform]).trans hl
  have Y := vx_rebase X (R' := { frames := R.frames, locals := R.locals, cells := 1, slots := 6 }) (Nat.le_refl _) (Nat.le_refl _) hs1 hs2
  obtain ⟨s', hA'⟩ : ∃ z, z = (T.setVm s.vm).setFrames (.invoking m args :: below) := ⟨_, rfl⟩
  rw [← hA'] at Y
  have hvm : s'.vm = s.vm := by rw [hA']; rfl
  have hhp : s'.heap = T.heap := by rw [hA']; rfl
  have hW0 : s.WarmedH s'.vm := by rw [hvm]; exact State.WarmedH.refl s
  have hW1 : s0.WarmedH s'.vm := by rw [hvm]; exact C.wm
  have hat' : ∀ w ∈ vx_at0 own ic cls names, w.before args s' = true := fun w hw => vx_ot_at hW0 hvm.symm (hgood w (List.mem_cons_of_mem _ (List.mem_cons_of_mem _ hw))) (hat w hw)
  have hk' : (Cond.classLink own ik cls).before args s' = true := vx_ot_at hW0 hvm.symm (hgood _ List.mem_cons_self) hk
  have hini' : (Cond.initialized cls).before args s' = true := vx_ot_at hW0 hvm.symm (hgood _ (List.mem_cons_of_mem _ List.mem_cons_self)) hini
  have hU' : vx_Zq Bundle.tN "UNASSIGNED_STACK" Bundle.steD (fun q => s0.heap.size ≤ q) s' s'.heap := by rw [hhp]; exact vx_Zq.moved hW1.alike (C.wd.2.2.2.2.2.2.2.2.1.kept fun a ha _ => h1.2.2.2.1 a ha)
  have hN' : vx_Zq Bundle.tN "SUPPRESSED_SENTINEL" Bundle.listD (fun q => s0.heap.size ≤ q) s' s'.heap := by rw [hhp]; exact vx_Zq.moved hW1.alike (C.wd.2.2.2.2.2.2.2.2.2.1.kept fun a ha _ => h1.2.2.2.1 a ha)
  have h : ∀ w ∈ Bundle.ownAtoms0 own ic cls names, w.before args s' = true := vx_own hat' (vx_isRefq hU'.1) (vx_isRefq hN'.1) hU'.2.word hN'.2.word
  have hown' : s'.vm.findClass own = some m.cls := by rw [hvm]; exact C.ow
  have hins : (Cond.instantiable cls 6).before args s' = true := h _ (by simp [Bundle.ownAtoms0])
  obtain ⟨vm₁, cX, kX, hfX, hkX, -, -, X₁, st1⟩ := Y.newCold C.ex (own := own) (C := cls) (index := ik) (n := 6) hown' hk' hins hini'
    (g := F0 m pc ls (st.map tv)) rfl (by rw [C.by]; exact d0) (Nat.le_refl _) (Nat.le_refl _)
  generalize hT1 : (T.setVm vm₁).pushCell { cls := cX, slots := kX.instanceTypes.map defaultValue, vm := .none } = T1 at X₁ st1
  have hcat : (Value.ref T.heap.size).category = 1 := rfl
  have hcellA : T1.heap[T.heap.size]? = some (freshCell cX kX) := by rw [← hT1]; exact State.heap_pushCell_size _ _
  have d3' : decode c.code (pc + 3) = .ok (.dup, 1) := by rw [C.by]; exact d3
  obtain ⟨V9, ce, L, Z, hLL, hlt, hcl9, hvm9, stt⟩ := vx_ctorMade0 X₁ C.ex htr (own := own) (cls := cls) (names := names) (ic := ic) hown' hcls hnames h (fun x hx => nomatch hx) hfX hkX hcellA (by rw [hhp]; exact Nat.le_refl _)
    (g := { method := m, pc := pc + 4, locals := ls, stack := .ref T.heap.size :: .ref T.heap.size :: st.map tv, locked := none }) rfl hsize (rest := st.map tv) rfl
    (by rw [C.by]; exact d4) hRframes (by simp only [List.map_cons, List.sum_cons, hcat]; show 2 * 0 + _ + _ ≤ _; simp only [hcat] at *; omega)
  have Z0 := Stand.forget (locs := []) Z (fun y hy => by rw [hLL y hy, hhp]; exact Nat.le_refl _)
  obtain ⟨f1, f2⟩ := vx_frame Z0.same
  rw [hhp] at f1 f2
  have hfX2 : s.vm.findClass cls = some cX := by rw [← hvm]; exact hfX
  have hcid : ce.cls = D.1 k := by
    rw [hcl9]
    exact Option.some.inj (hfX2.symm.trans (C.kn hc).2.1)
  have hh : (V9.setCell T.heap.size ce).heap[T.heap.size]? = some ce := heapAt_setCell_self (s := V9) ce hlt
  have hz1 : (V9.setCell T.heap.size ce).heap.size = hN S + 1 := by
    have a1 : T.heap.size < (V9.setCell T.heap.size ce).heap.size := (Array.getElem?_eq_some_iff.mp hh).1
    have a2 : (V9.setCell T.heap.size ce).heap.size ≤ s'.heap.size + 1 := Z0.same.2.2.1
    rw [hhp] at a2
    have a3 := h1.1
    omega
  subst hA'
  have X5 := vx_back9 X Y Z0
  have X6 : Stand p l e R s m args below meth c (V9.setCell T.heap.size ce) locs (hN S - hN S0 + 1) (hU S - hU S0 + 6) := { X5 with same := X5.same.mono (by omega) (by omega) }
  have hC' : hC (sNew S k 0 6) (hN S) = k := by simp [hC, sNew, u1]
  have e3 : ∀ q, q < hN S → (V9.setCell T.heap.size ce).heap[q]? = T.heap[q]? := fun q hq => f2 q (by rw [h1.1]; exact hq) (fun z hz => nomatch hz)
  have hr1 : HRel s0 D (sNew S k 0 6) (V9.setCell T.heap.size ce).heap := by
    refine HRel.pushG (k := 6) h1 hz1 e3 hf rfl rfl rfl (fun b hb => ⟨by simp [hC, sNew, u1, hb], by simp [hL, sNew, u1, hb], fun j => ⟨by simp [hI, sNew, u1, hb], by simp [hR, sNew, u1, hb]⟩⟩) ?_ ?_
    · intro y hy
      rw [hC'] at hy ⊢
      cases hc.symm.trans hy
      refine ⟨ce, by rw [← h1.1]; exact hh, hcid, by rw [hvm9]; exact fun z => (by cases z), by rw [hvm9]; rfl, fun _ => ⟨hvm9, ?_⟩, fun j hj => absurd hj (Nat.not_lt_zero j)⟩
      show hG S 0 ≤ hN S
      rw [h1.g0, ← h1.1]; exact h1.2.2.1
    · intro ty hty
      rw [hC'] at hty
      rw [act_ct hty] at hc
      cases hc
  have hgo := hkk _ locs ls hr1 (by rw [hz1, ← h1.1]; omega) h3 h4 h5 (inVs_cons.mpr ⟨trivial, h6⟩) ⟨h7.1, by show hU S0 ≤ hU S + 6; have := h7.2; omega⟩
  have e5 : hN (sNew S k 0 6) - hN S0 = hN S - hN S0 + 1 := by show hN S + 1 - hN S0 = _; omega
  have e6 : hU (sNew S k 0 6) - hU S0 = hU S - hU S0 + 6 := by show hU S + 6 - hU S0 = _; have := h7.2; omega
  rw [e5, e6] at hgo
  obtain ⟨t, a1, b1⟩ := hgo _ rfl X6
  refine ⟨t, st1 _ ?_, b1⟩
  show Steps p.tables e below (T1.setTop { method := m, pc := pc + 3, locals := ls, stack := .ref T.heap.size :: st.map tv, locked := none }) _
  jvm_step X₁.here [X₁.here.top, C.ex, d3', Value.category]
  refine stt _ ?_
  have e9 : tv (vR (some (hN S))) = .ref T.heap.size := by rw [h1.1]; rfl
  rw [List.map_cons, e9] at a1
  exact a1
end G12
