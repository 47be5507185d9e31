/-! INTERFACE CALLS of two more kinds: the reference's method lies in a superinterface; the method that runs is a default one -/
set_option maxRecDepth 100000
section G13
variable {p : Program} {l : Launch} {e : Env} {R : Room} {s : State} {m : MethodId} {args : Array Value} {below : List Frame} {meth : Method} {c : Code} {s0 : State} {D : Dt} {S0 : SS} {nL d : Nat} {cc : ByteArray} {own : String} {ret : Option FieldType} {x : RV × SS} {pc : Nat}
theorem tr_tab {w : Cond} (hw : w.onTables = true) {u U : State} (h : w.before #[] (u.setVm U.vm) = true) {A : Array Value} : w.before A U = true := by
  have e := Cond.onTables_vm (A := #[]) (A' := A) (U := u) (U' := U) U.vm w hw
  rw [show U.setVm U.vm = U from rfl] at e
  rw [← e]
  exact h
theorem Cx.link (C : Cx p l R s m args meth c s0 D S0 nL d cc own ret) {o : String} {i : Nat} {y : MethodName} (h : Cond.methodLink o i y ∈ gNw) : (Cond.methodLink o i y).before args s = true := word_at C.wm (good_of_word rfl) (C.wd.2.2.2.2.2.2.2.2.2.2 _ h)
theorem Cx.face (C : Cx p l R s m args meth c s0 D S0 nL d cc own ret) {I J n dd : String} (h : Cond.interfaceMethod I J n dd ∈ gNw) : (Cond.interfaceMethod I J n dd).before args s = true := by
  refine tr_tab (u := s0) rfl ?_
  have h0 := C.wd.2.2.2.2.2.2.2.2.2.2 _ h
  have hf : (s0.setVm s.vm).methodFound? I n dd = s0.methodFound? I n dd := State.methodFound?_setVm C.wm.alike I n dd
  simp only [Cond.before, Cond.holds, Cond.value, State.vm_setVm, C.wm.alike.findClass, hf, State.methodNamed?_setVm C.wm.alike, arm_isInterface_setVm C.wm.alike] at h0 ⊢
  exact h0
theorem Cx.pub (C : Cx p l R s m args meth c s0 D S0 nL d cc own ret) {y : MethodName} (h : Cond.publicMethod y ∈ lw_tbl) : (Cond.publicMethod y).before args s = true := tr_tab (u := s0) rfl (by rw [Cond.publicMethod_setVm C.wm.alike]; exact C.wd.1 _ h)
theorem Cx.unh (C : Cx p l R s m args meth c s0 D S0 nL d cc own ret) {K n dd : String} (h : Cond.unhidden K n dd ∈ lw_tbl) : (Cond.unhidden K n dd).before args s = true := tr_tab (u := s0) rfl (by rw [Cond.unhidden_setVm C.wm.alike]; exact C.wd.1 _ h)
theorem Cx.dcl (C : Cx p l R s m args meth c s0 D S0 nL d cc own ret) {y : MethodName} (h : Cond.declares y ∈ lw_tbl) : (Cond.declares y).before args s = true := tr_tab (u := s0) rfl (by rw [Cond.declares_setVm C.wm.alike]; exact C.wd.1 _ h)
theorem Cx.cst (C : Cx p l R s m args meth c s0 D S0 nL d cc own ret) {a b : String} (h : Cond.castable a b ∈ lw_tbl) : (Cond.castable a b).before args s = true := tr_tab (u := s0) rfl (by rw [Cond.castable_setVm C.wm.alike]; exact C.wd.1 _ h)
theorem Cx.dfl (C : Cx p l R s m args meth c s0 D S0 nL d cc own ret) {K : String} {y z : MethodName} (h : Cond.landsInDefault K y z ∈ gNw) : (Cond.landsInDefault K y z).before args s = true := by
  have h0 : (Cond.landsInDefault K y z).before args (s0.setVm s.vm) = true := by rw [Cond.landsInDefault_setVm (args := #[]) C.wm.alike (State.methodFound?_setVm C.wm.alike _ _ _)]; exact C.wd.2.2.2.2.2.2.2.2.2.2 _ h
  simp only [Cond.before, Cond.holds, Cond.value] at h0 ⊢
  exact h0
/-- the method lies in a superinterface J -/
theorem inv_FU (C : Cx p l R s m args meth c s0 D S0 nL d cc own ret) {idx cnt n maxL kc : Nat} {X0 y : MethodName} {J : String} {z : CI} {ws : List Cond} {f : Dec} (hd : decode cc pc = .ok (.invokeinterface idx cnt, 5)) (hl : Cond.methodLink own idx X0 ∈ gNw) (hz : ct kc = some z) (hdecl : Cond.declares ⟨J, X0.name, X0.desc⟩ ∈ lw_tbl) (hpubO : Cond.publicMethod ⟨J, X0.name, X0.desc⟩ ∈ lw_tbl) (hface : Cond.interfaceMethod X0.cls J X0.name X0.desc ∈ gNw) (hsel : Cond.selects z.1 ⟨J, X0.name, X0.desc⟩ y ∈ lw_all) (hs : Cond.instanceMethod y ∈ lw_all) (hpub : Cond.publicMethod y ∈ lw_tbl) (hunh : Cond.unhidden z.1 X0.name X0.desc ∈ lw_tbl) (hcast : Cond.castable z.1 X0.cls ∈ lw_tbl) (hxo : X0.cls ≠ J) (hJ : J ≠ "java/lang/invoke/MethodHandle" ∧ J ≠ "java/lang/invoke/VarHandle") (hx0 : X0.cls ≠ "java/lang/invoke/MethodHandle" ∧ X0.cls ≠ "java/lang/invoke/VarHandle") (hxd : (parseMethodDescriptor X0.desc).map (fun q => q.parameters.length) = some n) (ht : Tgt l s0 D s d y ws maxL n f) : InvG p l e R s m args below meth c s0 D nL pc (Rc kc) (n + 1) 5 f := by
  intro as rest S x1 locs ls k i T h1 h2 hG h3 h4 h5 h6 h7 h8 X
  obtain ⟨Pre, hK, hpre⟩ := tgt_back (e := e) (below := below) (p := p) (len := 5) (locs := locs) C ht h2 h4 h7 h8
  obtain ⟨b, as', rfl, hb⟩ := hG
  rw [← hb] at hz
  obtain ⟨cellB, kB, hcell, hobj, hcls, hkB⟩ := rc_cell C h3 hz
  have hst : ((vR (some b) :: as').map tv).reverse ++ rest = (as'.map tv).reverse ++ .ref b :: rest := by simp [tv, va_rf]
  rw [hst]
  have hdg : decode c.code (F0 m pc ls ((as'.map tv).reverse ++ .ref b :: rest)).pc = .ok (.invokeinterface idx cnt, 5) := by rw [C.by]; exact hd
  have hsz : (F0 m pc ls ((as'.map tv).reverse ++ .ref b :: rest)).locals.size = c.maxLocals := by rw [C.2.2.1]; exact h6
  obtain ⟨r0, r, hn, hrm, hstR, hsigR⟩ := Cond.declares_spec (C.dcl hdecl)
  obtain ⟨cL, kL, r1, hcL, hkL, hiL, hfoundL, hn1⟩ := Cond.interfaceMethod_spec (C.face hface)
  cases hn.symm.trans hn1
  obtain ⟨hnameR, hdescR⟩ := name_of_methodNamed hn hrm
  obtain ⟨mk, methM, hnamed, hmethM, -, habM⟩ := Cond.instanceMethod_spec (C.ts hs)
  obtain ⟨c2, r2, m2, q1, q2, q3, q4, -⟩ := Cond.selects_spec (C.ts hsel)
  cases hcls.symm.trans q1
  cases (State.methodFound?_of_named hn hJ).symm.trans q2
  cases hnamed.symm.trans q3
  have hselP : selectMethod e.platform s.vm cellB.cls r0 = .method mk := by rw [Launch.admits_selectMethod X.admits]; exact q4
  have hpubM : hasFlag methM.accessFlags Acc.public_ = true := Cond.publicMethod_spec hnamed hmethM (C.pub hpub)
  have hway : ((cellB.cls :: s.vm.superclasses cellB.cls).any fun k => (declaredIn s.vm r.name r.desc k).any fun (_, z) => z.isPrivate || z.isStatic) = false := by
    rw [hnameR, hdescR]; exact Cond.unhidden_spec hcls (C.unh hunh)
  obtain ⟨c3, t3, w1, w2, w3⟩ := Cond.castable_spec (C.cst hcast)
  cases hcls.symm.trans w1
  cases hcL.symm.trans w2
  have hlen : (as'.map tv).length = r.sig.parameters.length := by
    rw [show parseMethodDescriptor X0.desc = some r.sig from hsigR] at hxd
    have hq : r.sig.parameters.length = n := Option.some.inj hxd
    rw [List.length_map, hq]; simpa using h1
  obtain ⟨vm₁, X₁, hstep₁⟩ := X.invokeinterfaceUp C.ex C.ow (C.link hl) (C.face hface) (C.dcl hdecl) (C.pub hpubO) hxo hx0 (a := b) (cell := cellB) (kcell := kB) hcL hcell
    (fun z h => by rw [h] at hobj; cases hobj) hkB w3 hn hrm hselP hmethM hway hpubM habM (g := F0 m pc ls ((as'.map tv).reverse ++ .ref b :: rest)) rfl (argsL := as'.map tv) (rest := rest) hlen rfl hdg
  rcases hK m meth c ⟨T.setVm vm₁, locs, k, i⟩ { F0 m pc ls ((as'.map tv).reverse ++ .ref b :: rest) with stack := rest } (.invokeinterface idx cnt) mk _ X₁ rfl hsz hdg (lv_room h5) (X₁.named hnamed) (hpre T vm₁ h3 X₁.warmed) with ⟨v, B, X', hpost, hsteps⟩ | ⟨q, B, X', hpost, hsteps⟩
  · exact Or.inl ⟨v, vm₁, B, X₁.warmed, X', hpost, fun target h => hstep₁ _ fun acts => by rw [doInvoke_state]; exact hsteps.trans h⟩
  · exact Or.inr ⟨q, vm₁, B, X₁.warmed, X', hpost, hstep₁ _ fun acts => by rw [doInvoke_state]; exact hsteps⟩
/-- the method that runs is an interface's own -/
theorem inv_FD (C : Cx p l R s m args meth c s0 D S0 nL d cc own ret) {idx cnt n maxL kc : Nat} {X0 y : MethodName} {z : CI} {ws : List Cond} {f : Dec} (hd : decode cc pc = .ok (.invokeinterface idx cnt, 5)) (hl : Cond.methodLink own idx X0 ∈ lw_all) (hz : ct kc = some z) (hdecl : Cond.declares X0 ∈ lw_tbl) (hface : Cond.interfaceMethod X0.cls X0.cls X0.name X0.desc ∈ lw_tbl) (hsel : Cond.landsInDefault z.1 X0 y ∈ gNw) (hs : Cond.instanceMethod y ∈ lw_all) (hpub : Cond.publicMethod y ∈ lw_tbl) (hcast : Cond.castable z.1 X0.cls ∈ lw_tbl) (hx0 : X0.cls ≠ "java/lang/invoke/MethodHandle" ∧ X0.cls ≠ "java/lang/invoke/VarHandle") (hxd : (parseMethodDescriptor X0.desc).map (fun q => q.parameters.length) = some n) (ht : Tgt l s0 D s d y ws maxL n f) : InvG p l e R s m args below meth c s0 D nL pc (Rc kc) (n + 1) 5 f := by
  intro as rest S x1 locs ls k i T h1 h2 hG h3 h4 h5 h6 h7 h8 X
  obtain ⟨Pre, hK, hpre⟩ := tgt_back (e := e) (below := below) (p := p) (len := 5) (locs := locs) C ht h2 h4 h7 h8
  obtain ⟨b, as', rfl, hb⟩ := hG
  rw [← hb] at hz
  obtain ⟨cellB, kB, hcell, hobj, hcls, hkB⟩ := rc_cell C h3 hz
  have hst : ((vR (some b) :: as').map tv).reverse ++ rest = (as'.map tv).reverse ++ .ref b :: rest := by simp [tv, va_rf]
  rw [hst]
  have hdg : decode c.code (F0 m pc ls ((as'.map tv).reverse ++ .ref b :: rest)).pc = .ok (.invokeinterface idx cnt, 5) := by rw [C.by]; exact hd
  have hsz : (F0 m pc ls ((as'.map tv).reverse ++ .ref b :: rest)).locals.size = c.maxLocals := by rw [C.2.2.1]; exact h6
  obtain ⟨r0, r, hn, hrm, hstR, hsigR⟩ := Cond.declares_spec (C.dcl hdecl)
  have hfc : (Cond.interfaceMethod X0.cls X0.cls X0.name X0.desc).before args s = true := by
    refine tr_tab (u := s0) rfl ?_
    obtain ⟨r9, -, hn9, -⟩ := Cond.declares_spec (C.wd.1 _ hdecl)
    rw [Cond.interfaceMethod_setVm C.wm.alike (r := r9) hn9 hx0]
    exact C.wd.1 _ hface
  obtain ⟨cL, kL, r1, hcL, hkL, hiL, hfoundL, hn1⟩ := Cond.interfaceMethod_spec hfc
  cases hn.symm.trans hn1
  have hr0cls : r0.cls = cL := Option.some.inj ((findClass_of_methodNamed hn).symm.trans hcL)
  obtain ⟨mk, methM, hnamed, hmethM, -, habM⟩ := Cond.instanceMethod_spec (C.ts hs)
  obtain ⟨c2, r2, m2, rm, q1, q2, q3, q5, q4, -, q6, -⟩ := Cond.landsInDefault_spec (C.dfl hsel)
  cases hcls.symm.trans q1
  cases hfoundL.symm.trans q2
  cases hnamed.symm.trans q3
  cases hrm.symm.trans q5
  have hselP : selectMethod e.platform s.vm cellB.cls r0 = .method mk := by rw [Launch.admits_selectMethod X.admits]; exact q4
  have hpubM : hasFlag methM.accessFlags Acc.public_ = true := Cond.publicMethod_spec hnamed hmethM (C.pub hpub)
  obtain ⟨c3, t3, w1, w2, w3⟩ := Cond.castable_spec (C.cst hcast)
  cases hcls.symm.trans w1
  cases hcL.symm.trans w2
  have hlen : (as'.map tv).length = r.sig.parameters.length := by
    rw [hsigR] at hxd
    have hq : r.sig.parameters.length = n := Option.some.inj hxd
    rw [List.length_map, hq]; simpa using h1
  obtain ⟨vm₁, X₁, hstep₁⟩ := X.invokeinterface C.ex C.ow (C.ts hl) hn hrm hstR (by rw [hr0cls]; exact hkL) hiL hx0 (a := b) (cell := cellB) (kcell := kB) hcell
    (fun z h => by rw [h] at hobj; cases hobj) hkB (by rw [hr0cls]; exact w3) hselP hmethM q6 hpubM habM (g := F0 m pc ls ((as'.map tv).reverse ++ .ref b :: rest)) rfl (argsL := as'.map tv) (rest := rest) hlen rfl hdg
  rcases hK m meth c ⟨T.setVm vm₁, locs, k, i⟩ { F0 m pc ls ((as'.map tv).reverse ++ .ref b :: rest) with stack := rest } (.invokeinterface idx cnt) mk _ X₁ rfl hsz hdg (lv_room h5) (X₁.named hnamed) (hpre T vm₁ h3 X₁.warmed) with ⟨v, B, X', hpost, hsteps⟩ | ⟨q, B, X', hpost, hsteps⟩
  · exact Or.inl ⟨v, vm₁, B, X₁.warmed, X', hpost, fun target h => hstep₁ _ fun acts => by rw [doInvoke_state]; exact hsteps.trans h⟩
  · exact Or.inr ⟨q, vm₁, B, X₁.warmed, X', hpost, hstep₁ _ fun acts => by rw [doInvoke_state]; exact hsteps⟩
end G13
