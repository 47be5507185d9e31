/-! CALLS, kind by kind -/
set_option maxRecDepth 100000
section G6
variable {p : Program} {l : Launch} {e : Env} {R : Room} {s : State} {m : MethodId} {args : Array Value} {below : List Frame} {meth : Method} {c : Code} {s0 : State} {D : Dt} {S0 : SS} {nL d : Nat} {cc : ByteArray} {own : String} {ret : Option FieldType} {x : RV × SS} {pc : Nat}
/-- what a call comes to -/
def CallR (p : Program) (l : Launch) (e : Env) (R : Room) (s : State) (m : MethodId) (args : Array Value) (below : List Frame) (meth : Method) (c : Code) (s0 : State) (D : Dt) (S : SS) (x1 : RV × SS) (locs : List Loc) (k n : Nat) (T : State) (g : JFrame) (len : Nat) (rest : List Value) (a : Array Value) : Prop :=
  (∃ (v : Option Value) (vm₁ : Vm) (B : Pt), s.WarmedH vm₁ ∧ Stand p l e R s m args below meth c B.U B.locs B.cells B.slots ∧ PostN s0 D S x1 ⟨T.setVm vm₁, locs, k, n⟩ a v B ∧ ∀ target, Steps p.tables e below (B.U.setTop { g with pc := g.pc + len, stack := v.toList ++ rest }) target → Steps p.tables e below (T.setTop g) target) ∨
  (∃ (q : Addr) (vm₁ : Vm) (B : Pt), s.WarmedH vm₁ ∧ Stand p l e R s m args below meth c B.U B.locs B.cells B.slots ∧ PostX s0 D S x1 ⟨T.setVm vm₁, locs, k, n⟩ a q B ∧ Steps p.tables e below (T.setTop g) ((B.U.setTop { g with stack := rest }).pushFrame (.throwing q)))
/-- a call is sound where the guard G holds -/
def InvG (p : Program) (l : Launch) (e : Env) (R : Room) (s : State) (m : MethodId) (args : Array Value) (below : List Frame) (meth : Method) (c : Code) (s0 : State) (D : Dt) (nL : Nat) (pc : Nat) (G : List V → SS → Prop) (n len : Nat) (f : Dec) : Prop :=
  ∀ (as : List V) (rest : List Value) (S : SS) (x1 : RV × SS) (locs : List Loc) (ls : Array Slot) (k i : Nat) (T : State), as.length = n → f as S = some x1 → G as S → HRel s0 D S T.heap → inVs as → (rest.map fun v => v.category).sum ≤ 8 → ls.size = nL → k + (hG S 0 + LC - hN S) ≤ R.cells → i + (LU - hU S) ≤ R.slots → Stand p l e R s m args below meth c T locs k i →
    CallR p l e R s m args below meth c s0 D S x1 locs k i T (F0 m pc ls ((as.map tv).reverse ++ rest)) len rest (as.map tv).toArray
theorem map_cat (st : List V) : ((st.map tv).map fun v => v.category) = st.map vcat := by
  rw [List.map_map]
  congr 1
  funext v
  exact tv_cat v
theorem sn_call (C : Cx p l R s m args meth c s0 D S0 nL d cc own ret) {n len : Nat} {f : Dec} (h : InvG p l e R s m args below meth c s0 D nL pc (fun _ _ => True) n len f) : Snd p l e R s m args below meth c s0 D S0 nL x pc (i_call n f (pc + len)) := by
  intro lv st S o ho hk
  unfold i_call at ho
  cases hb : (Nat.ble n st.length && room8 (st.drop n)) with
  | false => rw [hb] at ho; cases ho
  | true =>
    rw [hb] at ho
    simp only [cond_true] at ho
    rw [Bool.and_eq_true, Nat.ble_eq] at hb
    have hrm : ((st.drop n).map vcat).sum ≤ 8 := Nat.ble_eq.mp hb.2
    cases hf : f (st.take n).reverse S with
    | none => rw [hf] at ho; cases ho
    | some x1 =>
      rw [hf] at ho
      intro H locs ls h1 h2 h3 h4 h5 h6 h7
      have hst : st = st.take n ++ st.drop n := (List.take_append_drop n st).symm
      have hin1 : inVs (st.take n).reverse := fun v hv => h6 v (List.mem_of_mem_take (List.mem_reverse.mp hv))
      have hin2 : inVs (st.drop n) := fun v hv => h6 v (List.mem_of_mem_drop hv)
      obtain ⟨r1, r2⟩ := call_room (d' := 0) C h1 h2 h7
      have hfr : F0 m pc ls (st.map tv) = F0 m pc ls ((((st.take n).reverse).map tv).reverse ++ (st.drop n).map tv) := by
        rw [← List.map_reverse, List.reverse_reverse, ← List.map_append, ← hst]
      rw [hfr]
      refine call_fin C (S := S) (st := st.drop n) (len := len) (x1 := x1) h3 h4 h5 hin2 h7 rfl rfl (by rw [← h1.1, ← C.hr.1]; exact h2) (a := ((st.take n).reverse.map tv).toArray) rfl (fun T hT X => ?_) (fun v hv => ?_) (fun q hq => ?_)
      · exact h _ _ S x1 locs ls _ _ T (by simp; omega) hf trivial (by rw [hT]; exact h1) hin1 (by rw [map_cat]; exact hrm) h4.1 r1 r2 X
      · obtain ⟨r, S'⟩ := x1
        dsimp only at hv
        subst hv
        simp only at ho
        rw [nx_some ho] at hk
        exact hk
      · obtain ⟨r, S'⟩ := x1
        dsimp only at hq
        subst hq
        simp only at ho
        cases ho
        exact hk
theorem ascD_mem {l : List (Nat × Dec)} {c : Nat} {f : Dec} (h : ascD l c = some f) : (c, f) ∈ l := by
  induction l with
  | nil => cases h
  | cons q l ih =>
    unfold ascD at h
    cases hb : Nat.beq q.1 c with
    | true => rw [hb] at h; have e := Nat.eq_of_beq_eq_true hb; cases h; rw [← e]; exact List.mem_cons_self
    | false => rw [hb] at h; exact List.mem_cons_of_mem _ (ih h)
/-- the receiver is of class k -/
def Rc (k : Nat) (as : List V) (S : SS) : Prop := ∃ (b : Nat) (as' : List V), as = vR (some b) :: as' ∧ hC S b = k
theorem inv_dsp {n len : Nat} {tab : List (Nat × Dec)} (h : ∀ q ∈ tab, InvG p l e R s m args below meth c s0 D nL pc (Rc q.1) n len q.2) : InvG p l e R s m args below meth c s0 D nL pc (fun _ _ => True) n len (dsp tab) := by
  intro as rest S x1 locs ls k i T h1 h2 _ h3 h4 h5 h6 h7 h8 h9
  unfold dsp at h2
  split at h2
  · rename_i b as'
    split at h2
    · rename_i f hf
      exact h _ (ascD_mem hf) _ rest S x1 locs ls k i T h1 h2 ⟨b, as', rfl, rfl⟩ h3 h4 h5 h6 h7 h8 h9
    · cases h2
  · cases h2
/-- what every call of a known method has -/
def Tgt (l : Launch) (s0 : State) (D : Dt) (s : State) (d : Nat) (y : MethodName) (ws : List Cond) (maxL n : Nat) (f : Dec) : Prop := ∃ d', Mt l s0 D y ws d' f ∧ Cal s y ws maxL ∧ d' + 1 ≤ d ∧ 8 + (maxL + 11) + 64 * d' ≤ 64 * d ∧ (parseMethodDescriptor y.desc).map (fun q => q.parameters.length) = some n ∧ (y.cls ≠ "java/lang/invoke/MethodHandle" ∧ y.cls ≠ "java/lang/invoke/VarHandle")
theorem tgt_back (C : Cx p l R s m args meth c s0 D S0 nL d cc own ret) {y : MethodName} {ws : List Cond} {maxL n len : Nat} {f : Dec} (h : Tgt l s0 D s d y ws maxL n f) {as : List V} {S : SS} {x1 : RV × SS} (hf : f as S = some x1) (hin : inVs as) {k i : Nat} {locs : List Loc} (hk : k + (hG S 0 + LC - hN S) ≤ R.cells) (hi : i + (LU - hU S) ≤ R.slots) :
    ∃ Pre : Pt → Array Value → Prop, vx_Back l R p e below s args y len 8 Pre (PostN s0 D S x1) (PostX s0 D S x1) ∧ ∀ (T : State) (vm₁ : Vm), HRel s0 D S T.heap → s.WarmedH vm₁ → Pre ⟨T.setVm vm₁, locs, k, i⟩ (as.map tv).toArray := by
  obtain ⟨d', hM, hc, h1, h2, h3, h4⟩ := h
  refine ⟨_, my_back (W9 := 8) hM hf (by rw [C.rm]; exact h1) (by rw [C.rm]; exact h2) hc, fun T vm₁ hT hW => ⟨⟨rfl, ?_, hT, hin⟩, hk, hi⟩⟩
  exact State.WarmedH.trans C.wm hW
theorem tgt_cd {y : MethodName} {ws : List Cond} {maxL n : Nat} {f : Dec} (h : Tgt l s0 D s d y ws maxL n f) : CdF s y maxL := by
  obtain ⟨d', hM, hc, -⟩ := h
  exact hc.2.1 s (State.WarmedH.refl s)
theorem tgt_len {y : MethodName} {ws : List Cond} {maxL n : Nat} {f : Dec} (h : Tgt l s0 D s d y ws maxL n f) : ∀ sig, parseMethodDescriptor y.desc = some sig → n = sig.parameters.length := by
  obtain ⟨d', hM, hc, h1, h2, h3, h4⟩ := h
  intro sig hs
  rw [hs] at h3
  exact (Option.some.inj h3).symm
theorem tgt_mh {y : MethodName} {ws : List Cond} {maxL n : Nat} {f : Dec} (h : Tgt l s0 D s d y ws maxL n f) : y.cls ≠ "java/lang/invoke/MethodHandle" ∧ y.cls ≠ "java/lang/invoke/VarHandle" := by
  obtain ⟨d', hM, hc, h1, h2, h3, h4⟩ := h
  exact h4
def LkM (own : String) (idx : Nat) (y : MethodName) : Prop := Cond.methodLink own idx y ∈ lw_all ∨ ∃ host, Cond.methodLinkNest own idx y host ∈ lw_tbl
/-- static -/
theorem inv_S (C : Cx p l R s m args meth c s0 D S0 nL d cc own ret) {idx n maxL : Nat} {y : MethodName} {ws : List Cond} {f : Dec} (hd : decode cc pc = .ok (.invokestatic idx, 3)) (hl : LkM own idx y) (hs : Cond.static y ∈ lw_all) (hi : Cond.initialized y.cls ∈ lw_all) (ht : Tgt l s0 D s d y ws maxL n f) : InvG p l e R s m args below meth c s0 D nL pc (fun _ _ => True) n 3 f := by
  intro as rest S x1 locs ls k i T h1 h2 _ h3 h4 h5 h6 h7 h8 X
  obtain ⟨Pre, hK, hpre⟩ := tgt_back (e := e) (below := below) (p := p) (len := 3) (locs := locs) C ht h2 h4 h7 h8
  obtain ⟨mk, methM, cM, hnamed, hmethM, -, -, hsigM⟩ := tgt_cd ht
  have hy := tgt_mh ht
  have hstatic : methM.isStatic = true := Cond.static_spec hnamed hmethM (C.ts hs)
  obtain ⟨kP, hkP, -⟩ := className_of_methodNamed hnamed
  have hinitP : kP.init = .initialized := Cond.initialized_spec (findClass_of_methodNamed hnamed) hkP (C.ts hi)
  have hlen : (as.map tv).length = methM.sig.parameters.length := by rw [List.length_map, h1]; exact tgt_len ht _ hsigM
  have hdg : decode c.code (F0 m pc ls ((as.map tv).reverse ++ rest)).pc = .ok (.invokestatic idx, 3) := by rw [C.by]; exact hd
  have hsz : (F0 m pc ls ((as.map tv).reverse ++ rest)).locals.size = c.maxLocals := by rw [C.2.2.1]; exact h6
  rcases hl with hl | ⟨host, hl⟩
  · obtain ⟨vm₁, X₁, hstep₁⟩ := X.invokestatic C.ex C.ow (C.ts hl) hnamed hmethM hstatic hkP hinitP hy (g := F0 m pc ls ((as.map tv).reverse ++ rest)) rfl (argsL := as.map tv) (rest := rest) hlen rfl hdg
    rcases hK m meth c ⟨T.setVm vm₁, locs, k, i⟩ { F0 m pc ls ((as.map tv).reverse ++ rest) with stack := rest } (.invokestatic idx) mk (as.map tv).toArray X₁ rfl hsz hdg (lv_room h5) (X₁.named hnamed) (hpre T vm₁ h3 X₁.warmed) with ⟨v, B, X', hpost, hsteps⟩ | ⟨q, B, X', hpost, hsteps⟩
    · exact Or.inl ⟨v, vm₁, B, X₁.warmed, X', hpost, fun target h => hstep₁ _ fun acts => by rw [doInvoke_state]; exact hsteps.trans h⟩
    · exact Or.inr ⟨q, vm₁, B, X₁.warmed, X', hpost, hstep₁ _ fun acts => by rw [doInvoke_state]; exact hsteps⟩
  · obtain ⟨vm₁, X₁, hstep₁⟩ := X.invokestaticNest C.ex C.ow (va_Nw.use rfl (va_Nw.warmM C.wm (C.wd.1 _ hl))) hnamed hmethM hstatic hkP hinitP hy (g := F0 m pc ls ((as.map tv).reverse ++ rest)) rfl (argsL := as.map tv) (rest := rest) hlen rfl hdg
    rcases hK m meth c ⟨T.setVm vm₁, locs, k, i⟩ { F0 m pc ls ((as.map tv).reverse ++ rest) with stack := rest } (.invokestatic idx) mk (as.map tv).toArray X₁ rfl hsz hdg (lv_room h5) (X₁.named hnamed) (hpre T vm₁ h3 X₁.warmed) with ⟨v, B, X', hpost, hsteps⟩ | ⟨q, B, X', hpost, hsteps⟩
    · exact Or.inl ⟨v, vm₁, B, X₁.warmed, X', hpost, fun target h => hstep₁ _ fun acts => by rw [doInvoke_state]; exact hsteps.trans h⟩
    · exact Or.inr ⟨q, vm₁, B, X₁.warmed, X', hpost, hstep₁ _ fun acts => by rw [doInvoke_state]; exact hsteps⟩
/-- a constructor -/
theorem inv_I (C : Cx p l R s m args meth c s0 D S0 nL d cc own ret) {idx n maxL : Nat} {y : MethodName} {b : ByteArray} {ws : List Cond} {f : Dec} (hd : decode cc pc = .ok (.invokespecial idx, 3)) (hl : LkM own idx y) (hs : Cond.instanceMethod y ∈ lw_all) (hc : Cond.code y b maxL none ∈ lw_all) (hy1 : y.name = "<init>") (ht : Tgt l s0 D s d y ws maxL n f) : InvG p l e R s m args below meth c s0 D nL pc (fun _ _ => True) (n + 1) 3 (nn f) := by
  intro as rest S x1 locs ls k i T h1 h2 _ h3 h4 h5 h6 h7 h8 X
  obtain ⟨a, as', rfl, h2⟩ : ∃ (b : Nat) (as' : List V), as = vR (some b) :: as' ∧ f as S = some x1 := by
    unfold nn at h2
    split at h2
    · exact ⟨_, _, rfl, h2⟩
    · cases h2
  obtain ⟨Pre, hK, hpre⟩ := tgt_back (e := e) (below := below) (p := p) (len := 3) (locs := locs) C ht h2 h4 h7 h8
  have hy := tgt_mh ht
  have hst : ((vR (some a) :: as').map tv).reverse ++ rest = (as'.map tv).reverse ++ .ref a :: rest := by simp [tv, va_rf]
  rw [hst]
  have hdg : decode c.code (F0 m pc ls ((as'.map tv).reverse ++ .ref a :: rest)).pc = .ok (.invokespecial idx, 3) := by rw [C.by]; exact hd
  have hsz : (F0 m pc ls ((as'.map tv).reverse ++ .ref a :: rest)).locals.size = c.maxLocals := by rw [C.2.2.1]; exact h6
  have hlen : ∀ sig, parseMethodDescriptor y.desc = some sig → (as'.map tv).length = sig.parameters.length := fun sig hsg => by
    rw [List.length_map, ← tgt_len ht sig hsg]
    simpa using h1
  rcases hl with hl | ⟨host, hl⟩
  · exact vx_callI X C.ex C.ow hy1 (C.ts hl) (C.ts hs) (C.ts hc) hy hK (g := F0 m pc ls ((as'.map tv).reverse ++ .ref a :: rest)) rfl hsz hlen rfl (lv_room h5) hdg (fun vm₁ hW => hpre T vm₁ h3 hW)
  · exact vx_callIN X C.ex C.ow hy1 (va_Nw.use rfl (va_Nw.warmM C.wm (C.wd.1 _ hl))) (C.ts hs) (C.ts hc) hy hK (g := F0 m pc ls ((as'.map tv).reverse ++ .ref a :: rest)) rfl hsz hlen rfl (lv_room h5) hdg (fun vm₁ hW => hpre T vm₁ h3 hW)
/-- the receiver's cell -/
theorem rc_cell (C : Cx p l R s m args meth c s0 D S0 nL d cc own ret) {S : SS} {H : Heap} (h : HRel s0 D S H) {b : Nat} {y : CI} (hy : ct (hC S b) = some y) : ∃ (cell : Cell) (kB : Class), H[b]? = some cell ∧ cell.vm.isStatics = false ∧ s.vm.findClass y.1 = some cell.cls ∧ s.vm.classes[cell.cls]? = some kB := by
  obtain ⟨cell, c1, c2, c3, c4, c5, c6⟩ := h.2.2.2.2.2.1 b y hy
  obtain ⟨-, hfc, kC, hkC, hkind⟩ := C.kn hy
  exact ⟨cell, kC, c1, c4, by rw [c2]; exact hfc, by rw [c2]; exact hkC⟩
/-- virtual: the method that is named is the one that runs -/
theorem inv_V (C : Cx p l R s m args meth c s0 D S0 nL d cc own ret) {idx n maxL kc : Nat} {y : MethodName} {z : CI} {ws : List Cond} {f : Dec} (hd : decode cc pc = .ok (.invokevirtual idx, 3)) (hl : LkM own idx y) (hs : Cond.instanceMethod y ∈ lw_all) (hz : ct kc = some z) (hsel : Cond.selects z.1 y y ∈ lw_all) (ht : Tgt l s0 D s d y ws maxL n f) : InvG p l e R s m args below meth c s0 D nL pc (Rc kc) (n + 1) 3 f := by
  intro as rest S x1 locs ls k i T h1 h2 hG h3 h4 h5 h6 h7 h8 X
  obtain ⟨Pre, hK, hpre⟩ := tgt_back (e := e) (below := below) (p := p) (len := 3) (locs := locs) C ht h2 h4 h7 h8
  have hy := tgt_mh ht
  obtain ⟨b, as', rfl, hb⟩ := hG
  rw [← hb] at hz
  obtain ⟨cellB, kB, hcell, hobj, hcls, hkB⟩ := rc_cell C h3 hz
  have hst : ((vR (some b) :: as').map tv).reverse ++ rest = (as'.map tv).reverse ++ .ref b :: rest := by simp [tv, va_rf]
  rw [hst]
  have hdg : decode c.code (F0 m pc ls ((as'.map tv).reverse ++ .ref b :: rest)).pc = .ok (.invokevirtual idx, 3) := by rw [C.by]; exact hd
  have hsz : (F0 m pc ls ((as'.map tv).reverse ++ .ref b :: rest)).locals.size = c.maxLocals := by rw [C.2.2.1]; exact h6
  obtain ⟨mk, methM, hnamed, hmethM, hstM, habM⟩ := Cond.instanceMethod_spec (C.ts hs)
  obtain ⟨mk', methM', cM, hn', hm', -, -, hsigM⟩ := tgt_cd ht
  cases hnamed.symm.trans hn'
  cases hmethM.symm.trans hm'
  have hlen : (as'.map tv).length = methM.sig.parameters.length := by rw [List.length_map, ← tgt_len ht _ hsigM]; simpa using h1
  obtain ⟨c2, r2, m2, q1, q2, q3, q4, kP, hkP, hkPi⟩ := Cond.selects_spec (C.ts hsel)
  cases hcls.symm.trans q1
  cases (State.methodFound?_of_named hnamed hy).symm.trans q2
  cases hnamed.symm.trans q3
  have hselP : selectMethod e.platform s.vm cellB.cls mk = .method mk := by rw [Launch.admits_selectMethod X.admits]; exact q4
  rcases hl with hl | ⟨host, hl⟩
  · obtain ⟨vm₁, X₁, hstep₁⟩ := X.invokevirtual C.ex C.ow (C.ts hl) hnamed hmethM hstM hkP hkPi hy (a := b) (cell := cellB) hcell
      (fun z h => by rw [h] at hobj; cases hobj) hselP hmethM habM hkP hkPi (g := F0 m pc ls ((as'.map tv).reverse ++ .ref b :: rest)) rfl (argsL := as'.map tv) (rest := rest) hlen rfl hdg
    rcases hK m meth c ⟨T.setVm vm₁, locs, k, i⟩ { F0 m pc ls ((as'.map tv).reverse ++ .ref b :: rest) with stack := rest } (.invokevirtual idx) mk _ X₁ rfl hsz hdg (lv_room h5) (X₁.named hnamed) (hpre T vm₁ h3 X₁.warmed) with ⟨v, B, X', hpost, hsteps⟩ | ⟨q, B, X', hpost, hsteps⟩
    · exact Or.inl ⟨v, vm₁, B, X₁.warmed, X', hpost, fun target h => hstep₁ _ fun acts => by rw [doInvoke_state]; exact hsteps.trans h⟩
    · exact Or.inr ⟨q, vm₁, B, X₁.warmed, X', hpost, hstep₁ _ fun acts => by rw [doInvoke_state]; exact hsteps⟩
  · obtain ⟨vm₁, X₁, hstep₁⟩ := X.invokevirtualNest C.ex C.ow (va_Nw.use rfl (va_Nw.warmM C.wm (C.wd.1 _ hl))) hnamed hmethM hstM hkP hkPi hy (a := b) (cell := cellB) hcell
      (fun z h => by rw [h] at hobj; cases hobj) hselP hmethM habM hkP hkPi (g := F0 m pc ls ((as'.map tv).reverse ++ .ref b :: rest)) rfl (argsL := as'.map tv) (rest := rest) hlen rfl hdg
    rcases hK m meth c ⟨T.setVm vm₁, locs, k, i⟩ { F0 m pc ls ((as'.map tv).reverse ++ .ref b :: rest) with stack := rest } (.invokevirtual idx) mk _ X₁ rfl hsz hdg (lv_room h5) (X₁.named hnamed) (hpre T vm₁ h3 X₁.warmed) with ⟨v, B, X', hpost, hsteps⟩ | ⟨q, B, X', hpost, hsteps⟩
    · exact Or.inl ⟨v, vm₁, B, X₁.warmed, X', hpost, fun target h => hstep₁ _ fun acts => by rw [doInvoke_state]; exact hsteps.trans h⟩
    · exact Or.inr ⟨q, vm₁, B, X₁.warmed, X', hpost, hstep₁ _ fun acts => by rw [doInvoke_state]; exact hsteps⟩
/-- virtual, inherited or abstract: x is named, y runs -/
theorem inv_U (C : Cx p l R s m args meth c s0 D S0 nL d cc own ret) {idx n maxL kc : Nat} {X0 y : MethodName} {owner : String} {z : CI} {ws : List Cond} {f : Dec} (hd : decode cc pc = .ok (.invokevirtual idx, 3)) (hl : Cond.methodLink own idx X0 ∈ lw_all) (hsm : Cond.sameMethod X0.cls owner X0.name X0.desc ∈ lw_all) (hd0 : va_Decl s ⟨owner, X0.name, X0.desc⟩) (how : owner ≠ "java/lang/invoke/MethodHandle" ∧ owner ≠ "java/lang/invoke/VarHandle") (hs : Cond.instanceMethod y ∈ lw_all) (hz : ct kc = some z) (hsel : Cond.selects z.1 X0 y ∈ lw_all) (hxd : (parseMethodDescriptor X0.desc).map (fun q => q.parameters.length) = some n) (ht : Tgt l s0 D s d y ws maxL n f) : InvG p l e R s m args below meth c s0 D nL pc (Rc kc) (n + 1) 3 f := by
  intro as rest S x1 locs ls k i T h1 h2 hG h3 h4 h5 h6 h7 h8 X
  obtain ⟨Pre, hK, hpre⟩ := tgt_back (e := e) (below := below) (p := p) (len := 3) (locs := locs) C ht h2 h4 h7 h8
  obtain ⟨b, as', rfl, hb⟩ := hG
  rw [← hb] at hz
  obtain ⟨cellB, kB, hcell, hobj, hcls, hkB⟩ := rc_cell C h3 hz
  have hst : ((vR (some b) :: as').map tv).reverse ++ rest = (as'.map tv).reverse ++ .ref b :: rest := by simp [tv, va_rf]
  rw [hst]
  have hdg : decode c.code (F0 m pc ls ((as'.map tv).reverse ++ .ref b :: rest)).pc = .ok (.invokevirtual idx, 3) := by rw [C.by]; exact hd
  have hsz : (F0 m pc ls ((as'.map tv).reverse ++ .ref b :: rest)).locals.size = c.maxLocals := by rw [C.2.2.1]; exact h6
  obtain ⟨r0, r, hn, hrm, hstR, hsigR⟩ := hd0
  obtain ⟨cn, ck, r1, hcn, hck, hni, hf, hn1⟩ := Cond.sameMethod_found (C.ts hsm)
  cases hn.symm.trans hn1
  obtain ⟨mk, methM, hnamed, hmethM, -, habM⟩ := Cond.instanceMethod_spec (C.ts hs)
  obtain ⟨c2, r2, m2, q1, q2, q3, q4, kP, hkP, hkPi⟩ := Cond.selects_spec (C.ts hsel)
  cases hcls.symm.trans q1
  cases hf.symm.trans q2
  cases hnamed.symm.trans q3
  have hlen : (as'.map tv).length = r.sig.parameters.length := by
    rw [show parseMethodDescriptor X0.desc = some r.sig from hsigR] at hxd
    have hq : r.sig.parameters.length = n := Option.some.inj hxd
    rw [List.length_map, hq]; simpa using h1
  have hselP : selectMethod e.platform s.vm cellB.cls r0 = .method mk := by rw [Launch.admits_selectMethod X.admits]; exact q4
  obtain ⟨vm₁, X₁, hstep₁⟩ := X.invokevirtualUp C.ex C.ow (C.ts hl) (C.ts hsm) how hn hrm hstR (a := b) (cell := cellB) hcell
    (fun z h => by rw [h] at hobj; cases hobj) hselP hmethM habM hkP hkPi (g := F0 m pc ls ((as'.map tv).reverse ++ .ref b :: rest)) rfl (argsL := as'.map tv) (rest := rest) hlen rfl hdg
  rcases hK m meth c ⟨T.setVm vm₁, locs, k, i⟩ { F0 m pc ls ((as'.map tv).reverse ++ .ref b :: rest) with stack := rest } (.invokevirtual idx) mk _ X₁ rfl hsz hdg (lv_room h5) (X₁.named hnamed) (hpre T vm₁ h3 X₁.warmed) with ⟨v, B, X', hpost, hsteps⟩ | ⟨q, B, X', hpost, hsteps⟩
  · exact Or.inl ⟨v, vm₁, B, X₁.warmed, X', hpost, fun target h => hstep₁ _ fun acts => by rw [doInvoke_state]; exact hsteps.trans h⟩
  · exact Or.inr ⟨q, vm₁, B, X₁.warmed, X', hpost, hstep₁ _ fun acts => by rw [doInvoke_state]; exact hsteps⟩
/-- super -/
theorem inv_SU (C : Cx p l R s m args meth c s0 D S0 nL d cc own ret) {idx n maxL kc : Nat} {y : MethodName} {z : CI} {ws : List Cond} {f : Dec} (hd : decode cc pc = .ok (.invokespecial idx, 3)) (hl : Cond.methodLink own idx y ∈ lw_all) (hsm : Cond.sameMethod y.cls y.cls y.name y.desc ∈ lw_all) (hsup : Cond.superclass own y.cls ∈ lw_all) (hs : Cond.instanceMethod y ∈ lw_all) (hno : y.name ≠ "<init>") (hz : ct kc = some z) (ht : Tgt l s0 D s d y ws maxL n f) : InvG p l e R s m args below meth c s0 D nL pc (Rc kc) (n + 1) 3 f := by
  intro as rest S x1 locs ls k i T h1 h2 hG h3 h4 h5 h6 h7 h8 X
  obtain ⟨Pre, hK, hpre⟩ := tgt_back (e := e) (below := below) (p := p) (len := 3) (locs := locs) C ht h2 h4 h7 h8
  obtain ⟨b, as', rfl, hb⟩ := hG
  rw [← hb] at hz
  obtain ⟨cellB, kB, hcell, hobj, hcls, hkB⟩ := rc_cell C h3 hz
  have hst : ((vR (some b) :: as').map tv).reverse ++ rest = (as'.map tv).reverse ++ .ref b :: rest := by simp [tv, va_rf]
  rw [hst]
  have hdg : decode c.code (F0 m pc ls ((as'.map tv).reverse ++ .ref b :: rest)).pc = .ok (.invokespecial idx, 3) := by rw [C.by]; exact hd
  have hsz : (F0 m pc ls ((as'.map tv).reverse ++ .ref b :: rest)).locals.size = c.maxLocals := by rw [C.2.2.1]; exact h6
  obtain ⟨mk, methM, hnamed, hmethM, hstM, habM⟩ := Cond.instanceMethod_spec (C.ts hs)
  obtain ⟨mk', methM', cM, hn', hm', -, -, hsigM⟩ := tgt_cd ht
  cases hnamed.symm.trans hn'
  cases hmethM.symm.trans hm'
  have hlen : (as'.map tv).length = methM.sig.parameters.length := by rw [List.length_map, ← tgt_len ht _ hsigM]; simpa using h1
  obtain ⟨ps, dk, kp, hps, hdk, hkp, hsuper, -, -, hnid⟩ := Cond.superclass_spec C.ow (C.ts hsup)
  have hn : s.methodNamed? ⟨y.cls, y.name, y.desc⟩ = some mk := hnamed
  have hpm : ps = mk.cls := Option.some.inj (hps.symm.trans (findClass_of_methodNamed hnamed))
  have hsub : s.vm.isSubclass ps mk.cls = true := by rw [hpm]; simp [Vm.isSubclass, Vm.isSubclassAux]
  obtain ⟨vm₁, X₁, hstep₁⟩ := X.invokespecialUp C.ex C.ow (C.ts hl) (C.ts hsm) hn hmethM hstM habM hno hdk hnid hps hsuper hsub (a := b) (cell := cellB) hcell
    (fun z h => by rw [h] at hobj; cases hobj) hkB (g := F0 m pc ls ((as'.map tv).reverse ++ .ref b :: rest)) rfl (argsL := as'.map tv) (rest := rest) hlen rfl hdg
  rcases hK m meth c ⟨T.setVm vm₁, locs, k, i⟩ { F0 m pc ls ((as'.map tv).reverse ++ .ref b :: rest) with stack := rest } (.invokespecial idx) mk _ X₁ rfl hsz hdg (lv_room h5) (X₁.named hnamed) (hpre T vm₁ h3 X₁.warmed) with ⟨v, B, X', hpost, hsteps⟩ | ⟨q, B, X', hpost, hsteps⟩
  · exact Or.inl ⟨v, vm₁, B, X₁.warmed, X', hpost, fun target h => hstep₁ _ (by rw [doInvoke_state]; exact hsteps.trans h)⟩
  · exact Or.inr ⟨q, vm₁, B, X₁.warmed, X', hpost, hstep₁ _ (by rw [doInvoke_state]; exact hsteps)⟩
/-- interface -/
theorem inv_F (C : Cx p l R s m args meth c s0 D S0 nL d cc own ret) {idx cnt n maxL kc : Nat} {X0 y : MethodName} {z : CI} {ws : List Cond} {f : Dec} (hd : decode cc pc = .ok (.invokeinterface idx cnt, 5)) (hl : Cond.methodLink own idx X0 ∈ lw_all) (hz : ct kc = some z) (hdecl : Cond.declares X0 ∈ lw_tbl) (hface : Cond.interfaceMethod X0.cls X0.cls X0.name X0.desc ∈ lw_tbl) (hsel : Cond.selects z.1 X0 y ∈ lw_all) (hs : Cond.instanceMethod y ∈ lw_all) (hpub : Cond.publicMethod y ∈ lw_tbl) (hunh : Cond.unhidden z.1 X0.name X0.desc ∈ lw_tbl) (hcast : Cond.castable z.1 X0.cls ∈ lw_tbl) (hx0 : X0.cls ≠ "java/lang/invoke/MethodHandle" ∧ X0.cls ≠ "java/lang/invoke/VarHandle") (hxd : (parseMethodDescriptor X0.desc).map (fun q => q.parameters.length) = some n) (ht : Tgt l s0 D s d y ws maxL n f) : InvG p l e R s m args below meth c s0 D nL pc (Rc kc) (n + 1) 5 f := by
  intro as rest S x1 locs ls k i T h1 h2 hG h3 h4 h5 h6 h7 h8 X
  obtain ⟨Pre, hK, hpre⟩ := tgt_back (e := e) (below := below) (p := p) (len := 5) (locs := locs) C ht h2 h4 h7 h8
  obtain ⟨b, as', rfl, hb⟩ := hG
  rw [← hb] at hz
  obtain ⟨cellB, kB, hcell, hobj, hcls, hkB⟩ := rc_cell C h3 hz
  have hst : ((vR (some b) :: as').map tv).reverse ++ rest = (as'.map tv).reverse ++ .ref b :: rest := by simp [tv, va_rf]
  rw [hst]
  have hdg : decode c.code (F0 m pc ls ((as'.map tv).reverse ++ .ref b :: rest)).pc = .ok (.invokeinterface idx cnt, 5) := by rw [C.by]; exact hd
  have hsz : (F0 m pc ls ((as'.map tv).reverse ++ .ref b :: rest)).locals.size = c.maxLocals := by rw [C.2.2.1]; exact h6
  have hF : va_Fw z.1 X0 y s := va_Fw.moved hx0 C.wm.alike (va_Fw.of (C.wd.1 _ hdecl) (C.wd.1 _ hface) (C.wd.1 _ hpub) (C.wd.1 _ hunh) (C.wd.1 _ hcast))
  obtain ⟨f1, f2, f3, f4, f5⟩ := hF
  obtain ⟨r0, r, hn, hrm, hstR, hsigR⟩ := Cond.declares_spec f1
  obtain ⟨cL, kL, r1, hcL, hkL, hiL, hfoundL, hn1⟩ := Cond.interfaceMethod_spec f2
  cases hn.symm.trans hn1
  have hr0cls : r0.cls = cL := Option.some.inj ((findClass_of_methodNamed hn).symm.trans hcL)
  obtain ⟨hnameR, hdescR⟩ := name_of_methodNamed hn hrm
  obtain ⟨mk, methM, hnamed, hmethM, -, habM⟩ := Cond.instanceMethod_spec (C.ts hs)
  obtain ⟨c2, r2, m2, q1, q2, q3, q4, -⟩ := Cond.selects_spec (C.ts hsel)
  cases hcls.symm.trans q1
  cases hfoundL.symm.trans q2
  cases hnamed.symm.trans q3
  have hselP : selectMethod e.platform s.vm cellB.cls r0 = .method mk := by rw [Launch.admits_selectMethod X.admits]; exact q4
  have hpubM : hasFlag methM.accessFlags Acc.public_ = true := Cond.publicMethod_spec hnamed hmethM f3
  have hway : ((cellB.cls :: s.vm.superclasses cellB.cls).any fun k => (declaredIn s.vm r.name r.desc k).any fun (_, z) => z.isPrivate || z.isStatic) = false := by
    rw [hnameR, hdescR]; exact Cond.unhidden_spec hcls f4
  obtain ⟨c3, t3, w1, w2, w3⟩ := Cond.castable_spec f5
  cases hcls.symm.trans w1
  cases hcL.symm.trans w2
  have hlen : (as'.map tv).length = r.sig.parameters.length := by
    rw [hsigR] at hxd
    have hq : r.sig.parameters.length = n := Option.some.inj hxd
    rw [List.length_map, hq]; simpa using h1
  obtain ⟨vm₁, X₁, hstep₁⟩ := X.invokeinterface C.ex C.ow (C.ts hl) hn hrm hstR (by rw [hr0cls]; exact hkL) hiL hx0 (a := b) (cell := cellB) (kcell := kB) hcell
    (fun z h => by rw [h] at hobj; cases hobj) hkB (by rw [hr0cls]; exact w3) hselP hmethM hway hpubM habM (g := F0 m pc ls ((as'.map tv).reverse ++ .ref b :: rest)) rfl (argsL := as'.map tv) (rest := rest) hlen rfl hdg
  rcases hK m meth c ⟨T.setVm vm₁, locs, k, i⟩ { F0 m pc ls ((as'.map tv).reverse ++ .ref b :: rest) with stack := rest } (.invokeinterface idx cnt) mk _ X₁ rfl hsz hdg (lv_room h5) (X₁.named hnamed) (hpre T vm₁ h3 X₁.warmed) with ⟨v, B, X', hpost, hsteps⟩ | ⟨q, B, X', hpost, hsteps⟩
  · exact Or.inl ⟨v, vm₁, B, X₁.warmed, X', hpost, fun target h => hstep₁ _ fun acts => by rw [doInvoke_state]; exact hsteps.trans h⟩
  · exact Or.inr ⟨q, vm₁, B, X₁.warmed, X', hpost, hstep₁ _ fun acts => by rw [doInvoke_state]; exact hsteps⟩
end G6
