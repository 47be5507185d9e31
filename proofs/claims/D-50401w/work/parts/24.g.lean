/-! THE JUDGEMENT: the machine, at an instruction of a method, with a heap that is the pure state S -/
set_option maxRecDepth 100000
/-- the room of a method of level d that begins in the state S -/
def rmO (d : Nat) (S : SS) : Room := { frames := d, cells := hG S 0 + LC - hN S, slots := LU - hU S, locals := 64 * d }
/-- the end that is awaited: the answer r, the state S1 -/
def EndO (s0 : State) (D : Dt) (S0 : SS) (x : RV × SS) (s : State) (o : Outcome) (t : State) : Prop :=
  (match x.1 with
    | .inl v => o = .returned (v.map tv)
    | .inr q => o = .threw q ∧ ∃ (y : CI) (ce : Cell), ct (hC x.2 q) = some y ∧ t.heap[q]? = some ce ∧ ce.vm = .none ∧ s.vm.findClass y.1 = some ce.cls) ∧
  HRel s0 D x.2 t.heap ∧ hG x.2 = hG S0 ∧ (∀ v, x.1 = .inl v → ∀ w, v = some w → inV w) ∧ s.WarmedH t.vm ∧ (hN S0 ≤ hN x.2 ∧ hU S0 ≤ hU x.2) ∧ ∃ L, s.sameButNew ({ t with vm := s.vm } : State) L (hN x.2 - hN S0) (hU x.2 - hU S0) ∧ ∀ z ∈ L, s0.heap.size ≤ z.base
def QO (s0 : State) (D : Dt) (S0 : SS) (x : RV × SS) (below : List Frame) (s : State) : State → Prop := fun t => ∃ o, t.status = .running ∧ Ended t below o ∧ EndO s0 D S0 x s o t
/-- at an instruction -/
def GG (p : Program) (l : Launch) (e : Env) (R : Room) (s : State) (m : MethodId) (args : Array Value) (below : List Frame) (meth : Method) (c : Code) (s0 : State) (D : Dt) (S0 : SS) (nL : Nat) (x : RV × SS) (S : SS) (pc : Nat) (lv st : List V) : Prop :=
  ∀ (H : Heap) (locs : List Loc) (ls : Array Slot), HRel s0 D S H → s.heap.size ≤ H.size → (∀ q ∈ locs, s0.heap.size ≤ q.base) → Lv ls nL lv → inVs lv → inVs st → (hG S = hG S0 ∧ hU S0 ≤ hU S) →
    W p l e R s m args below meth c H locs (hN S - hN S0) (hU S - hU S0) (QO s0 D S0 x below s) (F0 m pc ls (st.map tv))
/-- at an instruction that throws the cell a -/
def GT (p : Program) (l : Launch) (e : Env) (R : Room) (s : State) (m : MethodId) (args : Array Value) (below : List Frame) (meth : Method) (c : Code) (s0 : State) (D : Dt) (S0 : SS) (nL : Nat) (x : RV × SS) (S : SS) (pc : Nat) (lv : List V) (a : Nat) : Prop :=
  ∀ (H : Heap) (locs : List Loc) (ls : Array Slot) (rest : List Value), HRel s0 D S H → s.heap.size ≤ H.size → (∀ q ∈ locs, s0.heap.size ≤ q.base) → Lv ls nL lv → inVs lv → (hG S = hG S0 ∧ hU S0 ≤ hU S) → (∃ (y : CI) (ce : Cell), ct (hC S a) = some y ∧ H[a]? = some ce ∧ ce.vm = .none ∧ s.vm.findClass y.1 = some ce.cls) →
    vx_W p l e R s m args below meth c H locs (hN S - hN S0) (hU S - hU S0) (QO s0 D S0 x below s) (F0 m pc ls rest) a
def GK (p : Program) (l : Launch) (e : Env) (R : Room) (s : State) (m : MethodId) (args : Array Value) (below : List Frame) (meth : Method) (c : Code) (s0 : State) (D : Dt) (S0 : SS) (nL : Nat) (x : RV × SS) (pc : Nat) (lv : List V) (o : Out) : Prop := match o with
  | .inl (pc', lv', st', S') => GG p l e R s m args below meth c s0 D S0 nL x S' pc' lv' st'
  | .inr (.inl (v, S')) => x = (.inl v, S')
  | .inr (.inr (a, S')) => GT p l e R s m args below meth c s0 D S0 nL x S' pc lv a
/-- an instruction is sound -/
def Snd (p : Program) (l : Launch) (e : Env) (R : Room) (s : State) (m : MethodId) (args : Array Value) (below : List Frame) (meth : Method) (c : Code) (s0 : State) (D : Dt) (S0 : SS) (nL : Nat) (x : RV × SS) (pc : Nat) (f : Sem) : Prop :=
  ∀ (lv st : List V) (S : SS) (o : Out), f lv st S = some o → GK p l e R s m args below meth c s0 D S0 nL x pc lv o → GG p l e R s m args below meth c s0 D S0 nL x S pc lv st
/-- what holds all through a method's body -/
def Cx (p : Program) (l : Launch) (R : Room) (s : State) (m : MethodId) (args : Array Value) (meth : Method) (c : Code) (s0 : State) (D : Dt) (S0 : SS) (nL d : Nat) (cc : ByteArray) (own : String) (ret : Option FieldType) : Prop :=
  p.tables.exec = Jvm.exec ∧ c.code = cc ∧ c.maxLocals = nL ∧ s.vm.findClass own = some m.cls ∧ (∀ w ∈ lw_all, w.before args s = true) ∧ s0.WarmedH s.vm ∧ meth.locks = false ∧ meth.sig.returnType = ret ∧ HRel s0 D S0 s.heap ∧ R = rmO d S0 ∧ Wd s0 D ∧ l.flags = flags0 ∧ hN S0 ≤ hG S0 0 + LC ∧ hU S0 ≤ LU
section G1
variable {p : Program} {l : Launch} {e : Env} {R : Room} {s : State} {m : MethodId} {args : Array Value} {below : List Frame} {meth : Method} {c : Code} {s0 : State} {D : Dt} {S0 : SS} {nL d : Nat} {cc : ByteArray} {own : String} {ret : Option FieldType} {x : RV × SS} {pc : Nat}
theorem Cx.ex (C : Cx p l R s m args meth c s0 D S0 nL d cc own ret) : p.tables.exec = Jvm.exec := C.1
theorem Cx.by (C : Cx p l R s m args meth c s0 D S0 nL d cc own ret) : c.code = cc := C.2.1
theorem Cx.ow (C : Cx p l R s m args meth c s0 D S0 nL d cc own ret) : s.vm.findClass own = some m.cls := C.2.2.2.1
theorem Cx.ts (C : Cx p l R s m args meth c s0 D S0 nL d cc own ret) {w : Cond} (h : w ∈ lw_all) : w.before args s = true := C.2.2.2.2.1 w h
theorem Cx.wm (C : Cx p l R s m args meth c s0 D S0 nL d cc own ret) : s0.WarmedH s.vm := C.2.2.2.2.2.1
theorem Cx.lk (C : Cx p l R s m args meth c s0 D S0 nL d cc own ret) : meth.locks = false := C.2.2.2.2.2.2.1
theorem Cx.rt (C : Cx p l R s m args meth c s0 D S0 nL d cc own ret) : meth.sig.returnType = ret := C.2.2.2.2.2.2.2.1
theorem Cx.hr (C : Cx p l R s m args meth c s0 D S0 nL d cc own ret) : HRel s0 D S0 s.heap := C.2.2.2.2.2.2.2.2.1
theorem Cx.rm (C : Cx p l R s m args meth c s0 D S0 nL d cc own ret) : R = rmO d S0 := C.2.2.2.2.2.2.2.2.2.1
theorem Cx.wd (C : Cx p l R s m args meth c s0 D S0 nL d cc own ret) : Wd s0 D := C.2.2.2.2.2.2.2.2.2.2.1
theorem Cx.fl (C : Cx p l R s m args meth c s0 D S0 nL d cc own ret) : l.flags = flags0 := C.2.2.2.2.2.2.2.2.2.2.2.1
theorem Cx.lc (C : Cx p l R s m args meth c s0 D S0 nL d cc own ret) : hN S0 ≤ hG S0 0 + LC := C.2.2.2.2.2.2.2.2.2.2.2.2.1
theorem Cx.lu (C : Cx p l R s m args meth c s0 D S0 nL d cc own ret) : hU S0 ≤ LU := C.2.2.2.2.2.2.2.2.2.2.2.2.2
/-- an instruction that only moves values: from a row of W -/
theorem sn_nx {f : Sem} (h : ∀ (lv st : List V) (S : SS) (o : Out), f lv st S = some o → ∃ (pc' : Nat) (lv' st' : List V), o = .inl (pc', lv', st', S) ∧ (inVs lv → inVs st → inVs lv' ∧ inVs st') ∧
      ∀ (H : Heap) (locs : List Loc) (ls : Array Slot) (k n : Nat) (Q : State → Prop), Lv ls nL lv → inVs lv → inVs st → (∀ ls', Lv ls' nL lv' → W p l e R s m args below meth c H locs k n Q (F0 m pc' ls' (st'.map tv))) → W p l e R s m args below meth c H locs k n Q (F0 m pc ls (st.map tv))) :
    Snd p l e R s m args below meth c s0 D S0 nL x pc f := by
  intro lv st S o ho hk
  obtain ⟨pc', lv', st', rfl, hv, hw⟩ := h lv st S o ho
  intro H locs ls h1 h2 h3 h4 h5 h6 h7
  obtain ⟨v1, v2⟩ := hv h5 h6
  exact hw H locs ls _ _ _ h4 h5 h6 fun ls' hl' => hk H locs ls' h1 h2 h3 hl' v1 v2 h7
theorem sn_no : Snd p l e R s m args below meth c s0 D S0 nL x pc i_no := fun lv st S o ho _ => by cases ho
theorem nx_inj {n n' : Nat} {lv st lv' st' : List V} {S S' : SS} {o : Out} (h : nx n lv st S = some o) (e : o = .inl (n', lv', st', S')) : n = n' ∧ lv = lv' ∧ st = st' ∧ S = S' := by
  subst e
  simp only [nx, Option.some.injEq, Sum.inl.injEq, Prod.mk.injEq] at h
  exact h
theorem nx_some {n : Nat} {lv st : List V} {S : SS} {o : Out} (h : nx n lv st S = some o) : o = .inl (n, lv, st, S) := (Option.some.inj h).symm
/-- pushes a value -/
theorem sn_push {v : V} {n : Nat} (hv : inV v) (hw : ∀ (H : Heap) (locs : List Loc) (ls : Array Slot) (k i : Nat) (Q : State → Prop) (rest : List Value), W p l e R s m args below meth c H locs k i Q (F0 m n ls (tv v :: rest)) → W p l e R s m args below meth c H locs k i Q (F0 m pc ls rest)) :
    Snd p l e R s m args below meth c s0 D S0 nL x pc (i_push v n) := by
  refine sn_nx fun lv st S o ho => ⟨n, lv, v :: st, nx_some ho, fun a b => ⟨a, inVs_cons.mpr ⟨hv, b⟩⟩, fun H locs ls k i Q hl _ _ kk => ?_⟩
  exact hw H locs ls k i Q _ (kk ls hl)
theorem sn_iconst (C : Cx p l R s m args meth c s0 D S0 nL d cc own ret) {z : Int} (hz : in32 z) (hd : decode cc pc = .ok (.iconst z, 1)) : Snd p l e R s m args below meth c s0 D S0 nL x pc (i_push (vI z) (pc + 1)) :=
  sn_push hz fun H locs ls k i Q rest kk => lv_iconst C.ex C.by hd rfl kk
theorem sn_bipush (C : Cx p l R s m args meth c s0 D S0 nL d cc own ret) {z : Int} (hz : in32 z) (he : (Int8.ofInt z).toInt32 = Int32.ofInt z) (hd : decode cc pc = .ok (.bipush z, 2)) : Snd p l e R s m args below meth c s0 D S0 nL x pc (i_push (vI z) (pc + 2)) :=
  sn_push hz fun H locs ls k i Q rest kk => lv_bipush C.ex C.by hd he kk
theorem sn_sipush (C : Cx p l R s m args meth c s0 D S0 nL d cc own ret) {z : Int} (hz : in32 z) (he : (Int16.ofInt z).toInt32 = Int32.ofInt z) (hd : decode cc pc = .ok (.sipush z, 3)) : Snd p l e R s m args below meth c s0 D S0 nL x pc (i_push (vI z) (pc + 3)) :=
  sn_push hz fun H locs ls k i Q rest kk => lv_sipush C.ex C.by hd he kk
theorem sn_lconst (C : Cx p l R s m args meth c s0 D S0 nL d cc own ret) {z : Int} {n : Fin 2} (hz : in64 z) (he : Int64.ofNat (n : Nat) = Int64.ofInt z) (hd : decode cc pc = .ok (.lconst n, 1)) : Snd p l e R s m args below meth c s0 D S0 nL x pc (i_push (vL z) (pc + 1)) :=
  sn_push hz fun H locs ls k i Q rest kk => lv_lconst C.ex C.by hd he kk
theorem sn_anull (C : Cx p l R s m args meth c s0 D S0 nL d cc own ret) (hd : decode cc pc = .ok (.aconst_null, 1)) : Snd p l e R s m args below meth c s0 D S0 nL x pc (i_push (vR none) (pc + 1)) :=
  sn_push trivial fun H locs ls k i Q rest kk => lv_null C.ex C.by hd kk
theorem sn_iload (C : Cx p l R s m args meth c s0 D S0 nL d cc own ret) {i : Nat} (hd : decode cc pc = .ok (.iload i, 2)) : Snd p l e R s m args below meth c s0 D S0 nL x pc (i_iload i (pc + 2)) := by
  refine sn_nx fun lv st S o ho => ?_
  unfold i_iload at ho
  split at ho
  · rename_i z hz
    refine ⟨_, _, _, nx_some ho, fun a b => ⟨a, inVs_cons.mpr ⟨a _ (List.mem_of_getElem? hz), b⟩⟩, fun H locs ls k i Q hl _ _ kk => ?_⟩
    exact lv_iload C.ex C.by hd (hl.at hz rfl) (kk ls hl)
  · cases ho
theorem sn_iload_n (C : Cx p l R s m args meth c s0 D S0 nL d cc own ret) {i : Nat} {j : Fin 4} (hi : (j : Nat) = i) (hd : decode cc pc = .ok (.iload_n j, 1)) : Snd p l e R s m args below meth c s0 D S0 nL x pc (i_iload i (pc + 1)) := by
  refine sn_nx fun lv st S o ho => ?_
  unfold i_iload at ho
  split at ho
  · rename_i z hz
    refine ⟨_, _, _, nx_some ho, fun a b => ⟨a, inVs_cons.mpr ⟨a _ (List.mem_of_getElem? hz), b⟩⟩, fun H locs ls k i Q hl _ _ kk => ?_⟩
    exact lv_iload_n C.ex C.by hd hi (hl.at hz rfl) (kk ls hl)
  · cases ho
theorem sn_lload (C : Cx p l R s m args meth c s0 D S0 nL d cc own ret) {i : Nat} (hd : decode cc pc = .ok (.lload i, 2)) : Snd p l e R s m args below meth c s0 D S0 nL x pc (i_lload i (pc + 2)) := by
  refine sn_nx fun lv st S o ho => ?_
  unfold i_lload at ho
  split at ho
  · rename_i z hz
    refine ⟨_, _, _, nx_some ho, fun a b => ⟨a, inVs_cons.mpr ⟨a _ (List.mem_of_getElem? hz), b⟩⟩, fun H locs ls k i Q hl _ _ kk => ?_⟩
    exact lv_lload C.ex C.by hd (hl.at hz rfl) (kk ls hl)
  · cases ho
theorem sn_lload_n (C : Cx p l R s m args meth c s0 D S0 nL d cc own ret) {i : Nat} {j : Fin 4} (hi : (j : Nat) = i) (hd : decode cc pc = .ok (.lload_n j, 1)) : Snd p l e R s m args below meth c s0 D S0 nL x pc (i_lload i (pc + 1)) := by
  refine sn_nx fun lv st S o ho => ?_
  unfold i_lload at ho
  split at ho
  · rename_i z hz
    refine ⟨_, _, _, nx_some ho, fun a b => ⟨a, inVs_cons.mpr ⟨a _ (List.mem_of_getElem? hz), b⟩⟩, fun H locs ls k i Q hl _ _ kk => ?_⟩
    exact lv_lload_n C.ex C.by hd hi (hl.at hz rfl) (kk ls hl)
  · cases ho
theorem sn_dload (C : Cx p l R s m args meth c s0 D S0 nL d cc own ret) {i : Nat} (hd : decode cc pc = .ok (.dload i, 2)) : Snd p l e R s m args below meth c s0 D S0 nL x pc (i_dload i (pc + 2)) := by
  refine sn_nx fun lv st S o ho => ?_
  unfold i_dload at ho
  split at ho
  · rename_i z hz
    refine ⟨_, _, _, nx_some ho, fun a b => ⟨a, inVs_cons.mpr ⟨trivial, b⟩⟩, fun H locs ls k i Q hl _ _ kk => ?_⟩
    exact lv_dload C.ex C.by hd (hl.at hz rfl) (kk ls hl)
  · cases ho
theorem sn_aload (C : Cx p l R s m args meth c s0 D S0 nL d cc own ret) {i : Nat} (hd : decode cc pc = .ok (.aload i, 2)) : Snd p l e R s m args below meth c s0 D S0 nL x pc (i_aload i (pc + 2)) := by
  refine sn_nx fun lv st S o ho => ?_
  unfold i_aload at ho
  split at ho
  · rename_i z hz
    refine ⟨_, _, _, nx_some ho, fun a b => ⟨a, inVs_cons.mpr ⟨trivial, b⟩⟩, fun H locs ls k i Q hl _ _ kk => ?_⟩
    cases z with
    | none => exact lv_aloadN C.ex C.by hd (hl.at hz rfl) (kk ls hl)
    | some a => exact lv_aload C.ex C.by hd (hl.at hz rfl) (kk ls hl)
  · cases ho
theorem sn_aload_n (C : Cx p l R s m args meth c s0 D S0 nL d cc own ret) {i : Nat} {j : Fin 4} (hi : (j : Nat) = i) (hd : decode cc pc = .ok (.aload_n j, 1)) : Snd p l e R s m args below meth c s0 D S0 nL x pc (i_aload i (pc + 1)) := by
  refine sn_nx fun lv st S o ho => ?_
  unfold i_aload at ho
  split at ho
  · rename_i z hz
    refine ⟨_, _, _, nx_some ho, fun a b => ⟨a, inVs_cons.mpr ⟨trivial, b⟩⟩, fun H locs ls k i Q hl _ _ kk => ?_⟩
    cases z with
    | none => exact lv_aload_nN C.ex C.by hd hi (hl.at hz rfl) (kk ls hl)
    | some a => exact lv_aload_n C.ex C.by hd hi (hl.at hz rfl) (kk ls hl)
  · cases ho
theorem inVs_set {lv : List V} {i : Nat} {v : V} (h : inVs lv) (hv : inV v) : inVs (lv.set i v) := by
  intro w hw
  rcases List.mem_or_eq_of_mem_set hw with h1 | h1
  · exact h w h1
  · rw [h1]; exact hv
theorem inVs_st1 {lv : List V} {i : Nat} {v : V} (h : inVs lv) (hv : inV v) : inVs (st1 lv i v) := by
  unfold st1
  split
  · exact inVs_set h hv
  · cases Nat.beq (vcat (lv.getD _ vU)) 2
    · exact inVs_set h hv
    · exact inVs_set (inVs_set h hv) trivial
theorem inVs_st2 {lv : List V} {i : Nat} {v : V} (h : inVs lv) (hv : inV v) : inVs (st2 lv i v) := inVs_set (inVs_st1 h hv) trivial
theorem sn_istore (C : Cx p l R s m args meth c s0 D S0 nL d cc own ret) {i : Nat} (hn : i < nL) (hd : decode cc pc = .ok (.istore i, 2)) : Snd p l e R s m args below meth c s0 D S0 nL x pc (i_istore i (pc + 2)) := by
  refine sn_nx fun lv st S o ho => ?_
  unfold i_istore at ho
  split at ho
  · rename_i z st
    refine ⟨_, _, _, nx_some ho, fun a b => ⟨inVs_st1 a (inVs_cons.mp b).1, (inVs_cons.mp b).2⟩, fun H locs ls k n Q hl _ _ kk => ?_⟩
    exact lv_istore C.ex C.by hd hl.has hn rfl fun ls' hl' => kk ls' (Lv_st1 hl hl')
  · cases ho
theorem sn_istore_n (C : Cx p l R s m args meth c s0 D S0 nL d cc own ret) {i : Nat} {j : Fin 4} (hi : (j : Nat) = i) (hn : i < nL) (hd : decode cc pc = .ok (.istore_n j, 1)) : Snd p l e R s m args below meth c s0 D S0 nL x pc (i_istore i (pc + 1)) := by
  refine sn_nx fun lv st S o ho => ?_
  unfold i_istore at ho
  split at ho
  · rename_i z st
    refine ⟨_, _, _, nx_some ho, fun a b => ⟨inVs_st1 a (inVs_cons.mp b).1, (inVs_cons.mp b).2⟩, fun H locs ls k n Q hl _ _ kk => ?_⟩
    exact lv_istore_n C.ex C.by hd hi hl.has hn rfl fun ls' hl' => kk ls' (Lv_st1 hl hl')
  · cases ho
theorem sn_lstore (C : Cx p l R s m args meth c s0 D S0 nL d cc own ret) {i : Nat} (hn : i + 1 < nL) (hd : decode cc pc = .ok (.lstore i, 2)) : Snd p l e R s m args below meth c s0 D S0 nL x pc (i_lstore i (pc + 2)) := by
  refine sn_nx fun lv st S o ho => ?_
  unfold i_lstore at ho
  split at ho
  · rename_i z st
    refine ⟨_, _, _, nx_some ho, fun a b => ⟨inVs_st2 a (inVs_cons.mp b).1, (inVs_cons.mp b).2⟩, fun H locs ls k n Q hl _ _ kk => ?_⟩
    exact lv_lstore C.ex C.by hd hl.has hn rfl fun ls' hl' => kk ls' (Lv_st2 hl hl')
  · cases ho
theorem sn_lstore_n (C : Cx p l R s m args meth c s0 D S0 nL d cc own ret) {i : Nat} {j : Fin 4} (hi : (j : Nat) = i) (hn : i + 1 < nL) (hd : decode cc pc = .ok (.lstore_n j, 1)) : Snd p l e R s m args below meth c s0 D S0 nL x pc (i_lstore i (pc + 1)) := by
  refine sn_nx fun lv st S o ho => ?_
  unfold i_lstore at ho
  split at ho
  · rename_i z st
    refine ⟨_, _, _, nx_some ho, fun a b => ⟨inVs_st2 a (inVs_cons.mp b).1, (inVs_cons.mp b).2⟩, fun H locs ls k n Q hl _ _ kk => ?_⟩
    exact lv_lstore_n C.ex C.by hd hi hl.has hn rfl fun ls' hl' => kk ls' (Lv_st2 hl hl')
  · cases ho
theorem sn_dstore (C : Cx p l R s m args meth c s0 D S0 nL d cc own ret) {i : Nat} (hn : i + 1 < nL) (hd : decode cc pc = .ok (.dstore i, 2)) : Snd p l e R s m args below meth c s0 D S0 nL x pc (i_dstore i (pc + 2)) := by
  refine sn_nx fun lv st S o ho => ?_
  unfold i_dstore at ho
  split at ho
  · rename_i z st
    refine ⟨_, _, _, nx_some ho, fun a b => ⟨inVs_st2 a trivial, (inVs_cons.mp b).2⟩, fun H locs ls k n Q hl _ _ kk => ?_⟩
    exact lv_dstore C.ex C.by hd hl.has hn rfl fun ls' hl' => kk ls' (Lv_st2 hl hl')
  · cases ho
theorem sn_astore (C : Cx p l R s m args meth c s0 D S0 nL d cc own ret) {i : Nat} (hn : i < nL) (hd : decode cc pc = .ok (.astore i, 2)) : Snd p l e R s m args below meth c s0 D S0 nL x pc (i_astore i (pc + 2)) := by
  refine sn_nx fun lv st S o ho => ?_
  unfold i_astore at ho
  split at ho
  · rename_i r st
    refine ⟨_, _, _, nx_some ho, fun a b => ⟨inVs_st1 a trivial, (inVs_cons.mp b).2⟩, fun H locs ls k n Q hl _ _ kk => ?_⟩
    cases r with
    | none => exact lv_astoreN C.ex C.by hd hl.has hn rfl fun ls' hl' => kk ls' (Lv_st1 hl hl')
    | some a => exact lv_astore C.ex C.by hd hl.has hn rfl fun ls' hl' => kk ls' (Lv_st1 hl hl')
  · cases ho
theorem sn_astore_n (C : Cx p l R s m args meth c s0 D S0 nL d cc own ret) {i : Nat} {j : Fin 4} (hi : (j : Nat) = i) (hn : i < nL) (hd : decode cc pc = .ok (.astore_n j, 1)) : Snd p l e R s m args below meth c s0 D S0 nL x pc (i_astore i (pc + 1)) := by
  refine sn_nx fun lv st S o ho => ?_
  unfold i_astore at ho
  split at ho
  · rename_i r st
    refine ⟨_, _, _, nx_some ho, fun a b => ⟨inVs_st1 a trivial, (inVs_cons.mp b).2⟩, fun H locs ls k n Q hl _ _ kk => ?_⟩
    cases r with
    | none => exact lv_astore_nN C.ex C.by hd hi hl.has hn rfl fun ls' hl' => kk ls' (Lv_st1 hl hl')
    | some a => exact lv_astore_n C.ex C.by hd hi hl.has hn rfl fun ls' hl' => kk ls' (Lv_st1 hl hl')
  · cases ho
theorem sn_iinc (C : Cx p l R s m args meth c s0 D S0 nL d cc own ret) {i : Nat} {z : Int} (hn : i < nL) (hd : decode cc pc = .ok (.iinc i z, 3)) : Snd p l e R s m args below meth c s0 D S0 nL x pc (i_iinc i z (pc + 3)) := by
  refine sn_nx fun lv st S o ho => ?_
  unfold i_iinc at ho
  split at ho
  · rename_i y hy
    refine ⟨_, _, _, nx_some ho, fun a b => ⟨inVs_st1 a (w32_in _), b⟩, fun H locs ls k n Q hl _ _ kk => ?_⟩
    obtain ⟨k0, hk0⟩ := List.getElem?_of_mem (lvq_mem.mpr ⟨_, hy, rfl, rfl⟩ : (i, tv (vI y)) ∈ lvq lv)
    refine lv_iinc (v := Int32.ofInt (w32 (y + z))) C.ex C.by hd hl.has (k := k0) hk0 ?_ hn rfl fun ls' hl' => kk ls' (Lv_st1 (v := vI (w32 (y + z))) hl hl')
    rw [of_w32, Int32.ofInt_add]
  · cases ho
end G1
