/-! METHODS: a contract that is a function; calls; a body that runs -/
set_option maxRecDepth 100000
def PO (s0 : State) (D : Dt) (S : SS) (as : List V) : Array Value → State → Prop := fun a U => a = (as.map tv).toArray ∧ s0.WarmedH U.vm ∧ HRel s0 D S U.heap ∧ inVs as
/-- the method y does what the function f says, at level d -/
def Mt (l : Launch) (s0 : State) (D : Dt) (y : MethodName) (ws : List Cond) (d : Nat) (f : Dec) : Prop :=
  ∀ (as : List V) (S : SS) (x : RV × SS), f as S = some x → MetFree l y (headSpec ws (rmO d S)) (PO s0 D S as) (fun _ _ _ _ _ => True) (fun _ st o t => EndO s0 D S x st o t)
theorem PO.blind {s0 : State} {D : Dt} {S : SS} {as : List V} {a : Array Value} {U : State} {g : JFrame} {mk : MethodId} (h : PO s0 D S as a U) : PO s0 D S as a (U.calling g mk a) := h
/-- a method's code, without or with handlers -/
def CdF (U : State) (y : MethodName) (maxL : Nat) : Prop := ∃ (mk : MethodId) (meth : Method) (c : Code), U.methodNamed? y = some mk ∧ U.vm.method? mk = some meth ∧ meth.code = some c ∧ c.maxLocals = maxL ∧ parseMethodDescriptor y.desc = some meth.sig
/-- what a call needs of the callee: its words hold wherever it's called -/
def Cal (s : State) (y : MethodName) (ws : List Cond) (maxL : Nat) : Prop := (∀ w ∈ ws, ∀ (a' : Array Value) (U : State), s.WarmedH U.vm → w.before a' U = true) ∧ (∀ U : State, s.WarmedH U.vm → CdF U y maxL) ∧ (∀ (a' : Array Value) (U : State), s.WarmedH U.vm → (Cond.initialized y.cls).before a' U = true)
def PreN (s0 : State) (D : Dt) (S : SS) (d : Nat) (R : Room) (as : List V) : Pt → Array Value → Prop := fun A a => PO s0 D S as a A.U ∧ A.cells + (rmO d S).cells ≤ R.cells ∧ A.slots + (rmO d S).slots ≤ R.slots
def PostN (s0 : State) (D : Dt) (S : SS) (x : RV × SS) : Pt → Array Value → Option Value → Pt → Prop := fun A _ v B => ∃ v' : Option V, x.1 = .inl v' ∧ v = v'.map tv ∧ (∀ w, v' = some w → inV w) ∧ HRel s0 D x.2 B.U.heap ∧ hG x.2 = hG S ∧ (B.cells = A.cells + (hN x.2 - hN S) ∧ B.slots = A.slots + (hU x.2 - hU S) ∧ hN S ≤ hN x.2 ∧ hU S ≤ hU x.2) ∧ ∃ L, B.locs = A.locs ++ L ∧ ∀ z ∈ L, s0.heap.size ≤ z.base
def PostX (s0 : State) (D : Dt) (S : SS) (x : RV × SS) : Pt → Array Value → Addr → Pt → Prop := fun A _ q B => x.1 = .inr q ∧ (∃ (y : CI) (ce : Cell), ct (hC x.2 q) = some y ∧ B.U.heap[q]? = some ce ∧ ce.vm = .none ∧ A.U.vm.findClass y.1 = some ce.cls) ∧ HRel s0 D x.2 B.U.heap ∧ hG x.2 = hG S ∧ (B.cells = A.cells + (hN x.2 - hN S) ∧ B.slots = A.slots + (hU x.2 - hU S) ∧ hN S ≤ hN x.2 ∧ hU S ≤ hU x.2) ∧ ∃ L, B.locs = A.locs ++ L ∧ ∀ z ∈ L, s0.heap.size ≤ z.base
section Bk
variable {l : Launch} {R : Room} {p : Program} {e : Env} {below : List Frame} {s : State} {sargs : Array Value} {y : MethodName} {len W9 : Nat}
theorem my_back {s0 : State} {D : Dt} {S : SS} {ws : List Cond} {d maxL : Nat} {f : Dec} {as : List V} {x : RV × SS} (hM : Mt l s0 D y ws d f) (hf : f as S = some x) (hframes : d + 1 ≤ R.frames) (hlocals : W9 + (maxL + 11) + 64 * d ≤ R.locals) (hc : Cal s y ws maxL) :
    vx_Back l R p e below s sargs y len W9 (PreN s0 D S d R as) (PostN s0 D S x) (PostX s0 D S x) := by
  intro m meth c A g ig mk a X hg hsize hdg hW hn hp
  have h1 : (headSpec ws (rmO d S)).pre.before a A.U = true := atoms_intro fun w hw => hc.1 w hw _ _ X.warmed
  obtain ⟨mk', methY, cY, hn', hmY, hcY, hlY, -⟩ := hc.2.1 _ X.warmed
  cases hn.symm.trans hn'
  have h3 : (Cond.initialized y.cls).before a A.U = true := hc.2.2 _ _ X.warmed
  have h4 : A.cells + (headSpec ws (rmO d S)).room.cells ≤ R.cells := hp.2.1
  have h5 : A.slots + (headSpec ws (rmO d S)).room.slots ≤ R.slots := hp.2.2
  have hPc : PO s0 D S as a (A.U.calling g mk a) := hp.1.blind
  obtain ⟨U, Ls, c0, s00⟩ := A
  dsimp only [Pt.U, Pt.locs, Pt.cells, Pt.slots] at h1 h3 h4 h5 X hn hPc hmY ⊢
  obtain ⟨kY, hkY, -⟩ := className_of_methodNamed hn
  have hinitY : kY.init = .initialized := Cond.initialized_spec (findClass_of_methodNamed hn) hkY h3
  have h : At U g.method c below := by rw [hg]; exact X.here
  have hlocals9 : W9 + (maxL + 11) + (headSpec ws (rmO d S)).room.locals ≤ R.locals := hlocals
  have happ : (headSpec ws (rmO d S)).appliesLoose y e.platform (U.calling g mk a) = true :=
    Spec.appliesLoose_calling (g := g) h hdg hn hkY hinitY
      (X.room_calling (g := g) (R' := (headSpec ws (rmO d S)).room) hsize hmY hcY hframes (by rw [hlY]; omega) h4 h5) h1
  obtain ⟨mid, hmid⟩ := h.above
  have hfr : (U.setTop g).frames = (.java g :: mid) ++ below := by rw [State.frames_setTop' g h.top, hmid]; rfl
  obtain ⟨o, s₂, hsteps, -, hend, hq⟩ := Steps.callFree (hM as S x hf) p X.admits X.cas X.clock (acts := []) hfr happ hPc trivial
  have hq' : EndO s0 D S x (U.calling g mk a) o s₂ := hq
  rw [State.frames_setTop' g h.top] at hend
  obtain ⟨g₀, hg0⟩ := Option.isSome_iff_exists.mp h.top
  obtain ⟨r, hr⟩ := State.topJava?_eq_some.mp hg0
  have hr' : (({ U with heap := s₂.heap, slotsUsed := s₂.slotsUsed } : State).setVm s₂.vm).frames = .java g₀ :: r := hr
  obtain ⟨hres, hH, hGG, hinv, hW₂, hmn, L, hsm, hL⟩ := hq'
  obtain ⟨e2, q2, q3, q4, q5, q6⟩ := id hsm
  have e3 : s₂ = ({ (U.calling g mk a).setFrames s₂.frames with heap := s₂.heap, slotsUsed := s₂.slotsUsed } : State).setVm s₂.vm := by
    have : s₂ = ({ s₂ with vm := (U.calling g mk a).vm } : State).setVm s₂.vm := rfl
    rw [e2] at this
    exact this
  have hW' : U.WarmedH s₂.vm := hW₂
  have hsame : U.sameButNew ({ U with heap := s₂.heap, slotsUsed := s₂.slotsUsed } : State) L (hN x.2 - hN S) (hU x.2 - hU S) := by
    refine ⟨?_, q2, q3, q4, q5, q6⟩
    obtain ⟨t, ht, -⟩ := State.frames_cons hr
    show ({ U with heap := s₂.heap, slotsUsed := s₂.slotsUsed } : State) = { U.setFrames U.frames with heap := s₂.heap, slotsUsed := s₂.slotsUsed }
    rw [State.setFrames_self ht]
  cases hx : x.1 with
  | inl v' =>
    rw [hx] at hres
    dsimp only at hres
    subst hres
    obtain ⟨c₂, i₂, len₂, hc₂, hd₂, hf₂⟩ := hend
    have hcc : c₂ = c := by
      have h1 : s₂.code? g.method = U.code? g.method := by
        rw [State.code?_eq, State.code?_eq, hW'.alike.method?]
      exact Option.some.inj (hc₂.symm.trans (h1.trans h.code))
    subst hcc
    have hlen : len₂ = len := by rw [hdg] at hd₂; cases hd₂; rfl
    subst hlen
    have hs₂ : s₂ = (({ U with heap := s₂.heap, slotsUsed := s₂.slotsUsed } : State).setVm s₂.vm).setTop { g with pc := g.pc + len₂, stack := (v'.map tv).toList ++ g.stack } := by
      refine e3.trans ?_
      rw [hf₂, State.calling_eq h.top, State.setFrames_setFrames, State.setTop_of_frames _ hr', hr]
      rfl
    subst hg
    refine Or.inl ⟨v'.map tv, ⟨(({ U with heap := s₂.heap, slotsUsed := s₂.slotsUsed } : State).setVm s₂.vm), Ls ++ L, c0 + (hN x.2 - hN S), s00 + (hU x.2 - hU S)⟩,
      ⟨X.admits, X.cas, X.clock, X.frames, X.room, X.hears, X.method, X.code, (X.here.setHeapUsed s₂.heap s₂.slotsUsed).setVm hW'.alike, X.tail, State.WarmedH.trans X.warmed hW', X.limits, X.bytes, X.same.trans (hsame.setVm s.vm)⟩,
      ⟨v', hx, rfl, hinv v' hx, hH, hGG, ⟨rfl, rfl, hmn.1, hmn.2⟩, L, rfl, hL⟩, ?_⟩
    show Steps p.tables e below _ ((({ U with heap := s₂.heap, slotsUsed := s₂.slotsUsed } : State).setVm s₂.vm).setTop { g with pc := g.pc + len₂, stack := (v'.map tv).toList ++ g.stack })
    rw [← hs₂]
    exact hsteps
  | inr q =>
    rw [hx] at hres
    dsimp only at hres
    obtain ⟨rfl, yE, ce, hct, hce, hcv, hcl⟩ := hres
    have hf₂ : s₂.frames = .throwing q :: .java g :: U.frames.tail := hend
    have hs₂ : s₂ = ((({ U with heap := s₂.heap, slotsUsed := s₂.slotsUsed } : State).setVm s₂.vm).setTop g).pushFrame (.throwing q) := by
      refine e3.trans ?_
      rw [hf₂, State.calling_eq h.top, State.setFrames_setFrames, State.pushFrame, State.frames_setTop _ hr', State.setTop_of_frames _ hr', State.setFrames_setFrames, hr]
      rfl
    subst hg
    refine Or.inr ⟨q, ⟨(({ U with heap := s₂.heap, slotsUsed := s₂.slotsUsed } : State).setVm s₂.vm), Ls ++ L, c0 + (hN x.2 - hN S), s00 + (hU x.2 - hU S)⟩,
      ⟨X.admits, X.cas, X.clock, X.frames, X.room, X.hears, X.method, X.code, (X.here.setHeapUsed s₂.heap s₂.slotsUsed).setVm hW'.alike, X.tail, State.WarmedH.trans X.warmed hW', X.limits, X.bytes, X.same.trans (hsame.setVm s.vm)⟩,
      ⟨hx, ⟨yE, ce, hct, hce, hcv, hcl⟩, hH, hGG, ⟨rfl, rfl, hmn.1, hmn.2⟩, L, rfl, hL⟩, ?_⟩
    show Steps p.tables e below _ (((({ U with heap := s₂.heap, slotsUsed := s₂.slotsUsed } : State).setVm s₂.vm).setTop g).pushFrame (.throwing q))
    rw [← hs₂]
    exact hsteps
end Bk
section G5
variable {p : Program} {l : Launch} {e : Env} {R : Room} {s : State} {m : MethodId} {args : Array Value} {below : List Frame} {meth : Method} {c : Code} {s0 : State} {D : Dt} {S0 : SS} {nL d : Nat} {cc : ByteArray} {own : String} {ret : Option FieldType} {x : RV × SS} {pc : Nat}
/-- the counts behind a call -/
theorem stand_counts {T : State} {locs : List Loc} {k n k' n' : Nat} (X : Stand p l e R s m args below meth c T locs k' n') {S S1 : SS} (hk : k = hN S - hN S0) (hn : n = hU S - hU S0) (h0 : hN S0 ≤ hN S) (hu : hU S0 ≤ hU S) (hc : k' = k + (hN S1 - hN S) ∧ n' = n + (hU S1 - hU S) ∧ hN S ≤ hN S1 ∧ hU S ≤ hU S1) : Stand p l e R s m args below meth c T locs (hN S1 - hN S0) (hU S1 - hU S0) ∧ hU S0 ≤ hU S1 ∧ s.heap.size ≤ T.heap.size := by
  obtain ⟨e1, e2, e3, e4⟩ := hc
  have q1 : k' = hN S1 - hN S0 := by omega
  have q2 : n' = hU S1 - hU S0 := by omega
  subst q1
  subst q2
  exact ⟨X, by omega, X.same.2.1⟩
/-- behind a call -/
theorem call_fin (C : Cx p l R s m args meth c s0 D S0 nL d cc own ret) {S : SS} {H : Heap} {locs : List Loc} {ls : Array Slot} {lv st : List V} {x1 : RV × SS} {len : Nat} {g : JFrame} (h3 : ∀ q ∈ locs, s0.heap.size ≤ q.base) (h4 : Lv ls nL lv) (h5 : inVs lv) (h6 : inVs st) (h7 : hG S = hG S0 ∧ hU S0 ≤ hU S) {k n : Nat} (hk0 : k = hN S - hN S0) (hn0 : n = hU S - hU S0) (h0 : hN S0 ≤ hN S) {a : Array Value} (hg : g = F0 m pc ls g.stack)
    (hcall : ∀ T : State, T.heap = H → Stand p l e R s m args below meth c T locs k n →
      (∃ (v : Option Value) (vm₁ : Vm) (B : Pt), s.WarmedH vm₁ ∧ Stand p l e R s m args below meth c B.U B.locs B.cells B.slots ∧ PostN s0 D S x1 ⟨T.setVm vm₁, locs, k, n⟩ a v B ∧ ∀ target, Steps p.tables e below (B.U.setTop { g with pc := g.pc + len, stack := v.toList ++ st.map tv }) target → Steps p.tables e below (T.setTop g) target) ∨
      (∃ (q : Addr) (vm₁ : Vm) (B : Pt), s.WarmedH vm₁ ∧ Stand p l e R s m args below meth c B.U B.locs B.cells B.slots ∧ PostX s0 D S x1 ⟨T.setVm vm₁, locs, k, n⟩ a q B ∧ Steps p.tables e below (T.setTop g) ((B.U.setTop { g with stack := st.map tv }).pushFrame (.throwing q))))
    (hk : ∀ v, x1.1 = .inl v → GG p l e R s m args below meth c s0 D S0 nL x x1.2 (pc + len) lv (v.toList ++ st)) (hx : ∀ q, x1.1 = .inr q → GT p l e R s m args below meth c s0 D S0 nL x x1.2 pc lv q) :
    W p l e R s m args below meth c H locs k n (QO s0 D S0 x below s) g := by
  intro T hT X
  rcases hcall T hT X with ⟨v, vm₁, B, w1, X', ⟨v', p1, p2, p3, p4, p5, pc9, L, p6, p7⟩, stp⟩ | ⟨q, vm₁, B, w1, X', ⟨p1, ⟨yE, ce, p2, p3, p3a, p3b⟩, p4, p5, pc9, L, p6, p7⟩, stp⟩
  · obtain ⟨Y, y1, y2⟩ := stand_counts X' hk0 hn0 h0 h7.2 pc9
    have hlo : ∀ z ∈ B.locs, s0.heap.size ≤ z.base := by
      rw [p6]
      intro z hz
      rcases List.mem_append.mp hz with h | h
      · exact h3 z h
      · exact p7 z h
    have hst : inVs (v'.toList ++ st) := by
      intro w hw
      rcases List.mem_append.mp hw with h | h
      · exact p3 w (Option.mem_toList.mp h)
      · exact h6 w h
    obtain ⟨t, a1, b1⟩ := hk v' p1 B.U.heap B.locs ls p4 y2 hlo h4 h5 hst ⟨p5.trans h7.1, y1⟩ B.U rfl Y
    refine ⟨t, stp t ?_, b1⟩
    have e1 : ({ g with pc := g.pc + len, stack := v.toList ++ st.map tv } : JFrame) = F0 m (pc + len) ls ((v'.toList ++ st).map tv) := by
      rw [hg, p2, List.map_append]
      cases v' <;> rfl
    rw [e1]
    exact a1
  · obtain ⟨Y, y1, y2⟩ := stand_counts X' hk0 hn0 h0 h7.2 pc9
    have hlo : ∀ z ∈ B.locs, s0.heap.size ≤ z.base := by
      rw [p6]
      intro z hz
      rcases List.mem_append.mp hz with h | h
      · exact h3 z h
      · exact p7 z h
    obtain ⟨t, a1, b1⟩ := hx q p1 B.U.heap B.locs ls (st.map tv) p4 y2 hlo h4 h5 ⟨p5.trans h7.1, y1⟩ ⟨yE, ce, p2, p3, p3a, vx_cls w1 p3b⟩ B.U rfl Y
    refine ⟨t, stp.trans ?_, b1⟩
    have e1 : ({ g with stack := st.map tv } : JFrame) = F0 m pc ls (st.map tv) := by rw [hg]
    rw [e1]
    exact a1
/-- the room that a call needs -/
theorem call_room (C : Cx p l R s m args meth c s0 D S0 nL d cc own ret) {S : SS} {H : Heap} (h1 : HRel s0 D S H) (h2 : s.heap.size ≤ H.size) (h7 : hG S = hG S0 ∧ hU S0 ≤ hU S) {d' : Nat} : hN S - hN S0 + (rmO d' S).cells ≤ R.cells ∧ hU S - hU S0 + (rmO d' S).slots ≤ R.slots := by
  rw [C.rm]
  have a := h1.1
  have b := C.hr.1
  have c1 := h1.2.2.2.2.2.2.2.1
  have c2 := h1.2.2.2.2.2.2.2.2
  constructor
  · show _ + (hG S 0 + LC - hN S) ≤ hG S0 0 + LC - hN S0
    rw [← h7.1]; omega
  · show _ + (LU - hU S) ≤ LU - hU S0
    have := h7.2; omega
theorem cal_code (C : Cx p l R s m args meth c s0 D S0 nL d cc own ret) {y : MethodName} {b : ByteArray} {maxL : Nat} {r : Option FieldType} (hc : Cond.code y b maxL r ∈ lw_all) (hi : Cond.initialized y.cls ∈ lw_all) : Cal s y (ws_ y b maxL r) maxL := by
  have hgood : ∀ w ∈ ws_ y b maxL r, ∀ (a' : Array Value) (U : State), s.WarmedH U.vm → w.before a' U = true := fun w hw a' U hW => by
    obtain ⟨h1, h2⟩ := lw_meth hc w hw
    exact word_at hW h2 (C.ts h1)
  refine ⟨hgood, fun U hW => ?_, fun a' U hW => hgood _ (List.mem_cons_of_mem _ hi) a' U hW⟩
  have hcode := hgood _ List.mem_cons_self #[] U hW
  obtain ⟨mk, hnamed⟩ := Cond.code_named hcode
  obtain ⟨methM, cM, h1, h2, h3, h4, h5, h6, h7, h8⟩ := Cond.code_spec hnamed hcode
  exact ⟨mk, methM, cM, hnamed, h1, h2, h4, h8⟩
theorem cal_codeW (C : Cx p l R s m args meth c s0 D S0 nL d cc own ret) {y : MethodName} {b : ByteArray} {maxL : Nat} {r : Option FieldType} {hh : List (Nat × Nat × Nat × Nat)} (hc : Cond.codeWith y b maxL r hh ∈ lw_all) (hi : Cond.initialized y.cls ∈ lw_all) : Cal s y (wsW_ y b maxL r hh) maxL := by
  have hgood : ∀ w ∈ wsW_ y b maxL r hh, ∀ (a' : Array Value) (U : State), s.WarmedH U.vm → w.before a' U = true := fun w hw a' U hW => by
    obtain ⟨h1, h2⟩ := lw_methW hc w hw
    exact word_at hW h2 (C.ts h1)
  refine ⟨hgood, fun U hW => ?_, fun a' U hW => hgood _ (List.mem_cons_of_mem _ hi) a' U hW⟩
  have hcode := hgood _ List.mem_cons_self #[] U hW
  obtain ⟨mk, methM, cM, h0, h1, h2, h3, h4, h5, h6, h7, h8⟩ := Cond.codeWith_spec hcode
  exact ⟨mk, methM, cM, h0, h1, h2, h4, h8⟩
end G5
