/-! PRIVATE METHODS OF A SUPERCLASS; HANDLERS; BODIES -/
set_option maxRecDepth 100000
section G7
variable {p : Program} {l : Launch} {e : Env} {R : Room} {s : State} {m : MethodId} {args : Array Value} {below : List Frame} {meth : Method} {c : Code} {s0 : State} {D : Dt} {S0 : SS} {nL d : Nat} {cc : ByteArray} {own : String} {ret : Option FieldType} {x : RV × SS} {pc : Nat}
theorem inv_P (C : Cx p l R s m args meth c s0 D S0 nL d cc own ret) {idx n maxL kc : Nat} {y : MethodName} {z : CI} {ws : List Cond} {f : Dec} (hd : decode cc pc = .ok (.invokevirtual idx, 3)) (hl : Cond.methodLink own idx y ∈ lw_all) (hs : Cond.instanceMethod y ∈ lw_all) (hsm : Cond.sameMethod y.cls y.cls y.name y.desc ∈ lw_all) (hpr : Cond.privateMethod y ∈ lw_tbl) (hz : ct kc = some z) (ht : Tgt l s0 D s d y ws maxL n f) : InvG p l e R s m args below meth c s0 D nL pc (Rc kc) (n + 1) 3 f := by
  intro as rest S x1 locs ls k i T h1 h2 hG h3 h4 h5 h6 h7 h8 X
  obtain ⟨Pre, hK, hpre⟩ := tgt_back (e := e) (below := below) (p := p) (len := 3) (locs := locs) C ht h2 h4 h7 h8
  have hy := tgt_mh ht
  obtain ⟨b, as', rfl, hb⟩ := hG
  rw [← hb] at hz
  obtain ⟨cellB, kB, hcell, hobj, hcls, hkB⟩ := rc_cell C h3 hz
  have hst : ((vR (some b) :: as').map tv).reverse ++ rest = (as'.map tv).reverse ++ .ref b :: rest := by simp [tv, va_rf]
  rw [hst]
  have hdg : decode c.code (F0 m pc ls ((as'.map tv).reverse ++ .ref b :: rest)).pc = .ok (.invokevirtual idx, 3) := by rw [C.by]; exact hd
  have hsz : (F0 m pc ls ((as'.map tv).reverse ++ .ref b :: rest)).locals.size = c.maxLocals := by rw [C.2.2.1]; exact h6
  obtain ⟨mk, methM, hnamed, hmethM, hstM, habM⟩ := Cond.instanceMethod_spec (C.ts hs)
  obtain ⟨mk', methM', cM, hn', hm', -, -, hsigM⟩ := tgt_cd ht
  cases hnamed.symm.trans hn'
  cases hmethM.symm.trans hm'
  have hlen : (as'.map tv).length = methM.sig.parameters.length := by rw [List.length_map, ← tgt_len ht _ hsigM]; simpa using h1
  obtain ⟨cn, ck, r1, hcn, hck, hni, hfn, hn1⟩ := Cond.sameMethod_found (C.ts hsm)
  have hn1' : s.methodNamed? y = some r1 := hn1
  cases hnamed.symm.trans hn1'
  have hcm : cn = mk.cls := Option.some.inj (hcn.symm.trans (findClass_of_methodNamed hnamed))
  subst hcm
  have hp0 : (Cond.privateMethod y).before #[] (s0.setVm s.vm) = true := by
    rw [Cond.privateMethod_setVm C.wm.alike]; exact C.wd.1 _ hpr
  have hpv : s.PrivateAt y := Cond.privateMethod_at (args := #[]) (va_tabs rfl (rfl : (s0.setVm s.vm).vm = s.vm) hp0)
  have hselP : selectMethod e.platform s.vm cellB.cls mk = .method mk := selectMethod_private hmethM (hpv mk methM hnamed hmethM)
  obtain ⟨vm₁, X₁, hstep₁⟩ := X.invokevirtual C.ex C.ow (C.ts hl) hnamed hmethM hstM hck hni hy (a := b) (cell := cellB) hcell
    (fun z h => by rw [h] at hobj; cases hobj) hselP hmethM habM hck hni (g := F0 m pc ls ((as'.map tv).reverse ++ .ref b :: rest)) rfl (argsL := as'.map tv) (rest := rest) hlen rfl hdg
  rcases hK m meth c ⟨T.setVm vm₁, locs, k, i⟩ { F0 m pc ls ((as'.map tv).reverse ++ .ref b :: rest) with stack := rest } (.invokevirtual idx) mk _ X₁ rfl hsz hdg (lv_room h5) (X₁.named hnamed) (hpre T vm₁ h3 X₁.warmed) with ⟨v, B, X', hpost, hsteps⟩ | ⟨q, B, X', hpost, hsteps⟩
  · exact Or.inl ⟨v, vm₁, B, X₁.warmed, X', hpost, fun target h => hstep₁ _ fun acts => by rw [doInvoke_state]; exact hsteps.trans h⟩
  · exact Or.inr ⟨q, vm₁, B, X₁.warmed, X', hpost, hstep₁ _ fun acts => by rw [doInvoke_state]; exact hsteps⟩
theorem sn_objInit (C : Cx p l R s m args meth c s0 D S0 nL d cc own ret) {idx : Nat} (hd : decode cc pc = .ok (.invokespecial idx, 3)) (hl : Cond.methodLink own idx objectInit ∈ lw_all) (hs : Cond.instanceMethod objectInit ∈ lw_all) (hc : Cond.code objectInit ⟨#[0xb1]⟩ 1 none ∈ lw_all) (h1d : 1 ≤ d) : Snd p l e R s m args below meth c s0 D S0 nL x pc (i_call 1 o_init (pc + 3)) := by
  intro lv st S o ho hk
  unfold i_call at ho
  cases hb : (Nat.ble 1 st.length && room8 (st.drop 1)) with
  | false => rw [hb] at ho; cases ho
  | true =>
    rw [hb] at ho
    rw [Bool.and_eq_true] at hb
    have hrm : ((st.drop 1).map vcat).sum ≤ 8 := Nat.ble_eq.mp hb.2
    match st, ho, hb, hrm with
    | [], ho, hb, hrm => cases hb.1
    | v :: st, ho, hb, hrm =>
      have ho' : (match o_init [v] S with
        | none => none
        | some (.inl v, S') => nx (pc + 3) lv (v.toList ++ st) S'
        | some (.inr a, S') => some (.inr (.inr (a, S')))) = some o := ho
      clear ho
      unfold o_init at ho'
      split at ho'
      · rename_i q1 q2
        split at q2
        · cases q2
        · cases ho'
      · rename_i v' S' q2
        split at q2
        · rename_i a q3
          cases q2
          cases q3
          rw [nx_some ho'] at hk
          intro H locs ls h1 h2 h3 h4 h5 h6 h7
          refine W.objInit C.ex C.by C.ow (C.ts hl) (C.ts hs) (C.ts hc) (g := F0 m pc ls (.ref a :: st.map tv)) rfl (h4.1.trans C.2.2.1.symm) rfl hd ?_ ?_ (hk H locs ls h1 h2 h3 h4 h5 (inVs_cons.mp h6).2 h7)
          · rw [C.rm]; exact h1d
          · rw [C.rm]
            show 2 * 0 + ((st.map tv).map fun v => v.category).sum + 12 ≤ 64 * d
            have : ((st.map tv).map fun v => v.category).sum ≤ 8 := by rw [map_cat]; exact hrm
            omega
        · cases q2
      · rename_i q2
        split at q2 <;> cases q2
/-! handlers -/
/-- a handler's row sends on: it doesn't cover, or it names a class that the thrown one isn't -/
def HPass (own : String) (s0 : State) (pc : Nat) (E : String) (z : ExceptionTableEntry) : Prop := covers z pc = false ∨ (z.catchType ≠ 0 ∧ ∃ nm : String, Cond.classLink own z.catchType nm ∈ lw_all ∧ va_Nc E nm s0)
theorem gt_out (C : Cx p l R s m args meth c s0 D S0 nL d cc own ret) {S : SS} {lv : List V} {a : Nat} (hp : ∀ y : CI, ct (hC S a) = some y → ∀ z ∈ c.exceptionTable.toList, HPass own s0 pc y.1 z) (hx : x = (.inr a, S)) : GT p l e R s m args below meth c s0 D S0 nL x S pc lv a := by
  intro H locs ls rest h1 h2 h3 h4 h5 h7 ⟨y, ce, hy, hce, hv, hcl⟩
  intro T hT X
  have hpl : e.platform.magicAccessors = ({} : Platform).magicAccessors := by rw [X.admits.platform]
  obtain ⟨vm', hW', X', st⟩ := X.outThrough C.lk a (g := F0 m pc ls rest) rfl rfl rfl (cell := ce) (by rw [hT]; exact hce) (by rw [hv]; rfl)
    (by obtain ⟨k9, h9, -⟩ := Vm.findClass_spec hcl; exact ⟨k9, h9⟩) (fun z hz => by
      rcases hp y hy z hz with h | ⟨hz0, nm, hl1, hn1⟩
      · exact Or.inl h
      · obtain ⟨c6, hc6, hcl6⟩ := Cond.classLink_spec C.ow (C.ts hl1) e.platform hpl
        obtain ⟨a8, b8, g1, g2, g3⟩ := hn1.moved C.wm.alike
        cases Option.some.inj (g1.symm.trans hcl)
        cases Option.some.inj (g2.symm.trans hc6)
        exact Or.inr ⟨hz0, _, hcl6, g3⟩)
  obtain ⟨g₀, hfr⟩ := X'.frames_eq
  have hend : Ended ((T.setVm vm').setFrames (.throwing a :: below)) below (.threw a) := State.frames_setFrames _ (State.cur_lt_of_frames hfr)
  subst hx
  refine ⟨(T.setVm vm').setFrames (.throwing a :: below), ?_, .threw a, X'.here.running, hend, ⟨rfl, y, ce, hy, ?_, hv, hcl⟩, ?_, h7.1, fun v e => ?_, (X'.ends _).1, ⟨by show hN S0 ≤ hN S; rw [← h1.1, ← C.hr.1]; exact h2, h7.2⟩, locs, (X'.ends _).2, h3⟩
  · rw [X.pushThrowing_eq]
    exact st
  · show T.heap[a]? = some ce
    rw [hT]; exact hce
  · show HRel s0 D S T.heap
    rw [hT]; exact h1
  · cases e
theorem gt_catch (C : Cx p l R s m args meth c s0 D S0 nL d cc own ret) {S : SS} {lv : List V} {a : Nat} {pre suf : List ExceptionTableEntry} {xe : ExceptionTableEntry} {nm : String} (hsplit : c.exceptionTable.toList = pre ++ xe :: suf) (hp : ∀ y : CI, ct (hC S a) = some y → ∀ z ∈ pre, HPass own s0 pc y.1 z) (hcv : covers xe pc = true) (h0 : xe.catchType ≠ 0) (hl : Cond.classLink own xe.catchType nm ∈ lw_all) (hca : CanC (hC S a) nm) (kk : GG p l e R s m args below meth c s0 D S0 nL x S xe.handlerPc lv [vR (some a)]) : GT p l e R s m args below meth c s0 D S0 nL x S pc lv a := by
  intro H locs ls rest h1 h2 h3 h4 h5 h7 ⟨y, ce, hy, hce, hv, hcl⟩
  intro T hT X
  have hpl : e.platform.magicAccessors = ({} : Platform).magicAccessors := by rw [X.admits.platform]
  obtain ⟨cell, kv, t, v1, v2, v3, v4, v5, v6, -⟩ := can_asg C h1 hca
  cases hce.symm.trans v1
  obtain ⟨c5, hc5, hcl5⟩ := Cond.classLink_spec C.ow (C.ts hl) e.platform hpl
  cases Option.some.inj (v5.symm.trans hc5)
  obtain ⟨vm', X', st⟩ := X.thenCaughtThrough a (g := F0 m pc ls rest) rfl (Steps.refl _) (by rw [hT]; exact hce) (by rw [hv]; rfl) ⟨kv, v4⟩ pre xe suf hsplit
    (fun z hz => by
      rcases hp y hy z hz with h | ⟨hz0, nm, hl1, hn1⟩
      · exact Or.inl h
      · obtain ⟨c6, hc6, hcl6⟩ := Cond.classLink_spec C.ow (C.ts hl1) e.platform hpl
        obtain ⟨a8, b8, g1, g2, g3⟩ := hn1.moved C.wm.alike
        cases Option.some.inj (g1.symm.trans hcl)
        cases Option.some.inj (g2.symm.trans hc6)
        exact Or.inr ⟨hz0, _, hcl6, g3⟩) hcv (Or.inr ⟨h0, _, hcl5, v6⟩)
  obtain ⟨t', a1, b1⟩ := kk H locs ls h1 h2 h3 h4 h5 (inVs_cons.mpr ⟨trivial, inVs_nil⟩) h7 (T.setVm vm') hT X'
  exact ⟨t', st.trans a1, b1⟩
/-- a handler of every class -/
theorem gt_catchAny (C : Cx p l R s m args meth c s0 D S0 nL d cc own ret) {S : SS} {lv : List V} {a : Nat} {pre suf : List ExceptionTableEntry} {xe : ExceptionTableEntry} (hsplit : c.exceptionTable.toList = pre ++ xe :: suf) (hp : ∀ y : CI, ct (hC S a) = some y → ∀ z ∈ pre, HPass own s0 pc y.1 z) (hcv : covers xe pc = true) (h0 : xe.catchType = 0) (kk : GG p l e R s m args below meth c s0 D S0 nL x S xe.handlerPc lv [vR (some a)]) : GT p l e R s m args below meth c s0 D S0 nL x S pc lv a := by
  intro H locs ls rest h1 h2 h3 h4 h5 h7 ⟨y, ce, hy, hce, hv, hcl⟩
  intro T hT X
  have hpl : e.platform.magicAccessors = ({} : Platform).magicAccessors := by rw [X.admits.platform]
  obtain ⟨kv, v4, -⟩ := Vm.findClass_spec hcl
  obtain ⟨vm', X', st⟩ := X.thenCaughtThrough a (g := F0 m pc ls rest) rfl (Steps.refl _) (by rw [hT]; exact hce) (by rw [hv]; rfl) ⟨kv, v4⟩ pre xe suf hsplit
    (fun z hz => by
      rcases hp y hy z hz with h | ⟨hz0, nm, hl1, hn1⟩
      · exact Or.inl h
      · obtain ⟨c6, hc6, hcl6⟩ := Cond.classLink_spec C.ow (C.ts hl1) e.platform hpl
        obtain ⟨a8, b8, g1, g2, g3⟩ := hn1.moved C.wm.alike
        cases Option.some.inj (g1.symm.trans hcl)
        cases Option.some.inj (g2.symm.trans hc6)
        exact Or.inr ⟨hz0, _, hcl6, g3⟩) hcv (Or.inl h0)
  obtain ⟨t', a1, b1⟩ := kk H locs ls h1 h2 h3 h4 h5 (inVs_cons.mpr ⟨trivial, inVs_nil⟩) h7 (T.setVm vm') hT X'
  exact ⟨t', st.trans a1, b1⟩
/-- the table of handlers is sound -/
def HOk (p : Program) (l : Launch) (e : Env) (R : Room) (s : State) (m : MethodId) (args : Array Value) (below : List Frame) (meth : Method) (c : Code) (s0 : State) (D : Dt) (S0 : SS) (nL : Nat) (x : RV × SS) (hand : Hand) : Prop :=
  (∀ (pc : Nat) (S : SS) (lv : List V) (a : Nat), hand pc (hC S a) = some none → x = (.inr a, S) → GT p l e R s m args below meth c s0 D S0 nL x S pc lv a) ∧
  ∀ (pc hp : Nat) (S : SS) (lv : List V) (a : Nat), hand pc (hC S a) = some (some hp) → GG p l e R s m args below meth c s0 D S0 nL x S hp lv [vR (some a)] → GT p l e R s m args below meth c s0 D S0 nL x S pc lv a
theorem hok_no (C : Cx p l R s m args meth c s0 D S0 nL d cc own ret) (ht : ∀ z ∈ c.exceptionTable.toList, False) : HOk p l e R s m args below meth c s0 D S0 nL x h_no :=
  ⟨fun pc S lv a _ hx => gt_out C (fun y _ z hz => (ht z hz).elim) hx, fun pc hp S lv a h => by cases h⟩
theorem run_snd {code : Nat → Sem} {hand : Hand} (hc : ∀ pc, Snd p l e R s m args below meth c s0 D S0 nL x pc (code pc)) (hh : HOk p l e R s m args below meth c s0 D S0 nL x hand) : ∀ (f pc : Nat) (lv st : List V) (S : SS), run code hand f pc lv st S = some x → GG p l e R s m args below meth c s0 D S0 nL x S pc lv st := by
  intro f
  induction f with
  | zero => intro pc lv st S h; simp [run] at h
  | succ f ih =>
    intro pc lv st S h
    simp only [run] at h
    split at h
    · cases h
    · rename_i pc' lv' st' S' ho
      exact hc pc lv st S _ ho (ih _ _ _ _ h)
    · rename_i v S' ho
      exact hc pc lv st S _ ho (Option.some.inj h).symm
    · rename_i a S' ho
      refine hc pc lv st S _ ho ?_
      split at h
      · cases h
      · rename_i hhd
        exact hh.1 pc S' lv a hhd (Option.some.inj h).symm
      · rename_i hp hhd
        exact hh.2 pc hp S' lv a hhd (ih _ _ _ _ h)
end G7
theorem ent_lg (as : List V) : (lg_sl (as.map tv)).length = (ent1 as).length ∧ ∀ (i : Nat) (v : V), (ent1 as)[i]? = some v → isU v = false → (lg_sl (as.map tv))[i]? = some (.val (tv v)) := by
  induction as with
  | nil => exact ⟨rfl, fun i v h => by simp [ent1] at h⟩
  | cons w as ih =>
    have e : lg_sl ((w :: as).map tv) = (if (tv w).category = 2 then [.val (tv w), .second] else [.val (tv w)]) ++ lg_sl (as.map tv) := rfl
    rw [e, tv_cat]
    unfold ent1
    by_cases hc : vcat w = 2
    · rw [if_pos hc, hc]
      refine ⟨by show _ = (w :: vU :: ent1 as).length; simp [ih.1], fun i v hv hu => ?_⟩
      have hv' : (w :: vU :: ent1 as)[i]? = some v := hv
      match i, hv' with
      | 0, hv' => cases hv'; rfl
      | 1, hv' => cases hv'; cases hu
      | i + 2, hv' => exact ih.2 i v hv' hu
    · have hb : Nat.beq (vcat w) 2 = false := by
        cases hq : Nat.beq (vcat w) 2 with
        | false => rfl
        | true => exact absurd (Nat.eq_of_beq_eq_true hq) hc
      rw [if_neg hc, hb]
      refine ⟨by show _ = (w :: ent1 as).length; simp [ih.1], fun i v hv hu => ?_⟩
      have hv' : (w :: ent1 as)[i]? = some v := hv
      match i, hv' with
      | 0, hv' => cases hv'; rfl
      | i + 1, hv' => exact ih.2 i v hv' hu
theorem ent_Lv (as : List V) {n : Nat} (h : (ent1 as).length ≤ n) : Lv ((lg_sl (as.map tv) ++ List.replicate (n - (lg_sl (as.map tv)).length) Slot.unset).toArray) n (ent n as) := by
  obtain ⟨h1, h2⟩ := ent_lg as
  obtain ⟨e1, e2, -⟩ := lv_entry (as.map tv) (n := n) (by rw [h1]; exact h)
  refine ⟨e1, e2, by simp [ent]; omega, fun i v hv hu => ?_⟩
  unfold ent at hv
  have hi : i < (ent1 as).length := by
    rcases Nat.lt_or_ge i (ent1 as).length with q | q
    · exact q
    · rw [List.getElem?_append_right q, List.getElem?_replicate] at hv
      split at hv
      · cases hv; cases hu
      · cases hv
  rw [List.getElem?_append_left hi] at hv
  rw [List.getElem?_toArray, List.getElem?_append_left (by rw [h1]; exact hi)]
  exact h2 i v hv hu
theorem inVs_ent {as : List V} (h : inVs as) (n : Nat) : inVs (ent n as) := by
  have h1 : inVs (ent1 as) := by
    induction as with
    | nil => exact inVs_nil
    | cons w as ih =>
      unfold ent1
      obtain ⟨a, b⟩ := inVs_cons.mp h
      cases Nat.beq (vcat w) 2
      · exact inVs_cons.mpr ⟨a, ih b⟩
      · exact inVs_cons.mpr ⟨a, inVs_cons.mpr ⟨trivial, ih b⟩⟩
  intro v hv
  rcases List.mem_append.mp hv with q | q
  · exact h1 v q
  · rw [(List.mem_replicate.mp q).2]; trivial
/-- a method without handlers, by its instructions -/
theorem Mt_of {l : Launch} {s0 : State} {D : Dt} (hw : Wd s0 D) (hfl : l.flags = flags0) {y : MethodName} {cc : ByteArray} {nL d : Nat} {ret : Option FieldType} {code : Nat → Sem} (hy : plainFor y = true)
    (hs : ∀ (p : Program) (e : Env) (R : Room) (s : State) (m : MethodId) (args : Array Value) (below : List Frame) (meth : Method) (c : Code) (S0 : SS) (x : RV × SS), Cx p l R s m args meth c s0 D S0 nL d cc y.cls ret → meth.name = y.name → ∀ pc, Snd p l e R s m args below meth c s0 D S0 nL x pc (code pc)) : Mt l s0 D y (ws_ y cc nL ret) d (dec code h_no nL) := by
  intro as S x hx
  refine MetFree.of_bodySF (code := cc) (maxLocals := nL) (ret := ret) hy ?_ ?_
  · intro args s m h hn
    obtain ⟨meth, c, h1, h2, h3, h4, h5, h6, -, -⟩ := Cond.code_spec hn (atoms_spec (ws := ws_ y cc nL ret) h _ List.mem_cons_self)
    exact ⟨meth, c, h1, h2, h3, h4, h5, h6⟩
  · intro p e s m args below meth c s₁ B hml hP _
    obtain ⟨rfl, hwm, hH, hin⟩ := hP
    have hts := atoms_spec (ws := ws_ y cc nL ret) B.pre
    have hh0 : s₁.heap = s.heap := by rw [B.state]; rfl
    have ht : ∀ z ∈ c.exceptionTable.toList, False := by
      obtain ⟨meth9, c9, h1, h2, -, -, -, -, h7, -⟩ := Cond.code_spec B.named (hts _ List.mem_cons_self)
      cases Option.some.inj (h1.symm.trans B.method)
      cases Option.some.inj (h2.symm.trans (Stand.of_body B).code)
      intro z hz
      rw [Array.isEmpty_iff.mp h7] at hz
      cases hz
    have C : Cx p l (headSpec (ws_ y cc nL ret) (rmO d S)).room s m (as.map tv).toArray meth c s0 D S nL d cc y.cls ret :=
      ⟨B.exec, B.bytes, hml, findClass_of_methodNamed B.named, fun w hw => hts w (List.mem_cons_of_mem _ hw), hwm, B.notSynchronized, B.returns, hH, rfl, hw, hfl, hH.2.2.2.2.2.2.2.1, hH.2.2.2.2.2.2.2.2⟩
    obtain ⟨f, hf⟩ := dec_to hx
    have hg := run_snd (e := e) (below := below) (fun pc => hs p e _ s m _ below meth c S x C (name_of_methodNamed B.named B.method).1 pc) (hok_no C ht) f 0 (ent nL as) [] S hf
    have hw0 := hg s.heap [] _ hH (Nat.le_refl _) (fun q hq => by cases hq) (ent_Lv as (dec_len hx)) (inVs_ent hin nL) inVs_nil ⟨rfl, Nat.le_refl _⟩
    rw [Nat.sub_self, Nat.sub_self] at hw0
    obtain ⟨t, a1, o, b1, b2, b3⟩ := hw0 s₁ hh0 (Stand.of_body B)
    refine ⟨t, o, ?_, b1, b2, b3⟩
    rw [lg_entry_eq]
    exact a1
/-- a method with handlers -/
theorem MtW_of {l : Launch} {s0 : State} {D : Dt} (hw : Wd s0 D) (hfl : l.flags = flags0) {y : MethodName} {cc : ByteArray} {nL d : Nat} {ret : Option FieldType} {hh : List (Nat × Nat × Nat × Nat)} {code : Nat → Sem} {hand : Hand} (hy : plainFor y = true)
    (hs : ∀ (p : Program) (e : Env) (R : Room) (s : State) (m : MethodId) (args : Array Value) (below : List Frame) (meth : Method) (c : Code) (S0 : SS) (x : RV × SS), Cx p l R s m args meth c s0 D S0 nL d cc y.cls ret → meth.name = y.name → c.exceptionTable.toList = tableOf hh → (∀ pc, Snd p l e R s m args below meth c s0 D S0 nL x pc (code pc)) ∧ HOk p l e R s m args below meth c s0 D S0 nL x hand) : Mt l s0 D y (wsW_ y cc nL ret hh) d (dec code hand nL) := by
  intro as S x hx
  refine MetFree.of_bodySF (code := cc) (maxLocals := nL) (ret := ret) hy ?_ ?_
  · intro args s m h hn
    obtain ⟨m9, meth, c, hn9, h1, h2, h3, h4, -, h5, h6, -⟩ := Cond.codeWith_spec (atoms_spec (ws := wsW_ y cc nL ret hh) h _ List.mem_cons_self)
    cases hn.symm.trans hn9
    exact ⟨meth, c, h1, h2, h3, h4, h5, h6⟩
  · intro p e s m args below meth c s₁ B hml hP _
    obtain ⟨rfl, hwm, hH, hin⟩ := hP
    have hts := atoms_spec (ws := wsW_ y cc nL ret hh) B.pre
    have hh0 : s₁.heap = s.heap := by rw [B.state]; rfl
    have C : Cx p l (headSpec (wsW_ y cc nL ret hh) (rmO d S)).room s m (as.map tv).toArray meth c s0 D S nL d cc y.cls ret :=
      ⟨B.exec, B.bytes, hml, findClass_of_methodNamed B.named, fun w hw => hts w (List.mem_cons_of_mem _ hw), hwm, B.notSynchronized, B.returns, hH, rfl, hw, hfl, hH.2.2.2.2.2.2.2.1, hH.2.2.2.2.2.2.2.2⟩
    obtain ⟨f, hf⟩ := dec_to hx
    obtain ⟨k1, k2⟩ := hs p e _ s m _ below meth c S x C (name_of_methodNamed B.named B.method).1 (vx_table (x := y) B (hts _ List.mem_cons_self))
    have hg := run_snd k1 k2 f 0 (ent nL as) [] S hf
    have hw0 := hg s.heap [] _ hH (Nat.le_refl _) (fun q hq => by cases hq) (ent_Lv as (dec_len hx)) (inVs_ent hin nL) inVs_nil ⟨rfl, Nat.le_refl _⟩
    rw [Nat.sub_self, Nat.sub_self] at hw0
    obtain ⟨t, a1, o, b1, b2, b3⟩ := hw0 s₁ hh0 (Stand.of_body B)
    refine ⟨t, o, ?_, b1, b2, b3⟩
    rw [lg_entry_eq]
    exact a1
section G9
variable {p : Program} {l : Launch} {e : Env} {R : Room} {s : State} {m : MethodId} {args : Array Value} {below : List Frame} {meth : Method} {c : Code} {s0 : State} {D : Dt} {S0 : SS} {nL d : Nat} {cc : ByteArray} {own : String} {ret : Option FieldType} {x : RV × SS} {pc : Nat}
theorem sn_mx (C : Cx p l R s m args meth c s0 D S0 nL d cc own ret) {b : Bool} {f : Int → Int → Int} (hf : ∀ u v, (bif b then (if u < v then v else u) else (if v < u then v else u)) = f u v) (hw : ∀ (H : Heap) (locs : List Loc) (ls : Array Slot) (k i : Nat) (Q : State → Prop) (rest : List Value) (u v : Int), in32 u → in32 v → ls.size = nL → (rest.map fun q => q.category).sum ≤ 8 → k ≤ R.cells → i ≤ R.slots → W p l e R s m args below meth c H locs k i Q (F0 m (pc + 3) ls (.int (Int32.ofInt (f u v)) :: rest)) → W p l e R s m args below meth c H locs k i Q (F0 m pc ls (.int (Int32.ofInt v) :: .int (Int32.ofInt u) :: rest))) : Snd p l e R s m args below meth c s0 D S0 nL x pc (i_mx b (pc + 3)) := by
  intro lv st S o ho hk
  unfold i_mx at ho
  split at ho
  · rename_i v u st
    cases hr : room8 st with
    | false => rw [hr] at ho; cases ho
    | true =>
      rw [hr] at ho
      rw [nx_some ho, hf] at hk
      intro H locs ls h1 h2 h3 h4 h5 h6 h7
      have hu : in32 u := (inVs_cons.mp (inVs_cons.mp h6).2).1
      have hv : in32 v := (inVs_cons.mp h6).1
      obtain ⟨r1, r2⟩ := call_room (d' := 0) C h1 h2 h7
      have hin : in32 (f u v) := by
        rw [← hf]
        cases b <;> simp only [cond_true, cond_false] <;> split <;> assumption
      refine hw H locs ls _ _ _ _ u v hu hv h4.1 (by rw [map_cat]; exact Nat.ble_eq.mp hr) (by omega) (by omega) (hk H locs ls h1 h2 h3 h4 h5 (inVs_cons.mpr ⟨hin, (inVs_cons.mp (inVs_cons.mp h6).2).2⟩) h7)
  · cases ho
theorem sn_mmax (C : Cx p l R s m args meth c s0 D S0 nL d cc own ret) {idx : Nat} (hd : decode cc pc = .ok (.invokestatic idx, 3)) (hl : Cond.methodLink own idx Lib.Math.max.name ∈ lw_all) (hs : Cond.static Lib.Math.max.name ∈ lw_all) (hi : Cond.initialized "java/lang/Math" ∈ lw_all) (hc : Cond.code Lib.Math.max.name Lib.Math.max.code 2 (some .int) ∈ lw_all) (h1d : 1 ≤ d) : Snd p l e R s m args below meth c s0 D S0 nL x pc (i_mx true (pc + 3)) := by
  refine sn_mx C (f := fun u v => if u < v then v else u) (fun u v => rfl) fun H locs ls k i Q rest u v hu hv hz hr hk hi' kk => ?_
  refine va_mmax C.ex C.by (C.2.2.1.trans hz.symm) C.ow (C.ts hl) (C.ts hs) (C.ts hi) (C.ts hc) (by rw [C.rm]; exact h1d) (by rw [C.rm]; show _ ≤ 64 * d; omega) hk hi' hd ?_
  have e1 : (if Int32.ofInt u < Int32.ofInt v then Int32.ofInt v else Int32.ofInt u) = Int32.ofInt (if u < v then v else u) := by
    simp only [lt32 hu hv]
    split <;> rfl
  rw [e1]
  exact kk
theorem sn_mmin (C : Cx p l R s m args meth c s0 D S0 nL d cc own ret) {idx : Nat} (hd : decode cc pc = .ok (.invokestatic idx, 3)) (hl : Cond.methodLink own idx Lib.Math.min.name ∈ lw_all) (hs : Cond.static Lib.Math.min.name ∈ lw_all) (hi : Cond.initialized "java/lang/Math" ∈ lw_all) (hc : Cond.code Lib.Math.min.name Lib.Math.min.code 2 (some .int) ∈ lw_all) (h1d : 1 ≤ d) : Snd p l e R s m args below meth c s0 D S0 nL x pc (i_mx false (pc + 3)) := by
  refine sn_mx C (f := fun u v => if v < u then v else u) (fun u v => rfl) fun H locs ls k i Q rest u v hu hv hz hr hk hi' kk => ?_
  refine va_mmin C.ex C.by (C.2.2.1.trans hz.symm) C.ow (C.ts hl) (C.ts hs) (C.ts hi) (C.ts hc) (by rw [C.rm]; exact h1d) (by rw [C.rm]; show _ ≤ 64 * d; omega) hk hi' hd ?_
  have e1 : (if Int32.ofInt v < Int32.ofInt u then Int32.ofInt v else Int32.ofInt u) = Int32.ofInt (if v < u then v else u) := by
    simp only [lt32 hv hu]
    split <;> rfl
  rw [e1]
  exact kk
end G9
section G8
variable {p : Program} {l : Launch} {e : Env} {R : Room} {s : State} {m : MethodId} {args : Array Value} {below : List Frame} {meth : Method} {c : Code} {s0 : State} {D : Dt} {S0 : SS} {nL : Nat} {x : RV × SS}
theorem sn_cb {k : Nat} {A B : Nat → Sem} (ha : ∀ pc, Snd p l e R s m args below meth c s0 D S0 nL x pc (A pc)) (hb : ∀ pc, Snd p l e R s m args below meth c s0 D S0 nL x pc (B pc)) : ∀ pc, Snd p l e R s m args below meth c s0 D S0 nL x pc (cb k A B pc) := by
  intro pc
  unfold cb
  cases Nat.blt pc k
  · exact hb pc
  · exact ha pc
theorem sn_cl {k : Nat} {f : Sem} (h : Snd p l e R s m args below meth c s0 D S0 nL x k f) : ∀ pc, Snd p l e R s m args below meth c s0 D S0 nL x pc (cl k f pc) := by
  intro pc
  unfold cl
  cases hb : Nat.beq pc k with
  | false => exact sn_no
  | true => rw [Nat.eq_of_beq_eq_true hb]; exact h
end G8
