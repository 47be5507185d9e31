/-! ROWS: arrays, new cells, ends, casts, constants -/
set_option maxRecDepth 100000
theorem clamp32 {i : Int} (h : in32 i) : (Int32.ofInt i).toNatClampNeg = i.toNat := by
  show (Int32.ofInt i).toInt.toNat = _
  rw [to_of32 h]
theorem ixin {i : Int} {n : Nat} (h : in32 i) (h0 : 0 ≤ i) (h1 : i < (n : Int)) : ¬ (Int32.ofInt i < 0 ∨ n ≤ (Int32.ofInt i).toNatClampNeg) := by
  rintro (q | q)
  · have := (lt32 h in32_0).mp q; omega
  · rw [clamp32 h] at q; omega
theorem okix_spec {S : SS} {ok : List Nat} {a : Nat} {i : Int} (h : okix S ok a i = true) : hC S a ∈ ok ∧ 0 ≤ i ∧ i < (hL S a : Int) := by
  simp only [okix, Bool.and_eq_true, decide_eq_true_eq] at h
  exact ⟨mem_mem h.1.1, h.1.2, h.2⟩
section G4
variable {p : Program} {l : Launch} {e : Env} {R : Room} {s : State} {m : MethodId} {args : Array Value} {below : List Frame} {meth : Method} {c : Code} {s0 : State} {D : Dt} {S0 : SS} {nL d : Nat} {cc : ByteArray} {own : String} {ret : Option FieldType} {x : RV × SS} {pc : Nat}
theorem sn_len (C : Cx p l R s m args meth c s0 D S0 nL d cc own ret) {ok : List Nat} (hd : decode cc pc = .ok (.arraylength, 1)) (h : ∀ q ∈ ok, ∃ ty, act q = some ty) : Snd p l e R s m args below meth c s0 D S0 nL x pc (i_len ok (pc + 1)) := by
  intro lv st S o ho hk
  unfold i_len at ho
  split at ho
  · rename_i a st
    cases hm : mem ok (hC S a) with
    | false => rw [hm] at ho; cases ho
    | true =>
      rw [hm] at ho
      rw [nx_some ho] at hk
      intro H locs ls h1 h2 h3 h4 h5 h6 h7
      obtain ⟨ty, hty⟩ := h _ (mem_mem hm)
      obtain ⟨cell, c1, c2, c3, c4, c5, c6, c7⟩ := h1.2.2.2.2.2.2.1 a ty hty
      refine W.alen (n := Int32.ofInt (hL S a : Int)) C.ex C.by c1 (State.isArrayOf_alike C.wm.alike c2) ?_ rfl rfl hd (hk H locs ls h1 h2 h3 h4 h5 (inVs_cons.mpr ⟨⟨by omega, by omega⟩, (inVs_cons.mp h6).2⟩) h7)
      rw [c5]
      exact Int32.ofInt_eq_ofNat.symm
  · cases ho
/-- what an array's instruction needs of the classes that it takes -/
def Ar (ok : List Nat) (P : FieldType → Prop) : Prop := ∀ q ∈ ok, ∃ ty, act q = some ty ∧ P ty
theorem ald_core (C : Cx p l R s m args meth c s0 D S0 nL d cc own ret) {S : SS} {H : Heap} (h1 : HRel s0 D S H) {a : Nat} {i : Int} {ty : FieldType} (hty : act (hC S a) = some ty) (hi : in32 i) (h0 : 0 ≤ i) (hL : i < (hL S a : Int)) :
    ∃ cell : Cell, H[a]? = some cell ∧ s.isArrayOf cell ty ∧ cell.vm ≠ .unknown ∧ ¬ (Int32.ofInt i < 0 ∨ cell.slots.size ≤ (Int32.ofInt i).toNatClampNeg) ∧ cell.slots[(Int32.ofInt i).toNatClampNeg]? = some (fval ty (hI S a i.toNat) (hR S a i.toNat)) ∧ inT ty (hI S a i.toNat) := by
  obtain ⟨cell, c1, c2, c3, c4, c5, c6, c7⟩ := h1.2.2.2.2.2.2.1 a ty hty
  refine ⟨cell, c1, State.isArrayOf_alike C.wm.alike c2, c3, ?_, ?_, (c7 i.toNat (by omega)).2⟩
  · rw [c5]; exact ixin hi h0 hL
  · rw [clamp32 hi]; exact (c7 i.toNat (by omega)).1
theorem sn_iald (C : Cx p l R s m args meth c s0 D S0 nL d cc own ret) {ok : List Nat} (hd : decode cc pc = .ok (.iaload, 1)) (h : Ar ok (fun ty => ty = .int)) : Snd p l e R s m args below meth c s0 D S0 nL x pc (i_aldI ok (pc + 1)) := by
  intro lv st S o ho hk
  unfold i_aldI at ho
  split at ho
  · rename_i i a st
    cases hm : okix S ok a i with
    | false => rw [hm] at ho; cases ho
    | true =>
      rw [hm] at ho
      rw [nx_some ho] at hk
      obtain ⟨o1, o2, o3⟩ := okix_spec hm
      obtain ⟨ty, hty, rfl⟩ := h _ o1
      intro H locs ls h1 h2 h3 h4 h5 h6 h7
      obtain ⟨cell, a1, a2, a3, a4, a5, a6⟩ := ald_core C h1 hty (inVs_cons.mp h6).1 o2 o3
      exact W.iald C.ex C.by a1 a2 a3 a4 a5 rfl rfl hd (hk H locs ls h1 h2 h3 h4 h5 (inVs_cons.mpr ⟨a6, (inVs_cons.mp (inVs_cons.mp h6).2).2⟩) h7)
  · cases ho
theorem sn_bald (C : Cx p l R s m args meth c s0 D S0 nL d cc own ret) {ok : List Nat} (hd : decode cc pc = .ok (.baload, 1)) (h : Ar ok (fun ty => ty = .byte)) : Snd p l e R s m args below meth c s0 D S0 nL x pc (i_aldI ok (pc + 1)) := by
  intro lv st S o ho hk
  unfold i_aldI at ho
  split at ho
  · rename_i i a st
    cases hm : okix S ok a i with
    | false => rw [hm] at ho; cases ho
    | true =>
      rw [hm] at ho
      rw [nx_some ho] at hk
      obtain ⟨o1, o2, o3⟩ := okix_spec hm
      obtain ⟨ty, hty, rfl⟩ := h _ o1
      intro H locs ls h1 h2 h3 h4 h5 h6 h7
      obtain ⟨cell, a1, a2, a3, a4, a5, a6⟩ := ald_core C h1 hty (inVs_cons.mp h6).1 o2 o3
      exact W.bald C.ex C.by a1 a2 a3 a4 a5 rfl rfl hd (hk H locs ls h1 h2 h3 h4 h5 (inVs_cons.mpr ⟨inT_32 (ty := .byte) rfl a6, (inVs_cons.mp (inVs_cons.mp h6).2).2⟩) h7)
  · cases ho
theorem sn_zald (C : Cx p l R s m args meth c s0 D S0 nL d cc own ret) {ok : List Nat} (hd : decode cc pc = .ok (.baload, 1)) (h : Ar ok (fun ty => ty = .boolean)) : Snd p l e R s m args below meth c s0 D S0 nL x pc (i_aldI ok (pc + 1)) := by
  intro lv st S o ho hk
  unfold i_aldI at ho
  split at ho
  · rename_i i a st
    cases hm : okix S ok a i with
    | false => rw [hm] at ho; cases ho
    | true =>
      rw [hm] at ho
      rw [nx_some ho] at hk
      obtain ⟨o1, o2, o3⟩ := okix_spec hm
      obtain ⟨ty, hty, rfl⟩ := h _ o1
      intro H locs ls h1 h2 h3 h4 h5 h6 h7
      obtain ⟨cell, a1, a2, a3, a4, a5, a6⟩ := ald_core C h1 hty (inVs_cons.mp h6).1 o2 o3
      exact W.zald C.ex C.by a1 a2 a3 a4 a5 rfl rfl hd (hk H locs ls h1 h2 h3 h4 h5 (inVs_cons.mpr ⟨inT_32 (ty := .boolean) rfl a6, (inVs_cons.mp (inVs_cons.mp h6).2).2⟩) h7)
  · cases ho
theorem sn_lald (C : Cx p l R s m args meth c s0 D S0 nL d cc own ret) {ok : List Nat} (hd : decode cc pc = .ok (.laload, 1)) (h : Ar ok (fun ty => ty = .long)) : Snd p l e R s m args below meth c s0 D S0 nL x pc (i_aldL ok (pc + 1)) := by
  intro lv st S o ho hk
  unfold i_aldL at ho
  split at ho
  · rename_i i a st
    cases hm : okix S ok a i with
    | false => rw [hm] at ho; cases ho
    | true =>
      rw [hm] at ho
      rw [nx_some ho] at hk
      obtain ⟨o1, o2, o3⟩ := okix_spec hm
      obtain ⟨ty, hty, rfl⟩ := h _ o1
      intro H locs ls h1 h2 h3 h4 h5 h6 h7
      obtain ⟨cell, a1, a2, a3, a4, a5, a6⟩ := ald_core C h1 hty (inVs_cons.mp h6).1 o2 o3
      exact W.lald C.ex C.by a1 a2 a3 a4 a5 rfl rfl hd (hk H locs ls h1 h2 h3 h4 h5 (inVs_cons.mpr ⟨a6, (inVs_cons.mp (inVs_cons.mp h6).2).2⟩) h7)
  · cases ho
theorem sn_aald (C : Cx p l R s m args meth c s0 D S0 nL d cc own ret) {ok : List Nat} (hd : decode cc pc = .ok (.aaload, 1)) (h : Ar ok (fun ty => isRf ty = true)) : Snd p l e R s m args below meth c s0 D S0 nL x pc (i_aldR ok (pc + 1)) := by
  intro lv st S o ho hk
  unfold i_aldR at ho
  split at ho
  · rename_i i a st
    cases hm : okix S ok a i with
    | false => rw [hm] at ho; cases ho
    | true =>
      rw [hm] at ho
      rw [nx_some ho] at hk
      obtain ⟨o1, o2, o3⟩ := okix_spec hm
      obtain ⟨ty, hty, hr⟩ := h _ o1
      intro H locs ls h1 h2 h3 h4 h5 h6 h7
      obtain ⟨cell, a1, a2, a3, a4, a5, a6⟩ := ald_core C h1 hty (inVs_cons.mp h6).1 o2 o3
      rw [fval_R hr] at a5
      exact W.aald C.ex C.by a1 a2 (by revert hr; cases ty <;> intro hr <;> first | rfl | cases hr) a3 a4 a5 rfl rfl hd (hk H locs ls h1 h2 h3 h4 h5 (inVs_cons.mpr ⟨trivial, (inVs_cons.mp (inVs_cons.mp h6).2).2⟩) h7)
  · cases ho
/-- the heap behind a write into an array -/
theorem ast_core (C : Cx p l R s m args meth c s0 D S0 nL d cc own ret) {S S' : SS} {H : Heap} (h1 : HRel s0 D S H) {a : Nat} {i : Int} {ty : FieldType} (hty : act (hC S a) = some ty) (hro : ro (hC S a) = false) (hi : in32 i) (h0 : 0 ≤ i) (hL : i < (hL S a : Int)) {v : Value} (hdd : Hd S S') (oth : ∀ b j, ¬ (b = a ∧ j = i.toNat) → hI S' b j = hI S b j ∧ hR S' b j = hR S b j) (hv : fval ty (hI S' a i.toNat) (hR S' a i.toNat) = v) (hin : inT ty (hI S' a i.toNat))
    {cell : Cell} (hc : H[a]? = some cell) {locs : List Loc} (hlo : ∀ q ∈ locs, s0.heap.size ≤ q.base) {H' : Heap} (e1 : H'[a]? = some (cell.setSlot (Int32.ofInt i).toNatClampNeg v)) (e2 : H'.size = H.size) (e3 : ∀ q, q ≠ a → H'[q]? = H[q]?) :
    HRel s0 D S' H' ∧ ∀ q ∈ locs ++ [⟨a, (Int32.ofInt i).toNatClampNeg⟩], s0.heap.size ≤ q.base := by
  rw [clamp32 hi] at e1 ⊢
  refine ⟨h1.putA hdd hty hro (by omega) hc e1 e2 e3 oth hv hin, fun q hq => ?_⟩
  rcases List.mem_append.mp hq with h | h
  · exact hlo q h
  · rw [List.mem_singleton.mp h]
    obtain ⟨ce, c1, c2, c3, c4, -⟩ := h1.2.2.2.2.2.2.1 a ty hty
    have := (c4 hro).2.1
    rw [h1.g0] at this
    exact this
theorem sn_iast (C : Cx p l R s m args meth c s0 D S0 nL d cc own ret) {ok : List Nat} (hd : decode cc pc = .ok (.iastore, 1)) (h : ∀ q ∈ ok, act q = some .int ∧ ro q = false) : Snd p l e R s m args below meth c s0 D S0 nL x pc (i_astI ok (pc + 1)) := by
  intro lv st S o ho hk
  unfold i_astI at ho
  split at ho
  · rename_i z i a st
    cases hm : okix S ok a i with
    | false => rw [hm] at ho; cases ho
    | true =>
      rw [hm] at ho
      rw [nx_some ho] at hk
      obtain ⟨o1, o2, o3⟩ := okix_spec hm
      obtain ⟨hty, hro⟩ := h _ o1
      intro H locs ls h1 h2 h3 h4 h5 h6 h7
      have hi : in32 i := (inVs_cons.mp (inVs_cons.mp h6).2).1
      obtain ⟨cell, a1, a2, a3, a4, a5, a6⟩ := ald_core C h1 hty hi o2 o3
      refine W.iast C.ex C.by a1 a2 a3 a4 rfl rfl hd fun H' e1 e2 e3 => ?_
      obtain ⟨r1, r2⟩ := ast_core C h1 hty hro hi o2 o3 (Hd_sI S a i.toNat z) (sI_oth S a i.toNat z) (by rw [sI_at]; rfl) (by rw [sI_at]; exact (inVs_cons.mp h6).1) a1 h3 e1 e2 e3
      exact hk H' _ ls r1 (by rw [e2]; exact h2) r2 h4 h5 (inVs_cons.mp (inVs_cons.mp (inVs_cons.mp h6).2).2).2 h7
  · cases ho
theorem sn_last (C : Cx p l R s m args meth c s0 D S0 nL d cc own ret) {ok : List Nat} (hd : decode cc pc = .ok (.lastore, 1)) (h : ∀ q ∈ ok, act q = some .long ∧ ro q = false) : Snd p l e R s m args below meth c s0 D S0 nL x pc (i_astL ok (pc + 1)) := by
  intro lv st S o ho hk
  unfold i_astL at ho
  split at ho
  · rename_i z i a st
    cases hm : okix S ok a i with
    | false => rw [hm] at ho; cases ho
    | true =>
      rw [hm] at ho
      rw [nx_some ho] at hk
      obtain ⟨o1, o2, o3⟩ := okix_spec hm
      obtain ⟨hty, hro⟩ := h _ o1
      intro H locs ls h1 h2 h3 h4 h5 h6 h7
      have hi : in32 i := (inVs_cons.mp (inVs_cons.mp h6).2).1
      obtain ⟨cell, a1, a2, a3, a4, a5, a6⟩ := ald_core C h1 hty hi o2 o3
      refine W.last C.ex C.by a1 a2 a3 a4 rfl rfl hd fun H' e1 e2 e3 => ?_
      obtain ⟨r1, r2⟩ := ast_core C h1 hty hro hi o2 o3 (Hd_sI S a i.toNat z) (sI_oth S a i.toNat z) (by rw [sI_at]; rfl) (by rw [sI_at]; exact (inVs_cons.mp h6).1) a1 h3 e1 e2 e3
      exact hk H' _ ls r1 (by rw [e2]; exact h2) r2 h4 h5 (inVs_cons.mp (inVs_cons.mp (inVs_cons.mp h6).2).2).2 h7
  · cases ho
theorem w8_eq (z : Int) : narrow .byte (.int (Int32.ofInt z)) = .int (Int32.ofInt (w8 z)) := by
  rw [narrow_byte]
  congr 1
  apply Int32.toInt_inj.mp
  rw [Int8.toInt_toInt32, Int32.toInt8_ofInt, to_of32 ⟨?_, ?_⟩]
  · rfl
  · have := Int8.le_toInt (Int8.ofInt z); unfold w8; omega
  · have := Int8.toInt_lt (Int8.ofInt z); unfold w8; omega
theorem w8_in (z : Int) : -128 ≤ w8 z ∧ w8 z ≤ 127 := by
  have := Int8.le_toInt (Int8.ofInt z)
  have := Int8.toInt_lt (Int8.ofInt z)
  unfold w8
  omega
theorem sn_bast (C : Cx p l R s m args meth c s0 D S0 nL d cc own ret) {ok : List Nat} (hd : decode cc pc = .ok (.bastore, 1)) (h : ∀ q ∈ ok, act q = some .byte ∧ ro q = false) : Snd p l e R s m args below meth c s0 D S0 nL x pc (i_astB ok (pc + 1)) := by
  intro lv st S o ho hk
  unfold i_astB at ho
  split at ho
  · rename_i z i a st
    cases hm : okix S ok a i with
    | false => rw [hm] at ho; cases ho
    | true =>
      rw [hm] at ho
      rw [nx_some ho] at hk
      obtain ⟨o1, o2, o3⟩ := okix_spec hm
      obtain ⟨hty, hro⟩ := h _ o1
      intro H locs ls h1 h2 h3 h4 h5 h6 h7
      have hi : in32 i := (inVs_cons.mp (inVs_cons.mp h6).2).1
      obtain ⟨cell, a1, a2, a3, a4, a5, a6⟩ := ald_core C h1 hty hi o2 o3
      refine W.bast C.ex C.by a1 a2 a3 a4 rfl rfl hd fun H' e1 e2 e3 => ?_
      rw [w8_eq] at e1
      obtain ⟨r1, r2⟩ := ast_core C h1 hty hro hi o2 o3 (Hd_sI S a i.toNat (w8 z)) (sI_oth S a i.toNat (w8 z)) (by rw [sI_at]; rfl) (by rw [sI_at]; exact w8_in z) a1 h3 e1 e2 e3
      exact hk H' _ ls r1 (by rw [e2]; exact h2) r2 h4 h5 (inVs_cons.mp (inVs_cons.mp (inVs_cons.mp h6).2).2).2 h7
  · cases ho
theorem sn_zast (C : Cx p l R s m args meth c s0 D S0 nL d cc own ret) {ok : List Nat} (hd : decode cc pc = .ok (.bastore, 1)) (h : ∀ q ∈ ok, act q = some .boolean ∧ ro q = false) : Snd p l e R s m args below meth c s0 D S0 nL x pc (i_astZ ok (pc + 1)) := by
  intro lv st S o ho hk
  unfold i_astZ at ho
  split at ho
  · rename_i z i a st
    cases hm : okix S ok a i with
    | false => rw [hm] at ho; cases ho
    | true =>
      rw [hm] at ho
      by_cases hz : 0 ≤ z ∧ z ≤ 1
      · simp only [cond_true, if_pos hz] at ho
        rw [nx_some ho] at hk
        obtain ⟨o1, o2, o3⟩ := okix_spec hm
        obtain ⟨hty, hro⟩ := h _ o1
        intro H locs ls h1 h2 h3 h4 h5 h6 h7
        have hi : in32 i := (inVs_cons.mp (inVs_cons.mp h6).2).1
        obtain ⟨cell, a1, a2, a3, a4, a5, a6⟩ := ald_core C h1 hty hi o2 o3
        refine W.zast C.ex C.by a1 a2 a3 a4 rfl rfl hd fun H' e1 e2 e3 => ?_
        rw [(sm_narrow (ty := .boolean) (lo := 0) (hi := 1) rfl hz).1] at e1
        obtain ⟨r1, r2⟩ := ast_core C h1 hty hro hi o2 o3 (Hd_sI S a i.toNat z) (sI_oth S a i.toNat z) (by rw [sI_at]; rfl) (by rw [sI_at]; exact hz) a1 h3 e1 e2 e3
        exact hk H' _ ls r1 (by rw [e2]; exact h2) r2 h4 h5 (inVs_cons.mp (inVs_cons.mp (inVs_cons.mp h6).2).2).2 h7
      · simp only [cond_true, if_neg hz] at ho
        cases ho
  · cases ho
theorem okr_spec {S : SS} {vs : List Nat} {a : Nat} (h : okr S vs (some a) = true) : hC S a ∈ vs := mem_mem h
/-- the class number v may be stored into, or cast to, the class C -/
def CanC (v : Nat) (C : String) : Prop := ∃ y : CI, ct v = some y ∧ (y.1 = C ∨ Cond.castable y.1 C ∈ lw_tbl)
theorem can_asg (C : Cx p l R s m args meth c s0 D S0 nL d cc own ret) {S : SS} {H : Heap} (h1 : HRel s0 D S H) {v : Nat} {K : String} (hc : CanC (hC S v) K) : ∃ (cell : Cell) (kv : Class) (t : ClassId), H[v]? = some cell ∧ cell.vm ≠ .unknown ∧ cell.vm.isStatics = false ∧ s.vm.classes[cell.cls]? = some kv ∧ s.vm.findClass K = some t ∧ s.vm.assignable cell.cls t = true ∧ ∃ y : CI, ct (hC S v) = some y ∧ s.vm.findClass y.1 = some cell.cls := by
  obtain ⟨y, hy, hk⟩ := hc
  obtain ⟨cell, c1, c2, c3, c4, c5, c6⟩ := h1.2.2.2.2.2.1 v y hy
  obtain ⟨-, hfc, kC, hkC, hkind⟩ := C.kn hy
  rw [← c2] at hfc hkC
  rcases hk with e | e
  · rw [e] at hfc
    exact ⟨cell, kC, _, c1, c3, c4, hkC, hfc, va_assign (C := K) ⟨hfc, kC, hkC, hkind⟩, y, hy, by rw [e]; exact hfc⟩
  · obtain ⟨c0, t0, f1, f2, f3⟩ := Cond.castable_spec (va_Nw.use (A := args) rfl (va_Nw.warmC C.wm (C.wd.1 _ e)))
    cases hfc.symm.trans f1
    exact ⟨cell, kC, t0, c1, c3, c4, hkC, f2, f3, y, hy, hfc⟩
theorem sn_aast (C : Cx p l R s m args meth c s0 D S0 nL d cc own ret) {ok vs : List Nat} {K : String} (hd : decode cc pc = .ok (.aastore, 1)) (h : ∀ q ∈ ok, act q = some (.object K) ∧ ro q = false) (hv : ∀ v ∈ vs, CanC v K) : Snd p l e R s m args below meth c s0 D S0 nL x pc (i_astR ok vs (pc + 1)) := by
  intro lv st S o ho hk
  unfold i_astR at ho
  split at ho
  · rename_i r i a st
    cases hm : okix S ok a i && okr S vs r with
    | false => rw [hm] at ho; cases ho
    | true =>
      rw [hm] at ho
      rw [nx_some ho] at hk
      rw [Bool.and_eq_true] at hm
      obtain ⟨o1, o2, o3⟩ := okix_spec hm.1
      obtain ⟨hty, hro⟩ := h _ o1
      intro H locs ls h1 h2 h3 h4 h5 h6 h7
      have hi : in32 i := (inVs_cons.mp (inVs_cons.mp h6).2).1
      obtain ⟨cell, a1, a2, a3, a4, a5, a6⟩ := ald_core C h1 hty hi o2 o3
      have fin : ∀ H' : Heap, H'[a]? = some (cell.setSlot (Int32.ofInt i).toNatClampNeg (va_rf r)) → H'.size = H.size → (∀ q, q ≠ a → H'[q]? = H[q]?) → W p l e R s m args below meth c H' (locs ++ [⟨a, (Int32.ofInt i).toNatClampNeg⟩]) (hN S - hN S0) (hU S - hU S0) (QO s0 D S0 x below s) (F0 m (pc + 1) ls (st.map tv)) := by
        intro H' e1 e2 e3
        obtain ⟨r1, r2⟩ := ast_core C h1 hty hro hi o2 o3 (Hd_sR S a i.toNat r) (sR_oth S a i.toNat r) (by rw [sR_at]; rfl) a6 a1 h3 e1 e2 e3
        exact hk H' _ ls r1 (by rw [e2]; exact h2) r2 h4 h5 (inVs_cons.mp (inVs_cons.mp (inVs_cons.mp h6).2).2).2 h7
      cases r with
      | none => exact va_WaastN C.ex C.by a1 a2 a3 a4 rfl rfl hd fin
      | some v =>
        obtain ⟨cv, kv, t, v1, v2, v3, v4, v5, v6, -⟩ := can_asg C h1 (hv _ (okr_spec hm.2))
        obtain ⟨ce, c1, c2, c3, c4, -⟩ := h1.2.2.2.2.2.2.1 a _ hty
        cases a1.symm.trans c1
        obtain ⟨kA, comp, g1, g2, g3, g4⟩ := (c4 hro).2.2.moved C.wm.alike
        cases g3.symm.trans v5
        obtain ⟨kc, hkc, -⟩ := Vm.findClass_spec v5
        exact W.aast C.ex C.by a1 (fun q z => by rw [(c4 hro).1] at z; cases z) a3 g1 g2 rfl hkc ⟨fun z => a4 (Or.inl z), Nat.not_le.mp fun z => a4 (Or.inr z)⟩ v1 (fun q z => by rw [z] at v3; cases v3) v4 v6 rfl rfl hd fin
  · cases ho
theorem ctl_okT : ∀ q ∈ ctl, ∀ j, j < q.2.2.2.1 → okT (q.2.2.2.2 j) = true := by decide +kernel
theorem dfl {ty : FieldType} (h : okT ty = true) : defaultValue ty = fval ty 0 none ∧ inT ty 0 := by
  cases ty <;> first | exact ⟨rfl, by decide, by decide⟩ | exact ⟨rfl, (by constructor <;> decide)⟩ | cases h
theorem sn_new (C : Cx p l R s m args meth c s0 D S0 nL d cc own ret) {idx k n : Nat} {y : CI} (hd : decode cc pc = .ok (.new idx, 3)) (hy : ct k = some y) (hr : ro k = false) (hl : Cond.classLink own idx y.1 ∈ lw_all) (hi : Cond.instantiable y.1 n ∈ lw_all) (hz : Cond.initialized y.1 ∈ lw_all) : Snd p l e R s m args below meth c s0 D S0 nL x pc (i_new k n (pc + 3)) := by
  intro lv st S o ho hk
  unfold i_new at ho
  cases hf : fitN S n with
  | false => rw [hf] at ho; cases ho
  | true =>
    rw [hf] at ho
    rw [nx_some ho] at hk
    intro H locs ls h1 h2 h3 h4 h5 h6 h7
    have hKn := C.kn hy
    have hf2 := hf
    simp only [fitN, Bool.and_eq_true, Nat.blt_eq, Nat.ble_eq] at hf2
    have h0 : hN S0 ≤ hN S := by rw [← h1.1, ← C.hr.1]; exact h2
    have hs1 : hN S - hN S0 + 1 ≤ R.cells := by rw [C.rm]; show _ ≤ hG S0 0 + LC - hN S0; rw [← h7.1]; omega
    have hs2 : hU S - hU S0 + n ≤ R.slots := by rw [C.rm]; show _ ≤ LU - hU S0; have := h7.2; omega
    refine W.newcK C.ex C.by C.ow (C.ts hl) (C.ts hi) (C.ts hz) rfl hd hs1 hs2 hKn.2.1 h1.1 fun H' kC hkC e1 e2 e3 => ?_
    obtain ⟨cI, kI, i1, i2, i3, i4, i5, i6⟩ := Cond.instantiable_spec (C.ts hi)
    cases hKn.2.1.symm.trans i1
    cases hkC.symm.trans i2
    have hb := u_born y.2.2.2 (fun w hw => C.ts hw) (ct_ok hy).1 hKn hkC e1 (ct_ok hy).2.1
    have hC' : hC (sNew S k 0 n) (hN S) = k := by simp [hC, sNew, u1]
    have r1 : HRel s0 D (sNew S k 0 n) H' := by
      refine h1.push e1 e2 e3 (by simp [blank, i6]) hf ?_ ?_
      · intro y' hy'
        rw [hC'] at hy' ⊢
        cases hy.symm.trans hy'
        obtain ⟨ce, b1, b2, b3, b4⟩ := hb
        cases e1.symm.trans b1
        have b5 : (blank (D.1 k) kC).vm ≠ .unknown := by rw [b3]; exact fun z => (by cases z)
        have b6 : (blank (D.1 k) kC).vm.isStatics = false := by rw [b3]; rfl
        refine ⟨_, e1, b2, b5, b6, fun _ => ⟨b3, ?_⟩, fun j hj => ?_⟩
        · show hG S 0 ≤ hN S
          rw [h1.g0, ← h1.1]; exact h1.2.2.1
        · have hI0 : hI (sNew S k 0 n) (hN S) j = 0 := by simp [hI, sNew, u1]
          have hR0 : hR (sNew S k 0 n) (hN S) j = none := by simp [hR, sNew, u1]
          have hdf := dfl (ctl_okT _ (ascC_mem hy) j hj)
          rw [hI0, hR0, b4 j hj]
          exact ⟨congrArg some hdf.1, hdf.2⟩
      · intro ty hty
        rw [hC', ct_act hy] at hty
        cases hty
    have hgo := hk H' locs ls r1 (by rw [e2]; have := h1.1; omega) h3 h4 h5 (inVs_cons.mpr ⟨trivial, h6⟩) ⟨h7.1, by show _ ≤ hU S + n; have := h7.2; omega⟩
    have e5 : hN (sNew S k 0 n) - hN S0 = hN S - hN S0 + 1 := by show hN S + 1 - hN S0 = _; omega
    have e6 : hU (sNew S k 0 n) - hU S0 = hU S - hU S0 + n := by show hU S + n - hU S0 = _; have := h7.2; omega
    rw [e5, e6] at hgo
    exact hgo
/-- a new array's cell -/
theorem HRel.pushA {S : SS} {H H' : Heap} (h : HRel s0 D S H) {k n : Nat} {ty : FieldType} (hty : act k = some ty) (hot : okT ty = true) {cA : ClassId} (e1 : H'[hN S]? = some { cls := cA, slots := Array.replicate n (defaultValue ty), vm := .none }) (e2 : H'.size = hN S + 1) (e3 : ∀ q, q < hN S → H'[q]? = H[q]?) (hf : fitN S n = true) (ha : s0.isArrayOf { cls := cA, slots := Array.replicate n (defaultValue ty), vm := .none } ty) (hra : va_RA s0 cA ty) : HRel s0 D (sNew S k n n) H' := by
  have hC' : hC (sNew S k n n) (hN S) = k := by simp [hC, sNew, u1]
  have hL' : hL (sNew S k n n) (hN S) = n := by simp [hL, sNew, u1]
  have hf2 := hf
  simp only [fitN, Bool.and_eq_true, Nat.blt_eq, Nat.ble_eq, LU] at hf2
  refine h.push e1 e2 e3 (by simp) hf ?_ ?_
  · intro y hy
    rw [hC', act_ct hty] at hy
    cases hy
  · intro ty' hty'
    rw [hC'] at hty' ⊢
    cases hty.symm.trans hty'
    rw [hL']
    refine ⟨_, e1, ha, fun z => (by cases z), fun _ => ⟨rfl, ?_, hra⟩, by simp, by omega, fun j hj => ?_⟩
    · show hG S 0 ≤ hN S
      rw [h.g0, ← h.1]; exact h.2.2.1
    · have hI0 : hI (sNew S k n n) (hN S) j = 0 := by simp [hI, sNew, u1]
      have hR0 : hR (sNew S k n n) (hN S) j = none := by simp [hR, sNew, u1]
      rw [hI0, hR0, ← (dfl hot).1]
      exact ⟨by simp [hj], (dfl hot).2⟩
theorem sn_newa (C : Cx p l R s m args meth c s0 D S0 nL d cc own ret) {k : Nat} {atype : ArrayType} (hd : decode cc pc = .ok (.newarray atype, 2)) (hy : act k = some (newarray.typeOf atype)) (hr : ro k = false) (hl : Cond.arrayClass (newarray.typeOf atype) ∈ lw_all) (hot : okT (newarray.typeOf atype) = true) (hcb : componentBytes (newarray.typeOf atype) ≤ 8) : Snd p l e R s m args below meth c s0 D S0 nL x pc (i_newa k (pc + 2)) := by
  intro lv st S o ho hk
  unfold i_newa at ho
  split at ho
  · rename_i z st
    by_cases hz : z < 0
    · rw [if_pos hz] at ho; cases ho
    · rw [if_neg hz] at ho
      cases hf : fitN S z.toNat with
      | false => rw [hf] at ho; cases ho
      | true =>
        rw [hf] at ho
        rw [nx_some ho] at hk
        intro H locs ls h1 h2 h3 h4 h5 h6 h7
        have hi : in32 z := (inVs_cons.mp h6).1
        have hf2 := hf
        simp only [fitN, Bool.and_eq_true, Nat.blt_eq, Nat.ble_eq] at hf2
        have h0 : hN S0 ≤ hN S := by rw [← h1.1, ← C.hr.1]; exact h2
        have hs1 : hN S - hN S0 + 1 ≤ R.cells := by rw [C.rm]; show _ ≤ hG S0 0 + LC - hN S0; rw [← h7.1]; omega
        have hs2 : hU S - hU S0 + z.toNat ≤ R.slots := by rw [C.rm]; show _ ≤ LU - hU S0; have := h7.2; omega
        have hb : z.toNat * componentBytes (newarray.typeOf atype) ≤ 536870912 := by
          have : z.toNat ≤ 7145578 := by have := hf2.2; unfold LU at this; omega
          calc z.toNat * componentBytes (newarray.typeOf atype) ≤ 7145578 * 8 := Nat.mul_le_mul this hcb
            _ ≤ 536870912 := by decide
        refine W.newa C.ex C.by (C.ts hl) rfl hd rfl (fun q => hz ((lt32 hi in32_0).mp q)) (by rw [clamp32 hi]; exact hb) hs1 (by rw [clamp32 hi]; exact hs2) fun cA kA comp g1 g2 g3 => ?_
        rw [clamp32 hi]
        have ha : s.isArrayOf { cls := cA, slots := Array.replicate z.toNat (defaultValue (newarray.typeOf atype)), vm := .none } (newarray.typeOf atype) := ⟨fun k h => (by cases h), kA, g2, comp, g3⟩
        have hra : va_RA s cA (newarray.typeOf atype) := by cases atype <;> exact g1
        have r1 : HRel s0 D (sNew S k z.toNat z.toNat) (H.push { cls := cA, slots := Array.replicate z.toNat (defaultValue (newarray.typeOf atype)), vm := .none }) := by
          refine h1.pushA hy hot (by rw [← h1.1]; simp) (by simp [h1.1]) (fun q hq => ?_) hf (State.isArrayOf_alike C.wm.alike.symm ha) (hra.moved C.wm.alike.symm)
          rw [Array.getElem?_push, if_neg (by have := h1.1; omega)]
        have hgo := hk _ locs ls r1 (by simp; omega) h3 h4 h5 (inVs_cons.mpr ⟨trivial, (inVs_cons.mp h6).2⟩) ⟨h7.1, by show _ ≤ hU S + _; have := h7.2; omega⟩
        have e5 : hN (sNew S k z.toNat z.toNat) - hN S0 = hN S - hN S0 + 1 := by show hN S + 1 - hN S0 = _; omega
        have e6 : hU (sNew S k z.toNat z.toNat) - hU S0 = hU S - hU S0 + z.toNat := by show hU S + _ - hU S0 = _; have := h7.2; omega
        rw [e5, e6] at hgo
        rw [h1.1]
        exact hgo
  · cases ho
theorem sn_anewa (C : Cx p l R s m args meth c s0 D S0 nL d cc own ret) {idx k : Nat} {K : String} (hd : decode cc pc = .ok (.anewarray idx, 3)) (hy : act k = some (.object K)) (hr : ro k = false) (hl : Cond.classLink own idx K ∈ lw_all) (hov : Cond.arrayOver (.object K) ∈ lw_tbl) : Snd p l e R s m args below meth c s0 D S0 nL x pc (i_newa k (pc + 3)) := by
  intro lv st S o ho hk
  unfold i_newa at ho
  split at ho
  · rename_i z st
    by_cases hz : z < 0
    · rw [if_pos hz] at ho; cases ho
    · rw [if_neg hz] at ho
      cases hf : fitN S z.toNat with
      | false => rw [hf] at ho; cases ho
      | true =>
        rw [hf] at ho
        rw [nx_some ho] at hk
        intro H locs ls h1 h2 h3 h4 h5 h6 h7
        have hi : in32 z := (inVs_cons.mp h6).1
        have hf2 := hf
        simp only [fitN, Bool.and_eq_true, Nat.blt_eq, Nat.ble_eq] at hf2
        have h0 : hN S0 ≤ hN S := by rw [← h1.1, ← C.hr.1]; exact h2
        have hs1 : hN S - hN S0 + 1 ≤ R.cells := by rw [C.rm]; show _ ≤ hG S0 0 + LC - hN S0; rw [← h7.1]; omega
        have hs2 : hU S - hU S0 + z.toNat ≤ R.slots := by rw [C.rm]; show _ ≤ LU - hU S0; have := h7.2; omega
        have hb : z.toNat * 4 ≤ 536870912 := by have := hf2.2; unfold LU at this; omega
        have hao : va_AO K s := (va_AO.of (C.wd.1 _ hov)).moved C.wm.alike
        refine W.anew C.ex C.by C.ow (C.ts hl) (va_AO.use hao) rfl hd rfl (fun q => hz ((lt32 hi in32_0).mp q)) (by rw [clamp32 hi]; exact hb) hs1 (by rw [clamp32 hi]; exact hs2) fun cA kA comp g1 g2 g3 g4 => ?_
        rw [clamp32 hi]
        have ha : s.isArrayOf { cls := cA, slots := Array.replicate z.toNat (defaultValue (.object K)), vm := .none } (.object K) := ⟨fun k h => (by cases h), kA, g2, comp, g3⟩
        have hra : va_RA s cA (.object K) := ⟨kA, comp, g2, g3, g4, g1⟩
        have r1 : HRel s0 D (sNew S k z.toNat z.toNat) (H.push { cls := cA, slots := Array.replicate z.toNat .null, vm := .none }) := by
          refine h1.pushA hy rfl (cA := cA) (by rw [← h1.1]; simp [defaultValue]) (by simp [h1.1]) (fun q hq => ?_) hf (State.isArrayOf_alike C.wm.alike.symm ha) (hra.moved C.wm.alike.symm)
          rw [Array.getElem?_push, if_neg (by have := h1.1; omega)]
        have hgo := hk _ locs ls r1 (by simp; omega) h3 h4 h5 (inVs_cons.mpr ⟨trivial, (inVs_cons.mp h6).2⟩) ⟨h7.1, by show _ ≤ hU S + _; have := h7.2; omega⟩
        have e5 : hN (sNew S k z.toNat z.toNat) - hN S0 = hN S - hN S0 + 1 := by show hN S + 1 - hN S0 = _; omega
        have e6 : hU (sNew S k z.toNat z.toNat) - hU S0 = hU S - hU S0 + z.toNat := by show hU S + _ - hU S0 = _; have := h7.2; omega
        rw [e5, e6] at hgo
        rw [h1.1]
        exact hgo
  · cases ho
theorem W.toQ {H : Heap} {locs : List Loc} {k n : Nat} {Q Q' : State → Prop} {g : JFrame} (h : W p l e R s m args below meth c H locs k n Q g) (hq : ∀ t, Q t → Q' t) : W p l e R s m args below meth c H locs k n Q' g := fun T hT X => by
  obtain ⟨t, a, b⟩ := h T hT X
  exact ⟨t, a, hq t b⟩
/-- from a return's end to the end that is awaited -/
theorem end_ret (C : Cx p l R s m args meth c s0 D S0 nL d cc own ret) {S : SS} {H : Heap} (h1 : HRel s0 D S H) (h2 : s.heap.size ≤ H.size) (h7 : hG S = hG S0 ∧ hU S0 ≤ hU S) {v : Option V} (hv : ∀ w, v = some w → inV w) (hx : x = (.inl v, S)) {t : State} (h : MQ below (fun _ _ o t => o = .returned (v.map tv) ∧ t.heap = H) args s (hN S - hN S0) (hU S - hU S0) (fun q => s0.heap.size ≤ q) t) : QO s0 D S0 x below s t := by
  obtain ⟨o, b1, b2, ⟨rfl, b3⟩, L, ⟨-, b4, b5⟩, b6⟩ := h
  subst hx
  refine ⟨_, b1, b2, rfl, by rw [b3]; exact h1, h7.1, fun v' e w hw => ?_, b4, ⟨by show hN S0 ≤ hN S; rw [← h1.1, ← C.hr.1]; exact h2, h7.2⟩, L, b5, b6⟩
  cases e; exact hv w hw
theorem sn_iret (C : Cx p l R s m args meth c s0 D S0 nL d cc own ret) (hr : ret = some .int) (hd : decode cc pc = .ok (.ireturn, 1)) : Snd p l e R s m args below meth c s0 D S0 nL x pc i_iret := by
  intro lv st S o ho hk
  unfold i_iret at ho
  split at ho
  · rename_i z
    cases ho
    intro H locs ls h1 h2 h3 h4 h5 h6 h7
    exact (W.iret C.ex C.by (C.rt.trans hr) (Qc := fun _ _ o t => o = .returned ((some (vI z)).map tv) ∧ t.heap = H) (fun t ht hW => ⟨rfl, ht⟩) h3 hd C.lk).toQ fun t ht => end_ret C h1 h2 h7 (fun w hw => by cases hw; exact (inVs_cons.mp h6).1) hk ht
  · cases ho
theorem sn_tret (C : Cx p l R s m args meth c s0 D S0 nL d cc own ret) {ty : FieldType} {lo hi : Int} (hr : ret = some ty) (hs : smT ty lo hi = true) (hd : decode cc pc = .ok (.ireturn, 1)) : Snd p l e R s m args below meth c s0 D S0 nL x pc (i_tret lo hi) := by
  intro lv st S o ho hk
  unfold i_tret at ho
  split at ho
  · rename_i z
    by_cases hz : lo ≤ z ∧ z ≤ hi
    · rw [if_pos hz] at ho
      cases ho
      intro H locs ls h1 h2 h3 h4 h5 h6 h7
      exact (W.zret C.ex C.by (C.rt.trans hr) (sm_narrow hs hz).1 (Qc := fun _ _ o t => o = .returned ((some (vI z)).map tv) ∧ t.heap = H) (fun t ht hW => ⟨rfl, ht⟩) h3 hd C.lk).toQ fun t ht => end_ret C h1 h2 h7 (fun w hw => by cases hw; exact (inVs_cons.mp h6).1) hk ht
    · rw [if_neg hz] at ho; cases ho
  · cases ho
theorem sn_lret (C : Cx p l R s m args meth c s0 D S0 nL d cc own ret) (hr : ret = some .long) (hd : decode cc pc = .ok (.lreturn, 1)) : Snd p l e R s m args below meth c s0 D S0 nL x pc i_lret := by
  intro lv st S o ho hk
  unfold i_lret at ho
  split at ho
  · rename_i z
    cases ho
    intro H locs ls h1 h2 h3 h4 h5 h6 h7
    exact (W.lret C.ex C.by (C.rt.trans hr) (Qc := fun _ _ o t => o = .returned ((some (vL z)).map tv) ∧ t.heap = H) (fun t ht hW => ⟨rfl, ht⟩) h3 hd C.lk).toQ fun t ht => end_ret C h1 h2 h7 (fun w hw => by cases hw; exact (inVs_cons.mp h6).1) hk ht
  · cases ho
theorem sn_aret (C : Cx p l R s m args meth c s0 D S0 nL d cc own ret) {rt : FieldType} (hr : ret = some rt) (ht : isRf rt = true) (hd : decode cc pc = .ok (.areturn, 1)) : Snd p l e R s m args below meth c s0 D S0 nL x pc i_aret := by
  intro lv st S o ho hk
  unfold i_aret at ho
  split at ho
  · rename_i r
    cases ho
    intro H locs ls h1 h2 h3 h4 h5 h6 h7
    refine (W.aret C.ex C.by (C.rt.trans hr) ?_ ?_ (Qc := fun _ _ o t => o = .returned ((some (vR r)).map tv) ∧ t.heap = H) (fun t ht hW => ⟨rfl, ht⟩) h3 hd C.lk).toQ fun t ht => end_ret C h1 h2 h7 (fun w hw => by cases hw; exact trivial) hk ht
    · revert ht
      cases rt <;> intro ht <;> first | exact Or.inl ⟨_, rfl⟩ | exact Or.inr ⟨_, rfl⟩ | cases ht
    · cases r with
      | none => exact Or.inl rfl
      | some a => exact Or.inr ⟨a, rfl⟩
  · cases ho
theorem sn_vret (C : Cx p l R s m args meth c s0 D S0 nL d cc own ret) (hr : ret = none) (hd : decode cc pc = .ok (.return_, 1)) : Snd p l e R s m args below meth c s0 D S0 nL x pc i_vret := by
  intro lv st S o ho hk
  unfold i_vret at ho
  split at ho
  · cases ho
    intro H locs ls h1 h2 h3 h4 h5 h6 h7
    exact (W.vret C.ex C.by (C.rt.trans hr) (Qc := fun _ _ o t => o = .returned ((none : Option V).map tv) ∧ t.heap = H) (fun t ht hW => ⟨rfl, ht⟩) h3 hd C.lk).toQ fun t ht => end_ret C h1 h2 h7 (fun w hw => by cases hw) hk ht
  · cases ho
theorem sn_dret (C : Cx p l R s m args meth c s0 D S0 nL d cc own ret) (hr : ret = some .double) (hd : decode cc pc = .ok (.dreturn, 1)) : Snd p l e R s m args below meth c s0 D S0 nL x pc i_dret := by
  intro lv st S o ho hk
  unfold i_dret at ho
  split at ho
  · rename_i z
    cases ho
    intro H locs ls h1 h2 h3 h4 h5 h6 h7
    exact (W.dret C.ex C.by (C.rt.trans hr) (Qc := fun _ _ o t => o = .returned ((some (vD z)).map tv) ∧ t.heap = H) (fun t ht hW => ⟨rfl, ht⟩) h3 hd C.lk).toQ fun t ht => end_ret C h1 h2 h7 (fun w hw => by cases hw; exact trivial) hk ht
  · cases ho
theorem sn_fret (C : Cx p l R s m args meth c s0 D S0 nL d cc own ret) (hr : ret = some .float) (hd : decode cc pc = .ok (.freturn, 1)) : Snd p l e R s m args below meth c s0 D S0 nL x pc i_fret := by
  intro lv st S o ho hk
  unfold i_fret at ho
  split at ho
  · rename_i z
    cases ho
    intro H locs ls h1 h2 h3 h4 h5 h6 h7
    exact (W.fret C.ex C.by (C.rt.trans hr) (Qc := fun _ _ o t => o = .returned ((some (vF z)).map tv) ∧ t.heap = H) (fun t ht hW => ⟨rfl, ht⟩) h3 hd C.lk).toQ fun t ht => end_ret C h1 h2 h7 (fun w hw => by cases hw; exact trivial) hk ht
  · cases ho
theorem sn_athrow (C : Cx p l R s m args meth c s0 D S0 nL d cc own ret) {ok : List Nat} (hd : decode cc pc = .ok (.athrow, 1)) (h : ∀ q ∈ ok, ro q = false ∧ ∃ y, ct q = some y) : Snd p l e R s m args below meth c s0 D S0 nL x pc (i_athrow ok) := by
  intro lv st S o ho hk
  unfold i_athrow at ho
  split at ho
  · rename_i a st
    cases hm : mem ok (hC S a) with
    | false => rw [hm] at ho; cases ho
    | true =>
      rw [hm] at ho
      cases ho
      intro H locs ls h1 h2 h3 h4 h5 h6 h7
      obtain ⟨hr, y, hy⟩ := h _ (mem_mem hm)
      obtain ⟨ce, c1, c2, c3, c4, c5, c6⟩ := h1.2.2.2.2.2.1 a y hy
      exact vx_athrow C.ex C.by hd (hk H locs ls _ h1 h2 h3 h4 h5 h7 ⟨y, ce, hy, c1, (c5 hr).1, by rw [c2]; exact (C.kn hy).2.1⟩)
  · cases ho
theorem sn_cast (C : Cx p l R s m args meth c s0 D S0 nL d cc own ret) {idx : Nat} {ok : List Nat} {K : String} (hd : decode cc pc = .ok (.checkcast idx, 3)) (hl : Cond.classLink own idx K ∈ lw_all) (h : ∀ v ∈ ok, CanC v K) : Snd p l e R s m args below meth c s0 D S0 nL x pc (i_cast ok (pc + 3)) := by
  intro lv st S o ho hk
  unfold i_cast at ho
  split at ho
  · rename_i r st
    cases hm : okr S ok r with
    | false => rw [hm] at ho; cases ho
    | true =>
      rw [hm] at ho
      rw [nx_some ho] at hk
      intro H locs ls h1 h2 h3 h4 h5 h6 h7
      cases r with
      | none => exact lv_castN C.ex C.by hd (hk H locs ls h1 h2 h3 h4 h5 h6 h7)
      | some a =>
        obtain ⟨cell, kv, t, v1, v2, v3, v4, v5, v6, y, v7, v8⟩ := can_asg C h1 (h _ (okr_spec hm))
        intro T hT X
        obtain ⟨vm', X', stp⟩ := X.checkcastYes C.ex C.ow (C.ts hl) (by rw [hT]; exact v1) v3 v5 v6 (g := F0 m pc ls (.ref a :: st.map tv)) rfl rfl (by rw [C.by]; exact hd)
        obtain ⟨t', a1, b1⟩ := hk H locs ls h1 h2 h3 h4 h5 h6 h7 (T.setVm vm') hT X'
        exact ⟨t', stp t' a1, b1⟩
  · cases ho
/-- a constant of the class's own pool -/
theorem sn_ldc (C : Cx p l R s m args meth c s0 D S0 nL d cc own ret) {idx : Nat} {z : Int} (hd : decode cc pc = .ok (.ldc idx, 2)) (hz : in32 z) (hw : Cond.constant own idx (Int32.ofInt z) ∈ lw_all) : Snd p l e R s m args below meth c s0 D S0 nL x pc (i_push (vI z) (pc + 2)) :=
  sn_push hz fun H locs ls k i Q rest kk => lv_ldc C.ex C.by C.ow (C.ts hw) hd kk
theorem sn_ldcw (C : Cx p l R s m args meth c s0 D S0 nL d cc own ret) {idx : Nat} {z : Int} (hd : decode cc pc = .ok (.ldc_w idx, 3)) (hz : in32 z) (hw : Cond.constant own idx (Int32.ofInt z) ∈ lw_all) : Snd p l e R s m args below meth c s0 D S0 nL x pc (i_push (vI z) (pc + 3)) :=
  sn_push hz fun H locs ls k i Q rest kk => lv_ldcw C.ex C.by C.ow (C.ts hw) hd kk
theorem sn_ldc2 (C : Cx p l R s m args meth c s0 D S0 nL d cc own ret) {idx : Nat} {z : Int} (hd : decode cc pc = .ok (.ldc2_w idx, 3)) (hz : in64 z) (hw : Cond.constantLong own idx (Int64.ofInt z) ∈ lw_all) : Snd p l e R s m args below meth c s0 D S0 nL x pc (i_push (vL z) (pc + 3)) :=
  sn_push hz fun H locs ls k i Q rest kk => lv_ldc2 C.ex C.by C.ow (C.ts hw) hd kk
end G4
