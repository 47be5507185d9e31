/-! ROWS of the heap: fields, arrays, new cells -/
set_option maxRecDepth 100000
theorem ctl_act : ∀ q ∈ ctl, act q.1 = none := by decide +kernel
theorem ct_act {c : Nat} {x : CI} (h : ct c = some x) : act c = none := ctl_act _ (ascC_mem h)
theorem act_ct {c : Nat} {ty : FieldType} (h : act c = some ty) : ct c = none := by
  cases hc : ct c with
  | none => rfl
  | some x => rw [ct_act hc] at h; cases h
theorem Wd.good {s0 : State} {D : Dt} (h : Wd s0 D) : ∀ w ∈ lw_all, w.before #[] s0 = true := fun w hw => h.1 w (lw_all_tbl hw)
theorem Wd.apart {s0 : State} {D : Dt} (h : Wd s0 D) {c : Nat} {x : CI} (hx : ct c = some x) : ∀ a b, a < x.2.2.1 → b < x.2.2.1 → a ≠ b → D.2 c a ≠ D.2 c b := by
  intro a b ha hb hne
  obtain ⟨i1, i2, i3⟩ := ct_ok hx
  obtain ⟨hS, -⟩ := h.2.1 c x hx
  obtain ⟨_, _, _, fa, hia, ea⟩ := hS a ha
  obtain ⟨_, _, _, fb, hib, eb⟩ := hS b hb
  rw [← ea, ← eb]
  refine u_apart (u_lays h.good i1 ha) (u_lays h.good i1 hb) hia hib ?_
  rw [(State.fieldFound?_type hia (i2 a ha)).1, (State.fieldFound?_type hib (i2 b hb)).1]
  exact i3 a ha b hb hne
/-- the same heads -/
def Hd (S S' : SS) : Prop := hG S' = hG S ∧ hC S' = hC S ∧ hL S' = hL S ∧ hN S' = hN S ∧ hU S' = hU S
theorem HRel.upd {s0 : State} {D : Dt} {S S' : SS} {H H' : Heap} (h : HRel s0 D S H) (hd : Hd S S') {a : Nat} {cell cell' : Cell} (hcell : H[a]? = some cell) (ha : hG S 0 ≤ a) (e1 : H'[a]? = some cell') (es : cell'.slots.size = cell.slots.size) (e2 : H'.size = H.size) (e3 : ∀ q, q ≠ a → H'[q]? = H[q]?)
    (oth : ∀ b j, b ≠ a → hI S' b j = hI S b j ∧ hR S' b j = hR S b j) (hO : CellO D S' H' a) (hA : CellA s0 S' H' a) : HRel s0 D S' H' := by
  have hg0 := h.g0
  obtain ⟨h1, h2, h3, h4, h5, h6, h7, h8, h9⟩ := h
  obtain ⟨d1, d2, d3, d4, d5⟩ := hd
  refine ⟨by rw [e2, d4]; exact h1, by rw [d1]; exact h2, by rw [e2]; exact h3, fun q hq => ?_, ?_, fun b => ?_, fun b => ?_, by rw [d1, d4]; exact h8, by rw [d5]; exact h9⟩
  · rw [e3 q (by omega)]; exact h4 q hq
  · trivial
  · by_cases hb : b = a
    · subst hb; exact hO
    · intro x hx
      rw [d2] at hx ⊢
      obtain ⟨ce, c1, c2, c3, c4, c5, c6⟩ := h6 b x hx
      refine ⟨ce, by rw [e3 b hb]; exact c1, c2, c3, c4, by rw [d1]; exact c5, fun k hk => ?_⟩
      rw [(oth b k hb).1, (oth b k hb).2]
      exact c6 k hk
  · by_cases hb : b = a
    · subst hb; exact hA
    · intro ty hty
      rw [d2] at hty ⊢
      rw [d3]
      obtain ⟨ce, c1, c2, c3, c4, c5, c6, c7⟩ := h7 b ty hty
      refine ⟨ce, by rw [e3 b hb]; exact c1, c2, c3, by rw [d1]; exact c4, c5, c6, fun k hk => ?_⟩
      rw [(oth b k hb).1, (oth b k hb).2]
      exact c7 k hk
theorem HRel.putO {s0 : State} {D : Dt} {S S' : SS} {H H' : Heap} (h : HRel s0 D S H) (hw : Wd s0 D) (hd : Hd S S') {a k : Nat} {x : CI} (hx : ct (hC S a) = some x) (hro : ro (hC S a) = false) (hk : k < x.2.2.1) {cell : Cell} (hcell : H[a]? = some cell) {v : Value} (e1 : H'[a]? = some (cell.setSlot (D.2 (hC S a) k) v)) (e2 : H'.size = H.size) (e3 : ∀ q, q ≠ a → H'[q]? = H[q]?)
    (oth : ∀ b j, ¬ (b = a ∧ j = k) → hI S' b j = hI S b j ∧ hR S' b j = hR S b j) (hv : fval (x.2.2.2 k) (hI S' a k) (hR S' a k) = v) (hin : inT (x.2.2.2 k) (hI S' a k)) : HRel s0 D S' H' := by
  obtain ⟨ce, c1, c2, c3, c4, c5, c6⟩ := h.2.2.2.2.2.1 a x hx
  cases hcell.symm.trans c1
  refine h.upd hd c1 (c5 hro).2 e1 (k2_slotsz _ _ _) e2 e3 (fun b j hb => oth b j fun q => hb q.1) ?_ ?_
  · intro x' hx'
    rw [hd.2.1] at hx' ⊢
    cases hx.symm.trans hx'
    refine ⟨_, e1, c2, c3, c4, by rw [hd.1]; exact c5, fun j hj => ?_⟩
    by_cases hjk : j = k
    · subst hjk
      rw [Cell.slots_setSlot_self _ (k2_hasslot (c6 j hj).1)]
      exact ⟨by rw [hv], hin⟩
    · rw [Cell.slots_setSlot_ne _ (hw.apart hx k j hk hj (Ne.symm hjk)), (oth a j fun q => hjk q.2).1, (oth a j fun q => hjk q.2).2]
      exact c6 j hj
  · intro ty hty
    rw [hd.2.1, ct_act hx] at hty
    cases hty
theorem HRel.putA {s0 : State} {D : Dt} {S S' : SS} {H H' : Heap} (h : HRel s0 D S H) (hd : Hd S S') {a k : Nat} {ty : FieldType} (hx : act (hC S a) = some ty) (hro : ro (hC S a) = false) (hk : k < hL S a) {cell : Cell} (hcell : H[a]? = some cell) {v : Value} (e1 : H'[a]? = some (cell.setSlot k v)) (e2 : H'.size = H.size) (e3 : ∀ q, q ≠ a → H'[q]? = H[q]?)
    (oth : ∀ b j, ¬ (b = a ∧ j = k) → hI S' b j = hI S b j ∧ hR S' b j = hR S b j) (hv : fval ty (hI S' a k) (hR S' a k) = v) (hin : inT ty (hI S' a k)) : HRel s0 D S' H' := by
  obtain ⟨ce, c1, c2, c3, c4, c5, c6, c7⟩ := h.2.2.2.2.2.2.1 a ty hx
  cases hcell.symm.trans c1
  refine h.upd hd c1 (c4 hro).2.1 e1 (k2_slotsz _ _ _) e2 e3 (fun b j hb => oth b j fun q => hb q.1) ?_ ?_
  · intro x' hx'
    rw [hd.2.1, act_ct hx] at hx'
    cases hx'
  · intro ty' hty
    rw [hd.2.1] at hty ⊢
    cases hx.symm.trans hty
    rw [hd.2.2.1]
    refine ⟨_, e1, c2, c3, by rw [hd.1]; exact c4, by rw [k2_slotsz]; exact c5, c6, fun j hj => ?_⟩
    by_cases hjk : j = k
    · subst hjk
      rw [Cell.slots_setSlot_self _ (k2_hasslot (c7 j hj).1)]
      exact ⟨by rw [hv], hin⟩
    · rw [Cell.slots_setSlot_ne _ (Ne.symm hjk), (oth a j fun q => hjk q.2).1, (oth a j fun q => hjk q.2).2]
      exact c7 j hj
theorem Hd_sI (S : SS) (a k : Nat) (z : Int) : Hd S (sI S a k z) := ⟨rfl, rfl, rfl, rfl, rfl⟩
theorem Hd_sR (S : SS) (a k : Nat) (r : Option Nat) : Hd S (sR S a k r) := ⟨rfl, rfl, rfl, rfl, rfl⟩
theorem sI_at (S : SS) (a k : Nat) (z : Int) : hI (sI S a k z) a k = z := by simp [hI, sI, u2]
theorem sR_at (S : SS) (a k : Nat) (r : Option Nat) : hR (sR S a k r) a k = r := by simp [hR, sR, u2]
theorem sI_oth (S : SS) (a k : Nat) (z : Int) : ∀ b j, ¬ (b = a ∧ j = k) → hI (sI S a k z) b j = hI S b j ∧ hR (sI S a k z) b j = hR S b j := fun b j h => ⟨by simp [hI, sI, u2, h], rfl⟩
theorem sR_oth (S : SS) (a k : Nat) (r : Option Nat) : ∀ b j, ¬ (b = a ∧ j = k) → hI (sR S a k r) b j = hI S b j ∧ hR (sR S a k r) b j = hR S b j := fun b j h => ⟨rfl, by simp [hR, sR, u2, h]⟩
/-- a new cell -/
theorem HRel.push {s0 : State} {D : Dt} {S : SS} {H H' : Heap} (h : HRel s0 D S H) {c n k : Nat} {cell : Cell} (e1 : H'[hN S]? = some cell) (e2 : H'.size = hN S + 1) (e3 : ∀ q, q < hN S → H'[q]? = H[q]?) (es : cell.slots.size = k) (hft : fitN S k = true) (hO : CellO D (sNew S c n k) H' (hN S)) (hA : CellA s0 (sNew S c n k) H' (hN S)) : HRel s0 D (sNew S c n k) H' := by
  obtain ⟨h1, h2, h3, h4, h5, h6, h7, h8, h9⟩ := h
  simp only [fitN, Bool.and_eq_true, Nat.blt_eq, Nat.ble_eq] at hft
  have hlt : ∀ b, (∃ ce, H[b]? = some ce) → b < hN S := fun b ⟨ce, hb⟩ => by rw [← h1]; exact (Array.getElem?_eq_some_iff.mp hb).1
  refine ⟨e2, h2, by rw [e2]; omega, fun q hq => ?_, ?_, fun b => ?_, fun b => ?_, hft.1, hft.2⟩
  · rw [e3 q (by omega)]; exact h4 q hq
  · trivial
  · by_cases hb : b = hN S
    · subst hb; exact hO
    · intro x hx
      have g1 : hC (sNew S c n k) b = hC S b := by simp [hC, sNew, u1, hb]
      rw [g1] at hx ⊢
      obtain ⟨ce, c1, c2, c3, c4, c5, c6⟩ := h6 b x hx
      refine ⟨ce, by rw [e3 b (hlt b ⟨_, c1⟩)]; exact c1, c2, c3, c4, c5, fun j hj => ?_⟩
      have g2 : hI (sNew S c n k) b j = hI S b j := by simp [hI, sNew, u1, hb]
      have g3 : hR (sNew S c n k) b j = hR S b j := by simp [hR, sNew, u1, hb]
      rw [g2, g3]
      exact c6 j hj
  · by_cases hb : b = hN S
    · subst hb; exact hA
    · intro ty hty
      have g1 : hC (sNew S c n k) b = hC S b := by simp [hC, sNew, u1, hb]
      have g4 : hL (sNew S c n k) b = hL S b := by simp [hL, sNew, u1, hb]
      rw [g1] at hty ⊢
      rw [g4]
      obtain ⟨ce, c1, c2, c3, c4, c5, c6, c7⟩ := h7 b ty hty
      refine ⟨ce, by rw [e3 b (hlt b ⟨_, c1⟩)]; exact c1, c2, c3, c4, c5, c6, fun j hj => ?_⟩
      have g2 : hI (sNew S c n k) b j = hI S b j := by simp [hI, sNew, u1, hb]
      have g3 : hR (sNew S c n k) b j = hR S b j := by simp [hR, sNew, u1, hb]
      rw [g2, g3]
      exact c7 j hj
theorem asc_mem {l : List (Nat × Nat)} {c k : Nat} (h : asc l c = some k) : (c, k) ∈ l := by
  induction l with
  | nil => cases h
  | cons q l ih =>
    unfold asc at h
    cases hb : Nat.beq q.1 c with
    | true => rw [hb] at h; have e := Nat.eq_of_beq_eq_true hb; cases h; rw [← e]; exact List.mem_cons_self
    | false => rw [hb] at h; exact List.mem_cons_of_mem _ (ih h)
theorem mem_mem {l : List Nat} {c : Nat} (h : mem l c = true) : c ∈ l := by
  induction l with
  | nil => cases h
  | cons q l ih =>
    unfold mem at h
    cases hb : Nat.beq q c with
    | true => have e := Nat.eq_of_beq_eq_true hb; rw [← e]; exact List.mem_cons_self
    | false => rw [hb] at h; exact List.mem_cons_of_mem _ (ih h)
/-- a field's link: the class's own, or a nest mate's -/
def LkF (s0 : State) (own : String) (idx : Nat) (ref n d : String) : Prop := Cond.fieldLink own idx ref n d ∈ lw_all ∨ ∃ host, Cond.fieldLinkNest own idx ref n d host ∈ lw_tbl
section G3
variable {p : Program} {l : Launch} {e : Env} {R : Room} {s : State} {m : MethodId} {args : Array Value} {below : List Frame} {meth : Method} {c : Code} {s0 : State} {D : Dt} {S0 : SS} {nL d : Nat} {cc : ByteArray} {own : String} {ret : Option FieldType} {x : RV × SS} {pc : Nat}
theorem Cx.kn (C : Cx p l R s m args meth c s0 D S0 nL d cc own ret) {k : Nat} {y : CI} (h : ct k = some y) : u_Kn s y.1 y.2.1 y.2.2.1 (D.1 k) (D.2 k) := u_Kn_moved C.wm.alike (C.wd.2.1 k y h)
/-- a field that is read or written at an instruction: class c, slot k -/
def Fl (own : String) (idx : Nat) (c k : Nat) (P : CI → Prop) : Prop := ∃ (y : CI) (ref : String), ct c = some y ∧ k < y.2.2.1 ∧ LkF default own idx ref (y.2.1 k).2.1 (y.2.1 k).2.2.1 ∧ (ref = (y.2.1 k).1 ∨ Cond.sameField ref (y.2.1 k).1 (y.2.1 k).2.1 (y.2.1 k).2.2.1 ∈ lw_all) ∧ P y
theorem get_core (C : Cx p l R s m args meth c s0 D S0 nL d cc own ret) {idx : Nat} (hd : decode cc pc = .ok (.getfield idx, 3)) {S : SS} {H : Heap} (hH : HRel s0 D S H) {a k : Nat} {y : CI} (hy : ct (hC S a) = some y) (hk : k < y.2.2.1) {ref : String} (hl : LkF default own idx ref (y.2.1 k).2.1 (y.2.1 k).2.2.1) (hs : ref = (y.2.1 k).1 ∨ Cond.sameField ref (y.2.1 k).1 (y.2.1 k).2.1 (y.2.1 k).2.2.1 ∈ lw_all)
    {locs : List Loc} {ls : Array Slot} {i n : Nat} {Q : State → Prop} {rest : List Value} (kk : W p l e R s m args below meth c H locs i n Q (F0 m (pc + 3) ls (fval (y.2.2.2 k) (hI S a k) (hR S a k) :: rest))) : W p l e R s m args below meth c H locs i n Q (F0 m pc ls (.ref a :: rest)) := by
  obtain ⟨cell, c1, c2, c3, c4, c5, c6⟩ := hH.2.2.2.2.2.1 a y hy
  obtain ⟨hS, hfc, kC, hkC, hkind⟩ := C.kn hy
  obtain ⟨cf, kf, fi, f, hi, hsl⟩ := hS k hk
  have hi' : s.fieldFound? ref (y.2.1 k).2.1 (y.2.1 k).2.2.1 = some (cf, kf, fi, f) := by
    rcases hs with e | e
    · rw [e]; exact hi
    · exact u_same (C.ts e) _ hi
  have hst := (u_facts hfc hkC (u_lays (fun w hw => C.ts hw) (ct_ok hy).1 hk) hi).1
  rcases hl with hl | ⟨host, hl⟩
  · exact W.getf C.ex C.by C.ow (C.ts hl) hi' hst c1 c3 (by rw [hsl]; exact (c6 k hk).1) rfl rfl hd kk
  · exact va_Wgetf C.ex C.by C.ow (va_Nw.use rfl (va_Nw.warmF C.wm (C.wd.1 _ hl))) hi' hst c1 c3 (by rw [hsl]; exact (c6 k hk).1) rfl rfl hd kk
theorem sn_getI (C : Cx p l R s m args meth c s0 D S0 nL d cc own ret) {idx : Nat} {ok : List (Nat × Nat)} (hd : decode cc pc = .ok (.getfield idx, 3)) (h : ∀ q ∈ ok, Fl own idx q.1 q.2 (fun y => isI (y.2.2.2 q.2) = true)) : Snd p l e R s m args below meth c s0 D S0 nL x pc (i_getI ok (pc + 3)) := by
  intro lv st S o ho hk
  unfold i_getI at ho
  split at ho
  · rename_i a st
    split at ho
    · rename_i k hok
      rw [nx_some ho] at hk
      intro H locs ls h1 h2 h3 h4 h5 h6 h7
      obtain ⟨y, ref, f1, f2, f3, f4, f5⟩ := h _ (asc_mem hok)
      refine get_core C hd h1 f1 f2 f3 f4 ?_
      rw [fval_I f5]
      obtain ⟨_, _, _, _, _, _, c6⟩ := h1.2.2.2.2.2.1 a y f1
      exact hk H locs ls h1 h2 h3 h4 h5 (inVs_cons.mpr ⟨inT_32 f5 (c6 k f2).2, (inVs_cons.mp h6).2⟩) h7
    · cases ho
  · cases ho
theorem sn_getL (C : Cx p l R s m args meth c s0 D S0 nL d cc own ret) {idx : Nat} {ok : List (Nat × Nat)} (hd : decode cc pc = .ok (.getfield idx, 3)) (h : ∀ q ∈ ok, Fl own idx q.1 q.2 (fun y => y.2.2.2 q.2 = .long)) : Snd p l e R s m args below meth c s0 D S0 nL x pc (i_getL ok (pc + 3)) := by
  intro lv st S o ho hk
  unfold i_getL at ho
  split at ho
  · rename_i a st
    split at ho
    · rename_i k hok
      rw [nx_some ho] at hk
      intro H locs ls h1 h2 h3 h4 h5 h6 h7
      obtain ⟨y, ref, f1, f2, f3, f4, f5⟩ := h _ (asc_mem hok)
      refine get_core C hd h1 f1 f2 f3 f4 ?_
      obtain ⟨_, _, _, _, _, _, c6⟩ := h1.2.2.2.2.2.1 a y f1
      have hin := (c6 k f2).2
      dsimp only at f5
      rw [f5] at hin ⊢
      exact hk H locs ls h1 h2 h3 h4 h5 (inVs_cons.mpr ⟨hin, (inVs_cons.mp h6).2⟩) h7
    · cases ho
  · cases ho
theorem sn_getR (C : Cx p l R s m args meth c s0 D S0 nL d cc own ret) {idx : Nat} {ok : List (Nat × Nat)} (hd : decode cc pc = .ok (.getfield idx, 3)) (h : ∀ q ∈ ok, Fl own idx q.1 q.2 (fun y => isRf (y.2.2.2 q.2) = true)) : Snd p l e R s m args below meth c s0 D S0 nL x pc (i_getR ok (pc + 3)) := by
  intro lv st S o ho hk
  unfold i_getR at ho
  split at ho
  · rename_i a st
    split at ho
    · rename_i k hok
      rw [nx_some ho] at hk
      intro H locs ls h1 h2 h3 h4 h5 h6 h7
      obtain ⟨y, ref, f1, f2, f3, f4, f5⟩ := h _ (asc_mem hok)
      refine get_core C hd h1 f1 f2 f3 f4 ?_
      rw [fval_R f5]
      exact hk H locs ls h1 h2 h3 h4 h5 (inVs_cons.mpr ⟨trivial, (inVs_cons.mp h6).2⟩) h7
    · cases ho
  · cases ho
/-- a write may be made: the field isn't final, or this is the constructor of its class -/
def Wr (own : String) (meth : Method) (y : CI) (k : Nat) (nest : Bool) : Prop := (y.2.1 k).2.2.2 = false ∨ ((y.2.1 k).2.2.2 = true ∧ meth.name = "<init>" ∧ (y.2.1 k).1 = own)
theorem put_core (C : Cx p l R s m args meth c s0 D S0 nL d cc own ret) {idx : Nat} (hd : decode cc pc = .ok (.putfield idx, 3)) {S S' : SS} {H : Heap} (hH : HRel s0 D S H) {a k : Nat} {y : CI} (hy : ct (hC S a) = some y) (hro : ro (hC S a) = false) (hk : k < y.2.2.1) {ref : String} (hl : LkF default own idx ref (y.2.1 k).2.1 (y.2.1 k).2.2.1) (hs : ref = (y.2.1 k).1 ∨ Cond.sameField ref (y.2.1 k).1 (y.2.1 k).2.1 (y.2.1 k).2.2.1 ∈ lw_all)
    (hw : Wr own meth y k true) {v : Value} (hn : narrow (y.2.2.2 k) v = v) (hf : fits (y.2.2.2 k) v = true) (hdd : Hd S S') (oth : ∀ b j, ¬ (b = a ∧ j = k) → hI S' b j = hI S b j ∧ hR S' b j = hR S b j) (hv : fval (y.2.2.2 k) (hI S' a k) (hR S' a k) = v) (hin : inT (y.2.2.2 k) (hI S' a k))
    {locs : List Loc} {ls : Array Slot} {i n : Nat} {Q : State → Prop} {rest : List Value} (hlo : ∀ q ∈ locs, s0.heap.size ≤ q.base) (kk : ∀ (H' : Heap) (locs' : List Loc), HRel s0 D S' H' → H'.size = H.size → (∀ q ∈ locs', s0.heap.size ≤ q.base) → W p l e R s m args below meth c H' locs' i n Q (F0 m (pc + 3) ls rest)) : W p l e R s m args below meth c H locs i n Q (F0 m pc ls (v :: .ref a :: rest)) := by
  obtain ⟨cell, c1, c2, c3, c4, c5, c6⟩ := hH.2.2.2.2.2.1 a y hy
  obtain ⟨hS, hfc, kC, hkC, hkind⟩ := C.kn hy
  obtain ⟨cf, kf, fi, f, hi, hsl⟩ := hS k hk
  have hts : ∀ w ∈ lw_all, w.before args s = true := fun w hw => C.ts hw
  obtain ⟨o1, o2, o3⟩ := ct_ok hy
  have hi' : s.fieldFound? ref (y.2.1 k).2.1 (y.2.1 k).2.2.1 = some (cf, kf, fi, f) := by
    rcases hs with e | e
    · rw [e]; exact hi
    · exact u_same (C.ts e) _ hi
  have hst := (u_facts hfc hkC (u_lays hts o1 hk) hi).1
  have hlay := hts _ (o1 _ (u_in_lay hk))
  have hfin : hasFlag f.accessFlags Acc.final = false ∨ (m.cls = cf ∧ meth.name = "<init>") := by
    unfold u_lay at hlay
    rcases hw with h | ⟨h, h1, h2⟩
    · rw [if_neg (by rw [h]; decide)] at hlay
      exact Or.inl (u_store hfc hkC hkind hlay hi (o2 k hk) hn hf).1
    · rw [if_pos h] at hlay
      obtain ⟨_, _, c', _, _, _, -, -, hf', -, -, -, hown2, -⟩ := Cond.laysFinal_spec hlay
      have e1 : c' = cf := by have := hi.symm.trans hf'; simp at this; exact this.1.symm
      rw [h2] at hown2
      exact Or.inr ⟨by rw [← e1]; exact Option.some.inj (C.ow.symm.trans hown2), h1⟩
  have h6 := u_fits hfc hkC hkind (u_lays hts o1 hk) hi (o2 k hk) hn hf
  obtain ⟨g1, g2⟩ := c5 hro
  have hge : s0.heap.size ≤ a := by rw [← hH.g0]; exact g2
  have hlt : a < H.size := (Array.getElem?_eq_some_iff.mp c1).1
  have fin : W p l e R s m args below meth c (H.setIfInBounds a (cell.setSlot f.slot v)) (locs ++ [⟨a, f.slot⟩]) i n Q (F0 m (pc + 3) ls rest) := by
    refine kk _ _ ?_ (by simp) (fun q hq => ?_)
    · refine hH.putO C.wd hdd hy hro hk c1 (v := v) ?_ (by simp) (fun q hq => by simp [Array.getElem?_setIfInBounds, Ne.symm hq]) oth hv hin
      rw [← hsl]
      simp [Array.getElem?_setIfInBounds, hlt]
    · rcases List.mem_append.mp hq with h | h
      · exact hlo q h
      · rw [List.mem_singleton.mp h]; exact hge
  rcases hl with hl | ⟨host, hl⟩
  · exact W.putf C.ex C.by C.ow (C.ts hl) hi' hst hfin c1 c3 (by rw [hsl]; exact k2_hasslot (c6 k hk).1) h6.1 (by rw [c2, g1]; exact h6.2) rfl rfl hd fin
  · exact va_Wputf C.ex C.by C.ow (va_Nw.use rfl (va_Nw.warmF C.wm (C.wd.1 _ hl))) hi' hst hfin c1 c3 (by rw [hsl]; exact k2_hasslot (c6 k hk).1) h6.1 (by rw [c2, g1]; exact h6.2) rfl rfl hd fin
def FlP (own : String) (meth : Method) (idx : Nat) (c k : Nat) (P : CI → Prop) : Prop := ro c = false ∧ ∃ (y : CI) (ref : String), ct c = some y ∧ k < y.2.2.1 ∧ LkF default own idx ref (y.2.1 k).2.1 (y.2.1 k).2.2.1 ∧ (ref = (y.2.1 k).1 ∨ Cond.sameField ref (y.2.1 k).1 (y.2.1 k).2.1 (y.2.1 k).2.2.1 ∈ lw_all) ∧ Wr own meth y k true ∧ P y
theorem sn_putI (C : Cx p l R s m args meth c s0 D S0 nL d cc own ret) {idx : Nat} {ok : List (Nat × Nat)} (hd : decode cc pc = .ok (.putfield idx, 3)) (h : ∀ q ∈ ok, FlP own meth idx q.1 q.2 (fun y => y.2.2.2 q.2 = .int)) : Snd p l e R s m args below meth c s0 D S0 nL x pc (i_putI ok (pc + 3)) := by
  intro lv st S o ho hk
  unfold i_putI at ho
  split at ho
  · rename_i z a st
    split at ho
    · rename_i k hok
      rw [nx_some ho] at hk
      intro H locs ls h1 h2 h3 h4 h5 h6 h7
      obtain ⟨fr, y, ref, f1, f2, f3, f4, fw, f5⟩ := h _ (asc_mem hok)
      dsimp only at f5
      have hz : in32 z := (inVs_cons.mp h6).1
      refine put_core C hd h1 f1 fr f2 f3 f4 fw (v := .int (Int32.ofInt z)) (by rw [f5]; rfl) (by rw [f5]; rfl) (Hd_sI S a k z) (sI_oth S a k z) (by rw [f5, sI_at]; rfl) (by rw [f5, sI_at]; exact hz) h3 fun H' locs' r1 r2 r3 => ?_
      exact hk H' locs' ls r1 (by rw [r2]; exact h2) r3 h4 h5 (inVs_cons.mp (inVs_cons.mp h6).2).2 h7
    · cases ho
  · cases ho
theorem sn_putL (C : Cx p l R s m args meth c s0 D S0 nL d cc own ret) {idx : Nat} {ok : List (Nat × Nat)} (hd : decode cc pc = .ok (.putfield idx, 3)) (h : ∀ q ∈ ok, FlP own meth idx q.1 q.2 (fun y => y.2.2.2 q.2 = .long)) : Snd p l e R s m args below meth c s0 D S0 nL x pc (i_putL ok (pc + 3)) := by
  intro lv st S o ho hk
  unfold i_putL at ho
  split at ho
  · rename_i z a st
    split at ho
    · rename_i k hok
      rw [nx_some ho] at hk
      intro H locs ls h1 h2 h3 h4 h5 h6 h7
      obtain ⟨fr, y, ref, f1, f2, f3, f4, fw, f5⟩ := h _ (asc_mem hok)
      dsimp only at f5
      have hz : in64 z := (inVs_cons.mp h6).1
      refine put_core C hd h1 f1 fr f2 f3 f4 fw (v := .long (Int64.ofInt z)) (by rw [f5]; rfl) (by rw [f5]; rfl) (Hd_sI S a k z) (sI_oth S a k z) (by rw [f5, sI_at]; rfl) (by rw [f5, sI_at]; exact hz) h3 fun H' locs' r1 r2 r3 => ?_
      exact hk H' locs' ls r1 (by rw [r2]; exact h2) r3 h4 h5 (inVs_cons.mp (inVs_cons.mp h6).2).2 h7
    · cases ho
  · cases ho
theorem sn_putR (C : Cx p l R s m args meth c s0 D S0 nL d cc own ret) {idx : Nat} {ok : List (Nat × Nat)} (hd : decode cc pc = .ok (.putfield idx, 3)) (h : ∀ q ∈ ok, FlP own meth idx q.1 q.2 (fun y => isRf (y.2.2.2 q.2) = true)) : Snd p l e R s m args below meth c s0 D S0 nL x pc (i_putR ok (pc + 3)) := by
  intro lv st S o ho hk
  unfold i_putR at ho
  split at ho
  · rename_i r a st
    split at ho
    · rename_i k hok
      rw [nx_some ho] at hk
      intro H locs ls h1 h2 h3 h4 h5 h6 h7
      obtain ⟨fr, y, ref, f1, f2, f3, f4, fw, f5⟩ := h _ (asc_mem hok)
      dsimp only at f5
      obtain ⟨_, _, _, _, _, _, c6⟩ := h1.2.2.2.2.2.1 a y f1
      have hin := (c6 k f2).2
      refine put_core C hd h1 f1 fr f2 f3 f4 fw (v := va_rf r) ?_ ?_ (Hd_sR S a k r) (sR_oth S a k r) (by rw [fval_R f5, sR_at]) hin h3 fun H' locs' r1 r2 r3 => ?_
      · revert f5
        cases y.2.2.2 k <;> intro f5 <;> first | (cases r <;> rfl) | cases f5
      · revert f5
        cases y.2.2.2 k <;> intro f5 <;> first | (cases r <;> rfl) | cases f5
      · exact hk H' locs' ls r1 (by rw [r2]; exact h2) r3 h4 h5 (inVs_cons.mp (inVs_cons.mp h6).2).2 h7
    · cases ho
  · cases ho
/-- a small type's values stand -/
def smT (ty : FieldType) (lo hi : Int) : Bool := match ty with
  | .boolean => lo == 0 && hi == 1
  | .byte => lo == -128 && hi == 127
  | .char => lo == 0 && hi == 65535
  | .short => lo == -32768 && hi == 32767
  | _ => false
theorem toInt_small8 {z : Int} (h : -128 ≤ z ∧ z ≤ 127) : (Int32.ofInt z).toInt8.toInt32 = Int32.ofInt z := by
  apply Int32.toInt_inj.mp
  rw [Int8.toInt_toInt32, Int32.toInt8_ofInt, Int8.toInt_ofInt_of_le (by omega) (by omega), to_of32 ⟨by omega, by omega⟩]
theorem toInt_small16 {z : Int} (h : -32768 ≤ z ∧ z ≤ 32767) : (Int32.ofInt z).toInt16.toInt32 = Int32.ofInt z := by
  apply Int32.toInt_inj.mp
  rw [Int16.toInt_toInt32, Int32.toInt16_ofInt, Int16.toInt_ofInt_of_le (by omega) (by omega), to_of32 ⟨by omega, by omega⟩]
theorem ofInt_nI {z : Int} (h : 0 ≤ z) : Int32.ofInt z = nI z.toNat := by
  obtain ⟨n, rfl⟩ := Int.eq_ofNat_of_zero_le h
  exact Int32.ofInt_eq_ofNat
theorem sm_narrow {ty : FieldType} {lo hi z : Int} (h : smT ty lo hi = true) (hz : lo ≤ z ∧ z ≤ hi) : narrow ty (.int (Int32.ofInt z)) = .int (Int32.ofInt z) ∧ fits ty (.int (Int32.ofInt z)) = true ∧ inT ty z := by
  cases ty <;> simp only [smT, Bool.and_eq_true, beq_iff_eq] at h <;> try (cases h; done)
  · obtain ⟨rfl, rfl⟩ := h
    have e := toInt_small8 hz
    refine ⟨by rw [narrow_byte, e], by rw [← e]; exact pk_fb _, hz⟩
  · obtain ⟨rfl, rfl⟩ := h
    rw [ofInt_nI hz.1]
    obtain ⟨a, b⟩ := pk_charN (q := z.toNat) (by omega)
    exact ⟨a, b, hz⟩
  · obtain ⟨rfl, rfl⟩ := h
    have e := toInt_small16 hz
    refine ⟨by rw [narrow_short, e], by rw [← e]; exact pk_fs _, hz⟩
  · obtain ⟨rfl, rfl⟩ := h
    have : z = 0 ∨ z = 1 := by omega
    rcases this with rfl | rfl
    · exact ⟨rfl, rfl, by decide, by decide⟩
    · exact ⟨rfl, rfl, by decide, by decide⟩
theorem sn_putT (C : Cx p l R s m args meth c s0 D S0 nL d cc own ret) {idx : Nat} {lo hi : Int} {ok : List (Nat × Nat)} (hd : decode cc pc = .ok (.putfield idx, 3)) (h : ∀ q ∈ ok, FlP own meth idx q.1 q.2 (fun y => smT (y.2.2.2 q.2) lo hi = true)) : Snd p l e R s m args below meth c s0 D S0 nL x pc (i_putT lo hi ok (pc + 3)) := by
  intro lv st S o ho hk
  unfold i_putT at ho
  split at ho
  · rename_i z a st
    split at ho
    · rename_i k hok
      by_cases hz : lo ≤ z ∧ z ≤ hi
      · rw [if_pos hz] at ho
        rw [nx_some ho] at hk
        intro H locs ls h1 h2 h3 h4 h5 h6 h7
        obtain ⟨fr, y, ref, f1, f2, f3, f4, fw, f5⟩ := h _ (asc_mem hok)
        dsimp only at f5
        obtain ⟨n1, n2, n3⟩ := sm_narrow f5 hz
        have hI : isI (y.2.2.2 k) = true := by
          revert f5
          cases y.2.2.2 k <;> intro f5 <;> first | rfl | cases f5
        refine put_core C hd h1 f1 fr f2 f3 f4 fw (v := .int (Int32.ofInt z)) n1 n2 (Hd_sI S a k z) (sI_oth S a k z) (by rw [fval_I hI, sI_at]) (by rw [sI_at]; exact n3) h3 fun H' locs' r1 r2 r3 => ?_
        exact hk H' locs' ls r1 (by rw [r2]; exact h2) r3 h4 h5 (inVs_cons.mp (inVs_cons.mp h6).2).2 h7
      · rw [if_neg hz] at ho; cases ho
    · cases ho
  · cases ho
end G3
