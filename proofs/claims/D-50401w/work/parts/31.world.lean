/-! ROWS OF THE WORLD: statics, strings, mirrors, instanceof -/
set_option maxRecDepth 100000
section G10
variable {p : Program} {l : Launch} {e : Env} {R : Room} {s : State} {m : MethodId} {args : Array Value} {below : List Frame} {meth : Method} {c : Code} {s0 : State} {D : Dt} {S0 : SS} {nL d : Nat} {cc : ByteArray} {own : String} {ret : Option FieldType} {x : RV × SS} {pc : Nat}
theorem sn_g {f : SS → V} {n : Nat} (hf : ∀ S, inV (f S)) (hw : ∀ (S : SS) (H : Heap) (locs : List Loc) (ls : Array Slot) (k i : Nat) (Q : State → Prop) (rest : List Value), HRel s0 D S H → W p l e R s m args below meth c H locs k i Q (F0 m n ls (tv (f S) :: rest)) → W p l e R s m args below meth c H locs k i Q (F0 m pc ls rest)) :
    Snd p l e R s m args below meth c s0 D S0 nL x pc (fun lv st S => nx n lv (f S :: st) S) := by
  intro lv st S o ho hk
  rw [nx_some ho] at hk
  intro H locs ls h1 h2 h3 h4 h5 h6 h7
  exact hw S H locs ls _ _ _ _ h1 (hk H locs ls h1 h2 h3 h4 h5 (inVs_cons.mpr ⟨hf S, h6⟩) h7)
theorem gets_core (C : Cx p l R s m args meth c s0 D S0 nL d cc own ret) {K n dd : String} {v : Value} {idx : Nat} (hd : decode cc pc = .ok (.getstatic idx, 3)) (hl : Cond.fieldLink own idx K n dd ∈ lw_all) (hZ : va_Z K n dd v (fun _ => False) s0 s0.heap) {S : SS} {H : Heap} (h1 : HRel s0 D S H) {locs : List Loc} {ls : Array Slot} {k i : Nat} {Q : State → Prop} {rest : List Value}
    (kk : W p l e R s m args below meth c H locs k i Q (F0 m (pc + 3) ls (v :: rest))) : W p l e R s m args below meth c H locs k i Q (F0 m pc ls rest) := by
  obtain ⟨cf, kf, fi, f, a, cell, g1, g2, g3, g4, g5, g6, g7, g8⟩ := hZ.moved C.wm.alike
  exact W.gets C.ex C.by C.ow (C.ts hl) g1 g2 g3 g4 (by rw [h1.2.2.2.1 a (Array.getElem?_eq_some_iff.mp g5).1]; exact g5) (fun e => by rw [e] at g6; cases g6) g7 rfl hd kk
theorem sn_getsR (C : Cx p l R s m args meth c s0 D S0 nL d cc own ret) {idx k : Nat} {K n dd : String} (hd : decode cc pc = .ok (.getstatic idx, 3)) (hl : Cond.fieldLink own idx K n dd ∈ lw_all) (hk : (k, K, n, dd) ∈ gRef) : Snd p l e R s m args below meth c s0 D S0 nL x pc (i_gr k (pc + 3)) :=
  sn_g (f := fun S => vR (some (hG S k))) (fun _ => trivial) fun S H locs ls k' i Q rest h1 kk => gets_core C hd hl (C.wd.2.2.2.1 _ hk) h1 (by rw [← h1.2.1]; exact kk)
theorem sn_getsQ (C : Cx p l R s m args meth c s0 D S0 nL d cc own ret) {idx k : Nat} {K n dd : String} (hd : decode cc pc = .ok (.getstatic idx, 3)) (hl : Cond.fieldLink own idx K n dd ∈ lw_all) (hk : (k, K, n, dd) ∈ gQr) : Snd p l e R s m args below meth c s0 D S0 nL x pc (i_gq k (pc + 3)) :=
  sn_g (f := fun S => vR (unE (hG S k))) (fun _ => trivial) fun S H locs ls k' i Q rest h1 kk => gets_core C hd hl (C.wd.2.2.2.2.1 _ hk) h1 (by rw [← h1.2.1]; exact kk)
theorem sn_getsI (C : Cx p l R s m args meth c s0 D S0 nL d cc own ret) {idx : Nat} {z : Int} {K n dd : String} (hz : in32 z) (hd : decode cc pc = .ok (.getstatic idx, 3)) (hl : Cond.fieldLink own idx K n dd ∈ lw_all) (hk : (z, K, n, dd) ∈ gInt) : Snd p l e R s m args below meth c s0 D S0 nL x pc (i_push (vI z) (pc + 3)) :=
  sn_g (f := fun S => vI z) (fun _ => hz) fun S H locs ls k' i Q rest h1 kk => gets_core C hd hl (C.wd.2.2.2.2.2.1 _ hk) h1 kk
theorem str_at (C : Cx p l R s m args meth c s0 D S0 nL d cc own ret) {idx k : Nat} {tx : String} (hk : (k, own, idx, tx) ∈ gStr) {S : SS} {H : Heap} (h1 : HRel s0 D S H) : vk_R own idx tx (hG S k) s := by
  rw [h1.2.1]
  exact vk_R.warm C.wm (C.wd.2.2.1 _ hk)
theorem sn_ldcS (C : Cx p l R s m args meth c s0 D S0 nL d cc own ret) {idx k : Nat} {tx : String} (hd : decode cc pc = .ok (.ldc idx, 2)) (hk : (k, own, idx, tx) ∈ gStr) : Snd p l e R s m args below meth c s0 D S0 nL x pc (i_gr k (pc + 2)) :=
  sn_g (f := fun S => vR (some (hG S k))) (fun _ => trivial) fun S H locs ls k' i Q rest h1 kk => va_ldcS C.ex C.by C.ow (str_at C hk h1) hd kk
theorem sn_ldcwS (C : Cx p l R s m args meth c s0 D S0 nL d cc own ret) {idx k : Nat} {tx : String} (hd : decode cc pc = .ok (.ldc_w idx, 3)) (hk : (k, own, idx, tx) ∈ gStr) : Snd p l e R s m args below meth c s0 D S0 nL x pc (i_gr k (pc + 3)) :=
  sn_g (f := fun S => vR (some (hG S k))) (fun _ => trivial) fun S H locs ls k' i Q rest h1 kk => by
    intro T hT X
    obtain ⟨t, a1, b1⟩ := kk T hT X
    have hZ := str_at C hk h1
    exact ⟨t, X.ldcStringW C.ex C.ow hZ.1 hZ.2 (g := F0 m pc ls rest) rfl (by rw [C.by]; exact hd) t a1, b1⟩
theorem sn_ldcM (C : Cx p l R s m args meth c s0 D S0 nL d cc own ret) {idx : Nat} (hd : decode cc pc = .ok (.ldc idx, 2)) (hl : Cond.classLink own idx "[Ljava/lang/Object;" ∈ lw_all) : Snd p l e R s m args below meth c s0 D S0 nL x pc (i_gr 60 (pc + 2)) :=
  sn_g (f := fun S => vR (some (hG S 60))) (fun _ => trivial) fun S H locs ls k' i Q rest h1 kk => va_ldcM C.ex C.by C.ow (C.ts hl) (by rw [h1.2.1]; exact (C.wd.2.2.2.2.2.2.1).moved C.wm.alike) hd kk
def Nc (C nm : String) : Prop := (C, nm) ∈ gNc
theorem sn_inst (C : Cx p l R s m args meth c s0 D S0 nL d cc own ret) {idx : Nat} {nm : String} {yes no : List Nat} (hd : decode cc pc = .ok (.instanceof idx, 3)) (hl : Cond.classLink own idx nm ∈ lw_all) (hy : ∀ q ∈ yes, ∃ y : CI, ct q = some y ∧ (y.1 = nm ∨ Cond.castable y.1 nm ∈ lw_tbl)) (hn : ∀ q ∈ no, ∃ y : CI, ct q = some y ∧ Nc y.1 nm) : Snd p l e R s m args below meth c s0 D S0 nL x pc (i_inst yes no (pc + 3)) := by
  intro lv st S o ho hk
  unfold i_inst at ho
  split at ho
  · rename_i a st
    cases hb : mem yes (hC S a) with
    | true =>
      rw [hb] at ho
      rw [nx_some ho] at hk
      intro H locs ls h1 h2 h3 h4 h5 h6 h7
      obtain ⟨y, hy1, hy2⟩ := hy _ (mem_mem hb)
      obtain ⟨cell, kB, r1, r2, r3, r4⟩ := rc_cell C h1 hy1
      have hk' := hk H locs ls h1 h2 h3 h4 h5 (inVs_cons.mpr ⟨⟨by decide, by decide⟩, (inVs_cons.mp h6).2⟩) h7
      rcases hy2 with hy2 | hy2
      · rw [hy2] at r3
        exact va_instE C.ex C.by C.ow (C.ts hl) ⟨cell, r1, r2, r3⟩ hd hk'
      · exact va_instY C.ex C.by C.ow (C.ts hl) (va_Nw.warmC C.wm (C.wd.1 _ hy2)) ⟨cell, r1, r2, r3⟩ hd hk'
    | false =>
      rw [hb] at ho
      cases hb2 : mem no (hC S a) with
      | false => rw [hb2] at ho; cases ho
      | true =>
        rw [hb2] at ho
        rw [nx_some ho] at hk
        intro H locs ls h1 h2 h3 h4 h5 h6 h7
        obtain ⟨y, hy1, hy2⟩ := hn _ (mem_mem hb2)
        obtain ⟨cell, kB, r1, r2, r3, r4⟩ := rc_cell C h1 hy1
        have hk' := hk H locs ls h1 h2 h3 h4 h5 (inVs_cons.mpr ⟨in32_0, (inVs_cons.mp h6).2⟩) h7
        exact va_instNo C.ex C.by C.ow (C.ts hl) ((C.wd.2.2.2.2.2.2.2.1 _ hy2).moved C.wm.alike) ⟨cell, r1, r2, r3⟩ hd hk'
  · rename_i st
    rw [nx_some ho] at hk
    intro H locs ls h1 h2 h3 h4 h5 h6 h7
    exact lv_instN C.ex C.by hd (hk H locs ls h1 h2 h3 h4 h5 (inVs_cons.mpr ⟨in32_0, (inVs_cons.mp h6).2⟩) h7)
  · cases ho
end G10
