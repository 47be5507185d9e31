/-! FLOATS AND DOUBLES -/
set_option maxRecDepth 100000
section G14
variable {p : Program} {l : Launch} {e : Env} {R : Room} {s : State} {m : MethodId} {args : Array Value} {below : List Frame} {meth : Method} {c : Code} {s0 : State} {D : Dt} {S0 : SS} {nL d : Nat} {cc : ByteArray} {own : String} {ret : Option FieldType} {x : RV × SS} {pc : Nat}
theorem sn_dconst0 (C : Cx p l R s m args meth c s0 D S0 nL d cc own ret) (hd : decode cc pc = .ok (.dconst 0, 1)) : Snd p l e R s m args below meth c s0 D S0 nL x pc (i_push (vD FP.dconst0) (pc + 1)) :=
  sn_push trivial fun H locs ls k i Q rest kk => lv_dconst0 C.ex C.by hd kk
theorem sn_fconst0 (C : Cx p l R s m args meth c s0 D S0 nL d cc own ret) (hd : decode cc pc = .ok (.fconst 0, 1)) : Snd p l e R s m args below meth c s0 D S0 nL x pc (i_push (vF FP.fconst0) (pc + 1)) :=
  sn_push trivial fun H locs ls k i Q rest kk => lv_fconst0 C.ex C.by hd kk
theorem sn_i2d (C : Cx p l R s m args meth c s0 D S0 nL d cc own ret) (hd : decode cc pc = .ok (.i2d, 1)) : Snd p l e R s m args below meth c s0 D S0 nL x pc (i_i2d (pc + 1)) := by
  refine sn_nx fun lv st S o ho => ?_
  unfold i_i2d at ho
  split at ho
  · rename_i z st
    exact ⟨_, _, _, nx_some ho, fun a b => ⟨a, inVs_cons.mpr ⟨trivial, (inVs_cons.mp b).2⟩⟩, fun H locs ls k i Q hl _ _ kk => lv_i2d C.ex C.by hd (kk ls hl)⟩
  · cases ho
theorem sn_i2f (C : Cx p l R s m args meth c s0 D S0 nL d cc own ret) (hd : decode cc pc = .ok (.i2f, 1)) : Snd p l e R s m args below meth c s0 D S0 nL x pc (i_i2f (pc + 1)) := by
  refine sn_nx fun lv st S o ho => ?_
  unfold i_i2f at ho
  split at ho
  · rename_i z st
    exact ⟨_, _, _, nx_some ho, fun a b => ⟨a, inVs_cons.mpr ⟨trivial, (inVs_cons.mp b).2⟩⟩, fun H locs ls k i Q hl _ _ kk => lv_i2f C.ex C.by hd (kk ls hl)⟩
  · cases ho
theorem sn_ddiv (C : Cx p l R s m args meth c s0 D S0 nL d cc own ret) (hd : decode cc pc = .ok (.ddiv, 1)) : Snd p l e R s m args below meth c s0 D S0 nL x pc (i_ddiv (pc + 1)) := by
  refine sn_nx fun lv st S o ho => ?_
  unfold i_ddiv at ho
  split at ho
  · rename_i v u st
    by_cases hb : FP.ddiv u v &&& 0x7fffffffffffffff ≤ 0x7ff0000000000000
    · rw [decide_eq_true hb] at ho
      exact ⟨_, _, _, nx_some ho, fun a b => ⟨a, inVs_cons.mpr ⟨trivial, (inVs_cons.mp (inVs_cons.mp b).2).2⟩⟩, fun H locs ls k i Q hl _ _ kk => lv_ddiv C.ex C.by hd hb (kk ls hl)⟩
    · rw [decide_eq_false hb] at ho; cases ho
  · cases ho
theorem sn_fdiv (C : Cx p l R s m args meth c s0 D S0 nL d cc own ret) (hd : decode cc pc = .ok (.fdiv, 1)) : Snd p l e R s m args below meth c s0 D S0 nL x pc (i_fdiv (pc + 1)) := by
  refine sn_nx fun lv st S o ho => ?_
  unfold i_fdiv at ho
  split at ho
  · rename_i v u st
    by_cases hb : FP.fdiv u v &&& 0x7fffffff ≤ 0x7f800000
    · rw [decide_eq_true hb] at ho
      exact ⟨_, _, _, nx_some ho, fun a b => ⟨a, inVs_cons.mpr ⟨trivial, (inVs_cons.mp (inVs_cons.mp b).2).2⟩⟩, fun H locs ls k i Q hl _ _ kk => lv_fdiv C.ex C.by hd hb (kk ls hl)⟩
    · rw [decide_eq_false hb] at ho; cases ho
  · cases ho
theorem sn_f2d (C : Cx p l R s m args meth c s0 D S0 nL d cc own ret) (hd : decode cc pc = .ok (.f2d, 1)) : Snd p l e R s m args below meth c s0 D S0 nL x pc (i_f2d (pc + 1)) := by
  refine sn_nx fun lv st S o ho => ?_
  unfold i_f2d at ho
  split at ho
  · rename_i u st
    by_cases hb : FP.f2d u &&& 0x7fffffffffffffff ≤ 0x7ff0000000000000
    · rw [decide_eq_true hb] at ho
      exact ⟨_, _, _, nx_some ho, fun a b => ⟨a, inVs_cons.mpr ⟨trivial, (inVs_cons.mp b).2⟩⟩, fun H locs ls k i Q hl _ _ kk => lv_f2d C.ex C.by hd hb (kk ls hl)⟩
    · rw [decide_eq_false hb] at ho; cases ho
  · cases ho
theorem sn_dcmp (C : Cx p l R s m args meth c s0 D S0 nL d cc own ret) {op : CmpOp} (hd : decode cc pc = .ok (.dcmp op, 1)) : Snd p l e R s m args below meth c s0 D S0 nL x pc (i_dcmp op (pc + 1)) := by
  refine sn_nx fun lv st S o ho => ?_
  unfold i_dcmp at ho
  split at ho
  · rename_i v u st
    refine ⟨_, _, _, nx_some ho, fun a b => ⟨a, inVs_cons.mpr ⟨in32_to _, (inVs_cons.mp (inVs_cons.mp b).2).2⟩⟩, fun H locs ls k i Q hl _ _ kk => lv_dcmp C.ex C.by hd ?_⟩
    have := kk ls hl
    rw [List.map_cons, show tv (vI (Op.cmpValue (FP.dcmp u v) op).toInt) = .int (Op.cmpValue (FP.dcmp u v) op) from congrArg Value.int (of_to32 _)] at this
    exact this
  · cases ho
end G14
