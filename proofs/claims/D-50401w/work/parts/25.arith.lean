/-! ROWS: numbers, the stack, branches -/
set_option maxRecDepth 100000
theorem add32 (x y : Int) : Int32.ofInt x + Int32.ofInt y = Int32.ofInt (w32 (x + y)) := by rw [of_w32, Int32.ofInt_add]
theorem sub32 (x y : Int) : Int32.ofInt x - Int32.ofInt y = Int32.ofInt (w32 (x - y)) := by rw [of_w32, Int32.ofInt_sub]
theorem mul32 (x y : Int) : Int32.ofInt x * Int32.ofInt y = Int32.ofInt (w32 (x * y)) := by rw [of_w32, Int32.ofInt_mul]
theorem neg32 (x : Int) : - Int32.ofInt x = Int32.ofInt (w32 (- x)) := by rw [of_w32, Int32.ofInt_neg]
theorem add64 (x y : Int) : Int64.ofInt x + Int64.ofInt y = Int64.ofInt (w64 (x + y)) := by rw [of_w64, Int64.ofInt_add]
theorem sub64 (x y : Int) : Int64.ofInt x - Int64.ofInt y = Int64.ofInt (w64 (x - y)) := by rw [of_w64, Int64.ofInt_sub]
theorem mul64 (x y : Int) : Int64.ofInt x * Int64.ofInt y = Int64.ofInt (w64 (x * y)) := by rw [of_w64, Int64.ofInt_mul]
section G2
variable {p : Program} {l : Launch} {e : Env} {R : Room} {s : State} {m : MethodId} {args : Array Value} {below : List Frame} {meth : Method} {c : Code} {s0 : State} {D : Dt} {S0 : SS} {nL d : Nat} {cc : ByteArray} {own : String} {ret : Option FieldType} {x : RV × SS} {pc : Nat}
theorem sn_ii {f : Int → Int → Int} {n : Nat} (hf : ∀ a b, in32 (f a b)) (hw : ∀ (H : Heap) (locs : List Loc) (ls : Array Slot) (k i : Nat) (Q : State → Prop) (rest : List Value) (a b : Int), in32 a → in32 b → W p l e R s m args below meth c H locs k i Q (F0 m n ls (.int (Int32.ofInt (f a b)) :: rest)) → W p l e R s m args below meth c H locs k i Q (F0 m pc ls (.int (Int32.ofInt b) :: .int (Int32.ofInt a) :: rest))) :
    Snd p l e R s m args below meth c s0 D S0 nL x pc (i_ii f n) := by
  refine sn_nx fun lv st S o ho => ?_
  unfold i_ii at ho
  split at ho
  · rename_i b a st
    refine ⟨_, _, _, nx_some ho, fun h1 h2 => ⟨h1, inVs_cons.mpr ⟨hf _ _, (inVs_cons.mp (inVs_cons.mp h2).2).2⟩⟩, fun H locs ls k i Q hl _ h2 kk => ?_⟩
    exact hw H locs ls k i Q _ a b (inVs_cons.mp (inVs_cons.mp h2).2).1 (inVs_cons.mp h2).1 (kk ls hl)
  · cases ho
theorem sn_ll {f : Int → Int → Int} {n : Nat} (hf : ∀ a b, in64 (f a b)) (hw : ∀ (H : Heap) (locs : List Loc) (ls : Array Slot) (k i : Nat) (Q : State → Prop) (rest : List Value) (a b : Int), in64 a → in64 b → W p l e R s m args below meth c H locs k i Q (F0 m n ls (.long (Int64.ofInt (f a b)) :: rest)) → W p l e R s m args below meth c H locs k i Q (F0 m pc ls (.long (Int64.ofInt b) :: .long (Int64.ofInt a) :: rest))) :
    Snd p l e R s m args below meth c s0 D S0 nL x pc (i_ll f n) := by
  refine sn_nx fun lv st S o ho => ?_
  unfold i_ll at ho
  split at ho
  · rename_i b a st
    refine ⟨_, _, _, nx_some ho, fun h1 h2 => ⟨h1, inVs_cons.mpr ⟨hf _ _, (inVs_cons.mp (inVs_cons.mp h2).2).2⟩⟩, fun H locs ls k i Q hl _ h2 kk => ?_⟩
    exact hw H locs ls k i Q _ a b (inVs_cons.mp (inVs_cons.mp h2).2).1 (inVs_cons.mp h2).1 (kk ls hl)
  · cases ho
theorem sn_li {f : Int → Int → Int} {n : Nat} (hf : ∀ a b, in64 (f a b)) (hw : ∀ (H : Heap) (locs : List Loc) (ls : Array Slot) (k i : Nat) (Q : State → Prop) (rest : List Value) (a b : Int), in64 a → in32 b → W p l e R s m args below meth c H locs k i Q (F0 m n ls (.long (Int64.ofInt (f a b)) :: rest)) → W p l e R s m args below meth c H locs k i Q (F0 m pc ls (.int (Int32.ofInt b) :: .long (Int64.ofInt a) :: rest))) :
    Snd p l e R s m args below meth c s0 D S0 nL x pc (i_li f n) := by
  refine sn_nx fun lv st S o ho => ?_
  unfold i_li at ho
  split at ho
  · rename_i b a st
    refine ⟨_, _, _, nx_some ho, fun h1 h2 => ⟨h1, inVs_cons.mpr ⟨hf _ _, (inVs_cons.mp (inVs_cons.mp h2).2).2⟩⟩, fun H locs ls k i Q hl _ h2 kk => ?_⟩
    exact hw H locs ls k i Q _ a b (inVs_cons.mp (inVs_cons.mp h2).2).1 (inVs_cons.mp h2).1 (kk ls hl)
  · cases ho
theorem sn_i1 {f : Int → Int} {n : Nat} (hf : ∀ a, in32 (f a)) (hw : ∀ (H : Heap) (locs : List Loc) (ls : Array Slot) (k i : Nat) (Q : State → Prop) (rest : List Value) (a : Int), in32 a → W p l e R s m args below meth c H locs k i Q (F0 m n ls (.int (Int32.ofInt (f a)) :: rest)) → W p l e R s m args below meth c H locs k i Q (F0 m pc ls (.int (Int32.ofInt a) :: rest))) :
    Snd p l e R s m args below meth c s0 D S0 nL x pc (i_i1 f n) := by
  refine sn_nx fun lv st S o ho => ?_
  unfold i_i1 at ho
  split at ho
  · rename_i a st
    refine ⟨_, _, _, nx_some ho, fun h1 h2 => ⟨h1, inVs_cons.mpr ⟨hf _, (inVs_cons.mp h2).2⟩⟩, fun H locs ls k i Q hl _ h2 kk => ?_⟩
    exact hw H locs ls k i Q _ a (inVs_cons.mp h2).1 (kk ls hl)
  · cases ho

theorem sn_iadd (C : Cx p l R s m args meth c s0 D S0 nL d cc own ret) (hd : decode cc pc = .ok (.iadd, 1)) : Snd p l e R s m args below meth c s0 D S0 nL x pc (i_ii (fun x y => w32 (x + y)) (pc + 1)) :=
  sn_ii (fun _ _ => w32_in _) fun H locs ls k i Q rest a b _ _ kk => lv_iadd C.ex C.by hd (by rw [add32]; exact kk)
theorem sn_isub (C : Cx p l R s m args meth c s0 D S0 nL d cc own ret) (hd : decode cc pc = .ok (.isub, 1)) : Snd p l e R s m args below meth c s0 D S0 nL x pc (i_ii (fun x y => w32 (x - y)) (pc + 1)) :=
  sn_ii (fun _ _ => w32_in _) fun H locs ls k i Q rest a b _ _ kk => lv_isub C.ex C.by hd (by rw [sub32]; exact kk)
theorem sn_imul (C : Cx p l R s m args meth c s0 D S0 nL d cc own ret) (hd : decode cc pc = .ok (.imul, 1)) : Snd p l e R s m args below meth c s0 D S0 nL x pc (i_ii (fun x y => w32 (x * y)) (pc + 1)) :=
  sn_ii (fun _ _ => w32_in _) fun H locs ls k i Q rest a b _ _ kk => lv_imul C.ex C.by hd (by rw [mul32]; exact kk)
theorem sn_iand (C : Cx p l R s m args meth c s0 D S0 nL d cc own ret) (hd : decode cc pc = .ok (.iand, 1)) : Snd p l e R s m args below meth c s0 D S0 nL x pc (i_ii band (pc + 1)) :=
  sn_ii (fun _ _ => in32_to _) fun H locs ls k i Q rest a b _ _ kk => lv_iand C.ex C.by hd (by simp only [band, of_to32] at kk; exact kk)
theorem sn_ior (C : Cx p l R s m args meth c s0 D S0 nL d cc own ret) (hd : decode cc pc = .ok (.ior, 1)) : Snd p l e R s m args below meth c s0 D S0 nL x pc (i_ii bor (pc + 1)) :=
  sn_ii (fun _ _ => in32_to _) fun H locs ls k i Q rest a b _ _ kk => lv_ior C.ex C.by hd (by simp only [bor, of_to32] at kk; exact kk)
theorem sn_ixor (C : Cx p l R s m args meth c s0 D S0 nL d cc own ret) (hd : decode cc pc = .ok (.ixor, 1)) : Snd p l e R s m args below meth c s0 D S0 nL x pc (i_ii bxor (pc + 1)) :=
  sn_ii (fun _ _ => in32_to _) fun H locs ls k i Q rest a b _ _ kk => lv_ixor C.ex C.by hd (by simp only [bxor, of_to32] at kk; exact kk)
theorem sn_ishl (C : Cx p l R s m args meth c s0 D S0 nL d cc own ret) (hd : decode cc pc = .ok (.ishl, 1)) : Snd p l e R s m args below meth c s0 D S0 nL x pc (i_ii bshl (pc + 1)) :=
  sn_ii (fun _ _ => in32_to _) fun H locs ls k i Q rest a b _ _ kk => lv_ishl C.ex C.by hd (by simp only [bshl, of_to32] at kk; exact kk)
theorem sn_ishr (C : Cx p l R s m args meth c s0 D S0 nL d cc own ret) (hd : decode cc pc = .ok (.ishr, 1)) : Snd p l e R s m args below meth c s0 D S0 nL x pc (i_ii bshr (pc + 1)) :=
  sn_ii (fun _ _ => in32_to _) fun H locs ls k i Q rest a b _ _ kk => lv_ishr C.ex C.by hd (by simp only [bshr, of_to32] at kk; exact kk)
theorem sn_iushr (C : Cx p l R s m args meth c s0 D S0 nL d cc own ret) (hd : decode cc pc = .ok (.iushr, 1)) : Snd p l e R s m args below meth c s0 D S0 nL x pc (i_ii bushr (pc + 1)) :=
  sn_ii (fun _ _ => in32_to _) fun H locs ls k i Q rest a b _ _ kk => lv_iushr C.ex C.by hd rfl (by simp only [bushr, of_to32] at kk; exact kk)
theorem sn_ineg (C : Cx p l R s m args meth c s0 D S0 nL d cc own ret) (hd : decode cc pc = .ok (.ineg, 1)) : Snd p l e R s m args below meth c s0 D S0 nL x pc (i_i1 (fun x => w32 (- x)) (pc + 1)) :=
  sn_i1 (fun _ => w32_in _) fun H locs ls k i Q rest a _ kk => lv_ineg C.ex C.by hd (by rw [neg32]; exact kk)
theorem sn_i2b (C : Cx p l R s m args meth c s0 D S0 nL d cc own ret) (hd : decode cc pc = .ok (.i2b, 1)) : Snd p l e R s m args below meth c s0 D S0 nL x pc (i_i1 i2b (pc + 1)) :=
  sn_i1 (fun _ => in32_to _) fun H locs ls k i Q rest a _ kk => lv_i2b C.ex C.by hd rfl (by simp only [i2b, of_to32] at kk; exact kk)
theorem sn_i2c (C : Cx p l R s m args meth c s0 D S0 nL d cc own ret) (hd : decode cc pc = .ok (.i2c, 1)) : Snd p l e R s m args below meth c s0 D S0 nL x pc (i_i1 i2c (pc + 1)) :=
  sn_i1 (fun _ => in32_to _) fun H locs ls k i Q rest a _ kk => lv_i2c C.ex C.by hd rfl (by simp only [i2c, of_to32] at kk; exact kk)
theorem sn_ladd (C : Cx p l R s m args meth c s0 D S0 nL d cc own ret) (hd : decode cc pc = .ok (.ladd, 1)) : Snd p l e R s m args below meth c s0 D S0 nL x pc (i_ll (fun x y => w64 (x + y)) (pc + 1)) :=
  sn_ll (fun _ _ => w64_in _) fun H locs ls k i Q rest a b _ _ kk => lv_ladd C.ex C.by hd (by rw [add64]; exact kk)
theorem sn_lsub (C : Cx p l R s m args meth c s0 D S0 nL d cc own ret) (hd : decode cc pc = .ok (.lsub, 1)) : Snd p l e R s m args below meth c s0 D S0 nL x pc (i_ll (fun x y => w64 (x - y)) (pc + 1)) :=
  sn_ll (fun _ _ => w64_in _) fun H locs ls k i Q rest a b _ _ kk => lv_lsub C.ex C.by hd (by rw [sub64]; exact kk)
theorem sn_lmul (C : Cx p l R s m args meth c s0 D S0 nL d cc own ret) (hd : decode cc pc = .ok (.lmul, 1)) : Snd p l e R s m args below meth c s0 D S0 nL x pc (i_ll (fun x y => w64 (x * y)) (pc + 1)) :=
  sn_ll (fun _ _ => w64_in _) fun H locs ls k i Q rest a b _ _ kk => lv_lmul C.ex C.by hd (by rw [mul64]; exact kk)
theorem sn_land (C : Cx p l R s m args meth c s0 D S0 nL d cc own ret) (hd : decode cc pc = .ok (.land, 1)) : Snd p l e R s m args below meth c s0 D S0 nL x pc (i_ll land (pc + 1)) :=
  sn_ll (fun _ _ => in64_to _) fun H locs ls k i Q rest a b _ _ kk => lv_land C.ex C.by hd (by simp only [land, of_to64] at kk; exact kk)
theorem sn_lor (C : Cx p l R s m args meth c s0 D S0 nL d cc own ret) (hd : decode cc pc = .ok (.lor, 1)) : Snd p l e R s m args below meth c s0 D S0 nL x pc (i_ll lor (pc + 1)) :=
  sn_ll (fun _ _ => in64_to _) fun H locs ls k i Q rest a b _ _ kk => lv_lor C.ex C.by hd (by simp only [lor, of_to64] at kk; exact kk)
theorem sn_lshl (C : Cx p l R s m args meth c s0 D S0 nL d cc own ret) (hd : decode cc pc = .ok (.lshl, 1)) : Snd p l e R s m args below meth c s0 D S0 nL x pc (i_li lshl (pc + 1)) :=
  sn_li (fun _ _ => in64_to _) fun H locs ls k i Q rest a b _ _ kk => lv_lshl C.ex C.by hd rfl (by simp only [lshl, of_to64] at kk; exact kk)
theorem sn_lushr (C : Cx p l R s m args meth c s0 D S0 nL d cc own ret) (hd : decode cc pc = .ok (.lushr, 1)) : Snd p l e R s m args below meth c s0 D S0 nL x pc (i_li lushr (pc + 1)) :=
  sn_li (fun _ _ => in64_to _) fun H locs ls k i Q rest a b _ _ kk => lv_lushr C.ex C.by hd rfl (by simp only [lushr, of_to64] at kk; exact kk)
theorem div32 {x y : Int} (hx : in32 x) (hy : in32 y) : Int32.ofInt x / Int32.ofInt y = Int32.ofInt (w32 (x.tdiv y)) := by
  rw [of_w32]
  apply Int32.toInt_inj.mp
  rw [Int32.toInt_div, to_of32 hx, to_of32 hy, Int32.toInt_ofInt]
theorem div64 {x y : Int} (hx : in64 x) (hy : in64 y) : Int64.ofInt x / Int64.ofInt y = Int64.ofInt (w64 (x.tdiv y)) := by
  rw [of_w64]
  apply Int64.toInt_inj.mp
  rw [Int64.toInt_div, to_of64 hx, to_of64 hy, Int64.toInt_ofInt]
theorem rem32 {x y : Int} (hx : in32 x) (hy : in32 y) : Int32.ofInt x - Int32.ofInt x / Int32.ofInt y * Int32.ofInt y = Int32.ofInt (x.tmod y) := by
  rw [div32 hx hy, of_w32, ← Int32.ofInt_mul, ← Int32.ofInt_sub]
  congr 1
  have := Int.tmod_add_mul_tdiv x y
  rw [Int.mul_comm (x.tdiv y) y]
  omega
theorem rem64 {x y : Int} (hx : in64 x) (hy : in64 y) : Int64.ofInt x - Int64.ofInt x / Int64.ofInt y * Int64.ofInt y = Int64.ofInt (x.tmod y) := by
  rw [div64 hx hy, of_w64, ← Int64.ofInt_mul, ← Int64.ofInt_sub]
  congr 1
  have := Int.tmod_add_mul_tdiv x y
  rw [Int.mul_comm (x.tdiv y) y]
  omega
theorem tmod_in32 {x y : Int} (hx : in32 x) : in32 (x.tmod y) := by
  obtain ⟨h1, h2⟩ := hx
  have h3 := Int.natAbs_tmod x y
  have h4 : x.natAbs % y.natAbs ≤ x.natAbs := Nat.mod_le _ _
  have h5 : 0 ≤ x → 0 ≤ x.tmod y := Int.tmod_nonneg y
  have h6 : x ≤ 0 → x.tmod y ≤ 0 := fun h => by
    have := Int.tmod_nonneg y (show 0 ≤ -x by omega)
    rw [Int.neg_tmod] at this
    omega
  constructor <;> omega
theorem tmod_in64 {x y : Int} (hx : in64 x) : in64 (x.tmod y) := by
  obtain ⟨h1, h2⟩ := hx
  have h3 := Int.natAbs_tmod x y
  have h4 : x.natAbs % y.natAbs ≤ x.natAbs := Nat.mod_le _ _
  have h5 : 0 ≤ x → 0 ≤ x.tmod y := Int.tmod_nonneg y
  have h6 : x ≤ 0 → x.tmod y ≤ 0 := fun h => by
    have := Int.tmod_nonneg y (show 0 ≤ -x by omega)
    rw [Int.neg_tmod] at this
    omega
  constructor <;> omega
theorem ne0_32 {y : Int} (hy : in32 y) (h : ¬ y = 0) : ¬ Int32.ofInt y = 0 := fun e => h ((eq32 hy in32_0).mp e)
theorem ne0_64 {y : Int} (hy : in64 y) (h : ¬ y = 0) : ¬ Int64.ofInt y = 0 := fun e => h ((eq64 hy ⟨by decide, by decide⟩).mp e)
theorem sn_idiv (C : Cx p l R s m args meth c s0 D S0 nL d cc own ret) (hd : decode cc pc = .ok (.idiv, 1)) : Snd p l e R s m args below meth c s0 D S0 nL x pc (i_idiv (pc + 1)) := by
  refine sn_nx fun lv st S o ho => ?_
  unfold i_idiv at ho
  split at ho
  · rename_i b a st
    by_cases h0 : b = 0
    · rw [if_pos h0] at ho; cases ho
    · rw [if_neg h0] at ho
      refine ⟨_, _, _, nx_some ho, fun h1 h2 => ⟨h1, ?_⟩, fun H locs ls k i Q hl _ h2 kk => ?_⟩
      · have ha : in32 a := (inVs_cons.mp (inVs_cons.mp h2).2).1
        exact inVs_cons.mpr ⟨w32_in _, (inVs_cons.mp (inVs_cons.mp h2).2).2⟩
      · have ha : in32 a := (inVs_cons.mp (inVs_cons.mp h2).2).1
        have hb : in32 b := (inVs_cons.mp h2).1
        exact lv_idiv C.ex C.by hd (ne0_32 hb h0) (by rw [div32 ha hb]; exact kk ls hl)
  · cases ho
theorem sn_irem (C : Cx p l R s m args meth c s0 D S0 nL d cc own ret) (hd : decode cc pc = .ok (.irem, 1)) : Snd p l e R s m args below meth c s0 D S0 nL x pc (i_irem (pc + 1)) := by
  refine sn_nx fun lv st S o ho => ?_
  unfold i_irem at ho
  split at ho
  · rename_i b a st
    by_cases h0 : b = 0
    · rw [if_pos h0] at ho; cases ho
    · rw [if_neg h0] at ho
      refine ⟨_, _, _, nx_some ho, fun h1 h2 => ⟨h1, ?_⟩, fun H locs ls k i Q hl _ h2 kk => ?_⟩
      · have ha : in32 a := (inVs_cons.mp (inVs_cons.mp h2).2).1
        exact inVs_cons.mpr ⟨tmod_in32 ha, (inVs_cons.mp (inVs_cons.mp h2).2).2⟩
      · have ha : in32 a := (inVs_cons.mp (inVs_cons.mp h2).2).1
        have hb : in32 b := (inVs_cons.mp h2).1
        exact lv_irem C.ex C.by hd (ne0_32 hb h0) (by rw [rem32 ha hb]; exact kk ls hl)
  · cases ho
theorem sn_ldiv (C : Cx p l R s m args meth c s0 D S0 nL d cc own ret) (hd : decode cc pc = .ok (.ldiv, 1)) : Snd p l e R s m args below meth c s0 D S0 nL x pc (i_ldiv (pc + 1)) := by
  refine sn_nx fun lv st S o ho => ?_
  unfold i_ldiv at ho
  split at ho
  · rename_i b a st
    by_cases h0 : b = 0
    · rw [if_pos h0] at ho; cases ho
    · rw [if_neg h0] at ho
      refine ⟨_, _, _, nx_some ho, fun h1 h2 => ⟨h1, ?_⟩, fun H locs ls k i Q hl _ h2 kk => ?_⟩
      · have ha : in64 a := (inVs_cons.mp (inVs_cons.mp h2).2).1
        exact inVs_cons.mpr ⟨w64_in _, (inVs_cons.mp (inVs_cons.mp h2).2).2⟩
      · have ha : in64 a := (inVs_cons.mp (inVs_cons.mp h2).2).1
        have hb : in64 b := (inVs_cons.mp h2).1
        exact lv_ldiv C.ex C.by hd (ne0_64 hb h0) (by rw [div64 ha hb]; exact kk ls hl)
  · cases ho
theorem sn_lrem (C : Cx p l R s m args meth c s0 D S0 nL d cc own ret) (hd : decode cc pc = .ok (.lrem, 1)) : Snd p l e R s m args below meth c s0 D S0 nL x pc (i_lrem (pc + 1)) := by
  refine sn_nx fun lv st S o ho => ?_
  unfold i_lrem at ho
  split at ho
  · rename_i b a st
    by_cases h0 : b = 0
    · rw [if_pos h0] at ho; cases ho
    · rw [if_neg h0] at ho
      refine ⟨_, _, _, nx_some ho, fun h1 h2 => ⟨h1, ?_⟩, fun H locs ls k i Q hl _ h2 kk => ?_⟩
      · have ha : in64 a := (inVs_cons.mp (inVs_cons.mp h2).2).1
        exact inVs_cons.mpr ⟨tmod_in64 ha, (inVs_cons.mp (inVs_cons.mp h2).2).2⟩
      · have ha : in64 a := (inVs_cons.mp (inVs_cons.mp h2).2).1
        have hb : in64 b := (inVs_cons.mp h2).1
        exact lv_lrem C.ex C.by hd (ne0_64 hb h0) (by rw [rem64 ha hb]; exact kk ls hl)
  · cases ho
theorem lcmp_eq {x y : Int} (hx : in64 x) (hy : in64 y) : lg_cmp (Int64.ofInt x) (Int64.ofInt y) = Int32.ofInt (if x < y then -1 else if x = y then 0 else 1) := by
  unfold lg_cmp
  simp only [gt_iff_lt, lt64 hy hx, eq64 hx hy]
  by_cases h1 : y < x
  · rw [if_pos h1, if_neg (by omega), if_neg (by omega)]; rfl
  · rw [if_neg h1]
    by_cases h2 : x = y
    · rw [if_pos h2, if_neg (by omega), if_pos h2]; rfl
    · rw [if_neg h2, if_pos (by omega)]; rfl
theorem sn_lcmp (C : Cx p l R s m args meth c s0 D S0 nL d cc own ret) (hd : decode cc pc = .ok (.lcmp, 1)) : Snd p l e R s m args below meth c s0 D S0 nL x pc (i_lcmp (pc + 1)) := by
  refine sn_nx fun lv st S o ho => ?_
  unfold i_lcmp at ho
  split at ho
  · rename_i b a st
    refine ⟨_, _, _, nx_some ho, fun h1 h2 => ⟨h1, inVs_cons.mpr ⟨?_, (inVs_cons.mp (inVs_cons.mp h2).2).2⟩⟩, fun H locs ls k i Q hl _ h2 kk => ?_⟩
    · show in32 _
      split
      · exact ⟨by decide, by decide⟩
      · split <;> exact ⟨by decide, by decide⟩
    · exact W.lcmp C.ex C.by hd (by rw [lcmp_eq (inVs_cons.mp (inVs_cons.mp h2).2).1 (inVs_cons.mp h2).1]; exact kk ls hl)
  · cases ho
theorem i2l_eq {x : Int} (hx : in32 x) : (Int32.ofInt x).toInt64 = Int64.ofInt x := by
  apply Int64.toInt_inj.mp
  rw [Int32.toInt_toInt64, to_of32 hx, to_of64 ⟨by have := hx.1; omega, by have := hx.2; omega⟩]
theorem l2i_eq (x : Int) : (Int64.ofInt x).toInt32 = Int32.ofInt (w32 x) := by
  rw [of_w32]
  exact Int64.toInt32_ofInt
theorem sn_i2l (C : Cx p l R s m args meth c s0 D S0 nL d cc own ret) (hd : decode cc pc = .ok (.i2l, 1)) : Snd p l e R s m args below meth c s0 D S0 nL x pc (i_i2l (pc + 1)) := by
  refine sn_nx fun lv st S o ho => ?_
  unfold i_i2l at ho
  split at ho
  · rename_i a st
    refine ⟨_, _, _, nx_some ho, fun h1 h2 => ⟨h1, inVs_cons.mpr ⟨?_, (inVs_cons.mp h2).2⟩⟩, fun H locs ls k i Q hl _ h2 kk => ?_⟩
    · have h3 : in32 a := (inVs_cons.mp h2).1
      exact ⟨by have := h3.1; omega, by have := h3.2; omega⟩
    · exact lv_i2l C.ex C.by hd (i2l_eq (inVs_cons.mp h2).1) (kk ls hl)
  · cases ho
theorem sn_l2i (C : Cx p l R s m args meth c s0 D S0 nL d cc own ret) (hd : decode cc pc = .ok (.l2i, 1)) : Snd p l e R s m args below meth c s0 D S0 nL x pc (i_l2i (pc + 1)) := by
  refine sn_nx fun lv st S o ho => ?_
  unfold i_l2i at ho
  split at ho
  · rename_i a st
    exact ⟨_, _, _, nx_some ho, fun h1 h2 => ⟨h1, inVs_cons.mpr ⟨w32_in _, (inVs_cons.mp h2).2⟩⟩, fun H locs ls k i Q hl _ h2 kk => lv_l2i C.ex C.by hd (l2i_eq a) (kk ls hl)⟩
  · cases ho
theorem cat1 {v : V} (h : Nat.beq (vcat v) 1 = true) : (tv v).category = 1 := by rw [tv_cat]; exact Nat.eq_of_beq_eq_true h
theorem sn_dup (C : Cx p l R s m args meth c s0 D S0 nL d cc own ret) (hd : decode cc pc = .ok (.dup, 1)) : Snd p l e R s m args below meth c s0 D S0 nL x pc (i_dup (pc + 1)) := by
  refine sn_nx fun lv st S o ho => ?_
  unfold i_dup at ho
  split at ho
  · rename_i v st
    cases hv : Nat.beq (vcat v) 1 with
    | false => rw [hv] at ho; cases ho
    | true =>
      rw [hv] at ho
      exact ⟨_, _, _, nx_some ho, fun h1 h2 => ⟨h1, inVs_cons.mpr ⟨(inVs_cons.mp h2).1, h2⟩⟩, fun H locs ls k i Q hl _ h2 kk => lv_dup C.ex C.by hd (cat1 hv) (kk ls hl)⟩
  · cases ho
theorem sn_pop (C : Cx p l R s m args meth c s0 D S0 nL d cc own ret) (hd : decode cc pc = .ok (.pop, 1)) : Snd p l e R s m args below meth c s0 D S0 nL x pc (i_pop (pc + 1)) := by
  refine sn_nx fun lv st S o ho => ?_
  unfold i_pop at ho
  split at ho
  · rename_i v st
    cases hv : Nat.beq (vcat v) 1 with
    | false => rw [hv] at ho; cases ho
    | true =>
      rw [hv] at ho
      exact ⟨_, _, _, nx_some ho, fun h1 h2 => ⟨h1, (inVs_cons.mp h2).2⟩, fun H locs ls k i Q hl _ h2 kk => lv_pop C.ex C.by hd (cat1 hv) (kk ls hl)⟩
  · cases ho
theorem sn_dup_x1 (C : Cx p l R s m args meth c s0 D S0 nL d cc own ret) (hd : decode cc pc = .ok (.dup_x1, 1)) : Snd p l e R s m args below meth c s0 D S0 nL x pc (i_dup_x1 (pc + 1)) := by
  refine sn_nx fun lv st S o ho => ?_
  unfold i_dup_x1 at ho
  split at ho
  · rename_i v w st
    cases hv : Nat.beq (vcat v) 1 && Nat.beq (vcat w) 1 with
    | false => rw [hv] at ho; cases ho
    | true =>
      rw [hv] at ho
      rw [Bool.and_eq_true] at hv
      exact ⟨_, _, _, nx_some ho, fun h1 h2 => ⟨h1, inVs_cons.mpr ⟨(inVs_cons.mp h2).1, inVs_cons.mpr ⟨(inVs_cons.mp (inVs_cons.mp h2).2).1, inVs_cons.mpr ⟨(inVs_cons.mp h2).1, (inVs_cons.mp (inVs_cons.mp h2).2).2⟩⟩⟩⟩, fun H locs ls k i Q hl _ h2 kk => lv_dup_x1 C.ex C.by hd (cat1 hv.1) (cat1 hv.2) (kk ls hl)⟩
  · cases ho
theorem sn_dup2 (C : Cx p l R s m args meth c s0 D S0 nL d cc own ret) (hd : decode cc pc = .ok (.dup2, 1)) : Snd p l e R s m args below meth c s0 D S0 nL x pc (i_dup2 (pc + 1)) := by
  refine sn_nx fun lv st S o ho => ?_
  unfold i_dup2 at ho
  split at ho
  · rename_i v w st
    cases hv : Nat.beq (vcat v) 1 && Nat.beq (vcat w) 1 with
    | false => rw [hv] at ho; cases ho
    | true =>
      rw [hv] at ho
      rw [Bool.and_eq_true] at hv
      exact ⟨_, _, _, nx_some ho, fun h1 h2 => ⟨h1, inVs_cons.mpr ⟨(inVs_cons.mp h2).1, inVs_cons.mpr ⟨(inVs_cons.mp (inVs_cons.mp h2).2).1, h2⟩⟩⟩, fun H locs ls k i Q hl _ h2 kk => lv_dup2_11 C.ex C.by hd (cat1 hv.1) (cat1 hv.2) (kk ls hl)⟩
  · cases ho
theorem sn_goto (C : Cx p l R s m args meth c s0 D S0 nL d cc own ret) {off : Int} {t : Nat} (hd : decode cc pc = .ok (.goto off, 3)) (ht : (pc : Int) + off = (t : Int)) : Snd p l e R s m args below meth c s0 D S0 nL x pc (i_goto t) :=
  sn_nx fun lv st S o ho => ⟨_, _, _, nx_some ho, fun h1 h2 => ⟨h1, h2⟩, fun H locs ls k i Q hl _ h2 kk => lv_goto C.ex C.by hd ht (kk ls hl)⟩
theorem sn_if_eq (C : Cx p l R s m args meth c s0 D S0 nL d cc own ret) {off : Int} {t : Nat} (hd : decode cc pc = .ok (.ifCond .eq off, 3)) (ht : (pc : Int) + off = (t : Int)) : Snd p l e R s m args below meth c s0 D S0 nL x pc (i_if (fun x => decide (x = 0)) t (pc + 3)) := by
  intro lv st S o ho hk
  unfold i_if at ho
  split at ho
  · rename_i x st
    intro H locs ls h1 h2 h3 h4 h5 h6 h7
    have hx : in32 x := (inVs_cons.mp h6).1
    refine lv_if_eq C.ex C.by hd ht (fun q => ?_) (fun q => ?_)
    · have q' : x = 0 := (eq32 hx in32_0).mp q
      dsimp only at ho
      rw [decide_eq_true q'] at ho
      rw [nx_some ho] at hk
      exact hk H locs ls h1 h2 h3 h4 h5 (inVs_cons.mp h6).2 h7
    · have q' : ¬ (x = 0) := fun z => q ((eq32 hx in32_0).mpr z)
      dsimp only at ho
      rw [decide_eq_false q'] at ho
      rw [nx_some ho] at hk
      exact hk H locs ls h1 h2 h3 h4 h5 (inVs_cons.mp h6).2 h7
  · cases ho
theorem sn_icmp_eq (C : Cx p l R s m args meth c s0 D S0 nL d cc own ret) {off : Int} {t : Nat} (hd : decode cc pc = .ok (.if_icmp .eq off, 3)) (ht : (pc : Int) + off = (t : Int)) : Snd p l e R s m args below meth c s0 D S0 nL x pc (i_ifc (fun x y => decide (x = y)) t (pc + 3)) := by
  intro lv st S o ho hk
  unfold i_ifc at ho
  split at ho
  · rename_i y x st
    intro H locs ls h1 h2 h3 h4 h5 h6 h7
    have hy : in32 y := (inVs_cons.mp h6).1
    have hx : in32 x := (inVs_cons.mp (inVs_cons.mp h6).2).1
    refine lv_icmp_eq C.ex C.by hd ht (fun q => ?_) (fun q => ?_)
    · have q' : x = y := (eq32 hx hy).mp q
      dsimp only at ho
      rw [decide_eq_true q'] at ho
      rw [nx_some ho] at hk
      exact hk H locs ls h1 h2 h3 h4 h5 (inVs_cons.mp (inVs_cons.mp h6).2).2 h7
    · have q' : ¬ (x = y) := fun z => q ((eq32 hx hy).mpr z)
      dsimp only at ho
      rw [decide_eq_false q'] at ho
      rw [nx_some ho] at hk
      exact hk H locs ls h1 h2 h3 h4 h5 (inVs_cons.mp (inVs_cons.mp h6).2).2 h7
  · cases ho
theorem sn_if_ne (C : Cx p l R s m args meth c s0 D S0 nL d cc own ret) {off : Int} {t : Nat} (hd : decode cc pc = .ok (.ifCond .ne off, 3)) (ht : (pc : Int) + off = (t : Int)) : Snd p l e R s m args below meth c s0 D S0 nL x pc (i_if (fun x => decide (x ≠ 0)) t (pc + 3)) := by
  intro lv st S o ho hk
  unfold i_if at ho
  split at ho
  · rename_i x st
    intro H locs ls h1 h2 h3 h4 h5 h6 h7
    have hx : in32 x := (inVs_cons.mp h6).1
    refine lv_if_ne C.ex C.by hd ht (fun q => ?_) (fun q => ?_)
    · have q' : x ≠ 0 := (not_congr (eq32 hx in32_0)).mp q
      dsimp only at ho
      rw [decide_eq_true q'] at ho
      rw [nx_some ho] at hk
      exact hk H locs ls h1 h2 h3 h4 h5 (inVs_cons.mp h6).2 h7
    · have q' : ¬ (x ≠ 0) := fun z => z ((eq32 hx in32_0).mp q)
      dsimp only at ho
      rw [decide_eq_false q'] at ho
      rw [nx_some ho] at hk
      exact hk H locs ls h1 h2 h3 h4 h5 (inVs_cons.mp h6).2 h7
  · cases ho
theorem sn_icmp_ne (C : Cx p l R s m args meth c s0 D S0 nL d cc own ret) {off : Int} {t : Nat} (hd : decode cc pc = .ok (.if_icmp .ne off, 3)) (ht : (pc : Int) + off = (t : Int)) : Snd p l e R s m args below meth c s0 D S0 nL x pc (i_ifc (fun x y => decide (x ≠ y)) t (pc + 3)) := by
  intro lv st S o ho hk
  unfold i_ifc at ho
  split at ho
  · rename_i y x st
    intro H locs ls h1 h2 h3 h4 h5 h6 h7
    have hy : in32 y := (inVs_cons.mp h6).1
    have hx : in32 x := (inVs_cons.mp (inVs_cons.mp h6).2).1
    refine lv_icmp_ne C.ex C.by hd ht (fun q => ?_) (fun q => ?_)
    · have q' : x ≠ y := (not_congr (eq32 hx hy)).mp q
      dsimp only at ho
      rw [decide_eq_true q'] at ho
      rw [nx_some ho] at hk
      exact hk H locs ls h1 h2 h3 h4 h5 (inVs_cons.mp (inVs_cons.mp h6).2).2 h7
    · have q' : ¬ (x ≠ y) := fun z => z ((eq32 hx hy).mp q)
      dsimp only at ho
      rw [decide_eq_false q'] at ho
      rw [nx_some ho] at hk
      exact hk H locs ls h1 h2 h3 h4 h5 (inVs_cons.mp (inVs_cons.mp h6).2).2 h7
  · cases ho
theorem sn_if_lt (C : Cx p l R s m args meth c s0 D S0 nL d cc own ret) {off : Int} {t : Nat} (hd : decode cc pc = .ok (.ifCond .lt off, 3)) (ht : (pc : Int) + off = (t : Int)) : Snd p l e R s m args below meth c s0 D S0 nL x pc (i_if (fun x => decide (x < 0)) t (pc + 3)) := by
  intro lv st S o ho hk
  unfold i_if at ho
  split at ho
  · rename_i x st
    intro H locs ls h1 h2 h3 h4 h5 h6 h7
    have hx : in32 x := (inVs_cons.mp h6).1
    refine lv_if_lt C.ex C.by hd ht (fun q => ?_) (fun q => ?_)
    · have q' : x < 0 := (lt32 hx in32_0).mp q
      dsimp only at ho
      rw [decide_eq_true q'] at ho
      rw [nx_some ho] at hk
      exact hk H locs ls h1 h2 h3 h4 h5 (inVs_cons.mp h6).2 h7
    · have q' : ¬ (x < 0) := fun z => q ((lt32 hx in32_0).mpr z)
      dsimp only at ho
      rw [decide_eq_false q'] at ho
      rw [nx_some ho] at hk
      exact hk H locs ls h1 h2 h3 h4 h5 (inVs_cons.mp h6).2 h7
  · cases ho
theorem sn_icmp_lt (C : Cx p l R s m args meth c s0 D S0 nL d cc own ret) {off : Int} {t : Nat} (hd : decode cc pc = .ok (.if_icmp .lt off, 3)) (ht : (pc : Int) + off = (t : Int)) : Snd p l e R s m args below meth c s0 D S0 nL x pc (i_ifc (fun x y => decide (x < y)) t (pc + 3)) := by
  intro lv st S o ho hk
  unfold i_ifc at ho
  split at ho
  · rename_i y x st
    intro H locs ls h1 h2 h3 h4 h5 h6 h7
    have hy : in32 y := (inVs_cons.mp h6).1
    have hx : in32 x := (inVs_cons.mp (inVs_cons.mp h6).2).1
    refine lv_icmp_lt C.ex C.by hd ht (fun q => ?_) (fun q => ?_)
    · have q' : x < y := (lt32 hx hy).mp q
      dsimp only at ho
      rw [decide_eq_true q'] at ho
      rw [nx_some ho] at hk
      exact hk H locs ls h1 h2 h3 h4 h5 (inVs_cons.mp (inVs_cons.mp h6).2).2 h7
    · have q' : ¬ (x < y) := fun z => q ((lt32 hx hy).mpr z)
      dsimp only at ho
      rw [decide_eq_false q'] at ho
      rw [nx_some ho] at hk
      exact hk H locs ls h1 h2 h3 h4 h5 (inVs_cons.mp (inVs_cons.mp h6).2).2 h7
  · cases ho
theorem sn_if_ge (C : Cx p l R s m args meth c s0 D S0 nL d cc own ret) {off : Int} {t : Nat} (hd : decode cc pc = .ok (.ifCond .ge off, 3)) (ht : (pc : Int) + off = (t : Int)) : Snd p l e R s m args below meth c s0 D S0 nL x pc (i_if (fun x => decide (0 ≤ x)) t (pc + 3)) := by
  intro lv st S o ho hk
  unfold i_if at ho
  split at ho
  · rename_i x st
    intro H locs ls h1 h2 h3 h4 h5 h6 h7
    have hx : in32 x := (inVs_cons.mp h6).1
    refine lv_if_ge C.ex C.by hd ht (fun q => ?_) (fun q => ?_)
    · have q' : 0 ≤ x := (le32 in32_0 hx).mp q
      dsimp only at ho
      rw [decide_eq_true q'] at ho
      rw [nx_some ho] at hk
      exact hk H locs ls h1 h2 h3 h4 h5 (inVs_cons.mp h6).2 h7
    · have q' : ¬ (0 ≤ x) := fun z => q ((le32 in32_0 hx).mpr z)
      dsimp only at ho
      rw [decide_eq_false q'] at ho
      rw [nx_some ho] at hk
      exact hk H locs ls h1 h2 h3 h4 h5 (inVs_cons.mp h6).2 h7
  · cases ho
theorem sn_icmp_ge (C : Cx p l R s m args meth c s0 D S0 nL d cc own ret) {off : Int} {t : Nat} (hd : decode cc pc = .ok (.if_icmp .ge off, 3)) (ht : (pc : Int) + off = (t : Int)) : Snd p l e R s m args below meth c s0 D S0 nL x pc (i_ifc (fun x y => decide (y ≤ x)) t (pc + 3)) := by
  intro lv st S o ho hk
  unfold i_ifc at ho
  split at ho
  · rename_i y x st
    intro H locs ls h1 h2 h3 h4 h5 h6 h7
    have hy : in32 y := (inVs_cons.mp h6).1
    have hx : in32 x := (inVs_cons.mp (inVs_cons.mp h6).2).1
    refine lv_icmp_ge C.ex C.by hd ht (fun q => ?_) (fun q => ?_)
    · have q' : y ≤ x := (le32 hy hx).mp q
      dsimp only at ho
      rw [decide_eq_true q'] at ho
      rw [nx_some ho] at hk
      exact hk H locs ls h1 h2 h3 h4 h5 (inVs_cons.mp (inVs_cons.mp h6).2).2 h7
    · have q' : ¬ (y ≤ x) := fun z => q ((le32 hy hx).mpr z)
      dsimp only at ho
      rw [decide_eq_false q'] at ho
      rw [nx_some ho] at hk
      exact hk H locs ls h1 h2 h3 h4 h5 (inVs_cons.mp (inVs_cons.mp h6).2).2 h7
  · cases ho
theorem sn_if_gt (C : Cx p l R s m args meth c s0 D S0 nL d cc own ret) {off : Int} {t : Nat} (hd : decode cc pc = .ok (.ifCond .gt off, 3)) (ht : (pc : Int) + off = (t : Int)) : Snd p l e R s m args below meth c s0 D S0 nL x pc (i_if (fun x => decide (0 < x)) t (pc + 3)) := by
  intro lv st S o ho hk
  unfold i_if at ho
  split at ho
  · rename_i x st
    intro H locs ls h1 h2 h3 h4 h5 h6 h7
    have hx : in32 x := (inVs_cons.mp h6).1
    refine lv_if_gt C.ex C.by hd ht (fun q => ?_) (fun q => ?_)
    · have q' : 0 < x := (lt32 in32_0 hx).mp q
      dsimp only at ho
      rw [decide_eq_true q'] at ho
      rw [nx_some ho] at hk
      exact hk H locs ls h1 h2 h3 h4 h5 (inVs_cons.mp h6).2 h7
    · have q' : ¬ (0 < x) := fun z => q ((lt32 in32_0 hx).mpr z)
      dsimp only at ho
      rw [decide_eq_false q'] at ho
      rw [nx_some ho] at hk
      exact hk H locs ls h1 h2 h3 h4 h5 (inVs_cons.mp h6).2 h7
  · cases ho
theorem sn_icmp_gt (C : Cx p l R s m args meth c s0 D S0 nL d cc own ret) {off : Int} {t : Nat} (hd : decode cc pc = .ok (.if_icmp .gt off, 3)) (ht : (pc : Int) + off = (t : Int)) : Snd p l e R s m args below meth c s0 D S0 nL x pc (i_ifc (fun x y => decide (y < x)) t (pc + 3)) := by
  intro lv st S o ho hk
  unfold i_ifc at ho
  split at ho
  · rename_i y x st
    intro H locs ls h1 h2 h3 h4 h5 h6 h7
    have hy : in32 y := (inVs_cons.mp h6).1
    have hx : in32 x := (inVs_cons.mp (inVs_cons.mp h6).2).1
    refine lv_icmp_gt C.ex C.by hd ht (fun q => ?_) (fun q => ?_)
    · have q' : y < x := (lt32 hy hx).mp q
      dsimp only at ho
      rw [decide_eq_true q'] at ho
      rw [nx_some ho] at hk
      exact hk H locs ls h1 h2 h3 h4 h5 (inVs_cons.mp (inVs_cons.mp h6).2).2 h7
    · have q' : ¬ (y < x) := fun z => q ((lt32 hy hx).mpr z)
      dsimp only at ho
      rw [decide_eq_false q'] at ho
      rw [nx_some ho] at hk
      exact hk H locs ls h1 h2 h3 h4 h5 (inVs_cons.mp (inVs_cons.mp h6).2).2 h7
  · cases ho
theorem sn_if_le (C : Cx p l R s m args meth c s0 D S0 nL d cc own ret) {off : Int} {t : Nat} (hd : decode cc pc = .ok (.ifCond .le off, 3)) (ht : (pc : Int) + off = (t : Int)) : Snd p l e R s m args below meth c s0 D S0 nL x pc (i_if (fun x => decide (x ≤ 0)) t (pc + 3)) := by
  intro lv st S o ho hk
  unfold i_if at ho
  split at ho
  · rename_i x st
    intro H locs ls h1 h2 h3 h4 h5 h6 h7
    have hx : in32 x := (inVs_cons.mp h6).1
    refine lv_if_le C.ex C.by hd ht (fun q => ?_) (fun q => ?_)
    · have q' : x ≤ 0 := (le32 hx in32_0).mp q
      dsimp only at ho
      rw [decide_eq_true q'] at ho
      rw [nx_some ho] at hk
      exact hk H locs ls h1 h2 h3 h4 h5 (inVs_cons.mp h6).2 h7
    · have q' : ¬ (x ≤ 0) := fun z => q ((le32 hx in32_0).mpr z)
      dsimp only at ho
      rw [decide_eq_false q'] at ho
      rw [nx_some ho] at hk
      exact hk H locs ls h1 h2 h3 h4 h5 (inVs_cons.mp h6).2 h7
  · cases ho
theorem sn_icmp_le (C : Cx p l R s m args meth c s0 D S0 nL d cc own ret) {off : Int} {t : Nat} (hd : decode cc pc = .ok (.if_icmp .le off, 3)) (ht : (pc : Int) + off = (t : Int)) : Snd p l e R s m args below meth c s0 D S0 nL x pc (i_ifc (fun x y => decide (x ≤ y)) t (pc + 3)) := by
  intro lv st S o ho hk
  unfold i_ifc at ho
  split at ho
  · rename_i y x st
    intro H locs ls h1 h2 h3 h4 h5 h6 h7
    have hy : in32 y := (inVs_cons.mp h6).1
    have hx : in32 x := (inVs_cons.mp (inVs_cons.mp h6).2).1
    refine lv_icmp_le C.ex C.by hd ht (fun q => ?_) (fun q => ?_)
    · have q' : x ≤ y := (le32 hx hy).mp q
      dsimp only at ho
      rw [decide_eq_true q'] at ho
      rw [nx_some ho] at hk
      exact hk H locs ls h1 h2 h3 h4 h5 (inVs_cons.mp (inVs_cons.mp h6).2).2 h7
    · have q' : ¬ (x ≤ y) := fun z => q ((le32 hx hy).mpr z)
      dsimp only at ho
      rw [decide_eq_false q'] at ho
      rw [nx_some ho] at hk
      exact hk H locs ls h1 h2 h3 h4 h5 (inVs_cons.mp (inVs_cons.mp h6).2).2 h7
  · cases ho
theorem sn_acmp_eq (C : Cx p l R s m args meth c s0 D S0 nL d cc own ret) {off : Int} {t : Nat} (hd : decode cc pc = .ok (.if_acmp .eq off, 3)) (ht : (pc : Int) + off = (t : Int)) : Snd p l e R s m args below meth c s0 D S0 nL x pc (i_acmp true t (pc + 3)) := by
  intro lv st S o ho hk
  unfold i_acmp at ho
  split at ho
  · rename_i y x st
    intro H locs ls h1 h2 h3 h4 h5 h6 h7
    refine lv_acmp_eq C.ex C.by hd ht (fun q => ?_) (fun q => ?_)
    · rw [decide_eq_true q] at ho
      rw [nx_some ho] at hk
      exact hk H locs ls h1 h2 h3 h4 h5 (inVs_cons.mp (inVs_cons.mp h6).2).2 h7
    · rw [decide_eq_false q] at ho
      rw [nx_some ho] at hk
      exact hk H locs ls h1 h2 h3 h4 h5 (inVs_cons.mp (inVs_cons.mp h6).2).2 h7
  · cases ho
theorem sn_acmp_ne (C : Cx p l R s m args meth c s0 D S0 nL d cc own ret) {off : Int} {t : Nat} (hd : decode cc pc = .ok (.if_acmp .ne off, 3)) (ht : (pc : Int) + off = (t : Int)) : Snd p l e R s m args below meth c s0 D S0 nL x pc (i_acmp false t (pc + 3)) := by
  intro lv st S o ho hk
  unfold i_acmp at ho
  split at ho
  · rename_i y x st
    intro H locs ls h1 h2 h3 h4 h5 h6 h7
    refine lv_acmp_ne C.ex C.by hd ht (fun q => ?_) (fun q => ?_)
    · rw [decide_eq_false q] at ho
      rw [nx_some ho] at hk
      exact hk H locs ls h1 h2 h3 h4 h5 (inVs_cons.mp (inVs_cons.mp h6).2).2 h7
    · rw [decide_eq_true q] at ho
      rw [nx_some ho] at hk
      exact hk H locs ls h1 h2 h3 h4 h5 (inVs_cons.mp (inVs_cons.mp h6).2).2 h7
  · cases ho
theorem sn_ifnull (C : Cx p l R s m args meth c s0 D S0 nL d cc own ret) {off : Int} {t : Nat} (hd : decode cc pc = .ok (.ifnull off, 3)) (ht : (pc : Int) + off = (t : Int)) : Snd p l e R s m args below meth c s0 D S0 nL x pc (i_null true t (pc + 3)) := by
  intro lv st S o ho hk
  unfold i_null at ho
  split at ho
  · rename_i r st
    intro H locs ls h1 h2 h3 h4 h5 h6 h7
    cases r with
    | none =>
      rw [nx_some ho] at hk
      exact lv_ifnullN C.ex C.by hd ht (hk H locs ls h1 h2 h3 h4 h5 (inVs_cons.mp h6).2 h7)
    | some a =>
      rw [nx_some ho] at hk
      exact lv_ifnull C.ex C.by hd (hk H locs ls h1 h2 h3 h4 h5 (inVs_cons.mp h6).2 h7)
  · cases ho
theorem sn_ifnonnull (C : Cx p l R s m args meth c s0 D S0 nL d cc own ret) {off : Int} {t : Nat} (hd : decode cc pc = .ok (.ifnonnull off, 3)) (ht : (pc : Int) + off = (t : Int)) : Snd p l e R s m args below meth c s0 D S0 nL x pc (i_null false t (pc + 3)) := by
  intro lv st S o ho hk
  unfold i_null at ho
  split at ho
  · rename_i r st
    intro H locs ls h1 h2 h3 h4 h5 h6 h7
    cases r with
    | none =>
      rw [nx_some ho] at hk
      exact lv_ifnonnullN C.ex C.by hd (hk H locs ls h1 h2 h3 h4 h5 (inVs_cons.mp h6).2 h7)
    | some a =>
      rw [nx_some ho] at hk
      exact lv_ifnonnull C.ex C.by hd ht (hk H locs ls h1 h2 h3 h4 h5 (inVs_cons.mp h6).2 h7)
  · cases ho
/-- the targets of a table -/
def tswOk (pc : Nat) (dflt lo hi : Int) (offs : Array Int) (ts : List Nat) (d : Nat) : Bool := decide ((pc : Int) + dflt = (d : Int)) && decide (offs.toList.map (fun o => (pc : Int) + o) = ts.map (fun (t : Nat) => (t : Int))) && decide (hi + 1 = lo + (ts.length : Int))
theorem sn_tsw (C : Cx p l R s m args meth c s0 D S0 nL d cc own ret) {dflt lo hi : Int} {offs : Array Int} {len : Nat} {ts : List Nat} {t : Nat} (hd : decode cc pc = .ok (.tableswitch dflt lo hi offs, len)) (hk : tswOk pc dflt lo hi offs ts t = true) : Snd p l e R s m args below meth c s0 D S0 nL x pc (i_tsw lo ts t) := by
  simp only [tswOk, Bool.and_eq_true, decide_eq_true_eq] at hk
  obtain ⟨⟨k1, k2⟩, k3⟩ := hk
  intro lv st S o ho hk
  unfold i_tsw at ho
  split at ho
  · rename_i z st
    rw [nx_some ho] at hk
    intro H locs ls h1 h2 h3 h4 h5 h6 h7
    have hz : in32 z := (inVs_cons.mp h6).1
    have hk' := hk H locs ls h1 h2 h3 h4 h5 (inVs_cons.mp h6).2 h7
    by_cases c1 : z < lo
    · refine lv_tableOut C.ex C.by hd (Or.inl (by rw [to_of32 hz]; exact c1)) k1 ?_
      simp only [swT, if_pos c1] at hk'
      exact hk'
    · by_cases c2 : hi < z
      · refine lv_tableOut C.ex C.by hd (Or.inr (by rw [to_of32 hz]; exact c2)) k1 ?_
        simp only [swT, if_neg c1] at hk'
        rw [List.getD_eq_getElem?_getD, List.getElem?_eq_none (by omega)] at hk'
        exact hk'
      · have hlt : (z - lo).toNat < ts.length := by omega
        have e1 : (offs.toList.map (fun o => (pc : Int) + o))[(z - lo).toNat]? = some ((ts[(z - lo).toNat] : Nat) : Int) := by
          rw [k2, List.getElem?_map, List.getElem?_eq_getElem hlt]
          rfl
        rw [List.getElem?_map, Option.map_eq_some_iff] at e1
        obtain ⟨off, e2, e3⟩ := e1
        refine lv_tableIn (off := off) C.ex C.by hd (by rw [to_of32 hz]; exact c1) (by rw [to_of32 hz]; exact c2) (by rw [to_of32 hz, ← Array.getElem?_toList]; exact e2) e3 ?_
        simp only [swT, if_neg c1] at hk'
        rw [List.getD_eq_getElem?_getD, List.getElem?_eq_getElem hlt] at hk'
        exact hk'
  · cases ho
theorem off_find (ps : List (Int × Int)) (qs : List (Int × Nat)) (pc : Nat) (dflt : Int) (t : Nat) (hq : ps.map (fun q => (q.1, (pc : Int) + q.2)) = qs.map (fun q => (q.1, (q.2 : Int)))) (h0 : (pc : Int) + dflt = (t : Int)) (z : Int) : (pc : Int) + Op.lookupswitch.offset ps dflt z = ((swL qs t z : Nat) : Int) := by
  induction ps generalizing qs with
  | nil => cases qs with
    | nil => exact h0
    | cons q qs => cases hq
  | cons a ps ih => cases qs with
    | nil => cases hq
    | cons q qs =>
      simp only [List.map_cons, List.cons.injEq, Prod.mk.injEq] at hq
      obtain ⟨⟨e1, e2⟩, e3⟩ := hq
      unfold swL
      have hI := ih qs e3
      simp only [Op.lookupswitch.offset]
      by_cases hz : z = q.1
      · rw [if_pos hz]
        have : a.1 = z := by rw [e1, hz]
        rw [if_pos this]
        exact e2
      · rw [if_neg hz]
        have : ¬ a.1 = z := by rw [e1]; exact fun q => hz q.symm
        rw [if_neg this]
        exact hI
theorem sn_lsw (C : Cx p l R s m args meth c s0 D S0 nL d cc own ret) {dflt : Int} {ps : Array (Int × Int)} {len : Nat} {qs : List (Int × Nat)} {t : Nat} (hd : decode cc pc = .ok (.lookupswitch dflt ps, len)) (hp : (ps.toList.zip (ps.toList.drop 1)).all (fun (a, next) => a.1 < next.1) = true) (hq : ps.toList.map (fun q => (q.1, (pc : Int) + q.2)) = qs.map (fun q => (q.1, (q.2 : Int)))) (h0 : (pc : Int) + dflt = (t : Int)) : Snd p l e R s m args below meth c s0 D S0 nL x pc (i_lsw qs t) := by
  intro lv st S o ho hk
  unfold i_lsw at ho
  split at ho
  · rename_i z st
    rw [nx_some ho] at hk
    intro H locs ls h1 h2 h3 h4 h5 h6 h7
    have hz : in32 z := (inVs_cons.mp h6).1
    exact lv_lookup C.ex C.by hd hp rfl (by rw [to_of32 hz]; exact off_find _ _ _ _ _ hq h0 z) (hk H locs ls h1 h2 h3 h4 h5 (inVs_cons.mp h6).2 h7)
  · cases ho
end G2
