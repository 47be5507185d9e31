/-! DECODE ROWS BY BYTES: one lemma an opcode; a method's code is cut into short pieces once, and a row reads its own piece alone. -/
set_option maxRecDepth 100000
/-- the code has just these bytes from pc on -/
def DkAt (code : ByteArray) (pc : Nat) (bs : List UInt8) : Prop := ∀ (j : Nat) (b : UInt8), bs[j]? = some b → code.data.toList[pc + j]? = some b
/-- the piece W has the bytes bs from its place j on -/
def dkIn (W : List UInt8) (j : Nat) (bs : List UInt8) : Bool := decide ((W.drop j).take bs.length = bs)
theorem dk_seg {l W T : List UInt8} {o o2 : Nat} (h : l.drop o = W ++ T) (n : Nat) (hn : W.length = n) (ho : o + n = o2) : l.drop o2 = T := by
  subst ho
  rw [← List.drop_drop, h, List.drop_left' hn]
theorem dk_at {code : ByteArray} {W T bs : List UInt8} {o pc : Nat} (h : code.data.toList.drop o = W ++ T) (j : Nat) (hp : o + j = pc) (hw : dkIn W j bs = true) : DkAt code pc bs := by
  subst hp
  intro i b e
  have h1 := of_decide_eq_true hw
  have h2 : i < bs.length := (List.getElem?_eq_some_iff.mp e).1
  have h3 : W[j + i]? = some b := by
    rw [← h1, List.getElem?_take, if_pos h2, List.getElem?_drop] at e
    exact e
  have h4 : j + i < W.length := (List.getElem?_eq_some_iff.mp h3).1
  have h5 : (code.data.toList.drop o)[j + i]? = some b := by
    rw [h, List.getElem?_append_left h4]
    exact h3
  rw [List.getElem?_drop, ← Nat.add_assoc] at h5
  exact h5
theorem dk_u1 {A : ByteArray} {p : Nat} {b : UInt8} (h : A.data.toList[p]? = some b) : (Reader.u1 : Reader DecodeError Nat) A p = .ok (b.toNat, p + 1) := by
  obtain ⟨h1, h2⟩ := List.getElem?_eq_some_iff.mp h
  have h3 : p < A.size := by simpa using h1
  have h4 : A[p]'h3 = b := h2
  have e : (Reader.u1 : Reader DecodeError Nat) A p = (if h : p < A.size then .ok (A[p].toNat, p + 1) else .error (HasTruncated.truncated p)) := by
    show (do if h : p < A.size then do set (p + 1); Pure.pure A[p].toNat else MonadExcept.throw (HasTruncated.truncated p) : Reader DecodeError Nat) A p = _
    by_cases hi : p < A.size
    · rw [dif_pos hi, dif_pos hi]; rfl
    · rw [dif_neg hi, dif_neg hi]; rfl
  rw [e, dif_pos h3, h4]
theorem dk_bind {α β : Type} {r : Reader DecodeError α} {f : α → Reader DecodeError β} {A : ByteArray} {p s : Nat} {a : α} (h : r A p = .ok (a, s)) : (r >>= f) A p = f a A s := by
  show (do let (a, s) ← r A p; f a A s : Except DecodeError (β × Nat)) = _
  rw [h]
  rfl
theorem dk_map {α β : Type} {r : Reader DecodeError α} {g : α → β} {A : ByteArray} {p s : Nat} {a : α} (h : r A p = .ok (a, s)) : (g <$> r) A p = .ok (g a, s) := by
  show (do let (a, s) ← r A p; .ok (g a, s) : Except DecodeError (β × Nat)) = _
  rw [h]
  rfl
theorem dk_u2 {A : ByteArray} {p : Nat} {a b : UInt8} (h : A.data.toList[p]? = some a) (h2 : A.data.toList[p + 1]? = some b) : (Reader.u2 : Reader DecodeError Nat) A p = .ok (a.toNat * 256 + b.toNat, p + 2) := by
  show (Reader.u1 >>= fun hi => Reader.u1 >>= fun lo => Pure.pure (hi * 256 + lo) : Reader DecodeError Nat) A p = _
  rw [dk_bind (dk_u1 h), dk_bind (dk_u1 h2)]
  rfl
theorem dk_of {code : ByteArray} {pc n : Nat} {i : Instr} (h : Decoder.instr pc code pc = .ok (i, pc + n)) : decode code pc = .ok (i, n) := by
  have e : decode code pc = (match Decoder.instr pc code pc with | .error x => .error x | .ok (j, s) => .ok (j, s - pc)) := by
    show (do let (j, s) ← Decoder.instr pc code pc; Pure.pure (j, s - pc) : Except DecodeError (Instr × Nat)) = _
    cases Decoder.instr pc code pc <;> rfl
  rw [e, h]
  show Except.ok (i, pc + n - pc) = _
  rw [Nat.add_sub_cancel_left]
theorem dk_1 {code : ByteArray} {pc : Nat} (h : DkAt code pc [1]) : decode code pc = .ok (.aconst_null, 1) := dk_of ((dk_bind (dk_u1 (h 0 _ rfl))).trans rfl)
theorem dk_2 {code : ByteArray} {pc : Nat} (h : DkAt code pc [2]) : decode code pc = .ok (.iconst (-1), 1) := dk_of ((dk_bind (dk_u1 (h 0 _ rfl))).trans rfl)
theorem dk_3 {code : ByteArray} {pc : Nat} (h : DkAt code pc [3]) : decode code pc = .ok (.iconst 0, 1) := dk_of ((dk_bind (dk_u1 (h 0 _ rfl))).trans rfl)
theorem dk_4 {code : ByteArray} {pc : Nat} (h : DkAt code pc [4]) : decode code pc = .ok (.iconst 1, 1) := dk_of ((dk_bind (dk_u1 (h 0 _ rfl))).trans rfl)
theorem dk_5 {code : ByteArray} {pc : Nat} (h : DkAt code pc [5]) : decode code pc = .ok (.iconst 2, 1) := dk_of ((dk_bind (dk_u1 (h 0 _ rfl))).trans rfl)
theorem dk_6 {code : ByteArray} {pc : Nat} (h : DkAt code pc [6]) : decode code pc = .ok (.iconst 3, 1) := dk_of ((dk_bind (dk_u1 (h 0 _ rfl))).trans rfl)
theorem dk_7 {code : ByteArray} {pc : Nat} (h : DkAt code pc [7]) : decode code pc = .ok (.iconst 4, 1) := dk_of ((dk_bind (dk_u1 (h 0 _ rfl))).trans rfl)
theorem dk_8 {code : ByteArray} {pc : Nat} (h : DkAt code pc [8]) : decode code pc = .ok (.iconst 5, 1) := dk_of ((dk_bind (dk_u1 (h 0 _ rfl))).trans rfl)
theorem dk_9 {code : ByteArray} {pc : Nat} (h : DkAt code pc [9]) : decode code pc = .ok (.lconst 0, 1) := dk_of ((dk_bind (dk_u1 (h 0 _ rfl))).trans rfl)
theorem dk_10 {code : ByteArray} {pc : Nat} (h : DkAt code pc [10]) : decode code pc = .ok (.lconst 1, 1) := dk_of ((dk_bind (dk_u1 (h 0 _ rfl))).trans rfl)
theorem dk_11 {code : ByteArray} {pc : Nat} (h : DkAt code pc [11]) : decode code pc = .ok (.fconst 0, 1) := dk_of ((dk_bind (dk_u1 (h 0 _ rfl))).trans rfl)
theorem dk_14 {code : ByteArray} {pc : Nat} (h : DkAt code pc [14]) : decode code pc = .ok (.dconst 0, 1) := dk_of ((dk_bind (dk_u1 (h 0 _ rfl))).trans rfl)
theorem dk_16 {code : ByteArray} {pc : Nat} (a : UInt8) (h : DkAt code pc [16, a]) : decode code pc = .ok (.bipush (Reader.signed 8 a.toNat), 2) := dk_of ((dk_bind (dk_u1 (h 0 _ rfl))).trans ((dk_bind (dk_map (dk_u1 (h 1 _ rfl)))).trans rfl))
theorem dk_17 {code : ByteArray} {pc : Nat} (a b : UInt8) (h : DkAt code pc [17, a, b]) : decode code pc = .ok (.sipush (Reader.signed 16 (a.toNat * 256 + b.toNat)), 3) := dk_of ((dk_bind (dk_u1 (h 0 _ rfl))).trans ((dk_bind (dk_map (dk_u2 (h 1 _ rfl) (h 2 _ rfl)))).trans rfl))
theorem dk_18 {code : ByteArray} {pc : Nat} (a : UInt8) (h : DkAt code pc [18, a]) : decode code pc = .ok (.ldc a.toNat, 2) := dk_of ((dk_bind (dk_u1 (h 0 _ rfl))).trans ((dk_bind (dk_u1 (h 1 _ rfl))).trans rfl))
theorem dk_19 {code : ByteArray} {pc : Nat} (a b : UInt8) (h : DkAt code pc [19, a, b]) : decode code pc = .ok (.ldc_w (a.toNat * 256 + b.toNat), 3) := dk_of ((dk_bind (dk_u1 (h 0 _ rfl))).trans ((dk_bind (dk_u2 (h 1 _ rfl) (h 2 _ rfl))).trans rfl))
theorem dk_20 {code : ByteArray} {pc : Nat} (a b : UInt8) (h : DkAt code pc [20, a, b]) : decode code pc = .ok (.ldc2_w (a.toNat * 256 + b.toNat), 3) := dk_of ((dk_bind (dk_u1 (h 0 _ rfl))).trans ((dk_bind (dk_u2 (h 1 _ rfl) (h 2 _ rfl))).trans rfl))
theorem dk_21 {code : ByteArray} {pc : Nat} (a : UInt8) (h : DkAt code pc [21, a]) : decode code pc = .ok (.iload a.toNat, 2) := dk_of ((dk_bind (dk_u1 (h 0 _ rfl))).trans ((dk_bind (dk_u1 (h 1 _ rfl))).trans rfl))
theorem dk_22 {code : ByteArray} {pc : Nat} (a : UInt8) (h : DkAt code pc [22, a]) : decode code pc = .ok (.lload a.toNat, 2) := dk_of ((dk_bind (dk_u1 (h 0 _ rfl))).trans ((dk_bind (dk_u1 (h 1 _ rfl))).trans rfl))
theorem dk_24 {code : ByteArray} {pc : Nat} (a : UInt8) (h : DkAt code pc [24, a]) : decode code pc = .ok (.dload a.toNat, 2) := dk_of ((dk_bind (dk_u1 (h 0 _ rfl))).trans ((dk_bind (dk_u1 (h 1 _ rfl))).trans rfl))
theorem dk_25 {code : ByteArray} {pc : Nat} (a : UInt8) (h : DkAt code pc [25, a]) : decode code pc = .ok (.aload a.toNat, 2) := dk_of ((dk_bind (dk_u1 (h 0 _ rfl))).trans ((dk_bind (dk_u1 (h 1 _ rfl))).trans rfl))
theorem dk_26 {code : ByteArray} {pc : Nat} (h : DkAt code pc [26]) : decode code pc = .ok (.iload_n 0, 1) := dk_of ((dk_bind (dk_u1 (h 0 _ rfl))).trans rfl)
theorem dk_27 {code : ByteArray} {pc : Nat} (h : DkAt code pc [27]) : decode code pc = .ok (.iload_n 1, 1) := dk_of ((dk_bind (dk_u1 (h 0 _ rfl))).trans rfl)
theorem dk_28 {code : ByteArray} {pc : Nat} (h : DkAt code pc [28]) : decode code pc = .ok (.iload_n 2, 1) := dk_of ((dk_bind (dk_u1 (h 0 _ rfl))).trans rfl)
theorem dk_29 {code : ByteArray} {pc : Nat} (h : DkAt code pc [29]) : decode code pc = .ok (.iload_n 3, 1) := dk_of ((dk_bind (dk_u1 (h 0 _ rfl))).trans rfl)
theorem dk_30 {code : ByteArray} {pc : Nat} (h : DkAt code pc [30]) : decode code pc = .ok (.lload_n 0, 1) := dk_of ((dk_bind (dk_u1 (h 0 _ rfl))).trans rfl)
theorem dk_31 {code : ByteArray} {pc : Nat} (h : DkAt code pc [31]) : decode code pc = .ok (.lload_n 1, 1) := dk_of ((dk_bind (dk_u1 (h 0 _ rfl))).trans rfl)
theorem dk_32 {code : ByteArray} {pc : Nat} (h : DkAt code pc [32]) : decode code pc = .ok (.lload_n 2, 1) := dk_of ((dk_bind (dk_u1 (h 0 _ rfl))).trans rfl)
theorem dk_33 {code : ByteArray} {pc : Nat} (h : DkAt code pc [33]) : decode code pc = .ok (.lload_n 3, 1) := dk_of ((dk_bind (dk_u1 (h 0 _ rfl))).trans rfl)
theorem dk_42 {code : ByteArray} {pc : Nat} (h : DkAt code pc [42]) : decode code pc = .ok (.aload_n 0, 1) := dk_of ((dk_bind (dk_u1 (h 0 _ rfl))).trans rfl)
theorem dk_43 {code : ByteArray} {pc : Nat} (h : DkAt code pc [43]) : decode code pc = .ok (.aload_n 1, 1) := dk_of ((dk_bind (dk_u1 (h 0 _ rfl))).trans rfl)
theorem dk_44 {code : ByteArray} {pc : Nat} (h : DkAt code pc [44]) : decode code pc = .ok (.aload_n 2, 1) := dk_of ((dk_bind (dk_u1 (h 0 _ rfl))).trans rfl)
theorem dk_45 {code : ByteArray} {pc : Nat} (h : DkAt code pc [45]) : decode code pc = .ok (.aload_n 3, 1) := dk_of ((dk_bind (dk_u1 (h 0 _ rfl))).trans rfl)
theorem dk_46 {code : ByteArray} {pc : Nat} (h : DkAt code pc [46]) : decode code pc = .ok (.iaload, 1) := dk_of ((dk_bind (dk_u1 (h 0 _ rfl))).trans rfl)
theorem dk_47 {code : ByteArray} {pc : Nat} (h : DkAt code pc [47]) : decode code pc = .ok (.laload, 1) := dk_of ((dk_bind (dk_u1 (h 0 _ rfl))).trans rfl)
theorem dk_50 {code : ByteArray} {pc : Nat} (h : DkAt code pc [50]) : decode code pc = .ok (.aaload, 1) := dk_of ((dk_bind (dk_u1 (h 0 _ rfl))).trans rfl)
theorem dk_51 {code : ByteArray} {pc : Nat} (h : DkAt code pc [51]) : decode code pc = .ok (.baload, 1) := dk_of ((dk_bind (dk_u1 (h 0 _ rfl))).trans rfl)
theorem dk_52 {code : ByteArray} {pc : Nat} (h : DkAt code pc [52]) : decode code pc = .ok (.caload, 1) := dk_of ((dk_bind (dk_u1 (h 0 _ rfl))).trans rfl)
theorem dk_53 {code : ByteArray} {pc : Nat} (h : DkAt code pc [53]) : decode code pc = .ok (.saload, 1) := dk_of ((dk_bind (dk_u1 (h 0 _ rfl))).trans rfl)
theorem dk_54 {code : ByteArray} {pc : Nat} (a : UInt8) (h : DkAt code pc [54, a]) : decode code pc = .ok (.istore a.toNat, 2) := dk_of ((dk_bind (dk_u1 (h 0 _ rfl))).trans ((dk_bind (dk_u1 (h 1 _ rfl))).trans rfl))
theorem dk_55 {code : ByteArray} {pc : Nat} (a : UInt8) (h : DkAt code pc [55, a]) : decode code pc = .ok (.lstore a.toNat, 2) := dk_of ((dk_bind (dk_u1 (h 0 _ rfl))).trans ((dk_bind (dk_u1 (h 1 _ rfl))).trans rfl))
theorem dk_57 {code : ByteArray} {pc : Nat} (a : UInt8) (h : DkAt code pc [57, a]) : decode code pc = .ok (.dstore a.toNat, 2) := dk_of ((dk_bind (dk_u1 (h 0 _ rfl))).trans ((dk_bind (dk_u1 (h 1 _ rfl))).trans rfl))
theorem dk_58 {code : ByteArray} {pc : Nat} (a : UInt8) (h : DkAt code pc [58, a]) : decode code pc = .ok (.astore a.toNat, 2) := dk_of ((dk_bind (dk_u1 (h 0 _ rfl))).trans ((dk_bind (dk_u1 (h 1 _ rfl))).trans rfl))
theorem dk_59 {code : ByteArray} {pc : Nat} (h : DkAt code pc [59]) : decode code pc = .ok (.istore_n 0, 1) := dk_of ((dk_bind (dk_u1 (h 0 _ rfl))).trans rfl)
theorem dk_60 {code : ByteArray} {pc : Nat} (h : DkAt code pc [60]) : decode code pc = .ok (.istore_n 1, 1) := dk_of ((dk_bind (dk_u1 (h 0 _ rfl))).trans rfl)
theorem dk_61 {code : ByteArray} {pc : Nat} (h : DkAt code pc [61]) : decode code pc = .ok (.istore_n 2, 1) := dk_of ((dk_bind (dk_u1 (h 0 _ rfl))).trans rfl)
theorem dk_62 {code : ByteArray} {pc : Nat} (h : DkAt code pc [62]) : decode code pc = .ok (.istore_n 3, 1) := dk_of ((dk_bind (dk_u1 (h 0 _ rfl))).trans rfl)
theorem dk_63 {code : ByteArray} {pc : Nat} (h : DkAt code pc [63]) : decode code pc = .ok (.lstore_n 0, 1) := dk_of ((dk_bind (dk_u1 (h 0 _ rfl))).trans rfl)
theorem dk_64 {code : ByteArray} {pc : Nat} (h : DkAt code pc [64]) : decode code pc = .ok (.lstore_n 1, 1) := dk_of ((dk_bind (dk_u1 (h 0 _ rfl))).trans rfl)
theorem dk_66 {code : ByteArray} {pc : Nat} (h : DkAt code pc [66]) : decode code pc = .ok (.lstore_n 3, 1) := dk_of ((dk_bind (dk_u1 (h 0 _ rfl))).trans rfl)
theorem dk_75 {code : ByteArray} {pc : Nat} (h : DkAt code pc [75]) : decode code pc = .ok (.astore_n 0, 1) := dk_of ((dk_bind (dk_u1 (h 0 _ rfl))).trans rfl)
theorem dk_76 {code : ByteArray} {pc : Nat} (h : DkAt code pc [76]) : decode code pc = .ok (.astore_n 1, 1) := dk_of ((dk_bind (dk_u1 (h 0 _ rfl))).trans rfl)
theorem dk_77 {code : ByteArray} {pc : Nat} (h : DkAt code pc [77]) : decode code pc = .ok (.astore_n 2, 1) := dk_of ((dk_bind (dk_u1 (h 0 _ rfl))).trans rfl)
theorem dk_78 {code : ByteArray} {pc : Nat} (h : DkAt code pc [78]) : decode code pc = .ok (.astore_n 3, 1) := dk_of ((dk_bind (dk_u1 (h 0 _ rfl))).trans rfl)
theorem dk_79 {code : ByteArray} {pc : Nat} (h : DkAt code pc [79]) : decode code pc = .ok (.iastore, 1) := dk_of ((dk_bind (dk_u1 (h 0 _ rfl))).trans rfl)
theorem dk_80 {code : ByteArray} {pc : Nat} (h : DkAt code pc [80]) : decode code pc = .ok (.lastore, 1) := dk_of ((dk_bind (dk_u1 (h 0 _ rfl))).trans rfl)
theorem dk_83 {code : ByteArray} {pc : Nat} (h : DkAt code pc [83]) : decode code pc = .ok (.aastore, 1) := dk_of ((dk_bind (dk_u1 (h 0 _ rfl))).trans rfl)
theorem dk_84 {code : ByteArray} {pc : Nat} (h : DkAt code pc [84]) : decode code pc = .ok (.bastore, 1) := dk_of ((dk_bind (dk_u1 (h 0 _ rfl))).trans rfl)
theorem dk_87 {code : ByteArray} {pc : Nat} (h : DkAt code pc [87]) : decode code pc = .ok (.pop, 1) := dk_of ((dk_bind (dk_u1 (h 0 _ rfl))).trans rfl)
theorem dk_89 {code : ByteArray} {pc : Nat} (h : DkAt code pc [89]) : decode code pc = .ok (.dup, 1) := dk_of ((dk_bind (dk_u1 (h 0 _ rfl))).trans rfl)
theorem dk_90 {code : ByteArray} {pc : Nat} (h : DkAt code pc [90]) : decode code pc = .ok (.dup_x1, 1) := dk_of ((dk_bind (dk_u1 (h 0 _ rfl))).trans rfl)
theorem dk_92 {code : ByteArray} {pc : Nat} (h : DkAt code pc [92]) : decode code pc = .ok (.dup2, 1) := dk_of ((dk_bind (dk_u1 (h 0 _ rfl))).trans rfl)
theorem dk_96 {code : ByteArray} {pc : Nat} (h : DkAt code pc [96]) : decode code pc = .ok (.iadd, 1) := dk_of ((dk_bind (dk_u1 (h 0 _ rfl))).trans rfl)
theorem dk_97 {code : ByteArray} {pc : Nat} (h : DkAt code pc [97]) : decode code pc = .ok (.ladd, 1) := dk_of ((dk_bind (dk_u1 (h 0 _ rfl))).trans rfl)
theorem dk_100 {code : ByteArray} {pc : Nat} (h : DkAt code pc [100]) : decode code pc = .ok (.isub, 1) := dk_of ((dk_bind (dk_u1 (h 0 _ rfl))).trans rfl)
theorem dk_101 {code : ByteArray} {pc : Nat} (h : DkAt code pc [101]) : decode code pc = .ok (.lsub, 1) := dk_of ((dk_bind (dk_u1 (h 0 _ rfl))).trans rfl)
theorem dk_104 {code : ByteArray} {pc : Nat} (h : DkAt code pc [104]) : decode code pc = .ok (.imul, 1) := dk_of ((dk_bind (dk_u1 (h 0 _ rfl))).trans rfl)
theorem dk_105 {code : ByteArray} {pc : Nat} (h : DkAt code pc [105]) : decode code pc = .ok (.lmul, 1) := dk_of ((dk_bind (dk_u1 (h 0 _ rfl))).trans rfl)
theorem dk_108 {code : ByteArray} {pc : Nat} (h : DkAt code pc [108]) : decode code pc = .ok (.idiv, 1) := dk_of ((dk_bind (dk_u1 (h 0 _ rfl))).trans rfl)
theorem dk_109 {code : ByteArray} {pc : Nat} (h : DkAt code pc [109]) : decode code pc = .ok (.ldiv, 1) := dk_of ((dk_bind (dk_u1 (h 0 _ rfl))).trans rfl)
theorem dk_110 {code : ByteArray} {pc : Nat} (h : DkAt code pc [110]) : decode code pc = .ok (.fdiv, 1) := dk_of ((dk_bind (dk_u1 (h 0 _ rfl))).trans rfl)
theorem dk_111 {code : ByteArray} {pc : Nat} (h : DkAt code pc [111]) : decode code pc = .ok (.ddiv, 1) := dk_of ((dk_bind (dk_u1 (h 0 _ rfl))).trans rfl)
theorem dk_112 {code : ByteArray} {pc : Nat} (h : DkAt code pc [112]) : decode code pc = .ok (.irem, 1) := dk_of ((dk_bind (dk_u1 (h 0 _ rfl))).trans rfl)
theorem dk_113 {code : ByteArray} {pc : Nat} (h : DkAt code pc [113]) : decode code pc = .ok (.lrem, 1) := dk_of ((dk_bind (dk_u1 (h 0 _ rfl))).trans rfl)
theorem dk_116 {code : ByteArray} {pc : Nat} (h : DkAt code pc [116]) : decode code pc = .ok (.ineg, 1) := dk_of ((dk_bind (dk_u1 (h 0 _ rfl))).trans rfl)
theorem dk_120 {code : ByteArray} {pc : Nat} (h : DkAt code pc [120]) : decode code pc = .ok (.ishl, 1) := dk_of ((dk_bind (dk_u1 (h 0 _ rfl))).trans rfl)
theorem dk_121 {code : ByteArray} {pc : Nat} (h : DkAt code pc [121]) : decode code pc = .ok (.lshl, 1) := dk_of ((dk_bind (dk_u1 (h 0 _ rfl))).trans rfl)
theorem dk_122 {code : ByteArray} {pc : Nat} (h : DkAt code pc [122]) : decode code pc = .ok (.ishr, 1) := dk_of ((dk_bind (dk_u1 (h 0 _ rfl))).trans rfl)
theorem dk_124 {code : ByteArray} {pc : Nat} (h : DkAt code pc [124]) : decode code pc = .ok (.iushr, 1) := dk_of ((dk_bind (dk_u1 (h 0 _ rfl))).trans rfl)
theorem dk_125 {code : ByteArray} {pc : Nat} (h : DkAt code pc [125]) : decode code pc = .ok (.lushr, 1) := dk_of ((dk_bind (dk_u1 (h 0 _ rfl))).trans rfl)
theorem dk_126 {code : ByteArray} {pc : Nat} (h : DkAt code pc [126]) : decode code pc = .ok (.iand, 1) := dk_of ((dk_bind (dk_u1 (h 0 _ rfl))).trans rfl)
theorem dk_127 {code : ByteArray} {pc : Nat} (h : DkAt code pc [127]) : decode code pc = .ok (.land, 1) := dk_of ((dk_bind (dk_u1 (h 0 _ rfl))).trans rfl)
theorem dk_128 {code : ByteArray} {pc : Nat} (h : DkAt code pc [128]) : decode code pc = .ok (.ior, 1) := dk_of ((dk_bind (dk_u1 (h 0 _ rfl))).trans rfl)
theorem dk_129 {code : ByteArray} {pc : Nat} (h : DkAt code pc [129]) : decode code pc = .ok (.lor, 1) := dk_of ((dk_bind (dk_u1 (h 0 _ rfl))).trans rfl)
theorem dk_130 {code : ByteArray} {pc : Nat} (h : DkAt code pc [130]) : decode code pc = .ok (.ixor, 1) := dk_of ((dk_bind (dk_u1 (h 0 _ rfl))).trans rfl)
theorem dk_131 {code : ByteArray} {pc : Nat} (h : DkAt code pc [131]) : decode code pc = .ok (.lxor, 1) := dk_of ((dk_bind (dk_u1 (h 0 _ rfl))).trans rfl)
theorem dk_132 {code : ByteArray} {pc : Nat} (a b : UInt8) (h : DkAt code pc [132, a, b]) : decode code pc = .ok (.iinc a.toNat (Reader.signed 8 b.toNat), 3) := dk_of ((dk_bind (dk_u1 (h 0 _ rfl))).trans ((dk_bind (dk_u1 (h 1 _ rfl))).trans ((dk_bind (dk_map (dk_u1 (h 2 _ rfl)))).trans rfl)))
theorem dk_133 {code : ByteArray} {pc : Nat} (h : DkAt code pc [133]) : decode code pc = .ok (.i2l, 1) := dk_of ((dk_bind (dk_u1 (h 0 _ rfl))).trans rfl)
theorem dk_134 {code : ByteArray} {pc : Nat} (h : DkAt code pc [134]) : decode code pc = .ok (.i2f, 1) := dk_of ((dk_bind (dk_u1 (h 0 _ rfl))).trans rfl)
theorem dk_135 {code : ByteArray} {pc : Nat} (h : DkAt code pc [135]) : decode code pc = .ok (.i2d, 1) := dk_of ((dk_bind (dk_u1 (h 0 _ rfl))).trans rfl)
theorem dk_136 {code : ByteArray} {pc : Nat} (h : DkAt code pc [136]) : decode code pc = .ok (.l2i, 1) := dk_of ((dk_bind (dk_u1 (h 0 _ rfl))).trans rfl)
theorem dk_141 {code : ByteArray} {pc : Nat} (h : DkAt code pc [141]) : decode code pc = .ok (.f2d, 1) := dk_of ((dk_bind (dk_u1 (h 0 _ rfl))).trans rfl)
theorem dk_145 {code : ByteArray} {pc : Nat} (h : DkAt code pc [145]) : decode code pc = .ok (.i2b, 1) := dk_of ((dk_bind (dk_u1 (h 0 _ rfl))).trans rfl)
theorem dk_146 {code : ByteArray} {pc : Nat} (h : DkAt code pc [146]) : decode code pc = .ok (.i2c, 1) := dk_of ((dk_bind (dk_u1 (h 0 _ rfl))).trans rfl)
theorem dk_148 {code : ByteArray} {pc : Nat} (h : DkAt code pc [148]) : decode code pc = .ok (.lcmp, 1) := dk_of ((dk_bind (dk_u1 (h 0 _ rfl))).trans rfl)
theorem dk_151 {code : ByteArray} {pc : Nat} (h : DkAt code pc [151]) : decode code pc = .ok (.dcmp .l, 1) := dk_of ((dk_bind (dk_u1 (h 0 _ rfl))).trans rfl)
theorem dk_153 {code : ByteArray} {pc : Nat} (a b : UInt8) (h : DkAt code pc [153, a, b]) : decode code pc = .ok (.ifCond .eq (Reader.signed 16 (a.toNat * 256 + b.toNat)), 3) := dk_of ((dk_bind (dk_u1 (h 0 _ rfl))).trans ((dk_bind (dk_map (dk_u2 (h 1 _ rfl) (h 2 _ rfl)))).trans rfl))
theorem dk_154 {code : ByteArray} {pc : Nat} (a b : UInt8) (h : DkAt code pc [154, a, b]) : decode code pc = .ok (.ifCond .ne (Reader.signed 16 (a.toNat * 256 + b.toNat)), 3) := dk_of ((dk_bind (dk_u1 (h 0 _ rfl))).trans ((dk_bind (dk_map (dk_u2 (h 1 _ rfl) (h 2 _ rfl)))).trans rfl))
theorem dk_155 {code : ByteArray} {pc : Nat} (a b : UInt8) (h : DkAt code pc [155, a, b]) : decode code pc = .ok (.ifCond .lt (Reader.signed 16 (a.toNat * 256 + b.toNat)), 3) := dk_of ((dk_bind (dk_u1 (h 0 _ rfl))).trans ((dk_bind (dk_map (dk_u2 (h 1 _ rfl) (h 2 _ rfl)))).trans rfl))
theorem dk_156 {code : ByteArray} {pc : Nat} (a b : UInt8) (h : DkAt code pc [156, a, b]) : decode code pc = .ok (.ifCond .ge (Reader.signed 16 (a.toNat * 256 + b.toNat)), 3) := dk_of ((dk_bind (dk_u1 (h 0 _ rfl))).trans ((dk_bind (dk_map (dk_u2 (h 1 _ rfl) (h 2 _ rfl)))).trans rfl))
theorem dk_157 {code : ByteArray} {pc : Nat} (a b : UInt8) (h : DkAt code pc [157, a, b]) : decode code pc = .ok (.ifCond .gt (Reader.signed 16 (a.toNat * 256 + b.toNat)), 3) := dk_of ((dk_bind (dk_u1 (h 0 _ rfl))).trans ((dk_bind (dk_map (dk_u2 (h 1 _ rfl) (h 2 _ rfl)))).trans rfl))
theorem dk_158 {code : ByteArray} {pc : Nat} (a b : UInt8) (h : DkAt code pc [158, a, b]) : decode code pc = .ok (.ifCond .le (Reader.signed 16 (a.toNat * 256 + b.toNat)), 3) := dk_of ((dk_bind (dk_u1 (h 0 _ rfl))).trans ((dk_bind (dk_map (dk_u2 (h 1 _ rfl) (h 2 _ rfl)))).trans rfl))
theorem dk_159 {code : ByteArray} {pc : Nat} (a b : UInt8) (h : DkAt code pc [159, a, b]) : decode code pc = .ok (.if_icmp .eq (Reader.signed 16 (a.toNat * 256 + b.toNat)), 3) := dk_of ((dk_bind (dk_u1 (h 0 _ rfl))).trans ((dk_bind (dk_map (dk_u2 (h 1 _ rfl) (h 2 _ rfl)))).trans rfl))
theorem dk_160 {code : ByteArray} {pc : Nat} (a b : UInt8) (h : DkAt code pc [160, a, b]) : decode code pc = .ok (.if_icmp .ne (Reader.signed 16 (a.toNat * 256 + b.toNat)), 3) := dk_of ((dk_bind (dk_u1 (h 0 _ rfl))).trans ((dk_bind (dk_map (dk_u2 (h 1 _ rfl) (h 2 _ rfl)))).trans rfl))
theorem dk_161 {code : ByteArray} {pc : Nat} (a b : UInt8) (h : DkAt code pc [161, a, b]) : decode code pc = .ok (.if_icmp .lt (Reader.signed 16 (a.toNat * 256 + b.toNat)), 3) := dk_of ((dk_bind (dk_u1 (h 0 _ rfl))).trans ((dk_bind (dk_map (dk_u2 (h 1 _ rfl) (h 2 _ rfl)))).trans rfl))
theorem dk_162 {code : ByteArray} {pc : Nat} (a b : UInt8) (h : DkAt code pc [162, a, b]) : decode code pc = .ok (.if_icmp .ge (Reader.signed 16 (a.toNat * 256 + b.toNat)), 3) := dk_of ((dk_bind (dk_u1 (h 0 _ rfl))).trans ((dk_bind (dk_map (dk_u2 (h 1 _ rfl) (h 2 _ rfl)))).trans rfl))
theorem dk_163 {code : ByteArray} {pc : Nat} (a b : UInt8) (h : DkAt code pc [163, a, b]) : decode code pc = .ok (.if_icmp .gt (Reader.signed 16 (a.toNat * 256 + b.toNat)), 3) := dk_of ((dk_bind (dk_u1 (h 0 _ rfl))).trans ((dk_bind (dk_map (dk_u2 (h 1 _ rfl) (h 2 _ rfl)))).trans rfl))
theorem dk_164 {code : ByteArray} {pc : Nat} (a b : UInt8) (h : DkAt code pc [164, a, b]) : decode code pc = .ok (.if_icmp .le (Reader.signed 16 (a.toNat * 256 + b.toNat)), 3) := dk_of ((dk_bind (dk_u1 (h 0 _ rfl))).trans ((dk_bind (dk_map (dk_u2 (h 1 _ rfl) (h 2 _ rfl)))).trans rfl))
theorem dk_165 {code : ByteArray} {pc : Nat} (a b : UInt8) (h : DkAt code pc [165, a, b]) : decode code pc = .ok (.if_acmp .eq (Reader.signed 16 (a.toNat * 256 + b.toNat)), 3) := dk_of ((dk_bind (dk_u1 (h 0 _ rfl))).trans ((dk_bind (dk_map (dk_u2 (h 1 _ rfl) (h 2 _ rfl)))).trans rfl))
theorem dk_166 {code : ByteArray} {pc : Nat} (a b : UInt8) (h : DkAt code pc [166, a, b]) : decode code pc = .ok (.if_acmp .ne (Reader.signed 16 (a.toNat * 256 + b.toNat)), 3) := dk_of ((dk_bind (dk_u1 (h 0 _ rfl))).trans ((dk_bind (dk_map (dk_u2 (h 1 _ rfl) (h 2 _ rfl)))).trans rfl))
theorem dk_167 {code : ByteArray} {pc : Nat} (a b : UInt8) (h : DkAt code pc [167, a, b]) : decode code pc = .ok (.goto (Reader.signed 16 (a.toNat * 256 + b.toNat)), 3) := dk_of ((dk_bind (dk_u1 (h 0 _ rfl))).trans ((dk_bind (dk_map (dk_u2 (h 1 _ rfl) (h 2 _ rfl)))).trans rfl))
theorem dk_172 {code : ByteArray} {pc : Nat} (h : DkAt code pc [172]) : decode code pc = .ok (.ireturn, 1) := dk_of ((dk_bind (dk_u1 (h 0 _ rfl))).trans rfl)
theorem dk_173 {code : ByteArray} {pc : Nat} (h : DkAt code pc [173]) : decode code pc = .ok (.lreturn, 1) := dk_of ((dk_bind (dk_u1 (h 0 _ rfl))).trans rfl)
theorem dk_174 {code : ByteArray} {pc : Nat} (h : DkAt code pc [174]) : decode code pc = .ok (.freturn, 1) := dk_of ((dk_bind (dk_u1 (h 0 _ rfl))).trans rfl)
theorem dk_175 {code : ByteArray} {pc : Nat} (h : DkAt code pc [175]) : decode code pc = .ok (.dreturn, 1) := dk_of ((dk_bind (dk_u1 (h 0 _ rfl))).trans rfl)
theorem dk_176 {code : ByteArray} {pc : Nat} (h : DkAt code pc [176]) : decode code pc = .ok (.areturn, 1) := dk_of ((dk_bind (dk_u1 (h 0 _ rfl))).trans rfl)
theorem dk_177 {code : ByteArray} {pc : Nat} (h : DkAt code pc [177]) : decode code pc = .ok (.return_, 1) := dk_of ((dk_bind (dk_u1 (h 0 _ rfl))).trans rfl)
theorem dk_178 {code : ByteArray} {pc : Nat} (a b : UInt8) (h : DkAt code pc [178, a, b]) : decode code pc = .ok (.getstatic (a.toNat * 256 + b.toNat), 3) := dk_of ((dk_bind (dk_u1 (h 0 _ rfl))).trans ((dk_bind (dk_u2 (h 1 _ rfl) (h 2 _ rfl))).trans rfl))
theorem dk_180 {code : ByteArray} {pc : Nat} (a b : UInt8) (h : DkAt code pc [180, a, b]) : decode code pc = .ok (.getfield (a.toNat * 256 + b.toNat), 3) := dk_of ((dk_bind (dk_u1 (h 0 _ rfl))).trans ((dk_bind (dk_u2 (h 1 _ rfl) (h 2 _ rfl))).trans rfl))
theorem dk_181 {code : ByteArray} {pc : Nat} (a b : UInt8) (h : DkAt code pc [181, a, b]) : decode code pc = .ok (.putfield (a.toNat * 256 + b.toNat), 3) := dk_of ((dk_bind (dk_u1 (h 0 _ rfl))).trans ((dk_bind (dk_u2 (h 1 _ rfl) (h 2 _ rfl))).trans rfl))
theorem dk_182 {code : ByteArray} {pc : Nat} (a b : UInt8) (h : DkAt code pc [182, a, b]) : decode code pc = .ok (.invokevirtual (a.toNat * 256 + b.toNat), 3) := dk_of ((dk_bind (dk_u1 (h 0 _ rfl))).trans ((dk_bind (dk_u2 (h 1 _ rfl) (h 2 _ rfl))).trans rfl))
theorem dk_183 {code : ByteArray} {pc : Nat} (a b : UInt8) (h : DkAt code pc [183, a, b]) : decode code pc = .ok (.invokespecial (a.toNat * 256 + b.toNat), 3) := dk_of ((dk_bind (dk_u1 (h 0 _ rfl))).trans ((dk_bind (dk_u2 (h 1 _ rfl) (h 2 _ rfl))).trans rfl))
theorem dk_184 {code : ByteArray} {pc : Nat} (a b : UInt8) (h : DkAt code pc [184, a, b]) : decode code pc = .ok (.invokestatic (a.toNat * 256 + b.toNat), 3) := dk_of ((dk_bind (dk_u1 (h 0 _ rfl))).trans ((dk_bind (dk_u2 (h 1 _ rfl) (h 2 _ rfl))).trans rfl))
theorem dk_187 {code : ByteArray} {pc : Nat} (a b : UInt8) (h : DkAt code pc [187, a, b]) : decode code pc = .ok (.new (a.toNat * 256 + b.toNat), 3) := dk_of ((dk_bind (dk_u1 (h 0 _ rfl))).trans ((dk_bind (dk_u2 (h 1 _ rfl) (h 2 _ rfl))).trans rfl))
theorem dk_188_4 {code : ByteArray} {pc : Nat} (h : DkAt code pc [188, 4]) : decode code pc = .ok (.newarray .boolean, 2) := dk_of ((dk_bind (dk_u1 (h 0 _ rfl))).trans ((dk_bind (dk_u1 (h 1 _ rfl))).trans rfl))
theorem dk_188_8 {code : ByteArray} {pc : Nat} (h : DkAt code pc [188, 8]) : decode code pc = .ok (.newarray .byte, 2) := dk_of ((dk_bind (dk_u1 (h 0 _ rfl))).trans ((dk_bind (dk_u1 (h 1 _ rfl))).trans rfl))
theorem dk_188_10 {code : ByteArray} {pc : Nat} (h : DkAt code pc [188, 10]) : decode code pc = .ok (.newarray .int, 2) := dk_of ((dk_bind (dk_u1 (h 0 _ rfl))).trans ((dk_bind (dk_u1 (h 1 _ rfl))).trans rfl))
theorem dk_188_11 {code : ByteArray} {pc : Nat} (h : DkAt code pc [188, 11]) : decode code pc = .ok (.newarray .long, 2) := dk_of ((dk_bind (dk_u1 (h 0 _ rfl))).trans ((dk_bind (dk_u1 (h 1 _ rfl))).trans rfl))
theorem dk_189 {code : ByteArray} {pc : Nat} (a b : UInt8) (h : DkAt code pc [189, a, b]) : decode code pc = .ok (.anewarray (a.toNat * 256 + b.toNat), 3) := dk_of ((dk_bind (dk_u1 (h 0 _ rfl))).trans ((dk_bind (dk_u2 (h 1 _ rfl) (h 2 _ rfl))).trans rfl))
theorem dk_190 {code : ByteArray} {pc : Nat} (h : DkAt code pc [190]) : decode code pc = .ok (.arraylength, 1) := dk_of ((dk_bind (dk_u1 (h 0 _ rfl))).trans rfl)
theorem dk_191 {code : ByteArray} {pc : Nat} (h : DkAt code pc [191]) : decode code pc = .ok (.athrow, 1) := dk_of ((dk_bind (dk_u1 (h 0 _ rfl))).trans rfl)
theorem dk_192 {code : ByteArray} {pc : Nat} (a b : UInt8) (h : DkAt code pc [192, a, b]) : decode code pc = .ok (.checkcast (a.toNat * 256 + b.toNat), 3) := dk_of ((dk_bind (dk_u1 (h 0 _ rfl))).trans ((dk_bind (dk_u2 (h 1 _ rfl) (h 2 _ rfl))).trans rfl))
theorem dk_193 {code : ByteArray} {pc : Nat} (a b : UInt8) (h : DkAt code pc [193, a, b]) : decode code pc = .ok (.instanceof (a.toNat * 256 + b.toNat), 3) := dk_of ((dk_bind (dk_u1 (h 0 _ rfl))).trans ((dk_bind (dk_u2 (h 1 _ rfl) (h 2 _ rfl))).trans rfl))
theorem dk_198 {code : ByteArray} {pc : Nat} (a b : UInt8) (h : DkAt code pc [198, a, b]) : decode code pc = .ok (.ifnull (Reader.signed 16 (a.toNat * 256 + b.toNat)), 3) := dk_of ((dk_bind (dk_u1 (h 0 _ rfl))).trans ((dk_bind (dk_map (dk_u2 (h 1 _ rfl) (h 2 _ rfl)))).trans rfl))
theorem dk_199 {code : ByteArray} {pc : Nat} (a b : UInt8) (h : DkAt code pc [199, a, b]) : decode code pc = .ok (.ifnonnull (Reader.signed 16 (a.toNat * 256 + b.toNat)), 3) := dk_of ((dk_bind (dk_u1 (h 0 _ rfl))).trans ((dk_bind (dk_map (dk_u2 (h 1 _ rfl) (h 2 _ rfl)))).trans rfl))

/-! CountyGazetteerLaw -/
set_option maxRecDepth 100000
def RX0 : String := "CountyGazetteerLaw"
abbrev cX0_count : ByteArray := method_3_code
def yX0_count : MethodName := ⟨RX0, "count", "(LCountyGazetteer;I[J)I"⟩
def dkwX0_count_0 : List UInt8 := [44, 3, 42, 27, 182, 0, 7, 133, 80, 167, 0, 6, 78, 4, 172, 3, 172]
abbrev dktX0_count_0 : List UInt8 := dkwX0_count_0 ++ []
theorem dksX0_count_0 : cX0_count.data.toList.drop 0 = dktX0_count_0 := by decide +kernel
theorem dX0_count_0 : decode cX0_count 0 = .ok (.aload_n 2, 1) := dk_44 (dk_at dksX0_count_0 0 rfl rfl)
theorem dX0_count_1 : decode cX0_count 1 = .ok (.iconst 0, 1) := dk_3 (dk_at dksX0_count_0 1 rfl rfl)
theorem dX0_count_2 : decode cX0_count 2 = .ok (.aload_n 0, 1) := dk_42 (dk_at dksX0_count_0 2 rfl rfl)
theorem dX0_count_3 : decode cX0_count 3 = .ok (.iload_n 1, 1) := dk_27 (dk_at dksX0_count_0 3 rfl rfl)
theorem dX0_count_4 : decode cX0_count 4 = .ok (.invokevirtual 7, 3) := dk_182 0 7 (dk_at dksX0_count_0 4 rfl rfl)
theorem dX0_count_7 : decode cX0_count 7 = .ok (.i2l, 1) := dk_133 (dk_at dksX0_count_0 7 rfl rfl)
theorem dX0_count_8 : decode cX0_count 8 = .ok (.lastore, 1) := dk_80 (dk_at dksX0_count_0 8 rfl rfl)
theorem dX0_count_9 : decode cX0_count 9 = .ok (.goto 6, 3) := dk_167 0 6 (dk_at dksX0_count_0 9 rfl rfl)
theorem dX0_count_12 : decode cX0_count 12 = .ok (.astore_n 3, 1) := dk_78 (dk_at dksX0_count_0 12 rfl rfl)
theorem dX0_count_13 : decode cX0_count 13 = .ok (.iconst 1, 1) := dk_4 (dk_at dksX0_count_0 13 rfl rfl)
theorem dX0_count_14 : decode cX0_count 14 = .ok (.ireturn, 1) := dk_172 (dk_at dksX0_count_0 14 rfl rfl)
theorem dX0_count_15 : decode cX0_count 15 = .ok (.iconst 0, 1) := dk_3 (dk_at dksX0_count_0 15 rfl rfl)
theorem dX0_count_16 : decode cX0_count 16 = .ok (.ireturn, 1) := dk_172 (dk_at dksX0_count_0 16 rfl rfl)
abbrev cX0_village : ByteArray := method_4_code
def yX0_village : MethodName := ⟨RX0, "village", "(LCountyGazetteer;II[J)I"⟩
def dkwX0_village_0 : List UInt8 := [45, 3, 42, 27, 28, 182, 0, 15, 133, 80, 167, 0, 11, 58, 4, 4, 172, 58, 4, 5, 172, 3, 172]
abbrev dktX0_village_0 : List UInt8 := dkwX0_village_0 ++ []
theorem dksX0_village_0 : cX0_village.data.toList.drop 0 = dktX0_village_0 := by decide +kernel
theorem dX0_village_0 : decode cX0_village 0 = .ok (.aload_n 3, 1) := dk_45 (dk_at dksX0_village_0 0 rfl rfl)
theorem dX0_village_1 : decode cX0_village 1 = .ok (.iconst 0, 1) := dk_3 (dk_at dksX0_village_0 1 rfl rfl)
theorem dX0_village_2 : decode cX0_village 2 = .ok (.aload_n 0, 1) := dk_42 (dk_at dksX0_village_0 2 rfl rfl)
theorem dX0_village_3 : decode cX0_village 3 = .ok (.iload_n 1, 1) := dk_27 (dk_at dksX0_village_0 3 rfl rfl)
theorem dX0_village_4 : decode cX0_village 4 = .ok (.iload_n 2, 1) := dk_28 (dk_at dksX0_village_0 4 rfl rfl)
theorem dX0_village_5 : decode cX0_village 5 = .ok (.invokevirtual 15, 3) := dk_182 0 15 (dk_at dksX0_village_0 5 rfl rfl)
theorem dX0_village_8 : decode cX0_village 8 = .ok (.i2l, 1) := dk_133 (dk_at dksX0_village_0 8 rfl rfl)
theorem dX0_village_9 : decode cX0_village 9 = .ok (.lastore, 1) := dk_80 (dk_at dksX0_village_0 9 rfl rfl)
theorem dX0_village_10 : decode cX0_village 10 = .ok (.goto 11, 3) := dk_167 0 11 (dk_at dksX0_village_0 10 rfl rfl)
theorem dX0_village_13 : decode cX0_village 13 = .ok (.astore 4, 2) := dk_58 4 (dk_at dksX0_village_0 13 rfl rfl)
theorem dX0_village_15 : decode cX0_village 15 = .ok (.iconst 1, 1) := dk_4 (dk_at dksX0_village_0 15 rfl rfl)
theorem dX0_village_16 : decode cX0_village 16 = .ok (.ireturn, 1) := dk_172 (dk_at dksX0_village_0 16 rfl rfl)
theorem dX0_village_17 : decode cX0_village 17 = .ok (.astore 4, 2) := dk_58 4 (dk_at dksX0_village_0 17 rfl rfl)
theorem dX0_village_19 : decode cX0_village 19 = .ok (.iconst 2, 1) := dk_5 (dk_at dksX0_village_0 19 rfl rfl)
theorem dX0_village_20 : decode cX0_village 20 = .ok (.ireturn, 1) := dk_172 (dk_at dksX0_village_0 20 rfl rfl)
theorem dX0_village_21 : decode cX0_village 21 = .ok (.iconst 0, 1) := dk_3 (dk_at dksX0_village_0 21 rfl rfl)
theorem dX0_village_22 : decode cX0_village 22 = .ok (.ireturn, 1) := dk_172 (dk_at dksX0_village_0 22 rfl rfl)
abbrev cX0_county : ByteArray := method_5_code
def yX0_county : MethodName := ⟨RX0, "county", "(LCountyGazetteer;II[J)I"⟩
def dkwX0_county_0 : List UInt8 := [45, 3, 42, 27, 28, 182, 0, 21, 133, 80, 167, 0, 11, 58, 4, 4, 172, 58, 4, 5, 172, 3, 172]
abbrev dktX0_county_0 : List UInt8 := dkwX0_county_0 ++ []
theorem dksX0_county_0 : cX0_county.data.toList.drop 0 = dktX0_county_0 := by decide +kernel
theorem dX0_county_0 : decode cX0_county 0 = .ok (.aload_n 3, 1) := dk_45 (dk_at dksX0_county_0 0 rfl rfl)
theorem dX0_county_1 : decode cX0_county 1 = .ok (.iconst 0, 1) := dk_3 (dk_at dksX0_county_0 1 rfl rfl)
theorem dX0_county_2 : decode cX0_county 2 = .ok (.aload_n 0, 1) := dk_42 (dk_at dksX0_county_0 2 rfl rfl)
theorem dX0_county_3 : decode cX0_county 3 = .ok (.iload_n 1, 1) := dk_27 (dk_at dksX0_county_0 3 rfl rfl)
theorem dX0_county_4 : decode cX0_county 4 = .ok (.iload_n 2, 1) := dk_28 (dk_at dksX0_county_0 4 rfl rfl)
theorem dX0_county_5 : decode cX0_county 5 = .ok (.invokevirtual 21, 3) := dk_182 0 21 (dk_at dksX0_county_0 5 rfl rfl)
theorem dX0_county_8 : decode cX0_county 8 = .ok (.i2l, 1) := dk_133 (dk_at dksX0_county_0 8 rfl rfl)
theorem dX0_county_9 : decode cX0_county 9 = .ok (.lastore, 1) := dk_80 (dk_at dksX0_county_0 9 rfl rfl)
theorem dX0_county_10 : decode cX0_county 10 = .ok (.goto 11, 3) := dk_167 0 11 (dk_at dksX0_county_0 10 rfl rfl)
theorem dX0_county_13 : decode cX0_county 13 = .ok (.astore 4, 2) := dk_58 4 (dk_at dksX0_county_0 13 rfl rfl)
theorem dX0_county_15 : decode cX0_county 15 = .ok (.iconst 1, 1) := dk_4 (dk_at dksX0_county_0 15 rfl rfl)
theorem dX0_county_16 : decode cX0_county 16 = .ok (.ireturn, 1) := dk_172 (dk_at dksX0_county_0 16 rfl rfl)
theorem dX0_county_17 : decode cX0_county 17 = .ok (.astore 4, 2) := dk_58 4 (dk_at dksX0_county_0 17 rfl rfl)
theorem dX0_county_19 : decode cX0_county 19 = .ok (.iconst 2, 1) := dk_5 (dk_at dksX0_county_0 19 rfl rfl)
theorem dX0_county_20 : decode cX0_county 20 = .ok (.ireturn, 1) := dk_172 (dk_at dksX0_county_0 20 rfl rfl)
theorem dX0_county_21 : decode cX0_county 21 = .ok (.iconst 0, 1) := dk_3 (dk_at dksX0_county_0 21 rfl rfl)
theorem dX0_county_22 : decode cX0_county 22 = .ok (.ireturn, 1) := dk_172 (dk_at dksX0_county_0 22 rfl rfl)
abbrev cX0_reform : ByteArray := method_6_code
def yX0_reform : MethodName := ⟨RX0, "reform", "(LCountyGazetteer;II[J)I"⟩
def dkwX0_reform_0 : List UInt8 := [45, 3, 42, 27, 28, 182, 0, 24, 133, 80, 167, 0, 11, 58, 4, 4, 172, 58, 4, 5, 172, 3, 172]
abbrev dktX0_reform_0 : List UInt8 := dkwX0_reform_0 ++ []
theorem dksX0_reform_0 : cX0_reform.data.toList.drop 0 = dktX0_reform_0 := by decide +kernel
theorem dX0_reform_0 : decode cX0_reform 0 = .ok (.aload_n 3, 1) := dk_45 (dk_at dksX0_reform_0 0 rfl rfl)
theorem dX0_reform_1 : decode cX0_reform 1 = .ok (.iconst 0, 1) := dk_3 (dk_at dksX0_reform_0 1 rfl rfl)
theorem dX0_reform_2 : decode cX0_reform 2 = .ok (.aload_n 0, 1) := dk_42 (dk_at dksX0_reform_0 2 rfl rfl)
theorem dX0_reform_3 : decode cX0_reform 3 = .ok (.iload_n 1, 1) := dk_27 (dk_at dksX0_reform_0 3 rfl rfl)
theorem dX0_reform_4 : decode cX0_reform 4 = .ok (.iload_n 2, 1) := dk_28 (dk_at dksX0_reform_0 4 rfl rfl)
theorem dX0_reform_5 : decode cX0_reform 5 = .ok (.invokevirtual 24, 3) := dk_182 0 24 (dk_at dksX0_reform_0 5 rfl rfl)
theorem dX0_reform_8 : decode cX0_reform 8 = .ok (.i2l, 1) := dk_133 (dk_at dksX0_reform_0 8 rfl rfl)
theorem dX0_reform_9 : decode cX0_reform 9 = .ok (.lastore, 1) := dk_80 (dk_at dksX0_reform_0 9 rfl rfl)
theorem dX0_reform_10 : decode cX0_reform 10 = .ok (.goto 11, 3) := dk_167 0 11 (dk_at dksX0_reform_0 10 rfl rfl)
theorem dX0_reform_13 : decode cX0_reform 13 = .ok (.astore 4, 2) := dk_58 4 (dk_at dksX0_reform_0 13 rfl rfl)
theorem dX0_reform_15 : decode cX0_reform 15 = .ok (.iconst 1, 1) := dk_4 (dk_at dksX0_reform_0 15 rfl rfl)
theorem dX0_reform_16 : decode cX0_reform 16 = .ok (.ireturn, 1) := dk_172 (dk_at dksX0_reform_0 16 rfl rfl)
theorem dX0_reform_17 : decode cX0_reform 17 = .ok (.astore 4, 2) := dk_58 4 (dk_at dksX0_reform_0 17 rfl rfl)
theorem dX0_reform_19 : decode cX0_reform 19 = .ok (.iconst 2, 1) := dk_5 (dk_at dksX0_reform_0 19 rfl rfl)
theorem dX0_reform_20 : decode cX0_reform 20 = .ok (.ireturn, 1) := dk_172 (dk_at dksX0_reform_0 20 rfl rfl)
theorem dX0_reform_21 : decode cX0_reform 21 = .ok (.iconst 0, 1) := dk_3 (dk_at dksX0_reform_0 21 rfl rfl)
theorem dX0_reform_22 : decode cX0_reform 22 = .ok (.ireturn, 1) := dk_172 (dk_at dksX0_reform_0 22 rfl rfl)
abbrev cX0_ownerOf : ByteArray := method_7_code
def yX0_ownerOf : MethodName := ⟨RX0, "ownerOf", "(LCountyGazetteer;III[J)I"⟩
def dkwX0_ownerOf_0 : List UInt8 := [25, 4, 3, 42, 27, 28, 29, 182, 0, 27, 133, 80, 167, 0, 7, 58, 5, 4, 172, 3, 172]
abbrev dktX0_ownerOf_0 : List UInt8 := dkwX0_ownerOf_0 ++ []
theorem dksX0_ownerOf_0 : cX0_ownerOf.data.toList.drop 0 = dktX0_ownerOf_0 := by decide +kernel
theorem dX0_ownerOf_0 : decode cX0_ownerOf 0 = .ok (.aload 4, 2) := dk_25 4 (dk_at dksX0_ownerOf_0 0 rfl rfl)
theorem dX0_ownerOf_2 : decode cX0_ownerOf 2 = .ok (.iconst 0, 1) := dk_3 (dk_at dksX0_ownerOf_0 2 rfl rfl)
theorem dX0_ownerOf_3 : decode cX0_ownerOf 3 = .ok (.aload_n 0, 1) := dk_42 (dk_at dksX0_ownerOf_0 3 rfl rfl)
theorem dX0_ownerOf_4 : decode cX0_ownerOf 4 = .ok (.iload_n 1, 1) := dk_27 (dk_at dksX0_ownerOf_0 4 rfl rfl)
theorem dX0_ownerOf_5 : decode cX0_ownerOf 5 = .ok (.iload_n 2, 1) := dk_28 (dk_at dksX0_ownerOf_0 5 rfl rfl)
theorem dX0_ownerOf_6 : decode cX0_ownerOf 6 = .ok (.iload_n 3, 1) := dk_29 (dk_at dksX0_ownerOf_0 6 rfl rfl)
theorem dX0_ownerOf_7 : decode cX0_ownerOf 7 = .ok (.invokevirtual 27, 3) := dk_182 0 27 (dk_at dksX0_ownerOf_0 7 rfl rfl)
theorem dX0_ownerOf_10 : decode cX0_ownerOf 10 = .ok (.i2l, 1) := dk_133 (dk_at dksX0_ownerOf_0 10 rfl rfl)
theorem dX0_ownerOf_11 : decode cX0_ownerOf 11 = .ok (.lastore, 1) := dk_80 (dk_at dksX0_ownerOf_0 11 rfl rfl)
theorem dX0_ownerOf_12 : decode cX0_ownerOf 12 = .ok (.goto 7, 3) := dk_167 0 7 (dk_at dksX0_ownerOf_0 12 rfl rfl)
theorem dX0_ownerOf_15 : decode cX0_ownerOf 15 = .ok (.astore 5, 2) := dk_58 5 (dk_at dksX0_ownerOf_0 15 rfl rfl)
theorem dX0_ownerOf_17 : decode cX0_ownerOf 17 = .ok (.iconst 1, 1) := dk_4 (dk_at dksX0_ownerOf_0 17 rfl rfl)
theorem dX0_ownerOf_18 : decode cX0_ownerOf 18 = .ok (.ireturn, 1) := dk_172 (dk_at dksX0_ownerOf_0 18 rfl rfl)
theorem dX0_ownerOf_19 : decode cX0_ownerOf 19 = .ok (.iconst 0, 1) := dk_3 (dk_at dksX0_ownerOf_0 19 rfl rfl)
theorem dX0_ownerOf_20 : decode cX0_ownerOf 20 = .ok (.ireturn, 1) := dk_172 (dk_at dksX0_ownerOf_0 20 rfl rfl)
abbrev cX0_countyIn : ByteArray := method_8_code
def yX0_countyIn : MethodName := ⟨RX0, "countyIn", "(LCountyGazetteer;II[J)I"⟩
def dkwX0_countyIn_0 : List UInt8 := [45, 3, 42, 27, 28, 182, 0, 31, 133, 80, 167, 0, 11, 58, 4, 4, 172, 58, 4, 5, 172, 3, 172]
abbrev dktX0_countyIn_0 : List UInt8 := dkwX0_countyIn_0 ++ []
theorem dksX0_countyIn_0 : cX0_countyIn.data.toList.drop 0 = dktX0_countyIn_0 := by decide +kernel
theorem dX0_countyIn_0 : decode cX0_countyIn 0 = .ok (.aload_n 3, 1) := dk_45 (dk_at dksX0_countyIn_0 0 rfl rfl)
theorem dX0_countyIn_1 : decode cX0_countyIn 1 = .ok (.iconst 0, 1) := dk_3 (dk_at dksX0_countyIn_0 1 rfl rfl)
theorem dX0_countyIn_2 : decode cX0_countyIn 2 = .ok (.aload_n 0, 1) := dk_42 (dk_at dksX0_countyIn_0 2 rfl rfl)
theorem dX0_countyIn_3 : decode cX0_countyIn 3 = .ok (.iload_n 1, 1) := dk_27 (dk_at dksX0_countyIn_0 3 rfl rfl)
theorem dX0_countyIn_4 : decode cX0_countyIn 4 = .ok (.iload_n 2, 1) := dk_28 (dk_at dksX0_countyIn_0 4 rfl rfl)
theorem dX0_countyIn_5 : decode cX0_countyIn 5 = .ok (.invokevirtual 31, 3) := dk_182 0 31 (dk_at dksX0_countyIn_0 5 rfl rfl)
theorem dX0_countyIn_8 : decode cX0_countyIn 8 = .ok (.i2l, 1) := dk_133 (dk_at dksX0_countyIn_0 8 rfl rfl)
theorem dX0_countyIn_9 : decode cX0_countyIn 9 = .ok (.lastore, 1) := dk_80 (dk_at dksX0_countyIn_0 9 rfl rfl)
theorem dX0_countyIn_10 : decode cX0_countyIn 10 = .ok (.goto 11, 3) := dk_167 0 11 (dk_at dksX0_countyIn_0 10 rfl rfl)
theorem dX0_countyIn_13 : decode cX0_countyIn 13 = .ok (.astore 4, 2) := dk_58 4 (dk_at dksX0_countyIn_0 13 rfl rfl)
theorem dX0_countyIn_15 : decode cX0_countyIn 15 = .ok (.iconst 1, 1) := dk_4 (dk_at dksX0_countyIn_0 15 rfl rfl)
theorem dX0_countyIn_16 : decode cX0_countyIn 16 = .ok (.ireturn, 1) := dk_172 (dk_at dksX0_countyIn_0 16 rfl rfl)
theorem dX0_countyIn_17 : decode cX0_countyIn 17 = .ok (.astore 4, 2) := dk_58 4 (dk_at dksX0_countyIn_0 17 rfl rfl)
theorem dX0_countyIn_19 : decode cX0_countyIn 19 = .ok (.iconst 2, 1) := dk_5 (dk_at dksX0_countyIn_0 19 rfl rfl)
theorem dX0_countyIn_20 : decode cX0_countyIn 20 = .ok (.ireturn, 1) := dk_172 (dk_at dksX0_countyIn_0 20 rfl rfl)
theorem dX0_countyIn_21 : decode cX0_countyIn 21 = .ok (.iconst 0, 1) := dk_3 (dk_at dksX0_countyIn_0 21 rfl rfl)
theorem dX0_countyIn_22 : decode cX0_countyIn 22 = .ok (.ireturn, 1) := dk_172 (dk_at dksX0_countyIn_0 22 rfl rfl)
abbrev cX0_nameLength : ByteArray := method_9_code
def yX0_nameLength : MethodName := ⟨RX0, "nameLength", "(LCountyGazetteer;II[J)I"⟩
def dkwX0_nameLength_0 : List UInt8 := [45, 3, 42, 27, 28, 182, 0, 34, 133, 80, 167, 0, 11, 58, 4, 4, 172, 58, 4, 5, 172, 3, 172]
abbrev dktX0_nameLength_0 : List UInt8 := dkwX0_nameLength_0 ++ []
theorem dksX0_nameLength_0 : cX0_nameLength.data.toList.drop 0 = dktX0_nameLength_0 := by decide +kernel
theorem dX0_nameLength_0 : decode cX0_nameLength 0 = .ok (.aload_n 3, 1) := dk_45 (dk_at dksX0_nameLength_0 0 rfl rfl)
theorem dX0_nameLength_1 : decode cX0_nameLength 1 = .ok (.iconst 0, 1) := dk_3 (dk_at dksX0_nameLength_0 1 rfl rfl)
theorem dX0_nameLength_2 : decode cX0_nameLength 2 = .ok (.aload_n 0, 1) := dk_42 (dk_at dksX0_nameLength_0 2 rfl rfl)
theorem dX0_nameLength_3 : decode cX0_nameLength 3 = .ok (.iload_n 1, 1) := dk_27 (dk_at dksX0_nameLength_0 3 rfl rfl)
theorem dX0_nameLength_4 : decode cX0_nameLength 4 = .ok (.iload_n 2, 1) := dk_28 (dk_at dksX0_nameLength_0 4 rfl rfl)
theorem dX0_nameLength_5 : decode cX0_nameLength 5 = .ok (.invokevirtual 34, 3) := dk_182 0 34 (dk_at dksX0_nameLength_0 5 rfl rfl)
theorem dX0_nameLength_8 : decode cX0_nameLength 8 = .ok (.i2l, 1) := dk_133 (dk_at dksX0_nameLength_0 8 rfl rfl)
theorem dX0_nameLength_9 : decode cX0_nameLength 9 = .ok (.lastore, 1) := dk_80 (dk_at dksX0_nameLength_0 9 rfl rfl)
theorem dX0_nameLength_10 : decode cX0_nameLength 10 = .ok (.goto 11, 3) := dk_167 0 11 (dk_at dksX0_nameLength_0 10 rfl rfl)
theorem dX0_nameLength_13 : decode cX0_nameLength 13 = .ok (.astore 4, 2) := dk_58 4 (dk_at dksX0_nameLength_0 13 rfl rfl)
theorem dX0_nameLength_15 : decode cX0_nameLength 15 = .ok (.iconst 1, 1) := dk_4 (dk_at dksX0_nameLength_0 15 rfl rfl)
theorem dX0_nameLength_16 : decode cX0_nameLength 16 = .ok (.ireturn, 1) := dk_172 (dk_at dksX0_nameLength_0 16 rfl rfl)
theorem dX0_nameLength_17 : decode cX0_nameLength 17 = .ok (.astore 4, 2) := dk_58 4 (dk_at dksX0_nameLength_0 17 rfl rfl)
theorem dX0_nameLength_19 : decode cX0_nameLength 19 = .ok (.iconst 2, 1) := dk_5 (dk_at dksX0_nameLength_0 19 rfl rfl)
theorem dX0_nameLength_20 : decode cX0_nameLength 20 = .ok (.ireturn, 1) := dk_172 (dk_at dksX0_nameLength_0 20 rfl rfl)
theorem dX0_nameLength_21 : decode cX0_nameLength 21 = .ok (.iconst 0, 1) := dk_3 (dk_at dksX0_nameLength_0 21 rfl rfl)
theorem dX0_nameLength_22 : decode cX0_nameLength 22 = .ok (.ireturn, 1) := dk_172 (dk_at dksX0_nameLength_0 22 rfl rfl)
abbrev cX0_nameLetter : ByteArray := method_10_code
def yX0_nameLetter : MethodName := ⟨RX0, "nameLetter", "(LCountyGazetteer;III[J)I"⟩
def dkwX0_nameLetter_1 : List UInt8 := [172]
abbrev dktX0_nameLetter_1 : List UInt8 := dkwX0_nameLetter_1 ++ []
def dkwX0_nameLetter_0 : List UInt8 := [25, 4, 3, 42, 27, 28, 29, 182, 0, 37, 133, 80, 167, 0, 11, 58, 5, 4, 172, 58, 5, 5, 172, 3]
abbrev dktX0_nameLetter_0 : List UInt8 := dkwX0_nameLetter_0 ++ dktX0_nameLetter_1
theorem dksX0_nameLetter_0 : cX0_nameLetter.data.toList.drop 0 = dktX0_nameLetter_0 := by decide +kernel
theorem dksX0_nameLetter_1 : cX0_nameLetter.data.toList.drop 24 = dktX0_nameLetter_1 := dk_seg dksX0_nameLetter_0 24 rfl rfl
theorem dX0_nameLetter_0 : decode cX0_nameLetter 0 = .ok (.aload 4, 2) := dk_25 4 (dk_at dksX0_nameLetter_0 0 rfl rfl)
theorem dX0_nameLetter_2 : decode cX0_nameLetter 2 = .ok (.iconst 0, 1) := dk_3 (dk_at dksX0_nameLetter_0 2 rfl rfl)
theorem dX0_nameLetter_3 : decode cX0_nameLetter 3 = .ok (.aload_n 0, 1) := dk_42 (dk_at dksX0_nameLetter_0 3 rfl rfl)
theorem dX0_nameLetter_4 : decode cX0_nameLetter 4 = .ok (.iload_n 1, 1) := dk_27 (dk_at dksX0_nameLetter_0 4 rfl rfl)
theorem dX0_nameLetter_5 : decode cX0_nameLetter 5 = .ok (.iload_n 2, 1) := dk_28 (dk_at dksX0_nameLetter_0 5 rfl rfl)
theorem dX0_nameLetter_6 : decode cX0_nameLetter 6 = .ok (.iload_n 3, 1) := dk_29 (dk_at dksX0_nameLetter_0 6 rfl rfl)
theorem dX0_nameLetter_7 : decode cX0_nameLetter 7 = .ok (.invokevirtual 37, 3) := dk_182 0 37 (dk_at dksX0_nameLetter_0 7 rfl rfl)
theorem dX0_nameLetter_10 : decode cX0_nameLetter 10 = .ok (.i2l, 1) := dk_133 (dk_at dksX0_nameLetter_0 10 rfl rfl)
theorem dX0_nameLetter_11 : decode cX0_nameLetter 11 = .ok (.lastore, 1) := dk_80 (dk_at dksX0_nameLetter_0 11 rfl rfl)
theorem dX0_nameLetter_12 : decode cX0_nameLetter 12 = .ok (.goto 11, 3) := dk_167 0 11 (dk_at dksX0_nameLetter_0 12 rfl rfl)
theorem dX0_nameLetter_15 : decode cX0_nameLetter 15 = .ok (.astore 5, 2) := dk_58 5 (dk_at dksX0_nameLetter_0 15 rfl rfl)
theorem dX0_nameLetter_17 : decode cX0_nameLetter 17 = .ok (.iconst 1, 1) := dk_4 (dk_at dksX0_nameLetter_0 17 rfl rfl)
theorem dX0_nameLetter_18 : decode cX0_nameLetter 18 = .ok (.ireturn, 1) := dk_172 (dk_at dksX0_nameLetter_0 18 rfl rfl)
theorem dX0_nameLetter_19 : decode cX0_nameLetter 19 = .ok (.astore 5, 2) := dk_58 5 (dk_at dksX0_nameLetter_0 19 rfl rfl)
theorem dX0_nameLetter_21 : decode cX0_nameLetter 21 = .ok (.iconst 2, 1) := dk_5 (dk_at dksX0_nameLetter_0 21 rfl rfl)
theorem dX0_nameLetter_22 : decode cX0_nameLetter 22 = .ok (.ireturn, 1) := dk_172 (dk_at dksX0_nameLetter_0 22 rfl rfl)
theorem dX0_nameLetter_23 : decode cX0_nameLetter 23 = .ok (.iconst 0, 1) := dk_3 (dk_at dksX0_nameLetter_0 23 rfl rfl)
theorem dX0_nameLetter_24 : decode cX0_nameLetter 24 = .ok (.ireturn, 1) := dk_172 (dk_at dksX0_nameLetter_1 0 rfl rfl)
abbrev cX0_movesOf : ByteArray := method_11_code
def yX0_movesOf : MethodName := ⟨RX0, "movesOf", "(LCountyGazetteer;I[J)I"⟩
def dkwX0_movesOf_0 : List UInt8 := [44, 3, 42, 27, 182, 0, 40, 133, 80, 167, 0, 6, 78, 4, 172, 3, 172]
abbrev dktX0_movesOf_0 : List UInt8 := dkwX0_movesOf_0 ++ []
theorem dksX0_movesOf_0 : cX0_movesOf.data.toList.drop 0 = dktX0_movesOf_0 := by decide +kernel
theorem dX0_movesOf_0 : decode cX0_movesOf 0 = .ok (.aload_n 2, 1) := dk_44 (dk_at dksX0_movesOf_0 0 rfl rfl)
theorem dX0_movesOf_1 : decode cX0_movesOf 1 = .ok (.iconst 0, 1) := dk_3 (dk_at dksX0_movesOf_0 1 rfl rfl)
theorem dX0_movesOf_2 : decode cX0_movesOf 2 = .ok (.aload_n 0, 1) := dk_42 (dk_at dksX0_movesOf_0 2 rfl rfl)
theorem dX0_movesOf_3 : decode cX0_movesOf 3 = .ok (.iload_n 1, 1) := dk_27 (dk_at dksX0_movesOf_0 3 rfl rfl)
theorem dX0_movesOf_4 : decode cX0_movesOf 4 = .ok (.invokevirtual 40, 3) := dk_182 0 40 (dk_at dksX0_movesOf_0 4 rfl rfl)
theorem dX0_movesOf_7 : decode cX0_movesOf 7 = .ok (.i2l, 1) := dk_133 (dk_at dksX0_movesOf_0 7 rfl rfl)
theorem dX0_movesOf_8 : decode cX0_movesOf 8 = .ok (.lastore, 1) := dk_80 (dk_at dksX0_movesOf_0 8 rfl rfl)
theorem dX0_movesOf_9 : decode cX0_movesOf 9 = .ok (.goto 6, 3) := dk_167 0 6 (dk_at dksX0_movesOf_0 9 rfl rfl)
theorem dX0_movesOf_12 : decode cX0_movesOf 12 = .ok (.astore_n 3, 1) := dk_78 (dk_at dksX0_movesOf_0 12 rfl rfl)
theorem dX0_movesOf_13 : decode cX0_movesOf 13 = .ok (.iconst 1, 1) := dk_4 (dk_at dksX0_movesOf_0 13 rfl rfl)
theorem dX0_movesOf_14 : decode cX0_movesOf 14 = .ok (.ireturn, 1) := dk_172 (dk_at dksX0_movesOf_0 14 rfl rfl)
theorem dX0_movesOf_15 : decode cX0_movesOf 15 = .ok (.iconst 0, 1) := dk_3 (dk_at dksX0_movesOf_0 15 rfl rfl)
theorem dX0_movesOf_16 : decode cX0_movesOf 16 = .ok (.ireturn, 1) := dk_172 (dk_at dksX0_movesOf_0 16 rfl rfl)
abbrev cX0_lastMove : ByteArray := method_12_code
def yX0_lastMove : MethodName := ⟨RX0, "lastMove", "(LCountyGazetteer;I[J)I"⟩
def dkwX0_lastMove_0 : List UInt8 := [44, 3, 42, 27, 182, 0, 43, 133, 80, 167, 0, 6, 78, 4, 172, 3, 172]
abbrev dktX0_lastMove_0 : List UInt8 := dkwX0_lastMove_0 ++ []
theorem dksX0_lastMove_0 : cX0_lastMove.data.toList.drop 0 = dktX0_lastMove_0 := by decide +kernel
theorem dX0_lastMove_0 : decode cX0_lastMove 0 = .ok (.aload_n 2, 1) := dk_44 (dk_at dksX0_lastMove_0 0 rfl rfl)
theorem dX0_lastMove_1 : decode cX0_lastMove 1 = .ok (.iconst 0, 1) := dk_3 (dk_at dksX0_lastMove_0 1 rfl rfl)
theorem dX0_lastMove_2 : decode cX0_lastMove 2 = .ok (.aload_n 0, 1) := dk_42 (dk_at dksX0_lastMove_0 2 rfl rfl)
theorem dX0_lastMove_3 : decode cX0_lastMove 3 = .ok (.iload_n 1, 1) := dk_27 (dk_at dksX0_lastMove_0 3 rfl rfl)
theorem dX0_lastMove_4 : decode cX0_lastMove 4 = .ok (.invokevirtual 43, 3) := dk_182 0 43 (dk_at dksX0_lastMove_0 4 rfl rfl)
theorem dX0_lastMove_7 : decode cX0_lastMove 7 = .ok (.i2l, 1) := dk_133 (dk_at dksX0_lastMove_0 7 rfl rfl)
theorem dX0_lastMove_8 : decode cX0_lastMove 8 = .ok (.lastore, 1) := dk_80 (dk_at dksX0_lastMove_0 8 rfl rfl)
theorem dX0_lastMove_9 : decode cX0_lastMove 9 = .ok (.goto 6, 3) := dk_167 0 6 (dk_at dksX0_lastMove_0 9 rfl rfl)
theorem dX0_lastMove_12 : decode cX0_lastMove 12 = .ok (.astore_n 3, 1) := dk_78 (dk_at dksX0_lastMove_0 12 rfl rfl)
theorem dX0_lastMove_13 : decode cX0_lastMove 13 = .ok (.iconst 1, 1) := dk_4 (dk_at dksX0_lastMove_0 13 rfl rfl)
theorem dX0_lastMove_14 : decode cX0_lastMove 14 = .ok (.ireturn, 1) := dk_172 (dk_at dksX0_lastMove_0 14 rfl rfl)
theorem dX0_lastMove_15 : decode cX0_lastMove 15 = .ok (.iconst 0, 1) := dk_3 (dk_at dksX0_lastMove_0 15 rfl rfl)
theorem dX0_lastMove_16 : decode cX0_lastMove 16 = .ok (.ireturn, 1) := dk_172 (dk_at dksX0_lastMove_0 16 rfl rfl)
abbrev cX0_villagesIn : ByteArray := method_13_code
def yX0_villagesIn : MethodName := ⟨RX0, "villagesIn", "(LCountyGazetteer;II[J)I"⟩
def dkwX0_villagesIn_0 : List UInt8 := [45, 3, 42, 27, 28, 182, 0, 46, 133, 80, 167, 0, 11, 58, 4, 4, 172, 58, 4, 5, 172, 3, 172]
abbrev dktX0_villagesIn_0 : List UInt8 := dkwX0_villagesIn_0 ++ []
theorem dksX0_villagesIn_0 : cX0_villagesIn.data.toList.drop 0 = dktX0_villagesIn_0 := by decide +kernel
theorem dX0_villagesIn_0 : decode cX0_villagesIn 0 = .ok (.aload_n 3, 1) := dk_45 (dk_at dksX0_villagesIn_0 0 rfl rfl)
theorem dX0_villagesIn_1 : decode cX0_villagesIn 1 = .ok (.iconst 0, 1) := dk_3 (dk_at dksX0_villagesIn_0 1 rfl rfl)
theorem dX0_villagesIn_2 : decode cX0_villagesIn 2 = .ok (.aload_n 0, 1) := dk_42 (dk_at dksX0_villagesIn_0 2 rfl rfl)
theorem dX0_villagesIn_3 : decode cX0_villagesIn 3 = .ok (.iload_n 1, 1) := dk_27 (dk_at dksX0_villagesIn_0 3 rfl rfl)
theorem dX0_villagesIn_4 : decode cX0_villagesIn 4 = .ok (.iload_n 2, 1) := dk_28 (dk_at dksX0_villagesIn_0 4 rfl rfl)
theorem dX0_villagesIn_5 : decode cX0_villagesIn 5 = .ok (.invokevirtual 46, 3) := dk_182 0 46 (dk_at dksX0_villagesIn_0 5 rfl rfl)
theorem dX0_villagesIn_8 : decode cX0_villagesIn 8 = .ok (.i2l, 1) := dk_133 (dk_at dksX0_villagesIn_0 8 rfl rfl)
theorem dX0_villagesIn_9 : decode cX0_villagesIn 9 = .ok (.lastore, 1) := dk_80 (dk_at dksX0_villagesIn_0 9 rfl rfl)
theorem dX0_villagesIn_10 : decode cX0_villagesIn 10 = .ok (.goto 11, 3) := dk_167 0 11 (dk_at dksX0_villagesIn_0 10 rfl rfl)
theorem dX0_villagesIn_13 : decode cX0_villagesIn 13 = .ok (.astore 4, 2) := dk_58 4 (dk_at dksX0_villagesIn_0 13 rfl rfl)
theorem dX0_villagesIn_15 : decode cX0_villagesIn 15 = .ok (.iconst 1, 1) := dk_4 (dk_at dksX0_villagesIn_0 15 rfl rfl)
theorem dX0_villagesIn_16 : decode cX0_villagesIn 16 = .ok (.ireturn, 1) := dk_172 (dk_at dksX0_villagesIn_0 16 rfl rfl)
theorem dX0_villagesIn_17 : decode cX0_villagesIn 17 = .ok (.astore 4, 2) := dk_58 4 (dk_at dksX0_villagesIn_0 17 rfl rfl)
theorem dX0_villagesIn_19 : decode cX0_villagesIn 19 = .ok (.iconst 2, 1) := dk_5 (dk_at dksX0_villagesIn_0 19 rfl rfl)
theorem dX0_villagesIn_20 : decode cX0_villagesIn 20 = .ok (.ireturn, 1) := dk_172 (dk_at dksX0_villagesIn_0 20 rfl rfl)
theorem dX0_villagesIn_21 : decode cX0_villagesIn 21 = .ok (.iconst 0, 1) := dk_3 (dk_at dksX0_villagesIn_0 21 rfl rfl)
theorem dX0_villagesIn_22 : decode cX0_villagesIn 22 = .ok (.ireturn, 1) := dk_172 (dk_at dksX0_villagesIn_0 22 rfl rfl)
abbrev cX0_movedBetween : ByteArray := method_14_code
def yX0_movedBetween : MethodName := ⟨RX0, "movedBetween", "(LCountyGazetteer;II[J)I"⟩
def dkwX0_movedBetween_0 : List UInt8 := [45, 3, 42, 27, 28, 182, 0, 49, 133, 80, 167, 0, 7, 58, 4, 4, 172, 3, 172]
abbrev dktX0_movedBetween_0 : List UInt8 := dkwX0_movedBetween_0 ++ []
theorem dksX0_movedBetween_0 : cX0_movedBetween.data.toList.drop 0 = dktX0_movedBetween_0 := by decide +kernel
theorem dX0_movedBetween_0 : decode cX0_movedBetween 0 = .ok (.aload_n 3, 1) := dk_45 (dk_at dksX0_movedBetween_0 0 rfl rfl)
theorem dX0_movedBetween_1 : decode cX0_movedBetween 1 = .ok (.iconst 0, 1) := dk_3 (dk_at dksX0_movedBetween_0 1 rfl rfl)
theorem dX0_movedBetween_2 : decode cX0_movedBetween 2 = .ok (.aload_n 0, 1) := dk_42 (dk_at dksX0_movedBetween_0 2 rfl rfl)
theorem dX0_movedBetween_3 : decode cX0_movedBetween 3 = .ok (.iload_n 1, 1) := dk_27 (dk_at dksX0_movedBetween_0 3 rfl rfl)
theorem dX0_movedBetween_4 : decode cX0_movedBetween 4 = .ok (.iload_n 2, 1) := dk_28 (dk_at dksX0_movedBetween_0 4 rfl rfl)
theorem dX0_movedBetween_5 : decode cX0_movedBetween 5 = .ok (.invokevirtual 49, 3) := dk_182 0 49 (dk_at dksX0_movedBetween_0 5 rfl rfl)
theorem dX0_movedBetween_8 : decode cX0_movedBetween 8 = .ok (.i2l, 1) := dk_133 (dk_at dksX0_movedBetween_0 8 rfl rfl)
theorem dX0_movedBetween_9 : decode cX0_movedBetween 9 = .ok (.lastore, 1) := dk_80 (dk_at dksX0_movedBetween_0 9 rfl rfl)
theorem dX0_movedBetween_10 : decode cX0_movedBetween 10 = .ok (.goto 7, 3) := dk_167 0 7 (dk_at dksX0_movedBetween_0 10 rfl rfl)
theorem dX0_movedBetween_13 : decode cX0_movedBetween 13 = .ok (.astore 4, 2) := dk_58 4 (dk_at dksX0_movedBetween_0 13 rfl rfl)
theorem dX0_movedBetween_15 : decode cX0_movedBetween 15 = .ok (.iconst 1, 1) := dk_4 (dk_at dksX0_movedBetween_0 15 rfl rfl)
theorem dX0_movedBetween_16 : decode cX0_movedBetween 16 = .ok (.ireturn, 1) := dk_172 (dk_at dksX0_movedBetween_0 16 rfl rfl)
theorem dX0_movedBetween_17 : decode cX0_movedBetween 17 = .ok (.iconst 0, 1) := dk_3 (dk_at dksX0_movedBetween_0 17 rfl rfl)
theorem dX0_movedBetween_18 : decode cX0_movedBetween 18 = .ok (.ireturn, 1) := dk_172 (dk_at dksX0_movedBetween_0 18 rfl rfl)
abbrev cX0_nextMove : ByteArray := method_15_code
def yX0_nextMove : MethodName := ⟨RX0, "nextMove", "(LCountyGazetteer;I[J)I"⟩
def dkwX0_nextMove_0 : List UInt8 := [44, 3, 42, 27, 182, 0, 52, 133, 80, 167, 0, 6, 78, 4, 172, 3, 172]
abbrev dktX0_nextMove_0 : List UInt8 := dkwX0_nextMove_0 ++ []
theorem dksX0_nextMove_0 : cX0_nextMove.data.toList.drop 0 = dktX0_nextMove_0 := by decide +kernel
theorem dX0_nextMove_0 : decode cX0_nextMove 0 = .ok (.aload_n 2, 1) := dk_44 (dk_at dksX0_nextMove_0 0 rfl rfl)
theorem dX0_nextMove_1 : decode cX0_nextMove 1 = .ok (.iconst 0, 1) := dk_3 (dk_at dksX0_nextMove_0 1 rfl rfl)
theorem dX0_nextMove_2 : decode cX0_nextMove 2 = .ok (.aload_n 0, 1) := dk_42 (dk_at dksX0_nextMove_0 2 rfl rfl)
theorem dX0_nextMove_3 : decode cX0_nextMove 3 = .ok (.iload_n 1, 1) := dk_27 (dk_at dksX0_nextMove_0 3 rfl rfl)
theorem dX0_nextMove_4 : decode cX0_nextMove 4 = .ok (.invokevirtual 52, 3) := dk_182 0 52 (dk_at dksX0_nextMove_0 4 rfl rfl)
theorem dX0_nextMove_7 : decode cX0_nextMove 7 = .ok (.i2l, 1) := dk_133 (dk_at dksX0_nextMove_0 7 rfl rfl)
theorem dX0_nextMove_8 : decode cX0_nextMove 8 = .ok (.lastore, 1) := dk_80 (dk_at dksX0_nextMove_0 8 rfl rfl)
theorem dX0_nextMove_9 : decode cX0_nextMove 9 = .ok (.goto 6, 3) := dk_167 0 6 (dk_at dksX0_nextMove_0 9 rfl rfl)
theorem dX0_nextMove_12 : decode cX0_nextMove 12 = .ok (.astore_n 3, 1) := dk_78 (dk_at dksX0_nextMove_0 12 rfl rfl)
theorem dX0_nextMove_13 : decode cX0_nextMove 13 = .ok (.iconst 1, 1) := dk_4 (dk_at dksX0_nextMove_0 13 rfl rfl)
theorem dX0_nextMove_14 : decode cX0_nextMove 14 = .ok (.ireturn, 1) := dk_172 (dk_at dksX0_nextMove_0 14 rfl rfl)
theorem dX0_nextMove_15 : decode cX0_nextMove 15 = .ok (.iconst 0, 1) := dk_3 (dk_at dksX0_nextMove_0 15 rfl rfl)
theorem dX0_nextMove_16 : decode cX0_nextMove 16 = .ok (.ireturn, 1) := dk_172 (dk_at dksX0_nextMove_0 16 rfl rfl)
abbrev cX0_entry : ByteArray := method_16_code
def yX0_entry : MethodName := ⟨RX0, "entry", "(LCountyGazetteer;III[J)I"⟩
def dkwX0_entry_1 : List UInt8 := [172]
abbrev dktX0_entry_1 : List UInt8 := dkwX0_entry_1 ++ []
def dkwX0_entry_0 : List UInt8 := [25, 4, 3, 42, 27, 28, 29, 182, 0, 55, 133, 80, 167, 0, 11, 58, 5, 4, 172, 58, 5, 5, 172, 3]
abbrev dktX0_entry_0 : List UInt8 := dkwX0_entry_0 ++ dktX0_entry_1
theorem dksX0_entry_0 : cX0_entry.data.toList.drop 0 = dktX0_entry_0 := by decide +kernel
theorem dksX0_entry_1 : cX0_entry.data.toList.drop 24 = dktX0_entry_1 := dk_seg dksX0_entry_0 24 rfl rfl
theorem dX0_entry_0 : decode cX0_entry 0 = .ok (.aload 4, 2) := dk_25 4 (dk_at dksX0_entry_0 0 rfl rfl)
theorem dX0_entry_2 : decode cX0_entry 2 = .ok (.iconst 0, 1) := dk_3 (dk_at dksX0_entry_0 2 rfl rfl)
theorem dX0_entry_3 : decode cX0_entry 3 = .ok (.aload_n 0, 1) := dk_42 (dk_at dksX0_entry_0 3 rfl rfl)
theorem dX0_entry_4 : decode cX0_entry 4 = .ok (.iload_n 1, 1) := dk_27 (dk_at dksX0_entry_0 4 rfl rfl)
theorem dX0_entry_5 : decode cX0_entry 5 = .ok (.iload_n 2, 1) := dk_28 (dk_at dksX0_entry_0 5 rfl rfl)
theorem dX0_entry_6 : decode cX0_entry 6 = .ok (.iload_n 3, 1) := dk_29 (dk_at dksX0_entry_0 6 rfl rfl)
theorem dX0_entry_7 : decode cX0_entry 7 = .ok (.invokevirtual 55, 3) := dk_182 0 55 (dk_at dksX0_entry_0 7 rfl rfl)
theorem dX0_entry_10 : decode cX0_entry 10 = .ok (.i2l, 1) := dk_133 (dk_at dksX0_entry_0 10 rfl rfl)
theorem dX0_entry_11 : decode cX0_entry 11 = .ok (.lastore, 1) := dk_80 (dk_at dksX0_entry_0 11 rfl rfl)
theorem dX0_entry_12 : decode cX0_entry 12 = .ok (.goto 11, 3) := dk_167 0 11 (dk_at dksX0_entry_0 12 rfl rfl)
theorem dX0_entry_15 : decode cX0_entry 15 = .ok (.astore 5, 2) := dk_58 5 (dk_at dksX0_entry_0 15 rfl rfl)
theorem dX0_entry_17 : decode cX0_entry 17 = .ok (.iconst 1, 1) := dk_4 (dk_at dksX0_entry_0 17 rfl rfl)
theorem dX0_entry_18 : decode cX0_entry 18 = .ok (.ireturn, 1) := dk_172 (dk_at dksX0_entry_0 18 rfl rfl)
theorem dX0_entry_19 : decode cX0_entry 19 = .ok (.astore 5, 2) := dk_58 5 (dk_at dksX0_entry_0 19 rfl rfl)
theorem dX0_entry_21 : decode cX0_entry 21 = .ok (.iconst 2, 1) := dk_5 (dk_at dksX0_entry_0 21 rfl rfl)
theorem dX0_entry_22 : decode cX0_entry 22 = .ok (.ireturn, 1) := dk_172 (dk_at dksX0_entry_0 22 rfl rfl)
theorem dX0_entry_23 : decode cX0_entry 23 = .ok (.iconst 0, 1) := dk_3 (dk_at dksX0_entry_0 23 rfl rfl)
theorem dX0_entry_24 : decode cX0_entry 24 = .ok (.ireturn, 1) := dk_172 (dk_at dksX0_entry_1 0 rfl rfl)
abbrev cX0_entryLetter : ByteArray := method_17_code
def yX0_entryLetter : MethodName := ⟨RX0, "entryLetter", "(LCountyGazetteer;III[J)I"⟩
def dkwX0_entryLetter_0 : List UInt8 := [25, 4, 3, 42, 27, 28, 29, 182, 0, 58, 133, 80, 167, 0, 7, 58, 5, 4, 172, 3, 172]
abbrev dktX0_entryLetter_0 : List UInt8 := dkwX0_entryLetter_0 ++ []
theorem dksX0_entryLetter_0 : cX0_entryLetter.data.toList.drop 0 = dktX0_entryLetter_0 := by decide +kernel
theorem dX0_entryLetter_0 : decode cX0_entryLetter 0 = .ok (.aload 4, 2) := dk_25 4 (dk_at dksX0_entryLetter_0 0 rfl rfl)
theorem dX0_entryLetter_2 : decode cX0_entryLetter 2 = .ok (.iconst 0, 1) := dk_3 (dk_at dksX0_entryLetter_0 2 rfl rfl)
theorem dX0_entryLetter_3 : decode cX0_entryLetter 3 = .ok (.aload_n 0, 1) := dk_42 (dk_at dksX0_entryLetter_0 3 rfl rfl)
theorem dX0_entryLetter_4 : decode cX0_entryLetter 4 = .ok (.iload_n 1, 1) := dk_27 (dk_at dksX0_entryLetter_0 4 rfl rfl)
theorem dX0_entryLetter_5 : decode cX0_entryLetter 5 = .ok (.iload_n 2, 1) := dk_28 (dk_at dksX0_entryLetter_0 5 rfl rfl)
theorem dX0_entryLetter_6 : decode cX0_entryLetter 6 = .ok (.iload_n 3, 1) := dk_29 (dk_at dksX0_entryLetter_0 6 rfl rfl)
theorem dX0_entryLetter_7 : decode cX0_entryLetter 7 = .ok (.invokevirtual 58, 3) := dk_182 0 58 (dk_at dksX0_entryLetter_0 7 rfl rfl)
theorem dX0_entryLetter_10 : decode cX0_entryLetter 10 = .ok (.i2l, 1) := dk_133 (dk_at dksX0_entryLetter_0 10 rfl rfl)
theorem dX0_entryLetter_11 : decode cX0_entryLetter 11 = .ok (.lastore, 1) := dk_80 (dk_at dksX0_entryLetter_0 11 rfl rfl)
theorem dX0_entryLetter_12 : decode cX0_entryLetter 12 = .ok (.goto 7, 3) := dk_167 0 7 (dk_at dksX0_entryLetter_0 12 rfl rfl)
theorem dX0_entryLetter_15 : decode cX0_entryLetter 15 = .ok (.astore 5, 2) := dk_58 5 (dk_at dksX0_entryLetter_0 15 rfl rfl)
theorem dX0_entryLetter_17 : decode cX0_entryLetter 17 = .ok (.iconst 1, 1) := dk_4 (dk_at dksX0_entryLetter_0 17 rfl rfl)
theorem dX0_entryLetter_18 : decode cX0_entryLetter 18 = .ok (.ireturn, 1) := dk_172 (dk_at dksX0_entryLetter_0 18 rfl rfl)
theorem dX0_entryLetter_19 : decode cX0_entryLetter 19 = .ok (.iconst 0, 1) := dk_3 (dk_at dksX0_entryLetter_0 19 rfl rfl)
theorem dX0_entryLetter_20 : decode cX0_entryLetter 20 = .ok (.ireturn, 1) := dk_172 (dk_at dksX0_entryLetter_0 20 rfl rfl)
abbrev cX0_block : ByteArray := method_18_code
def yX0_block : MethodName := ⟨RX0, "block", "(LCountyGazetteer;I[J)I"⟩
def dkwX0_block_0 : List UInt8 := [44, 3, 42, 27, 182, 0, 61, 133, 80, 167, 0, 6, 78, 4, 172, 3, 172]
abbrev dktX0_block_0 : List UInt8 := dkwX0_block_0 ++ []
theorem dksX0_block_0 : cX0_block.data.toList.drop 0 = dktX0_block_0 := by decide +kernel
theorem dX0_block_0 : decode cX0_block 0 = .ok (.aload_n 2, 1) := dk_44 (dk_at dksX0_block_0 0 rfl rfl)
theorem dX0_block_1 : decode cX0_block 1 = .ok (.iconst 0, 1) := dk_3 (dk_at dksX0_block_0 1 rfl rfl)
theorem dX0_block_2 : decode cX0_block 2 = .ok (.aload_n 0, 1) := dk_42 (dk_at dksX0_block_0 2 rfl rfl)
theorem dX0_block_3 : decode cX0_block 3 = .ok (.iload_n 1, 1) := dk_27 (dk_at dksX0_block_0 3 rfl rfl)
theorem dX0_block_4 : decode cX0_block 4 = .ok (.invokevirtual 61, 3) := dk_182 0 61 (dk_at dksX0_block_0 4 rfl rfl)
theorem dX0_block_7 : decode cX0_block 7 = .ok (.i2l, 1) := dk_133 (dk_at dksX0_block_0 7 rfl rfl)
theorem dX0_block_8 : decode cX0_block 8 = .ok (.lastore, 1) := dk_80 (dk_at dksX0_block_0 8 rfl rfl)
theorem dX0_block_9 : decode cX0_block 9 = .ok (.goto 6, 3) := dk_167 0 6 (dk_at dksX0_block_0 9 rfl rfl)
theorem dX0_block_12 : decode cX0_block 12 = .ok (.astore_n 3, 1) := dk_78 (dk_at dksX0_block_0 12 rfl rfl)
theorem dX0_block_13 : decode cX0_block 13 = .ok (.iconst 1, 1) := dk_4 (dk_at dksX0_block_0 13 rfl rfl)
theorem dX0_block_14 : decode cX0_block 14 = .ok (.ireturn, 1) := dk_172 (dk_at dksX0_block_0 14 rfl rfl)
theorem dX0_block_15 : decode cX0_block 15 = .ok (.iconst 0, 1) := dk_3 (dk_at dksX0_block_0 15 rfl rfl)
theorem dX0_block_16 : decode cX0_block 16 = .ok (.ireturn, 1) := dk_172 (dk_at dksX0_block_0 16 rfl rfl)
abbrev cX0_used : ByteArray := method_19_code
def yX0_used : MethodName := ⟨RX0, "used", "(LCountyGazetteer;I[J)I"⟩
def dkwX0_used_0 : List UInt8 := [44, 3, 42, 27, 182, 0, 64, 133, 80, 167, 0, 6, 78, 4, 172, 3, 172]
abbrev dktX0_used_0 : List UInt8 := dkwX0_used_0 ++ []
theorem dksX0_used_0 : cX0_used.data.toList.drop 0 = dktX0_used_0 := by decide +kernel
theorem dX0_used_0 : decode cX0_used 0 = .ok (.aload_n 2, 1) := dk_44 (dk_at dksX0_used_0 0 rfl rfl)
theorem dX0_used_1 : decode cX0_used 1 = .ok (.iconst 0, 1) := dk_3 (dk_at dksX0_used_0 1 rfl rfl)
theorem dX0_used_2 : decode cX0_used 2 = .ok (.aload_n 0, 1) := dk_42 (dk_at dksX0_used_0 2 rfl rfl)
theorem dX0_used_3 : decode cX0_used 3 = .ok (.iload_n 1, 1) := dk_27 (dk_at dksX0_used_0 3 rfl rfl)
theorem dX0_used_4 : decode cX0_used 4 = .ok (.invokevirtual 64, 3) := dk_182 0 64 (dk_at dksX0_used_0 4 rfl rfl)
theorem dX0_used_7 : decode cX0_used 7 = .ok (.i2l, 1) := dk_133 (dk_at dksX0_used_0 7 rfl rfl)
theorem dX0_used_8 : decode cX0_used 8 = .ok (.lastore, 1) := dk_80 (dk_at dksX0_used_0 8 rfl rfl)
theorem dX0_used_9 : decode cX0_used 9 = .ok (.goto 6, 3) := dk_167 0 6 (dk_at dksX0_used_0 9 rfl rfl)
theorem dX0_used_12 : decode cX0_used 12 = .ok (.astore_n 3, 1) := dk_78 (dk_at dksX0_used_0 12 rfl rfl)
theorem dX0_used_13 : decode cX0_used 13 = .ok (.iconst 1, 1) := dk_4 (dk_at dksX0_used_0 13 rfl rfl)
theorem dX0_used_14 : decode cX0_used 14 = .ok (.ireturn, 1) := dk_172 (dk_at dksX0_used_0 14 rfl rfl)
theorem dX0_used_15 : decode cX0_used 15 = .ok (.iconst 0, 1) := dk_3 (dk_at dksX0_used_0 15 rfl rfl)
theorem dX0_used_16 : decode cX0_used 16 = .ok (.ireturn, 1) := dk_172 (dk_at dksX0_used_0 16 rfl rfl)
abbrev cX0_line : ByteArray := method_20_code
def yX0_line : MethodName := ⟨RX0, "line", "(LCountyGazetteer;III[J)I"⟩
def dkwX0_line_1 : List UInt8 := [172]
abbrev dktX0_line_1 : List UInt8 := dkwX0_line_1 ++ []
def dkwX0_line_0 : List UInt8 := [25, 4, 3, 42, 27, 28, 29, 182, 0, 67, 133, 80, 167, 0, 11, 58, 5, 4, 172, 58, 5, 5, 172, 3]
abbrev dktX0_line_0 : List UInt8 := dkwX0_line_0 ++ dktX0_line_1
theorem dksX0_line_0 : cX0_line.data.toList.drop 0 = dktX0_line_0 := by decide +kernel
theorem dksX0_line_1 : cX0_line.data.toList.drop 24 = dktX0_line_1 := dk_seg dksX0_line_0 24 rfl rfl
theorem dX0_line_0 : decode cX0_line 0 = .ok (.aload 4, 2) := dk_25 4 (dk_at dksX0_line_0 0 rfl rfl)
theorem dX0_line_2 : decode cX0_line 2 = .ok (.iconst 0, 1) := dk_3 (dk_at dksX0_line_0 2 rfl rfl)
theorem dX0_line_3 : decode cX0_line 3 = .ok (.aload_n 0, 1) := dk_42 (dk_at dksX0_line_0 3 rfl rfl)
theorem dX0_line_4 : decode cX0_line 4 = .ok (.iload_n 1, 1) := dk_27 (dk_at dksX0_line_0 4 rfl rfl)
theorem dX0_line_5 : decode cX0_line 5 = .ok (.iload_n 2, 1) := dk_28 (dk_at dksX0_line_0 5 rfl rfl)
theorem dX0_line_6 : decode cX0_line 6 = .ok (.iload_n 3, 1) := dk_29 (dk_at dksX0_line_0 6 rfl rfl)
theorem dX0_line_7 : decode cX0_line 7 = .ok (.invokevirtual 67, 3) := dk_182 0 67 (dk_at dksX0_line_0 7 rfl rfl)
theorem dX0_line_10 : decode cX0_line 10 = .ok (.i2l, 1) := dk_133 (dk_at dksX0_line_0 10 rfl rfl)
theorem dX0_line_11 : decode cX0_line 11 = .ok (.lastore, 1) := dk_80 (dk_at dksX0_line_0 11 rfl rfl)
theorem dX0_line_12 : decode cX0_line 12 = .ok (.goto 11, 3) := dk_167 0 11 (dk_at dksX0_line_0 12 rfl rfl)
theorem dX0_line_15 : decode cX0_line 15 = .ok (.astore 5, 2) := dk_58 5 (dk_at dksX0_line_0 15 rfl rfl)
theorem dX0_line_17 : decode cX0_line 17 = .ok (.iconst 1, 1) := dk_4 (dk_at dksX0_line_0 17 rfl rfl)
theorem dX0_line_18 : decode cX0_line 18 = .ok (.ireturn, 1) := dk_172 (dk_at dksX0_line_0 18 rfl rfl)
theorem dX0_line_19 : decode cX0_line 19 = .ok (.astore 5, 2) := dk_58 5 (dk_at dksX0_line_0 19 rfl rfl)
theorem dX0_line_21 : decode cX0_line 21 = .ok (.iconst 2, 1) := dk_5 (dk_at dksX0_line_0 21 rfl rfl)
theorem dX0_line_22 : decode cX0_line 22 = .ok (.ireturn, 1) := dk_172 (dk_at dksX0_line_0 22 rfl rfl)
theorem dX0_line_23 : decode cX0_line 23 = .ok (.iconst 0, 1) := dk_3 (dk_at dksX0_line_0 23 rfl rfl)
theorem dX0_line_24 : decode cX0_line 24 = .ok (.ireturn, 1) := dk_172 (dk_at dksX0_line_1 0 rfl rfl)
abbrev cX0_linesFor : ByteArray := method_21_code
def yX0_linesFor : MethodName := ⟨RX0, "linesFor", "(LCountyGazetteer;I[J)I"⟩
def dkwX0_linesFor_0 : List UInt8 := [44, 3, 42, 27, 182, 0, 70, 133, 80, 167, 0, 6, 78, 4, 172, 3, 172]
abbrev dktX0_linesFor_0 : List UInt8 := dkwX0_linesFor_0 ++ []
theorem dksX0_linesFor_0 : cX0_linesFor.data.toList.drop 0 = dktX0_linesFor_0 := by decide +kernel
theorem dX0_linesFor_0 : decode cX0_linesFor 0 = .ok (.aload_n 2, 1) := dk_44 (dk_at dksX0_linesFor_0 0 rfl rfl)
theorem dX0_linesFor_1 : decode cX0_linesFor 1 = .ok (.iconst 0, 1) := dk_3 (dk_at dksX0_linesFor_0 1 rfl rfl)
theorem dX0_linesFor_2 : decode cX0_linesFor 2 = .ok (.aload_n 0, 1) := dk_42 (dk_at dksX0_linesFor_0 2 rfl rfl)
theorem dX0_linesFor_3 : decode cX0_linesFor 3 = .ok (.iload_n 1, 1) := dk_27 (dk_at dksX0_linesFor_0 3 rfl rfl)
theorem dX0_linesFor_4 : decode cX0_linesFor 4 = .ok (.invokevirtual 70, 3) := dk_182 0 70 (dk_at dksX0_linesFor_0 4 rfl rfl)
theorem dX0_linesFor_7 : decode cX0_linesFor 7 = .ok (.i2l, 1) := dk_133 (dk_at dksX0_linesFor_0 7 rfl rfl)
theorem dX0_linesFor_8 : decode cX0_linesFor 8 = .ok (.lastore, 1) := dk_80 (dk_at dksX0_linesFor_0 8 rfl rfl)
theorem dX0_linesFor_9 : decode cX0_linesFor 9 = .ok (.goto 6, 3) := dk_167 0 6 (dk_at dksX0_linesFor_0 9 rfl rfl)
theorem dX0_linesFor_12 : decode cX0_linesFor 12 = .ok (.astore_n 3, 1) := dk_78 (dk_at dksX0_linesFor_0 12 rfl rfl)
theorem dX0_linesFor_13 : decode cX0_linesFor 13 = .ok (.iconst 1, 1) := dk_4 (dk_at dksX0_linesFor_0 13 rfl rfl)
theorem dX0_linesFor_14 : decode cX0_linesFor 14 = .ok (.ireturn, 1) := dk_172 (dk_at dksX0_linesFor_0 14 rfl rfl)
theorem dX0_linesFor_15 : decode cX0_linesFor 15 = .ok (.iconst 0, 1) := dk_3 (dk_at dksX0_linesFor_0 15 rfl rfl)
theorem dX0_linesFor_16 : decode cX0_linesFor 16 = .ok (.ireturn, 1) := dk_172 (dk_at dksX0_linesFor_0 16 rfl rfl)
abbrev cX0_volumes : ByteArray := method_22_code
def yX0_volumes : MethodName := ⟨RX0, "volumes", "(LCountyGazetteer;I[J)I"⟩
def dkwX0_volumes_0 : List UInt8 := [44, 3, 42, 27, 182, 0, 73, 133, 80, 167, 0, 6, 78, 4, 172, 3, 172]
abbrev dktX0_volumes_0 : List UInt8 := dkwX0_volumes_0 ++ []
theorem dksX0_volumes_0 : cX0_volumes.data.toList.drop 0 = dktX0_volumes_0 := by decide +kernel
theorem dX0_volumes_0 : decode cX0_volumes 0 = .ok (.aload_n 2, 1) := dk_44 (dk_at dksX0_volumes_0 0 rfl rfl)
theorem dX0_volumes_1 : decode cX0_volumes 1 = .ok (.iconst 0, 1) := dk_3 (dk_at dksX0_volumes_0 1 rfl rfl)
theorem dX0_volumes_2 : decode cX0_volumes 2 = .ok (.aload_n 0, 1) := dk_42 (dk_at dksX0_volumes_0 2 rfl rfl)
theorem dX0_volumes_3 : decode cX0_volumes 3 = .ok (.iload_n 1, 1) := dk_27 (dk_at dksX0_volumes_0 3 rfl rfl)
theorem dX0_volumes_4 : decode cX0_volumes 4 = .ok (.invokevirtual 73, 3) := dk_182 0 73 (dk_at dksX0_volumes_0 4 rfl rfl)
theorem dX0_volumes_7 : decode cX0_volumes 7 = .ok (.i2l, 1) := dk_133 (dk_at dksX0_volumes_0 7 rfl rfl)
theorem dX0_volumes_8 : decode cX0_volumes 8 = .ok (.lastore, 1) := dk_80 (dk_at dksX0_volumes_0 8 rfl rfl)
theorem dX0_volumes_9 : decode cX0_volumes 9 = .ok (.goto 6, 3) := dk_167 0 6 (dk_at dksX0_volumes_0 9 rfl rfl)
theorem dX0_volumes_12 : decode cX0_volumes 12 = .ok (.astore_n 3, 1) := dk_78 (dk_at dksX0_volumes_0 12 rfl rfl)
theorem dX0_volumes_13 : decode cX0_volumes 13 = .ok (.iconst 1, 1) := dk_4 (dk_at dksX0_volumes_0 13 rfl rfl)
theorem dX0_volumes_14 : decode cX0_volumes 14 = .ok (.ireturn, 1) := dk_172 (dk_at dksX0_volumes_0 14 rfl rfl)
theorem dX0_volumes_15 : decode cX0_volumes 15 = .ok (.iconst 0, 1) := dk_3 (dk_at dksX0_volumes_0 15 rfl rfl)
theorem dX0_volumes_16 : decode cX0_volumes 16 = .ok (.ireturn, 1) := dk_172 (dk_at dksX0_volumes_0 16 rfl rfl)
abbrev cX0_volume : ByteArray := method_23_code
def yX0_volume : MethodName := ⟨RX0, "volume", "(LCountyGazetteer;III[J)I"⟩
def dkwX0_volume_1 : List UInt8 := [172]
abbrev dktX0_volume_1 : List UInt8 := dkwX0_volume_1 ++ []
def dkwX0_volume_0 : List UInt8 := [25, 4, 3, 42, 27, 28, 29, 182, 0, 76, 133, 80, 167, 0, 11, 58, 5, 4, 172, 58, 5, 5, 172, 3]
abbrev dktX0_volume_0 : List UInt8 := dkwX0_volume_0 ++ dktX0_volume_1
theorem dksX0_volume_0 : cX0_volume.data.toList.drop 0 = dktX0_volume_0 := by decide +kernel
theorem dksX0_volume_1 : cX0_volume.data.toList.drop 24 = dktX0_volume_1 := dk_seg dksX0_volume_0 24 rfl rfl
theorem dX0_volume_0 : decode cX0_volume 0 = .ok (.aload 4, 2) := dk_25 4 (dk_at dksX0_volume_0 0 rfl rfl)
theorem dX0_volume_2 : decode cX0_volume 2 = .ok (.iconst 0, 1) := dk_3 (dk_at dksX0_volume_0 2 rfl rfl)
theorem dX0_volume_3 : decode cX0_volume 3 = .ok (.aload_n 0, 1) := dk_42 (dk_at dksX0_volume_0 3 rfl rfl)
theorem dX0_volume_4 : decode cX0_volume 4 = .ok (.iload_n 1, 1) := dk_27 (dk_at dksX0_volume_0 4 rfl rfl)
theorem dX0_volume_5 : decode cX0_volume 5 = .ok (.iload_n 2, 1) := dk_28 (dk_at dksX0_volume_0 5 rfl rfl)
theorem dX0_volume_6 : decode cX0_volume 6 = .ok (.iload_n 3, 1) := dk_29 (dk_at dksX0_volume_0 6 rfl rfl)
theorem dX0_volume_7 : decode cX0_volume 7 = .ok (.invokevirtual 76, 3) := dk_182 0 76 (dk_at dksX0_volume_0 7 rfl rfl)
theorem dX0_volume_10 : decode cX0_volume 10 = .ok (.i2l, 1) := dk_133 (dk_at dksX0_volume_0 10 rfl rfl)
theorem dX0_volume_11 : decode cX0_volume 11 = .ok (.lastore, 1) := dk_80 (dk_at dksX0_volume_0 11 rfl rfl)
theorem dX0_volume_12 : decode cX0_volume 12 = .ok (.goto 11, 3) := dk_167 0 11 (dk_at dksX0_volume_0 12 rfl rfl)
theorem dX0_volume_15 : decode cX0_volume 15 = .ok (.astore 5, 2) := dk_58 5 (dk_at dksX0_volume_0 15 rfl rfl)
theorem dX0_volume_17 : decode cX0_volume 17 = .ok (.iconst 1, 1) := dk_4 (dk_at dksX0_volume_0 17 rfl rfl)
theorem dX0_volume_18 : decode cX0_volume 18 = .ok (.ireturn, 1) := dk_172 (dk_at dksX0_volume_0 18 rfl rfl)
theorem dX0_volume_19 : decode cX0_volume 19 = .ok (.astore 5, 2) := dk_58 5 (dk_at dksX0_volume_0 19 rfl rfl)
theorem dX0_volume_21 : decode cX0_volume 21 = .ok (.iconst 2, 1) := dk_5 (dk_at dksX0_volume_0 21 rfl rfl)
theorem dX0_volume_22 : decode cX0_volume 22 = .ok (.ireturn, 1) := dk_172 (dk_at dksX0_volume_0 22 rfl rfl)
theorem dX0_volume_23 : decode cX0_volume 23 = .ok (.iconst 0, 1) := dk_3 (dk_at dksX0_volume_0 23 rfl rfl)
theorem dX0_volume_24 : decode cX0_volume 24 = .ok (.ireturn, 1) := dk_172 (dk_at dksX0_volume_1 0 rfl rfl)
abbrev cX0_movedIf : ByteArray := method_24_code
def yX0_movedIf : MethodName := ⟨RX0, "movedIf", "(LCountyGazetteer;I[J)I"⟩
def dkwX0_movedIf_0 : List UInt8 := [44, 3, 42, 27, 182, 0, 79, 133, 80, 167, 0, 6, 78, 4, 172, 3, 172]
abbrev dktX0_movedIf_0 : List UInt8 := dkwX0_movedIf_0 ++ []
theorem dksX0_movedIf_0 : cX0_movedIf.data.toList.drop 0 = dktX0_movedIf_0 := by decide +kernel
theorem dX0_movedIf_0 : decode cX0_movedIf 0 = .ok (.aload_n 2, 1) := dk_44 (dk_at dksX0_movedIf_0 0 rfl rfl)
theorem dX0_movedIf_1 : decode cX0_movedIf 1 = .ok (.iconst 0, 1) := dk_3 (dk_at dksX0_movedIf_0 1 rfl rfl)
theorem dX0_movedIf_2 : decode cX0_movedIf 2 = .ok (.aload_n 0, 1) := dk_42 (dk_at dksX0_movedIf_0 2 rfl rfl)
theorem dX0_movedIf_3 : decode cX0_movedIf 3 = .ok (.iload_n 1, 1) := dk_27 (dk_at dksX0_movedIf_0 3 rfl rfl)
theorem dX0_movedIf_4 : decode cX0_movedIf 4 = .ok (.invokevirtual 79, 3) := dk_182 0 79 (dk_at dksX0_movedIf_0 4 rfl rfl)
theorem dX0_movedIf_7 : decode cX0_movedIf 7 = .ok (.i2l, 1) := dk_133 (dk_at dksX0_movedIf_0 7 rfl rfl)
theorem dX0_movedIf_8 : decode cX0_movedIf 8 = .ok (.lastore, 1) := dk_80 (dk_at dksX0_movedIf_0 8 rfl rfl)
theorem dX0_movedIf_9 : decode cX0_movedIf 9 = .ok (.goto 6, 3) := dk_167 0 6 (dk_at dksX0_movedIf_0 9 rfl rfl)
theorem dX0_movedIf_12 : decode cX0_movedIf 12 = .ok (.astore_n 3, 1) := dk_78 (dk_at dksX0_movedIf_0 12 rfl rfl)
theorem dX0_movedIf_13 : decode cX0_movedIf 13 = .ok (.iconst 1, 1) := dk_4 (dk_at dksX0_movedIf_0 13 rfl rfl)
theorem dX0_movedIf_14 : decode cX0_movedIf 14 = .ok (.ireturn, 1) := dk_172 (dk_at dksX0_movedIf_0 14 rfl rfl)
theorem dX0_movedIf_15 : decode cX0_movedIf 15 = .ok (.iconst 0, 1) := dk_3 (dk_at dksX0_movedIf_0 15 rfl rfl)
theorem dX0_movedIf_16 : decode cX0_movedIf 16 = .ok (.ireturn, 1) := dk_172 (dk_at dksX0_movedIf_0 16 rfl rfl)
abbrev cX0_pagesIf : ByteArray := method_25_code
def yX0_pagesIf : MethodName := ⟨RX0, "pagesIf", "(LCountyGazetteer;I[J)I"⟩
def dkwX0_pagesIf_0 : List UInt8 := [44, 3, 42, 27, 182, 0, 82, 133, 80, 167, 0, 6, 78, 4, 172, 3, 172]
abbrev dktX0_pagesIf_0 : List UInt8 := dkwX0_pagesIf_0 ++ []
theorem dksX0_pagesIf_0 : cX0_pagesIf.data.toList.drop 0 = dktX0_pagesIf_0 := by decide +kernel
theorem dX0_pagesIf_0 : decode cX0_pagesIf 0 = .ok (.aload_n 2, 1) := dk_44 (dk_at dksX0_pagesIf_0 0 rfl rfl)
theorem dX0_pagesIf_1 : decode cX0_pagesIf 1 = .ok (.iconst 0, 1) := dk_3 (dk_at dksX0_pagesIf_0 1 rfl rfl)
theorem dX0_pagesIf_2 : decode cX0_pagesIf 2 = .ok (.aload_n 0, 1) := dk_42 (dk_at dksX0_pagesIf_0 2 rfl rfl)
theorem dX0_pagesIf_3 : decode cX0_pagesIf 3 = .ok (.iload_n 1, 1) := dk_27 (dk_at dksX0_pagesIf_0 3 rfl rfl)
theorem dX0_pagesIf_4 : decode cX0_pagesIf 4 = .ok (.invokevirtual 82, 3) := dk_182 0 82 (dk_at dksX0_pagesIf_0 4 rfl rfl)
theorem dX0_pagesIf_7 : decode cX0_pagesIf 7 = .ok (.i2l, 1) := dk_133 (dk_at dksX0_pagesIf_0 7 rfl rfl)
theorem dX0_pagesIf_8 : decode cX0_pagesIf 8 = .ok (.lastore, 1) := dk_80 (dk_at dksX0_pagesIf_0 8 rfl rfl)
theorem dX0_pagesIf_9 : decode cX0_pagesIf 9 = .ok (.goto 6, 3) := dk_167 0 6 (dk_at dksX0_pagesIf_0 9 rfl rfl)
theorem dX0_pagesIf_12 : decode cX0_pagesIf 12 = .ok (.astore_n 3, 1) := dk_78 (dk_at dksX0_pagesIf_0 12 rfl rfl)
theorem dX0_pagesIf_13 : decode cX0_pagesIf 13 = .ok (.iconst 1, 1) := dk_4 (dk_at dksX0_pagesIf_0 13 rfl rfl)
theorem dX0_pagesIf_14 : decode cX0_pagesIf 14 = .ok (.ireturn, 1) := dk_172 (dk_at dksX0_pagesIf_0 14 rfl rfl)
theorem dX0_pagesIf_15 : decode cX0_pagesIf 15 = .ok (.iconst 0, 1) := dk_3 (dk_at dksX0_pagesIf_0 15 rfl rfl)
theorem dX0_pagesIf_16 : decode cX0_pagesIf 16 = .ok (.ireturn, 1) := dk_172 (dk_at dksX0_pagesIf_0 16 rfl rfl)
abbrev cX0_publish : ByteArray := method_26_code
def yX0_publish : MethodName := ⟨RX0, "publish", "(LCountyGazetteer;I[J)I"⟩
def dkwX0_publish_0 : List UInt8 := [44, 3, 42, 27, 182, 0, 85, 133, 80, 167, 0, 6, 78, 4, 172, 3, 172]
abbrev dktX0_publish_0 : List UInt8 := dkwX0_publish_0 ++ []
theorem dksX0_publish_0 : cX0_publish.data.toList.drop 0 = dktX0_publish_0 := by decide +kernel
theorem dX0_publish_0 : decode cX0_publish 0 = .ok (.aload_n 2, 1) := dk_44 (dk_at dksX0_publish_0 0 rfl rfl)
theorem dX0_publish_1 : decode cX0_publish 1 = .ok (.iconst 0, 1) := dk_3 (dk_at dksX0_publish_0 1 rfl rfl)
theorem dX0_publish_2 : decode cX0_publish 2 = .ok (.aload_n 0, 1) := dk_42 (dk_at dksX0_publish_0 2 rfl rfl)
theorem dX0_publish_3 : decode cX0_publish 3 = .ok (.iload_n 1, 1) := dk_27 (dk_at dksX0_publish_0 3 rfl rfl)
theorem dX0_publish_4 : decode cX0_publish 4 = .ok (.invokevirtual 85, 3) := dk_182 0 85 (dk_at dksX0_publish_0 4 rfl rfl)
theorem dX0_publish_7 : decode cX0_publish 7 = .ok (.i2l, 1) := dk_133 (dk_at dksX0_publish_0 7 rfl rfl)
theorem dX0_publish_8 : decode cX0_publish 8 = .ok (.lastore, 1) := dk_80 (dk_at dksX0_publish_0 8 rfl rfl)
theorem dX0_publish_9 : decode cX0_publish 9 = .ok (.goto 6, 3) := dk_167 0 6 (dk_at dksX0_publish_0 9 rfl rfl)
theorem dX0_publish_12 : decode cX0_publish 12 = .ok (.astore_n 3, 1) := dk_78 (dk_at dksX0_publish_0 12 rfl rfl)
theorem dX0_publish_13 : decode cX0_publish 13 = .ok (.iconst 1, 1) := dk_4 (dk_at dksX0_publish_0 13 rfl rfl)
theorem dX0_publish_14 : decode cX0_publish 14 = .ok (.ireturn, 1) := dk_172 (dk_at dksX0_publish_0 14 rfl rfl)
theorem dX0_publish_15 : decode cX0_publish 15 = .ok (.iconst 0, 1) := dk_3 (dk_at dksX0_publish_0 15 rfl rfl)
theorem dX0_publish_16 : decode cX0_publish 16 = .ok (.ireturn, 1) := dk_172 (dk_at dksX0_publish_0 16 rfl rfl)
abbrev cX0_redraw : ByteArray := method_27_code
def yX0_redraw : MethodName := ⟨RX0, "redraw", "(LCountyGazetteer;IIIIII[J)I"⟩
def dkwX0_redraw_1 : List UInt8 := [172, 58, 8, 5, 172, 58, 8, 6, 172, 3, 172]
abbrev dktX0_redraw_1 : List UInt8 := dkwX0_redraw_1 ++ []
def dkwX0_redraw_0 : List UInt8 := [25, 7, 3, 42, 27, 28, 29, 21, 4, 21, 5, 21, 6, 182, 0, 88, 133, 80, 167, 0, 15, 58, 8, 4]
abbrev dktX0_redraw_0 : List UInt8 := dkwX0_redraw_0 ++ dktX0_redraw_1
theorem dksX0_redraw_0 : cX0_redraw.data.toList.drop 0 = dktX0_redraw_0 := by decide +kernel
theorem dksX0_redraw_1 : cX0_redraw.data.toList.drop 24 = dktX0_redraw_1 := dk_seg dksX0_redraw_0 24 rfl rfl
theorem dX0_redraw_0 : decode cX0_redraw 0 = .ok (.aload 7, 2) := dk_25 7 (dk_at dksX0_redraw_0 0 rfl rfl)
theorem dX0_redraw_2 : decode cX0_redraw 2 = .ok (.iconst 0, 1) := dk_3 (dk_at dksX0_redraw_0 2 rfl rfl)
theorem dX0_redraw_3 : decode cX0_redraw 3 = .ok (.aload_n 0, 1) := dk_42 (dk_at dksX0_redraw_0 3 rfl rfl)
theorem dX0_redraw_4 : decode cX0_redraw 4 = .ok (.iload_n 1, 1) := dk_27 (dk_at dksX0_redraw_0 4 rfl rfl)
theorem dX0_redraw_5 : decode cX0_redraw 5 = .ok (.iload_n 2, 1) := dk_28 (dk_at dksX0_redraw_0 5 rfl rfl)
theorem dX0_redraw_6 : decode cX0_redraw 6 = .ok (.iload_n 3, 1) := dk_29 (dk_at dksX0_redraw_0 6 rfl rfl)
theorem dX0_redraw_7 : decode cX0_redraw 7 = .ok (.iload 4, 2) := dk_21 4 (dk_at dksX0_redraw_0 7 rfl rfl)
theorem dX0_redraw_9 : decode cX0_redraw 9 = .ok (.iload 5, 2) := dk_21 5 (dk_at dksX0_redraw_0 9 rfl rfl)
theorem dX0_redraw_11 : decode cX0_redraw 11 = .ok (.iload 6, 2) := dk_21 6 (dk_at dksX0_redraw_0 11 rfl rfl)
theorem dX0_redraw_13 : decode cX0_redraw 13 = .ok (.invokevirtual 88, 3) := dk_182 0 88 (dk_at dksX0_redraw_0 13 rfl rfl)
theorem dX0_redraw_16 : decode cX0_redraw 16 = .ok (.i2l, 1) := dk_133 (dk_at dksX0_redraw_0 16 rfl rfl)
theorem dX0_redraw_17 : decode cX0_redraw 17 = .ok (.lastore, 1) := dk_80 (dk_at dksX0_redraw_0 17 rfl rfl)
theorem dX0_redraw_18 : decode cX0_redraw 18 = .ok (.goto 15, 3) := dk_167 0 15 (dk_at dksX0_redraw_0 18 rfl rfl)
theorem dX0_redraw_21 : decode cX0_redraw 21 = .ok (.astore 8, 2) := dk_58 8 (dk_at dksX0_redraw_0 21 rfl rfl)
theorem dX0_redraw_23 : decode cX0_redraw 23 = .ok (.iconst 1, 1) := dk_4 (dk_at dksX0_redraw_0 23 rfl rfl)
theorem dX0_redraw_24 : decode cX0_redraw 24 = .ok (.ireturn, 1) := dk_172 (dk_at dksX0_redraw_1 0 rfl rfl)
theorem dX0_redraw_25 : decode cX0_redraw 25 = .ok (.astore 8, 2) := dk_58 8 (dk_at dksX0_redraw_1 1 rfl rfl)
theorem dX0_redraw_27 : decode cX0_redraw 27 = .ok (.iconst 2, 1) := dk_5 (dk_at dksX0_redraw_1 3 rfl rfl)
theorem dX0_redraw_28 : decode cX0_redraw 28 = .ok (.ireturn, 1) := dk_172 (dk_at dksX0_redraw_1 4 rfl rfl)
theorem dX0_redraw_29 : decode cX0_redraw 29 = .ok (.astore 8, 2) := dk_58 8 (dk_at dksX0_redraw_1 5 rfl rfl)
theorem dX0_redraw_31 : decode cX0_redraw 31 = .ok (.iconst 3, 1) := dk_6 (dk_at dksX0_redraw_1 7 rfl rfl)
theorem dX0_redraw_32 : decode cX0_redraw 32 = .ok (.ireturn, 1) := dk_172 (dk_at dksX0_redraw_1 8 rfl rfl)
theorem dX0_redraw_33 : decode cX0_redraw 33 = .ok (.iconst 0, 1) := dk_3 (dk_at dksX0_redraw_1 9 rfl rfl)
theorem dX0_redraw_34 : decode cX0_redraw 34 = .ok (.ireturn, 1) := dk_172 (dk_at dksX0_redraw_1 10 rfl rfl)
abbrev cX0_join : ByteArray := method_28_code
def yX0_join : MethodName := ⟨RX0, "join", "(LCountyGazetteer;III[J)I"⟩
def dkwX0_join_1 : List UInt8 := [58, 5, 6, 172, 3, 172]
abbrev dktX0_join_1 : List UInt8 := dkwX0_join_1 ++ []
def dkwX0_join_0 : List UInt8 := [25, 4, 3, 42, 27, 28, 29, 182, 0, 94, 133, 80, 167, 0, 15, 58, 5, 4, 172, 58, 5, 5, 172]
abbrev dktX0_join_0 : List UInt8 := dkwX0_join_0 ++ dktX0_join_1
theorem dksX0_join_0 : cX0_join.data.toList.drop 0 = dktX0_join_0 := by decide +kernel
theorem dksX0_join_1 : cX0_join.data.toList.drop 23 = dktX0_join_1 := dk_seg dksX0_join_0 23 rfl rfl
theorem dX0_join_0 : decode cX0_join 0 = .ok (.aload 4, 2) := dk_25 4 (dk_at dksX0_join_0 0 rfl rfl)
theorem dX0_join_2 : decode cX0_join 2 = .ok (.iconst 0, 1) := dk_3 (dk_at dksX0_join_0 2 rfl rfl)
theorem dX0_join_3 : decode cX0_join 3 = .ok (.aload_n 0, 1) := dk_42 (dk_at dksX0_join_0 3 rfl rfl)
theorem dX0_join_4 : decode cX0_join 4 = .ok (.iload_n 1, 1) := dk_27 (dk_at dksX0_join_0 4 rfl rfl)
theorem dX0_join_5 : decode cX0_join 5 = .ok (.iload_n 2, 1) := dk_28 (dk_at dksX0_join_0 5 rfl rfl)
theorem dX0_join_6 : decode cX0_join 6 = .ok (.iload_n 3, 1) := dk_29 (dk_at dksX0_join_0 6 rfl rfl)
theorem dX0_join_7 : decode cX0_join 7 = .ok (.invokevirtual 94, 3) := dk_182 0 94 (dk_at dksX0_join_0 7 rfl rfl)
theorem dX0_join_10 : decode cX0_join 10 = .ok (.i2l, 1) := dk_133 (dk_at dksX0_join_0 10 rfl rfl)
theorem dX0_join_11 : decode cX0_join 11 = .ok (.lastore, 1) := dk_80 (dk_at dksX0_join_0 11 rfl rfl)
theorem dX0_join_12 : decode cX0_join 12 = .ok (.goto 15, 3) := dk_167 0 15 (dk_at dksX0_join_0 12 rfl rfl)
theorem dX0_join_15 : decode cX0_join 15 = .ok (.astore 5, 2) := dk_58 5 (dk_at dksX0_join_0 15 rfl rfl)
theorem dX0_join_17 : decode cX0_join 17 = .ok (.iconst 1, 1) := dk_4 (dk_at dksX0_join_0 17 rfl rfl)
theorem dX0_join_18 : decode cX0_join 18 = .ok (.ireturn, 1) := dk_172 (dk_at dksX0_join_0 18 rfl rfl)
theorem dX0_join_19 : decode cX0_join 19 = .ok (.astore 5, 2) := dk_58 5 (dk_at dksX0_join_0 19 rfl rfl)
theorem dX0_join_21 : decode cX0_join 21 = .ok (.iconst 2, 1) := dk_5 (dk_at dksX0_join_0 21 rfl rfl)
theorem dX0_join_22 : decode cX0_join 22 = .ok (.ireturn, 1) := dk_172 (dk_at dksX0_join_0 22 rfl rfl)
theorem dX0_join_23 : decode cX0_join 23 = .ok (.astore 5, 2) := dk_58 5 (dk_at dksX0_join_1 0 rfl rfl)
theorem dX0_join_25 : decode cX0_join 25 = .ok (.iconst 3, 1) := dk_6 (dk_at dksX0_join_1 2 rfl rfl)
theorem dX0_join_26 : decode cX0_join 26 = .ok (.ireturn, 1) := dk_172 (dk_at dksX0_join_1 3 rfl rfl)
theorem dX0_join_27 : decode cX0_join 27 = .ok (.iconst 0, 1) := dk_3 (dk_at dksX0_join_1 4 rfl rfl)
theorem dX0_join_28 : decode cX0_join 28 = .ok (.ireturn, 1) := dk_172 (dk_at dksX0_join_1 5 rfl rfl)
abbrev cX0_dropReform : ByteArray := method_29_code
def yX0_dropReform : MethodName := ⟨RX0, "dropReform", "(LCountyGazetteer;I[J)I"⟩
def dkwX0_dropReform_0 : List UInt8 := [44, 3, 42, 27, 182, 0, 97, 133, 80, 167, 0, 6, 78, 4, 172, 3, 172]
abbrev dktX0_dropReform_0 : List UInt8 := dkwX0_dropReform_0 ++ []
theorem dksX0_dropReform_0 : cX0_dropReform.data.toList.drop 0 = dktX0_dropReform_0 := by decide +kernel
theorem dX0_dropReform_0 : decode cX0_dropReform 0 = .ok (.aload_n 2, 1) := dk_44 (dk_at dksX0_dropReform_0 0 rfl rfl)
theorem dX0_dropReform_1 : decode cX0_dropReform 1 = .ok (.iconst 0, 1) := dk_3 (dk_at dksX0_dropReform_0 1 rfl rfl)
theorem dX0_dropReform_2 : decode cX0_dropReform 2 = .ok (.aload_n 0, 1) := dk_42 (dk_at dksX0_dropReform_0 2 rfl rfl)
theorem dX0_dropReform_3 : decode cX0_dropReform 3 = .ok (.iload_n 1, 1) := dk_27 (dk_at dksX0_dropReform_0 3 rfl rfl)
theorem dX0_dropReform_4 : decode cX0_dropReform 4 = .ok (.invokevirtual 97, 3) := dk_182 0 97 (dk_at dksX0_dropReform_0 4 rfl rfl)
theorem dX0_dropReform_7 : decode cX0_dropReform 7 = .ok (.i2l, 1) := dk_133 (dk_at dksX0_dropReform_0 7 rfl rfl)
theorem dX0_dropReform_8 : decode cX0_dropReform 8 = .ok (.lastore, 1) := dk_80 (dk_at dksX0_dropReform_0 8 rfl rfl)
theorem dX0_dropReform_9 : decode cX0_dropReform 9 = .ok (.goto 6, 3) := dk_167 0 6 (dk_at dksX0_dropReform_0 9 rfl rfl)
theorem dX0_dropReform_12 : decode cX0_dropReform 12 = .ok (.astore_n 3, 1) := dk_78 (dk_at dksX0_dropReform_0 12 rfl rfl)
theorem dX0_dropReform_13 : decode cX0_dropReform 13 = .ok (.iconst 1, 1) := dk_4 (dk_at dksX0_dropReform_0 13 rfl rfl)
theorem dX0_dropReform_14 : decode cX0_dropReform 14 = .ok (.ireturn, 1) := dk_172 (dk_at dksX0_dropReform_0 14 rfl rfl)
theorem dX0_dropReform_15 : decode cX0_dropReform 15 = .ok (.iconst 0, 1) := dk_3 (dk_at dksX0_dropReform_0 15 rfl rfl)
theorem dX0_dropReform_16 : decode cX0_dropReform 16 = .ok (.ireturn, 1) := dk_172 (dk_at dksX0_dropReform_0 16 rfl rfl)
abbrev cX0_rename : ByteArray := method_30_code
def yX0_rename : MethodName := ⟨RX0, "rename", "(LCountyGazetteer;II[J)I"⟩
def dkwX0_rename_1 : List UInt8 := [172, 3, 172]
abbrev dktX0_rename_1 : List UInt8 := dkwX0_rename_1 ++ []
def dkwX0_rename_0 : List UInt8 := [45, 3, 42, 27, 28, 182, 0, 100, 133, 80, 167, 0, 15, 58, 4, 4, 172, 58, 4, 5, 172, 58, 4, 6]
abbrev dktX0_rename_0 : List UInt8 := dkwX0_rename_0 ++ dktX0_rename_1
theorem dksX0_rename_0 : cX0_rename.data.toList.drop 0 = dktX0_rename_0 := by decide +kernel
theorem dksX0_rename_1 : cX0_rename.data.toList.drop 24 = dktX0_rename_1 := dk_seg dksX0_rename_0 24 rfl rfl
theorem dX0_rename_0 : decode cX0_rename 0 = .ok (.aload_n 3, 1) := dk_45 (dk_at dksX0_rename_0 0 rfl rfl)
theorem dX0_rename_1 : decode cX0_rename 1 = .ok (.iconst 0, 1) := dk_3 (dk_at dksX0_rename_0 1 rfl rfl)
theorem dX0_rename_2 : decode cX0_rename 2 = .ok (.aload_n 0, 1) := dk_42 (dk_at dksX0_rename_0 2 rfl rfl)
theorem dX0_rename_3 : decode cX0_rename 3 = .ok (.iload_n 1, 1) := dk_27 (dk_at dksX0_rename_0 3 rfl rfl)
theorem dX0_rename_4 : decode cX0_rename 4 = .ok (.iload_n 2, 1) := dk_28 (dk_at dksX0_rename_0 4 rfl rfl)
theorem dX0_rename_5 : decode cX0_rename 5 = .ok (.invokevirtual 100, 3) := dk_182 0 100 (dk_at dksX0_rename_0 5 rfl rfl)
theorem dX0_rename_8 : decode cX0_rename 8 = .ok (.i2l, 1) := dk_133 (dk_at dksX0_rename_0 8 rfl rfl)
theorem dX0_rename_9 : decode cX0_rename 9 = .ok (.lastore, 1) := dk_80 (dk_at dksX0_rename_0 9 rfl rfl)
theorem dX0_rename_10 : decode cX0_rename 10 = .ok (.goto 15, 3) := dk_167 0 15 (dk_at dksX0_rename_0 10 rfl rfl)
theorem dX0_rename_13 : decode cX0_rename 13 = .ok (.astore 4, 2) := dk_58 4 (dk_at dksX0_rename_0 13 rfl rfl)
theorem dX0_rename_15 : decode cX0_rename 15 = .ok (.iconst 1, 1) := dk_4 (dk_at dksX0_rename_0 15 rfl rfl)
theorem dX0_rename_16 : decode cX0_rename 16 = .ok (.ireturn, 1) := dk_172 (dk_at dksX0_rename_0 16 rfl rfl)
theorem dX0_rename_17 : decode cX0_rename 17 = .ok (.astore 4, 2) := dk_58 4 (dk_at dksX0_rename_0 17 rfl rfl)
theorem dX0_rename_19 : decode cX0_rename 19 = .ok (.iconst 2, 1) := dk_5 (dk_at dksX0_rename_0 19 rfl rfl)
theorem dX0_rename_20 : decode cX0_rename 20 = .ok (.ireturn, 1) := dk_172 (dk_at dksX0_rename_0 20 rfl rfl)
theorem dX0_rename_21 : decode cX0_rename 21 = .ok (.astore 4, 2) := dk_58 4 (dk_at dksX0_rename_0 21 rfl rfl)
theorem dX0_rename_23 : decode cX0_rename 23 = .ok (.iconst 3, 1) := dk_6 (dk_at dksX0_rename_0 23 rfl rfl)
theorem dX0_rename_24 : decode cX0_rename 24 = .ok (.ireturn, 1) := dk_172 (dk_at dksX0_rename_1 0 rfl rfl)
theorem dX0_rename_25 : decode cX0_rename 25 = .ok (.iconst 0, 1) := dk_3 (dk_at dksX0_rename_1 1 rfl rfl)
theorem dX0_rename_26 : decode cX0_rename 26 = .ok (.ireturn, 1) := dk_172 (dk_at dksX0_rename_1 2 rfl rfl)
abbrev cX0_setGone : ByteArray := method_31_code
def yX0_setGone : MethodName := ⟨RX0, "setGone", "(LCountyGazetteer;II[J)I"⟩
def dkwX0_setGone_0 : List UInt8 := [45, 3, 42, 27, 28, 182, 0, 103, 133, 80, 167, 0, 11, 58, 4, 4, 172, 58, 4, 5, 172, 3, 172]
abbrev dktX0_setGone_0 : List UInt8 := dkwX0_setGone_0 ++ []
theorem dksX0_setGone_0 : cX0_setGone.data.toList.drop 0 = dktX0_setGone_0 := by decide +kernel
theorem dX0_setGone_0 : decode cX0_setGone 0 = .ok (.aload_n 3, 1) := dk_45 (dk_at dksX0_setGone_0 0 rfl rfl)
theorem dX0_setGone_1 : decode cX0_setGone 1 = .ok (.iconst 0, 1) := dk_3 (dk_at dksX0_setGone_0 1 rfl rfl)
theorem dX0_setGone_2 : decode cX0_setGone 2 = .ok (.aload_n 0, 1) := dk_42 (dk_at dksX0_setGone_0 2 rfl rfl)
theorem dX0_setGone_3 : decode cX0_setGone 3 = .ok (.iload_n 1, 1) := dk_27 (dk_at dksX0_setGone_0 3 rfl rfl)
theorem dX0_setGone_4 : decode cX0_setGone 4 = .ok (.iload_n 2, 1) := dk_28 (dk_at dksX0_setGone_0 4 rfl rfl)
theorem dX0_setGone_5 : decode cX0_setGone 5 = .ok (.invokevirtual 103, 3) := dk_182 0 103 (dk_at dksX0_setGone_0 5 rfl rfl)
theorem dX0_setGone_8 : decode cX0_setGone 8 = .ok (.i2l, 1) := dk_133 (dk_at dksX0_setGone_0 8 rfl rfl)
theorem dX0_setGone_9 : decode cX0_setGone 9 = .ok (.lastore, 1) := dk_80 (dk_at dksX0_setGone_0 9 rfl rfl)
theorem dX0_setGone_10 : decode cX0_setGone 10 = .ok (.goto 11, 3) := dk_167 0 11 (dk_at dksX0_setGone_0 10 rfl rfl)
theorem dX0_setGone_13 : decode cX0_setGone 13 = .ok (.astore 4, 2) := dk_58 4 (dk_at dksX0_setGone_0 13 rfl rfl)
theorem dX0_setGone_15 : decode cX0_setGone 15 = .ok (.iconst 1, 1) := dk_4 (dk_at dksX0_setGone_0 15 rfl rfl)
theorem dX0_setGone_16 : decode cX0_setGone 16 = .ok (.ireturn, 1) := dk_172 (dk_at dksX0_setGone_0 16 rfl rfl)
theorem dX0_setGone_17 : decode cX0_setGone 17 = .ok (.astore 4, 2) := dk_58 4 (dk_at dksX0_setGone_0 17 rfl rfl)
theorem dX0_setGone_19 : decode cX0_setGone 19 = .ok (.iconst 2, 1) := dk_5 (dk_at dksX0_setGone_0 19 rfl rfl)
theorem dX0_setGone_20 : decode cX0_setGone 20 = .ok (.ireturn, 1) := dk_172 (dk_at dksX0_setGone_0 20 rfl rfl)
theorem dX0_setGone_21 : decode cX0_setGone 21 = .ok (.iconst 0, 1) := dk_3 (dk_at dksX0_setGone_0 21 rfl rfl)
theorem dX0_setGone_22 : decode cX0_setGone 22 = .ok (.ireturn, 1) := dk_172 (dk_at dksX0_setGone_0 22 rfl rfl)
abbrev cX0_setLines : ByteArray := method_32_code
def yX0_setLines : MethodName := ⟨RX0, "setLines", "(LCountyGazetteer;I[J)I"⟩
def dkwX0_setLines_0 : List UInt8 := [44, 3, 42, 27, 182, 0, 106, 133, 80, 167, 0, 6, 78, 4, 172, 3, 172]
abbrev dktX0_setLines_0 : List UInt8 := dkwX0_setLines_0 ++ []
theorem dksX0_setLines_0 : cX0_setLines.data.toList.drop 0 = dktX0_setLines_0 := by decide +kernel
theorem dX0_setLines_0 : decode cX0_setLines 0 = .ok (.aload_n 2, 1) := dk_44 (dk_at dksX0_setLines_0 0 rfl rfl)
theorem dX0_setLines_1 : decode cX0_setLines 1 = .ok (.iconst 0, 1) := dk_3 (dk_at dksX0_setLines_0 1 rfl rfl)
theorem dX0_setLines_2 : decode cX0_setLines 2 = .ok (.aload_n 0, 1) := dk_42 (dk_at dksX0_setLines_0 2 rfl rfl)
theorem dX0_setLines_3 : decode cX0_setLines 3 = .ok (.iload_n 1, 1) := dk_27 (dk_at dksX0_setLines_0 3 rfl rfl)
theorem dX0_setLines_4 : decode cX0_setLines 4 = .ok (.invokevirtual 106, 3) := dk_182 0 106 (dk_at dksX0_setLines_0 4 rfl rfl)
theorem dX0_setLines_7 : decode cX0_setLines 7 = .ok (.i2l, 1) := dk_133 (dk_at dksX0_setLines_0 7 rfl rfl)
theorem dX0_setLines_8 : decode cX0_setLines 8 = .ok (.lastore, 1) := dk_80 (dk_at dksX0_setLines_0 8 rfl rfl)
theorem dX0_setLines_9 : decode cX0_setLines 9 = .ok (.goto 6, 3) := dk_167 0 6 (dk_at dksX0_setLines_0 9 rfl rfl)
theorem dX0_setLines_12 : decode cX0_setLines 12 = .ok (.astore_n 3, 1) := dk_78 (dk_at dksX0_setLines_0 12 rfl rfl)
theorem dX0_setLines_13 : decode cX0_setLines 13 = .ok (.iconst 1, 1) := dk_4 (dk_at dksX0_setLines_0 13 rfl rfl)
theorem dX0_setLines_14 : decode cX0_setLines 14 = .ok (.ireturn, 1) := dk_172 (dk_at dksX0_setLines_0 14 rfl rfl)
theorem dX0_setLines_15 : decode cX0_setLines 15 = .ok (.iconst 0, 1) := dk_3 (dk_at dksX0_setLines_0 15 rfl rfl)
theorem dX0_setLines_16 : decode cX0_setLines 16 = .ok (.ireturn, 1) := dk_172 (dk_at dksX0_setLines_0 16 rfl rfl)
abbrev cX0_undo : ByteArray := method_33_code
def yX0_undo : MethodName := ⟨RX0, "undo", "(LCountyGazetteer;[J)I"⟩
def dkwX0_undo_0 : List UInt8 := [43, 3, 42, 182, 0, 109, 133, 80, 167, 0, 6, 77, 4, 172, 3, 172]
abbrev dktX0_undo_0 : List UInt8 := dkwX0_undo_0 ++ []
theorem dksX0_undo_0 : cX0_undo.data.toList.drop 0 = dktX0_undo_0 := by decide +kernel
theorem dX0_undo_0 : decode cX0_undo 0 = .ok (.aload_n 1, 1) := dk_43 (dk_at dksX0_undo_0 0 rfl rfl)
theorem dX0_undo_1 : decode cX0_undo 1 = .ok (.iconst 0, 1) := dk_3 (dk_at dksX0_undo_0 1 rfl rfl)
theorem dX0_undo_2 : decode cX0_undo 2 = .ok (.aload_n 0, 1) := dk_42 (dk_at dksX0_undo_0 2 rfl rfl)
theorem dX0_undo_3 : decode cX0_undo 3 = .ok (.invokevirtual 109, 3) := dk_182 0 109 (dk_at dksX0_undo_0 3 rfl rfl)
theorem dX0_undo_6 : decode cX0_undo 6 = .ok (.i2l, 1) := dk_133 (dk_at dksX0_undo_0 6 rfl rfl)
theorem dX0_undo_7 : decode cX0_undo 7 = .ok (.lastore, 1) := dk_80 (dk_at dksX0_undo_0 7 rfl rfl)
theorem dX0_undo_8 : decode cX0_undo 8 = .ok (.goto 6, 3) := dk_167 0 6 (dk_at dksX0_undo_0 8 rfl rfl)
theorem dX0_undo_11 : decode cX0_undo 11 = .ok (.astore_n 2, 1) := dk_77 (dk_at dksX0_undo_0 11 rfl rfl)
theorem dX0_undo_12 : decode cX0_undo 12 = .ok (.iconst 1, 1) := dk_4 (dk_at dksX0_undo_0 12 rfl rfl)
theorem dX0_undo_13 : decode cX0_undo 13 = .ok (.ireturn, 1) := dk_172 (dk_at dksX0_undo_0 13 rfl rfl)
theorem dX0_undo_14 : decode cX0_undo 14 = .ok (.iconst 0, 1) := dk_3 (dk_at dksX0_undo_0 14 rfl rfl)
theorem dX0_undo_15 : decode cX0_undo 15 = .ok (.ireturn, 1) := dk_172 (dk_at dksX0_undo_0 15 rfl rfl)
abbrev cX0_printPage : ByteArray := method_34_code
def yX0_printPage : MethodName := ⟨RX0, "printPage", "(LCountyGazetteer;I[J)I"⟩
def dkwX0_printPage_0 : List UInt8 := [44, 3, 42, 27, 182, 0, 115, 133, 80, 167, 0, 6, 78, 4, 172, 3, 172]
abbrev dktX0_printPage_0 : List UInt8 := dkwX0_printPage_0 ++ []
theorem dksX0_printPage_0 : cX0_printPage.data.toList.drop 0 = dktX0_printPage_0 := by decide +kernel
theorem dX0_printPage_0 : decode cX0_printPage 0 = .ok (.aload_n 2, 1) := dk_44 (dk_at dksX0_printPage_0 0 rfl rfl)
theorem dX0_printPage_1 : decode cX0_printPage 1 = .ok (.iconst 0, 1) := dk_3 (dk_at dksX0_printPage_0 1 rfl rfl)
theorem dX0_printPage_2 : decode cX0_printPage 2 = .ok (.aload_n 0, 1) := dk_42 (dk_at dksX0_printPage_0 2 rfl rfl)
theorem dX0_printPage_3 : decode cX0_printPage 3 = .ok (.iload_n 1, 1) := dk_27 (dk_at dksX0_printPage_0 3 rfl rfl)
theorem dX0_printPage_4 : decode cX0_printPage 4 = .ok (.invokevirtual 115, 3) := dk_182 0 115 (dk_at dksX0_printPage_0 4 rfl rfl)
theorem dX0_printPage_7 : decode cX0_printPage 7 = .ok (.i2l, 1) := dk_133 (dk_at dksX0_printPage_0 7 rfl rfl)
theorem dX0_printPage_8 : decode cX0_printPage 8 = .ok (.lastore, 1) := dk_80 (dk_at dksX0_printPage_0 8 rfl rfl)
theorem dX0_printPage_9 : decode cX0_printPage 9 = .ok (.goto 6, 3) := dk_167 0 6 (dk_at dksX0_printPage_0 9 rfl rfl)
theorem dX0_printPage_12 : decode cX0_printPage 12 = .ok (.astore_n 3, 1) := dk_78 (dk_at dksX0_printPage_0 12 rfl rfl)
theorem dX0_printPage_13 : decode cX0_printPage 13 = .ok (.iconst 1, 1) := dk_4 (dk_at dksX0_printPage_0 13 rfl rfl)
theorem dX0_printPage_14 : decode cX0_printPage 14 = .ok (.ireturn, 1) := dk_172 (dk_at dksX0_printPage_0 14 rfl rfl)
theorem dX0_printPage_15 : decode cX0_printPage 15 = .ok (.iconst 0, 1) := dk_3 (dk_at dksX0_printPage_0 15 rfl rfl)
theorem dX0_printPage_16 : decode cX0_printPage 16 = .ok (.ireturn, 1) := dk_172 (dk_at dksX0_printPage_0 16 rfl rfl)
abbrev cX0_printRow : ByteArray := method_35_code
def yX0_printRow : MethodName := ⟨RX0, "printRow", "(LCountyGazetteer;II[J)I"⟩
def dkwX0_printRow_0 : List UInt8 := [45, 3, 42, 27, 28, 182, 0, 118, 133, 80, 167, 0, 11, 58, 4, 4, 172, 58, 4, 5, 172, 3, 172]
abbrev dktX0_printRow_0 : List UInt8 := dkwX0_printRow_0 ++ []
theorem dksX0_printRow_0 : cX0_printRow.data.toList.drop 0 = dktX0_printRow_0 := by decide +kernel
theorem dX0_printRow_0 : decode cX0_printRow 0 = .ok (.aload_n 3, 1) := dk_45 (dk_at dksX0_printRow_0 0 rfl rfl)
theorem dX0_printRow_1 : decode cX0_printRow 1 = .ok (.iconst 0, 1) := dk_3 (dk_at dksX0_printRow_0 1 rfl rfl)
theorem dX0_printRow_2 : decode cX0_printRow 2 = .ok (.aload_n 0, 1) := dk_42 (dk_at dksX0_printRow_0 2 rfl rfl)
theorem dX0_printRow_3 : decode cX0_printRow 3 = .ok (.iload_n 1, 1) := dk_27 (dk_at dksX0_printRow_0 3 rfl rfl)
theorem dX0_printRow_4 : decode cX0_printRow 4 = .ok (.iload_n 2, 1) := dk_28 (dk_at dksX0_printRow_0 4 rfl rfl)
theorem dX0_printRow_5 : decode cX0_printRow 5 = .ok (.invokevirtual 118, 3) := dk_182 0 118 (dk_at dksX0_printRow_0 5 rfl rfl)
theorem dX0_printRow_8 : decode cX0_printRow 8 = .ok (.i2l, 1) := dk_133 (dk_at dksX0_printRow_0 8 rfl rfl)
theorem dX0_printRow_9 : decode cX0_printRow 9 = .ok (.lastore, 1) := dk_80 (dk_at dksX0_printRow_0 9 rfl rfl)
theorem dX0_printRow_10 : decode cX0_printRow 10 = .ok (.goto 11, 3) := dk_167 0 11 (dk_at dksX0_printRow_0 10 rfl rfl)
theorem dX0_printRow_13 : decode cX0_printRow 13 = .ok (.astore 4, 2) := dk_58 4 (dk_at dksX0_printRow_0 13 rfl rfl)
theorem dX0_printRow_15 : decode cX0_printRow 15 = .ok (.iconst 1, 1) := dk_4 (dk_at dksX0_printRow_0 15 rfl rfl)
theorem dX0_printRow_16 : decode cX0_printRow 16 = .ok (.ireturn, 1) := dk_172 (dk_at dksX0_printRow_0 16 rfl rfl)
theorem dX0_printRow_17 : decode cX0_printRow 17 = .ok (.astore 4, 2) := dk_58 4 (dk_at dksX0_printRow_0 17 rfl rfl)
theorem dX0_printRow_19 : decode cX0_printRow 19 = .ok (.iconst 2, 1) := dk_5 (dk_at dksX0_printRow_0 19 rfl rfl)
theorem dX0_printRow_20 : decode cX0_printRow 20 = .ok (.ireturn, 1) := dk_172 (dk_at dksX0_printRow_0 20 rfl rfl)
theorem dX0_printRow_21 : decode cX0_printRow 21 = .ok (.iconst 0, 1) := dk_3 (dk_at dksX0_printRow_0 21 rfl rfl)
theorem dX0_printRow_22 : decode cX0_printRow 22 = .ok (.ireturn, 1) := dk_172 (dk_at dksX0_printRow_0 22 rfl rfl)
abbrev cX0_restoreState : ByteArray := method_36_code
def yX0_restoreState : MethodName := ⟨RX0, "restoreState", "(LCountyGazetteer;[J)I"⟩
def dkwX0_restoreState_0 : List UInt8 := [43, 3, 42, 182, 0, 121, 133, 80, 167, 0, 6, 77, 4, 172, 3, 172]
abbrev dktX0_restoreState_0 : List UInt8 := dkwX0_restoreState_0 ++ []
theorem dksX0_restoreState_0 : cX0_restoreState.data.toList.drop 0 = dktX0_restoreState_0 := by decide +kernel
theorem dX0_restoreState_0 : decode cX0_restoreState 0 = .ok (.aload_n 1, 1) := dk_43 (dk_at dksX0_restoreState_0 0 rfl rfl)
theorem dX0_restoreState_1 : decode cX0_restoreState 1 = .ok (.iconst 0, 1) := dk_3 (dk_at dksX0_restoreState_0 1 rfl rfl)
theorem dX0_restoreState_2 : decode cX0_restoreState 2 = .ok (.aload_n 0, 1) := dk_42 (dk_at dksX0_restoreState_0 2 rfl rfl)
theorem dX0_restoreState_3 : decode cX0_restoreState 3 = .ok (.invokevirtual 121, 3) := dk_182 0 121 (dk_at dksX0_restoreState_0 3 rfl rfl)
theorem dX0_restoreState_6 : decode cX0_restoreState 6 = .ok (.i2l, 1) := dk_133 (dk_at dksX0_restoreState_0 6 rfl rfl)
theorem dX0_restoreState_7 : decode cX0_restoreState 7 = .ok (.lastore, 1) := dk_80 (dk_at dksX0_restoreState_0 7 rfl rfl)
theorem dX0_restoreState_8 : decode cX0_restoreState 8 = .ok (.goto 6, 3) := dk_167 0 6 (dk_at dksX0_restoreState_0 8 rfl rfl)
theorem dX0_restoreState_11 : decode cX0_restoreState 11 = .ok (.astore_n 2, 1) := dk_77 (dk_at dksX0_restoreState_0 11 rfl rfl)
theorem dX0_restoreState_12 : decode cX0_restoreState 12 = .ok (.iconst 1, 1) := dk_4 (dk_at dksX0_restoreState_0 12 rfl rfl)
theorem dX0_restoreState_13 : decode cX0_restoreState 13 = .ok (.ireturn, 1) := dk_172 (dk_at dksX0_restoreState_0 13 rfl rfl)
theorem dX0_restoreState_14 : decode cX0_restoreState 14 = .ok (.iconst 0, 1) := dk_3 (dk_at dksX0_restoreState_0 14 rfl rfl)
theorem dX0_restoreState_15 : decode cX0_restoreState 15 = .ok (.ireturn, 1) := dk_172 (dk_at dksX0_restoreState_0 15 rfl rfl)
theorem q176 : (Jvm.Cond.initialized "CountyGazetteerLaw") ∈ lw_all := lw_g (lw_at lw_m1 0 rfl) rfl
theorem q244 : (Jvm.Cond.classLink "CountyGazetteerLaw" (8 : Nat) "CountyGazetteer") ∈ lw_all := lw_g (lw_at lw_m1 68 rfl) rfl
theorem q246 : (Jvm.Cond.methodLink "CountyGazetteerLaw" (124 : Nat) ({ cls := "CountyGazetteer", name := "<init>", desc := "()V" } : Jvm.MethodName)) ∈ lw_all := lw_g (lw_at lw_m1 70 rfl) rfl
theorem q592 : (Jvm.Cond.methodLink "CountyGazetteerLaw" (128 : Nat) ({ cls := "CountyGazetteer", name := "appendInput", desc := "(IIIII)I" } : Jvm.MethodName)) ∈ lw_all := lw_g (lw_at lw_m2 176 rfl) rfl
theorem q599 : (Jvm.Cond.methodLink "CountyGazetteerLaw" (133 : Nat) ({ cls := "CountyGazetteer", name := "truncateInput", desc := "(I)Z" } : Jvm.MethodName)) ∈ lw_all := lw_g (lw_at lw_m2 183 rfl) rfl
theorem q606 : (Jvm.Cond.methodLink "CountyGazetteerLaw" (138 : Nat) ({ cls := "CountyGazetteer", name := "loadMap", desc := "()I" } : Jvm.MethodName)) ∈ lw_all := lw_g (lw_at lw_m2 190 rfl) rfl
theorem q1843 : (Jvm.Cond.methodLink "CountyGazetteerLaw" (142 : Nat) ({ cls := "CountyGazetteer", name := "errorCode", desc := "()I" } : Jvm.MethodName)) ∈ lw_all := lw_g (lw_at lw_m7 227 rfl) rfl
theorem q1847 : (Jvm.Cond.methodLink "CountyGazetteerLaw" (146 : Nat) ({ cls := "CountyGazetteer", name := "errorOffset", desc := "()I" } : Jvm.MethodName)) ∈ lw_all := lw_g (lw_at lw_m7 231 rfl) rfl
theorem q1851 : (Jvm.Cond.methodLink "CountyGazetteerLaw" (197 : Nat) ({ cls := "CountyGazetteer", name := "named", desc := "()I" } : Jvm.MethodName)) ∈ lw_all := lw_g (lw_at lw_m7 235 rfl) rfl
theorem q1909 : (Jvm.Cond.methodLink "CountyGazetteerLaw" (201 : Nat) ({ cls := "CountyGazetteer", name := "everNamed", desc := "()I" } : Jvm.MethodName)) ∈ lw_all := lw_g (lw_at lw_m8 53 rfl) rfl
theorem q1998 : (Jvm.Cond.methodLink "CountyGazetteerLaw" (205 : Nat) ({ cls := "CountyGazetteer", name := "countyNamed", desc := "()I" } : Jvm.MethodName)) ∈ lw_all := lw_g (lw_at lw_m8 142 rfl) rfl
theorem q2003 : (Jvm.Cond.methodLink "CountyGazetteerLaw" (224 : Nat) ({ cls := "CountyGazetteer", name := "waste", desc := "()I" } : Jvm.MethodName)) ∈ lw_all := lw_g (lw_at lw_m8 147 rfl) rfl
theorem q2730 : (Jvm.Cond.methodLink "CountyGazetteerLaw" (243 : Nat) ({ cls := "CountyGazetteer", name := "fullest", desc := "()I" } : Jvm.MethodName)) ∈ lw_all := lw_g (lw_at lw_m11 154 rfl) rfl
theorem q2747 : (Jvm.Cond.methodLink "CountyGazetteerLaw" (247 : Nat) ({ cls := "CountyGazetteer", name := "meanVillages", desc := "()D" } : Jvm.MethodName)) ∈ lw_all := lw_g (lw_at lw_m11 171 rfl) rfl
theorem q2751 : (Jvm.Cond.methodLink "CountyGazetteerLaw" (252 : Nat) ({ cls := "CountyGazetteer", name := "seeShare", desc := "()F" } : Jvm.MethodName)) ∈ lw_all := lw_g (lw_at lw_m11 175 rfl) rfl
theorem q2759 : (Jvm.Cond.methodLink "CountyGazetteerLaw" (279 : Nat) ({ cls := "CountyGazetteer", name := "setFresh", desc := "(Z)Z" } : Jvm.MethodName)) ∈ lw_all := lw_g (lw_at lw_m11 183 rfl) rfl
theorem q2966 : (Jvm.Cond.methodLink "CountyGazetteerLaw" (294 : Nat) ({ cls := "CountyGazetteer", name := "outputByte", desc := "(I)I" } : Jvm.MethodName)) ∈ lw_all := lw_g (lw_at lw_m12 150 rfl) rfl
theorem q2972 : (Jvm.Cond.methodLink "CountyGazetteerLaw" (298 : Nat) ({ cls := "CountyGazetteer", name := "saveState", desc := "()I" } : Jvm.MethodName)) ∈ lw_all := lw_g (lw_at lw_m12 156 rfl) rfl
theorem q2976 : (Jvm.Cond.methodLink "CountyGazetteerLaw" (150 : Nat) ({ cls := "CountyGazetteerLaw", name := "count", desc := "(LCountyGazetteer;I[J)I" } : Jvm.MethodName)) ∈ lw_all := lw_g (lw_at lw_m12 160 rfl) rfl
theorem q2977 : (Jvm.Cond.static ({ cls := "CountyGazetteerLaw", name := "count", desc := "(LCountyGazetteer;I[J)I" } : Jvm.MethodName)) ∈ lw_all := lw_g (lw_at lw_m12 161 rfl) rfl
theorem q2978 : (Jvm.Cond.codeWith ({ cls := "CountyGazetteerLaw", name := "count", desc := "(LCountyGazetteer;I[J)I" } : Jvm.MethodName) method_3_code (4 : Nat) (Option.some Jvm.ClassFile.FieldType.int) [((0 : Nat), (9 : Nat), (12 : Nat), (13 : Nat))]) ∈ lw_all := lw_g (lw_at lw_m12 162 rfl) rfl
theorem q2979 : (Jvm.Cond.classLink "CountyGazetteerLaw" (13 : Nat) "java/lang/IllegalArgumentException") ∈ lw_all := lw_g (lw_at lw_m12 163 rfl) rfl
theorem q2980 : (Jvm.Cond.methodLink "CountyGazetteerLaw" (7 : Nat) ({ cls := "CountyGazetteer", name := "count", desc := "(I)I" } : Jvm.MethodName)) ∈ lw_all := lw_g (lw_at lw_m12 164 rfl) rfl
theorem q2992 : (Jvm.Cond.methodLink "CountyGazetteerLaw" (159 : Nat) ({ cls := "CountyGazetteerLaw", name := "village", desc := "(LCountyGazetteer;II[J)I" } : Jvm.MethodName)) ∈ lw_all := lw_g (lw_at lw_m12 176 rfl) rfl
theorem q2993 : (Jvm.Cond.static ({ cls := "CountyGazetteerLaw", name := "village", desc := "(LCountyGazetteer;II[J)I" } : Jvm.MethodName)) ∈ lw_all := lw_g (lw_at lw_m12 177 rfl) rfl
theorem q2994 : (Jvm.Cond.codeWith ({ cls := "CountyGazetteerLaw", name := "village", desc := "(LCountyGazetteer;II[J)I" } : Jvm.MethodName) method_4_code (5 : Nat) (Option.some Jvm.ClassFile.FieldType.int) [((0 : Nat), (10 : Nat), (13 : Nat), (19 : Nat)), ((0 : Nat), (10 : Nat), (17 : Nat), (13 : Nat))]) ∈ lw_all := lw_g (lw_at lw_m12 178 rfl) rfl
theorem q2995 : (Jvm.Cond.classLink "CountyGazetteerLaw" (19 : Nat) "java/lang/IndexOutOfBoundsException") ∈ lw_all := lw_g (lw_at lw_m12 179 rfl) rfl
theorem q3011 : (Jvm.Cond.methodLink "CountyGazetteerLaw" (15 : Nat) ({ cls := "CountyGazetteer", name := "village", desc := "(II)I" } : Jvm.MethodName)) ∈ lw_all := lw_g (lw_at lw_m12 195 rfl) rfl
theorem q3040 : (Jvm.Cond.methodLink "CountyGazetteerLaw" (163 : Nat) ({ cls := "CountyGazetteerLaw", name := "county", desc := "(LCountyGazetteer;II[J)I" } : Jvm.MethodName)) ∈ lw_all := lw_g (lw_at lw_m12 224 rfl) rfl
theorem q3041 : (Jvm.Cond.static ({ cls := "CountyGazetteerLaw", name := "county", desc := "(LCountyGazetteer;II[J)I" } : Jvm.MethodName)) ∈ lw_all := lw_g (lw_at lw_m12 225 rfl) rfl
theorem q3042 : (Jvm.Cond.codeWith ({ cls := "CountyGazetteerLaw", name := "county", desc := "(LCountyGazetteer;II[J)I" } : Jvm.MethodName) method_5_code (5 : Nat) (Option.some Jvm.ClassFile.FieldType.int) [((0 : Nat), (10 : Nat), (13 : Nat), (19 : Nat)), ((0 : Nat), (10 : Nat), (17 : Nat), (13 : Nat))]) ∈ lw_all := lw_g (lw_at lw_m12 226 rfl) rfl
theorem q3043 : (Jvm.Cond.methodLink "CountyGazetteerLaw" (21 : Nat) ({ cls := "CountyGazetteer", name := "county", desc := "(II)I" } : Jvm.MethodName)) ∈ lw_all := lw_g (lw_at lw_m12 227 rfl) rfl
theorem q3138 : (Jvm.Cond.methodLink "CountyGazetteerLaw" (166 : Nat) ({ cls := "CountyGazetteerLaw", name := "reform", desc := "(LCountyGazetteer;II[J)I" } : Jvm.MethodName)) ∈ lw_all := lw_g (lw_at lw_m13 82 rfl) rfl
theorem q3139 : (Jvm.Cond.static ({ cls := "CountyGazetteerLaw", name := "reform", desc := "(LCountyGazetteer;II[J)I" } : Jvm.MethodName)) ∈ lw_all := lw_g (lw_at lw_m13 83 rfl) rfl
theorem q3140 : (Jvm.Cond.codeWith ({ cls := "CountyGazetteerLaw", name := "reform", desc := "(LCountyGazetteer;II[J)I" } : Jvm.MethodName) method_6_code (5 : Nat) (Option.some Jvm.ClassFile.FieldType.int) [((0 : Nat), (10 : Nat), (13 : Nat), (19 : Nat)), ((0 : Nat), (10 : Nat), (17 : Nat), (13 : Nat))]) ∈ lw_all := lw_g (lw_at lw_m13 84 rfl) rfl
theorem q3141 : (Jvm.Cond.methodLink "CountyGazetteerLaw" (24 : Nat) ({ cls := "CountyGazetteer", name := "reform", desc := "(II)I" } : Jvm.MethodName)) ∈ lw_all := lw_g (lw_at lw_m13 85 rfl) rfl
theorem q3180 : (Jvm.Cond.methodLink "CountyGazetteerLaw" (169 : Nat) ({ cls := "CountyGazetteerLaw", name := "ownerOf", desc := "(LCountyGazetteer;III[J)I" } : Jvm.MethodName)) ∈ lw_all := lw_g (lw_at lw_m13 124 rfl) rfl
theorem q3181 : (Jvm.Cond.static ({ cls := "CountyGazetteerLaw", name := "ownerOf", desc := "(LCountyGazetteer;III[J)I" } : Jvm.MethodName)) ∈ lw_all := lw_g (lw_at lw_m13 125 rfl) rfl
theorem q3182 : (Jvm.Cond.codeWith ({ cls := "CountyGazetteerLaw", name := "ownerOf", desc := "(LCountyGazetteer;III[J)I" } : Jvm.MethodName) method_7_code (6 : Nat) (Option.some Jvm.ClassFile.FieldType.int) [((0 : Nat), (12 : Nat), (15 : Nat), (13 : Nat))]) ∈ lw_all := lw_g (lw_at lw_m13 126 rfl) rfl
theorem q3183 : (Jvm.Cond.methodLink "CountyGazetteerLaw" (27 : Nat) ({ cls := "CountyGazetteer", name := "ownerOf", desc := "(III)I" } : Jvm.MethodName)) ∈ lw_all := lw_g (lw_at lw_m13 127 rfl) rfl
theorem q3188 : (Jvm.Cond.methodLink "CountyGazetteerLaw" (173 : Nat) ({ cls := "CountyGazetteerLaw", name := "countyIn", desc := "(LCountyGazetteer;II[J)I" } : Jvm.MethodName)) ∈ lw_all := lw_g (lw_at lw_m13 132 rfl) rfl
theorem q3189 : (Jvm.Cond.static ({ cls := "CountyGazetteerLaw", name := "countyIn", desc := "(LCountyGazetteer;II[J)I" } : Jvm.MethodName)) ∈ lw_all := lw_g (lw_at lw_m13 133 rfl) rfl
theorem q3190 : (Jvm.Cond.codeWith ({ cls := "CountyGazetteerLaw", name := "countyIn", desc := "(LCountyGazetteer;II[J)I" } : Jvm.MethodName) method_8_code (5 : Nat) (Option.some Jvm.ClassFile.FieldType.int) [((0 : Nat), (10 : Nat), (13 : Nat), (19 : Nat)), ((0 : Nat), (10 : Nat), (17 : Nat), (13 : Nat))]) ∈ lw_all := lw_g (lw_at lw_m13 134 rfl) rfl
theorem q3191 : (Jvm.Cond.methodLink "CountyGazetteerLaw" (31 : Nat) ({ cls := "CountyGazetteer", name := "countyIn", desc := "(II)I" } : Jvm.MethodName)) ∈ lw_all := lw_g (lw_at lw_m13 135 rfl) rfl
theorem q3198 : (Jvm.Cond.methodLink "CountyGazetteerLaw" (176 : Nat) ({ cls := "CountyGazetteerLaw", name := "nameLength", desc := "(LCountyGazetteer;II[J)I" } : Jvm.MethodName)) ∈ lw_all := lw_g (lw_at lw_m13 142 rfl) rfl
theorem q3199 : (Jvm.Cond.static ({ cls := "CountyGazetteerLaw", name := "nameLength", desc := "(LCountyGazetteer;II[J)I" } : Jvm.MethodName)) ∈ lw_all := lw_g (lw_at lw_m13 143 rfl) rfl
theorem q3200 : (Jvm.Cond.codeWith ({ cls := "CountyGazetteerLaw", name := "nameLength", desc := "(LCountyGazetteer;II[J)I" } : Jvm.MethodName) method_9_code (5 : Nat) (Option.some Jvm.ClassFile.FieldType.int) [((0 : Nat), (10 : Nat), (13 : Nat), (19 : Nat)), ((0 : Nat), (10 : Nat), (17 : Nat), (13 : Nat))]) ∈ lw_all := lw_g (lw_at lw_m13 144 rfl) rfl
theorem q3201 : (Jvm.Cond.methodLink "CountyGazetteerLaw" (34 : Nat) ({ cls := "CountyGazetteer", name := "nameLength", desc := "(II)I" } : Jvm.MethodName)) ∈ lw_all := lw_g (lw_at lw_m13 145 rfl) rfl
theorem q3206 : (Jvm.Cond.methodLink "CountyGazetteerLaw" (179 : Nat) ({ cls := "CountyGazetteerLaw", name := "nameLetter", desc := "(LCountyGazetteer;III[J)I" } : Jvm.MethodName)) ∈ lw_all := lw_g (lw_at lw_m13 150 rfl) rfl
theorem q3207 : (Jvm.Cond.static ({ cls := "CountyGazetteerLaw", name := "nameLetter", desc := "(LCountyGazetteer;III[J)I" } : Jvm.MethodName)) ∈ lw_all := lw_g (lw_at lw_m13 151 rfl) rfl
theorem q3208 : (Jvm.Cond.codeWith ({ cls := "CountyGazetteerLaw", name := "nameLetter", desc := "(LCountyGazetteer;III[J)I" } : Jvm.MethodName) method_10_code (6 : Nat) (Option.some Jvm.ClassFile.FieldType.int) [((0 : Nat), (12 : Nat), (15 : Nat), (19 : Nat)), ((0 : Nat), (12 : Nat), (19 : Nat), (13 : Nat))]) ∈ lw_all := lw_g (lw_at lw_m13 152 rfl) rfl
theorem q3209 : (Jvm.Cond.methodLink "CountyGazetteerLaw" (37 : Nat) ({ cls := "CountyGazetteer", name := "nameLetter", desc := "(III)I" } : Jvm.MethodName)) ∈ lw_all := lw_g (lw_at lw_m13 153 rfl) rfl
theorem q3217 : (Jvm.Cond.methodLink "CountyGazetteerLaw" (182 : Nat) ({ cls := "CountyGazetteerLaw", name := "movesOf", desc := "(LCountyGazetteer;I[J)I" } : Jvm.MethodName)) ∈ lw_all := lw_g (lw_at lw_m13 161 rfl) rfl
theorem q3218 : (Jvm.Cond.static ({ cls := "CountyGazetteerLaw", name := "movesOf", desc := "(LCountyGazetteer;I[J)I" } : Jvm.MethodName)) ∈ lw_all := lw_g (lw_at lw_m13 162 rfl) rfl
theorem q3219 : (Jvm.Cond.codeWith ({ cls := "CountyGazetteerLaw", name := "movesOf", desc := "(LCountyGazetteer;I[J)I" } : Jvm.MethodName) method_11_code (4 : Nat) (Option.some Jvm.ClassFile.FieldType.int) [((0 : Nat), (9 : Nat), (12 : Nat), (19 : Nat))]) ∈ lw_all := lw_g (lw_at lw_m13 163 rfl) rfl
theorem q3220 : (Jvm.Cond.methodLink "CountyGazetteerLaw" (40 : Nat) ({ cls := "CountyGazetteer", name := "movesOf", desc := "(I)I" } : Jvm.MethodName)) ∈ lw_all := lw_g (lw_at lw_m13 164 rfl) rfl
theorem q3236 : (Jvm.Cond.methodLink "CountyGazetteerLaw" (185 : Nat) ({ cls := "CountyGazetteerLaw", name := "lastMove", desc := "(LCountyGazetteer;I[J)I" } : Jvm.MethodName)) ∈ lw_all := lw_g (lw_at lw_m13 180 rfl) rfl
theorem q3237 : (Jvm.Cond.static ({ cls := "CountyGazetteerLaw", name := "lastMove", desc := "(LCountyGazetteer;I[J)I" } : Jvm.MethodName)) ∈ lw_all := lw_g (lw_at lw_m13 181 rfl) rfl
theorem q3238 : (Jvm.Cond.codeWith ({ cls := "CountyGazetteerLaw", name := "lastMove", desc := "(LCountyGazetteer;I[J)I" } : Jvm.MethodName) method_12_code (4 : Nat) (Option.some Jvm.ClassFile.FieldType.int) [((0 : Nat), (9 : Nat), (12 : Nat), (19 : Nat))]) ∈ lw_all := lw_g (lw_at lw_m13 182 rfl) rfl
theorem q3239 : (Jvm.Cond.methodLink "CountyGazetteerLaw" (43 : Nat) ({ cls := "CountyGazetteer", name := "lastMove", desc := "(I)I" } : Jvm.MethodName)) ∈ lw_all := lw_g (lw_at lw_m13 183 rfl) rfl
theorem q3260 : (Jvm.Cond.methodLink "CountyGazetteerLaw" (188 : Nat) ({ cls := "CountyGazetteerLaw", name := "villagesIn", desc := "(LCountyGazetteer;II[J)I" } : Jvm.MethodName)) ∈ lw_all := lw_g (lw_at lw_m13 204 rfl) rfl
theorem q3261 : (Jvm.Cond.static ({ cls := "CountyGazetteerLaw", name := "villagesIn", desc := "(LCountyGazetteer;II[J)I" } : Jvm.MethodName)) ∈ lw_all := lw_g (lw_at lw_m13 205 rfl) rfl
theorem q3262 : (Jvm.Cond.codeWith ({ cls := "CountyGazetteerLaw", name := "villagesIn", desc := "(LCountyGazetteer;II[J)I" } : Jvm.MethodName) method_13_code (5 : Nat) (Option.some Jvm.ClassFile.FieldType.int) [((0 : Nat), (10 : Nat), (13 : Nat), (19 : Nat)), ((0 : Nat), (10 : Nat), (17 : Nat), (13 : Nat))]) ∈ lw_all := lw_g (lw_at lw_m13 206 rfl) rfl
theorem q3263 : (Jvm.Cond.methodLink "CountyGazetteerLaw" (46 : Nat) ({ cls := "CountyGazetteer", name := "villagesIn", desc := "(II)I" } : Jvm.MethodName)) ∈ lw_all := lw_g (lw_at lw_m13 207 rfl) rfl
theorem q3267 : (Jvm.Cond.methodLink "CountyGazetteerLaw" (191 : Nat) ({ cls := "CountyGazetteerLaw", name := "movedBetween", desc := "(LCountyGazetteer;II[J)I" } : Jvm.MethodName)) ∈ lw_all := lw_g (lw_at lw_m13 211 rfl) rfl
theorem q3268 : (Jvm.Cond.static ({ cls := "CountyGazetteerLaw", name := "movedBetween", desc := "(LCountyGazetteer;II[J)I" } : Jvm.MethodName)) ∈ lw_all := lw_g (lw_at lw_m13 212 rfl) rfl
theorem q3269 : (Jvm.Cond.codeWith ({ cls := "CountyGazetteerLaw", name := "movedBetween", desc := "(LCountyGazetteer;II[J)I" } : Jvm.MethodName) method_14_code (5 : Nat) (Option.some Jvm.ClassFile.FieldType.int) [((0 : Nat), (10 : Nat), (13 : Nat), (13 : Nat))]) ∈ lw_all := lw_g (lw_at lw_m13 213 rfl) rfl
theorem q3270 : (Jvm.Cond.methodLink "CountyGazetteerLaw" (49 : Nat) ({ cls := "CountyGazetteer", name := "movedBetween", desc := "(II)I" } : Jvm.MethodName)) ∈ lw_all := lw_g (lw_at lw_m13 214 rfl) rfl
theorem q3277 : (Jvm.Cond.methodLink "CountyGazetteerLaw" (194 : Nat) ({ cls := "CountyGazetteerLaw", name := "nextMove", desc := "(LCountyGazetteer;I[J)I" } : Jvm.MethodName)) ∈ lw_all := lw_g (lw_at lw_m13 221 rfl) rfl
theorem q3278 : (Jvm.Cond.static ({ cls := "CountyGazetteerLaw", name := "nextMove", desc := "(LCountyGazetteer;I[J)I" } : Jvm.MethodName)) ∈ lw_all := lw_g (lw_at lw_m13 222 rfl) rfl
theorem q3279 : (Jvm.Cond.codeWith ({ cls := "CountyGazetteerLaw", name := "nextMove", desc := "(LCountyGazetteer;I[J)I" } : Jvm.MethodName) method_15_code (4 : Nat) (Option.some Jvm.ClassFile.FieldType.int) [((0 : Nat), (9 : Nat), (12 : Nat), (19 : Nat))]) ∈ lw_all := lw_g (lw_at lw_m13 223 rfl) rfl
theorem q3280 : (Jvm.Cond.methodLink "CountyGazetteerLaw" (52 : Nat) ({ cls := "CountyGazetteer", name := "nextMove", desc := "(I)I" } : Jvm.MethodName)) ∈ lw_all := lw_g (lw_at lw_m13 224 rfl) rfl
theorem q3295 : (Jvm.Cond.methodLink "CountyGazetteerLaw" (209 : Nat) ({ cls := "CountyGazetteerLaw", name := "entry", desc := "(LCountyGazetteer;III[J)I" } : Jvm.MethodName)) ∈ lw_all := lw_g (lw_at lw_m13 239 rfl) rfl
theorem q3296 : (Jvm.Cond.static ({ cls := "CountyGazetteerLaw", name := "entry", desc := "(LCountyGazetteer;III[J)I" } : Jvm.MethodName)) ∈ lw_all := lw_g (lw_at lw_m14 0 rfl) rfl
theorem q3297 : (Jvm.Cond.codeWith ({ cls := "CountyGazetteerLaw", name := "entry", desc := "(LCountyGazetteer;III[J)I" } : Jvm.MethodName) method_16_code (6 : Nat) (Option.some Jvm.ClassFile.FieldType.int) [((0 : Nat), (12 : Nat), (15 : Nat), (19 : Nat)), ((0 : Nat), (12 : Nat), (19 : Nat), (13 : Nat))]) ∈ lw_all := lw_g (lw_at lw_m14 1 rfl) rfl
theorem q3298 : (Jvm.Cond.methodLink "CountyGazetteerLaw" (55 : Nat) ({ cls := "CountyGazetteer", name := "entry", desc := "(III)I" } : Jvm.MethodName)) ∈ lw_all := lw_g (lw_at lw_m14 2 rfl) rfl
theorem q3306 : (Jvm.Cond.methodLink "CountyGazetteerLaw" (212 : Nat) ({ cls := "CountyGazetteerLaw", name := "entryLetter", desc := "(LCountyGazetteer;III[J)I" } : Jvm.MethodName)) ∈ lw_all := lw_g (lw_at lw_m14 10 rfl) rfl
theorem q3307 : (Jvm.Cond.static ({ cls := "CountyGazetteerLaw", name := "entryLetter", desc := "(LCountyGazetteer;III[J)I" } : Jvm.MethodName)) ∈ lw_all := lw_g (lw_at lw_m14 11 rfl) rfl
theorem q3308 : (Jvm.Cond.codeWith ({ cls := "CountyGazetteerLaw", name := "entryLetter", desc := "(LCountyGazetteer;III[J)I" } : Jvm.MethodName) method_17_code (6 : Nat) (Option.some Jvm.ClassFile.FieldType.int) [((0 : Nat), (12 : Nat), (15 : Nat), (19 : Nat))]) ∈ lw_all := lw_g (lw_at lw_m14 12 rfl) rfl
theorem q3309 : (Jvm.Cond.methodLink "CountyGazetteerLaw" (58 : Nat) ({ cls := "CountyGazetteer", name := "entryLetter", desc := "(III)I" } : Jvm.MethodName)) ∈ lw_all := lw_g (lw_at lw_m14 13 rfl) rfl
theorem q3313 : (Jvm.Cond.methodLink "CountyGazetteerLaw" (215 : Nat) ({ cls := "CountyGazetteerLaw", name := "block", desc := "(LCountyGazetteer;I[J)I" } : Jvm.MethodName)) ∈ lw_all := lw_g (lw_at lw_m14 17 rfl) rfl
theorem q3314 : (Jvm.Cond.static ({ cls := "CountyGazetteerLaw", name := "block", desc := "(LCountyGazetteer;I[J)I" } : Jvm.MethodName)) ∈ lw_all := lw_g (lw_at lw_m14 18 rfl) rfl
theorem q3315 : (Jvm.Cond.codeWith ({ cls := "CountyGazetteerLaw", name := "block", desc := "(LCountyGazetteer;I[J)I" } : Jvm.MethodName) method_18_code (4 : Nat) (Option.some Jvm.ClassFile.FieldType.int) [((0 : Nat), (9 : Nat), (12 : Nat), (19 : Nat))]) ∈ lw_all := lw_g (lw_at lw_m14 19 rfl) rfl
theorem q3316 : (Jvm.Cond.methodLink "CountyGazetteerLaw" (61 : Nat) ({ cls := "CountyGazetteer", name := "block", desc := "(I)I" } : Jvm.MethodName)) ∈ lw_all := lw_g (lw_at lw_m14 20 rfl) rfl
theorem q3320 : (Jvm.Cond.methodLink "CountyGazetteerLaw" (218 : Nat) ({ cls := "CountyGazetteerLaw", name := "used", desc := "(LCountyGazetteer;I[J)I" } : Jvm.MethodName)) ∈ lw_all := lw_g (lw_at lw_m14 24 rfl) rfl
theorem q3321 : (Jvm.Cond.static ({ cls := "CountyGazetteerLaw", name := "used", desc := "(LCountyGazetteer;I[J)I" } : Jvm.MethodName)) ∈ lw_all := lw_g (lw_at lw_m14 25 rfl) rfl
theorem q3322 : (Jvm.Cond.codeWith ({ cls := "CountyGazetteerLaw", name := "used", desc := "(LCountyGazetteer;I[J)I" } : Jvm.MethodName) method_19_code (4 : Nat) (Option.some Jvm.ClassFile.FieldType.int) [((0 : Nat), (9 : Nat), (12 : Nat), (19 : Nat))]) ∈ lw_all := lw_g (lw_at lw_m14 26 rfl) rfl
theorem q3323 : (Jvm.Cond.methodLink "CountyGazetteerLaw" (64 : Nat) ({ cls := "CountyGazetteer", name := "used", desc := "(I)I" } : Jvm.MethodName)) ∈ lw_all := lw_g (lw_at lw_m14 27 rfl) rfl
theorem q3336 : (Jvm.Cond.methodLink "CountyGazetteerLaw" (221 : Nat) ({ cls := "CountyGazetteerLaw", name := "line", desc := "(LCountyGazetteer;III[J)I" } : Jvm.MethodName)) ∈ lw_all := lw_g (lw_at lw_m14 40 rfl) rfl
theorem q3337 : (Jvm.Cond.static ({ cls := "CountyGazetteerLaw", name := "line", desc := "(LCountyGazetteer;III[J)I" } : Jvm.MethodName)) ∈ lw_all := lw_g (lw_at lw_m14 41 rfl) rfl
theorem q3338 : (Jvm.Cond.codeWith ({ cls := "CountyGazetteerLaw", name := "line", desc := "(LCountyGazetteer;III[J)I" } : Jvm.MethodName) method_20_code (6 : Nat) (Option.some Jvm.ClassFile.FieldType.int) [((0 : Nat), (12 : Nat), (15 : Nat), (19 : Nat)), ((0 : Nat), (12 : Nat), (19 : Nat), (13 : Nat))]) ∈ lw_all := lw_g (lw_at lw_m14 42 rfl) rfl
theorem q3339 : (Jvm.Cond.methodLink "CountyGazetteerLaw" (67 : Nat) ({ cls := "CountyGazetteer", name := "line", desc := "(III)I" } : Jvm.MethodName)) ∈ lw_all := lw_g (lw_at lw_m14 43 rfl) rfl
theorem q3354 : (Jvm.Cond.methodLink "CountyGazetteerLaw" (228 : Nat) ({ cls := "CountyGazetteerLaw", name := "linesFor", desc := "(LCountyGazetteer;I[J)I" } : Jvm.MethodName)) ∈ lw_all := lw_g (lw_at lw_m14 58 rfl) rfl
theorem q3355 : (Jvm.Cond.static ({ cls := "CountyGazetteerLaw", name := "linesFor", desc := "(LCountyGazetteer;I[J)I" } : Jvm.MethodName)) ∈ lw_all := lw_g (lw_at lw_m14 59 rfl) rfl
theorem q3356 : (Jvm.Cond.codeWith ({ cls := "CountyGazetteerLaw", name := "linesFor", desc := "(LCountyGazetteer;I[J)I" } : Jvm.MethodName) method_21_code (4 : Nat) (Option.some Jvm.ClassFile.FieldType.int) [((0 : Nat), (9 : Nat), (12 : Nat), (13 : Nat))]) ∈ lw_all := lw_g (lw_at lw_m14 60 rfl) rfl
theorem q3357 : (Jvm.Cond.methodLink "CountyGazetteerLaw" (70 : Nat) ({ cls := "CountyGazetteer", name := "linesFor", desc := "(I)I" } : Jvm.MethodName)) ∈ lw_all := lw_g (lw_at lw_m14 61 rfl) rfl
theorem q3363 : (Jvm.Cond.methodLink "CountyGazetteerLaw" (231 : Nat) ({ cls := "CountyGazetteerLaw", name := "volumes", desc := "(LCountyGazetteer;I[J)I" } : Jvm.MethodName)) ∈ lw_all := lw_g (lw_at lw_m14 67 rfl) rfl
theorem q3364 : (Jvm.Cond.static ({ cls := "CountyGazetteerLaw", name := "volumes", desc := "(LCountyGazetteer;I[J)I" } : Jvm.MethodName)) ∈ lw_all := lw_g (lw_at lw_m14 68 rfl) rfl
theorem q3365 : (Jvm.Cond.codeWith ({ cls := "CountyGazetteerLaw", name := "volumes", desc := "(LCountyGazetteer;I[J)I" } : Jvm.MethodName) method_22_code (4 : Nat) (Option.some Jvm.ClassFile.FieldType.int) [((0 : Nat), (9 : Nat), (12 : Nat), (13 : Nat))]) ∈ lw_all := lw_g (lw_at lw_m14 69 rfl) rfl
theorem q3366 : (Jvm.Cond.methodLink "CountyGazetteerLaw" (73 : Nat) ({ cls := "CountyGazetteer", name := "volumes", desc := "(I)I" } : Jvm.MethodName)) ∈ lw_all := lw_g (lw_at lw_m14 70 rfl) rfl
theorem q3412 : (Jvm.Cond.methodLink "CountyGazetteerLaw" (234 : Nat) ({ cls := "CountyGazetteerLaw", name := "volume", desc := "(LCountyGazetteer;III[J)I" } : Jvm.MethodName)) ∈ lw_all := lw_g (lw_at lw_m14 116 rfl) rfl
theorem q3413 : (Jvm.Cond.static ({ cls := "CountyGazetteerLaw", name := "volume", desc := "(LCountyGazetteer;III[J)I" } : Jvm.MethodName)) ∈ lw_all := lw_g (lw_at lw_m14 117 rfl) rfl
theorem q3414 : (Jvm.Cond.codeWith ({ cls := "CountyGazetteerLaw", name := "volume", desc := "(LCountyGazetteer;III[J)I" } : Jvm.MethodName) method_23_code (6 : Nat) (Option.some Jvm.ClassFile.FieldType.int) [((0 : Nat), (12 : Nat), (15 : Nat), (13 : Nat)), ((0 : Nat), (12 : Nat), (19 : Nat), (19 : Nat))]) ∈ lw_all := lw_g (lw_at lw_m14 118 rfl) rfl
theorem q3415 : (Jvm.Cond.methodLink "CountyGazetteerLaw" (76 : Nat) ({ cls := "CountyGazetteer", name := "volume", desc := "(III)I" } : Jvm.MethodName)) ∈ lw_all := lw_g (lw_at lw_m14 119 rfl) rfl
theorem q3431 : (Jvm.Cond.methodLink "CountyGazetteerLaw" (237 : Nat) ({ cls := "CountyGazetteerLaw", name := "movedIf", desc := "(LCountyGazetteer;I[J)I" } : Jvm.MethodName)) ∈ lw_all := lw_g (lw_at lw_m14 135 rfl) rfl
theorem q3432 : (Jvm.Cond.static ({ cls := "CountyGazetteerLaw", name := "movedIf", desc := "(LCountyGazetteer;I[J)I" } : Jvm.MethodName)) ∈ lw_all := lw_g (lw_at lw_m14 136 rfl) rfl
theorem q3433 : (Jvm.Cond.codeWith ({ cls := "CountyGazetteerLaw", name := "movedIf", desc := "(LCountyGazetteer;I[J)I" } : Jvm.MethodName) method_24_code (4 : Nat) (Option.some Jvm.ClassFile.FieldType.int) [((0 : Nat), (9 : Nat), (12 : Nat), (13 : Nat))]) ∈ lw_all := lw_g (lw_at lw_m14 137 rfl) rfl
theorem q3434 : (Jvm.Cond.methodLink "CountyGazetteerLaw" (79 : Nat) ({ cls := "CountyGazetteer", name := "movedIf", desc := "(I)I" } : Jvm.MethodName)) ∈ lw_all := lw_g (lw_at lw_m14 138 rfl) rfl
theorem q3442 : (Jvm.Cond.methodLink "CountyGazetteerLaw" (240 : Nat) ({ cls := "CountyGazetteerLaw", name := "pagesIf", desc := "(LCountyGazetteer;I[J)I" } : Jvm.MethodName)) ∈ lw_all := lw_g (lw_at lw_m14 146 rfl) rfl
theorem q3443 : (Jvm.Cond.static ({ cls := "CountyGazetteerLaw", name := "pagesIf", desc := "(LCountyGazetteer;I[J)I" } : Jvm.MethodName)) ∈ lw_all := lw_g (lw_at lw_m14 147 rfl) rfl
theorem q3444 : (Jvm.Cond.codeWith ({ cls := "CountyGazetteerLaw", name := "pagesIf", desc := "(LCountyGazetteer;I[J)I" } : Jvm.MethodName) method_25_code (4 : Nat) (Option.some Jvm.ClassFile.FieldType.int) [((0 : Nat), (9 : Nat), (12 : Nat), (13 : Nat))]) ∈ lw_all := lw_g (lw_at lw_m14 148 rfl) rfl
theorem q3445 : (Jvm.Cond.methodLink "CountyGazetteerLaw" (82 : Nat) ({ cls := "CountyGazetteer", name := "pagesIf", desc := "(I)I" } : Jvm.MethodName)) ∈ lw_all := lw_g (lw_at lw_m14 149 rfl) rfl
theorem q3449 : (Jvm.Cond.methodLink "CountyGazetteerLaw" (257 : Nat) ({ cls := "CountyGazetteerLaw", name := "publish", desc := "(LCountyGazetteer;I[J)I" } : Jvm.MethodName)) ∈ lw_all := lw_g (lw_at lw_m14 153 rfl) rfl
theorem q3450 : (Jvm.Cond.static ({ cls := "CountyGazetteerLaw", name := "publish", desc := "(LCountyGazetteer;I[J)I" } : Jvm.MethodName)) ∈ lw_all := lw_g (lw_at lw_m14 154 rfl) rfl
theorem q3451 : (Jvm.Cond.codeWith ({ cls := "CountyGazetteerLaw", name := "publish", desc := "(LCountyGazetteer;I[J)I" } : Jvm.MethodName) method_26_code (4 : Nat) (Option.some Jvm.ClassFile.FieldType.int) [((0 : Nat), (9 : Nat), (12 : Nat), (13 : Nat))]) ∈ lw_all := lw_g (lw_at lw_m14 155 rfl) rfl
theorem q3452 : (Jvm.Cond.methodLink "CountyGazetteerLaw" (85 : Nat) ({ cls := "CountyGazetteer", name := "publish", desc := "(I)I" } : Jvm.MethodName)) ∈ lw_all := lw_g (lw_at lw_m14 156 rfl) rfl
theorem q3456 : (Jvm.Cond.methodLink "CountyGazetteerLaw" (260 : Nat) ({ cls := "CountyGazetteerLaw", name := "redraw", desc := "(LCountyGazetteer;IIIIII[J)I" } : Jvm.MethodName)) ∈ lw_all := lw_g (lw_at lw_m14 160 rfl) rfl
theorem q3457 : (Jvm.Cond.static ({ cls := "CountyGazetteerLaw", name := "redraw", desc := "(LCountyGazetteer;IIIIII[J)I" } : Jvm.MethodName)) ∈ lw_all := lw_g (lw_at lw_m14 161 rfl) rfl
theorem q3458 : (Jvm.Cond.codeWith ({ cls := "CountyGazetteerLaw", name := "redraw", desc := "(LCountyGazetteer;IIIIII[J)I" } : Jvm.MethodName) method_27_code (9 : Nat) (Option.some Jvm.ClassFile.FieldType.int) [((0 : Nat), (18 : Nat), (21 : Nat), (19 : Nat)), ((0 : Nat), (18 : Nat), (25 : Nat), (13 : Nat)), ((0 : Nat), (18 : Nat), (29 : Nat), (92 : Nat))]) ∈ lw_all := lw_g (lw_at lw_m14 162 rfl) rfl
theorem q3459 : (Jvm.Cond.classLink "CountyGazetteerLaw" (92 : Nat) "java/lang/IllegalStateException") ∈ lw_all := lw_g (lw_at lw_m14 163 rfl) rfl
theorem q3460 : (Jvm.Cond.methodLink "CountyGazetteerLaw" (88 : Nat) ({ cls := "CountyGazetteer", name := "redraw", desc := "(IIIIII)I" } : Jvm.MethodName)) ∈ lw_all := lw_g (lw_at lw_m14 164 rfl) rfl
theorem q3478 : (Jvm.Cond.methodLink "CountyGazetteerLaw" (264 : Nat) ({ cls := "CountyGazetteerLaw", name := "join", desc := "(LCountyGazetteer;III[J)I" } : Jvm.MethodName)) ∈ lw_all := lw_g (lw_at lw_m14 182 rfl) rfl
theorem q3479 : (Jvm.Cond.static ({ cls := "CountyGazetteerLaw", name := "join", desc := "(LCountyGazetteer;III[J)I" } : Jvm.MethodName)) ∈ lw_all := lw_g (lw_at lw_m14 183 rfl) rfl
theorem q3480 : (Jvm.Cond.codeWith ({ cls := "CountyGazetteerLaw", name := "join", desc := "(LCountyGazetteer;III[J)I" } : Jvm.MethodName) method_28_code (6 : Nat) (Option.some Jvm.ClassFile.FieldType.int) [((0 : Nat), (12 : Nat), (15 : Nat), (19 : Nat)), ((0 : Nat), (12 : Nat), (19 : Nat), (13 : Nat)), ((0 : Nat), (12 : Nat), (23 : Nat), (92 : Nat))]) ∈ lw_all := lw_g (lw_at lw_m14 184 rfl) rfl
theorem q3481 : (Jvm.Cond.methodLink "CountyGazetteerLaw" (94 : Nat) ({ cls := "CountyGazetteer", name := "join", desc := "(III)I" } : Jvm.MethodName)) ∈ lw_all := lw_g (lw_at lw_m14 185 rfl) rfl
theorem q3487 : (Jvm.Cond.methodLink "CountyGazetteerLaw" (267 : Nat) ({ cls := "CountyGazetteerLaw", name := "dropReform", desc := "(LCountyGazetteer;I[J)I" } : Jvm.MethodName)) ∈ lw_all := lw_g (lw_at lw_m14 191 rfl) rfl
theorem q3488 : (Jvm.Cond.static ({ cls := "CountyGazetteerLaw", name := "dropReform", desc := "(LCountyGazetteer;I[J)I" } : Jvm.MethodName)) ∈ lw_all := lw_g (lw_at lw_m14 192 rfl) rfl
theorem q3489 : (Jvm.Cond.codeWith ({ cls := "CountyGazetteerLaw", name := "dropReform", desc := "(LCountyGazetteer;I[J)I" } : Jvm.MethodName) method_29_code (4 : Nat) (Option.some Jvm.ClassFile.FieldType.int) [((0 : Nat), (9 : Nat), (12 : Nat), (19 : Nat))]) ∈ lw_all := lw_g (lw_at lw_m14 193 rfl) rfl
theorem q3490 : (Jvm.Cond.methodLink "CountyGazetteerLaw" (97 : Nat) ({ cls := "CountyGazetteer", name := "dropReform", desc := "(I)I" } : Jvm.MethodName)) ∈ lw_all := lw_g (lw_at lw_m14 194 rfl) rfl
theorem q3517 : (Jvm.Cond.methodLink "CountyGazetteerLaw" (270 : Nat) ({ cls := "CountyGazetteerLaw", name := "rename", desc := "(LCountyGazetteer;II[J)I" } : Jvm.MethodName)) ∈ lw_all := lw_g (lw_at lw_m14 221 rfl) rfl
theorem q3518 : (Jvm.Cond.static ({ cls := "CountyGazetteerLaw", name := "rename", desc := "(LCountyGazetteer;II[J)I" } : Jvm.MethodName)) ∈ lw_all := lw_g (lw_at lw_m14 222 rfl) rfl
theorem q3519 : (Jvm.Cond.codeWith ({ cls := "CountyGazetteerLaw", name := "rename", desc := "(LCountyGazetteer;II[J)I" } : Jvm.MethodName) method_30_code (5 : Nat) (Option.some Jvm.ClassFile.FieldType.int) [((0 : Nat), (10 : Nat), (13 : Nat), (19 : Nat)), ((0 : Nat), (10 : Nat), (17 : Nat), (13 : Nat)), ((0 : Nat), (10 : Nat), (21 : Nat), (92 : Nat))]) ∈ lw_all := lw_g (lw_at lw_m14 223 rfl) rfl
theorem q3520 : (Jvm.Cond.methodLink "CountyGazetteerLaw" (100 : Nat) ({ cls := "CountyGazetteer", name := "rename", desc := "(II)I" } : Jvm.MethodName)) ∈ lw_all := lw_g (lw_at lw_m14 224 rfl) rfl
theorem q3535 : (Jvm.Cond.methodLink "CountyGazetteerLaw" (273 : Nat) ({ cls := "CountyGazetteerLaw", name := "setGone", desc := "(LCountyGazetteer;II[J)I" } : Jvm.MethodName)) ∈ lw_all := lw_g (lw_at lw_m14 239 rfl) rfl
theorem q3536 : (Jvm.Cond.static ({ cls := "CountyGazetteerLaw", name := "setGone", desc := "(LCountyGazetteer;II[J)I" } : Jvm.MethodName)) ∈ lw_all := lw_g (lw_at lw_m15 0 rfl) rfl
theorem q3537 : (Jvm.Cond.codeWith ({ cls := "CountyGazetteerLaw", name := "setGone", desc := "(LCountyGazetteer;II[J)I" } : Jvm.MethodName) method_31_code (5 : Nat) (Option.some Jvm.ClassFile.FieldType.int) [((0 : Nat), (10 : Nat), (13 : Nat), (19 : Nat)), ((0 : Nat), (10 : Nat), (17 : Nat), (13 : Nat))]) ∈ lw_all := lw_g (lw_at lw_m15 1 rfl) rfl
theorem q3538 : (Jvm.Cond.methodLink "CountyGazetteerLaw" (103 : Nat) ({ cls := "CountyGazetteer", name := "setGone", desc := "(II)I" } : Jvm.MethodName)) ∈ lw_all := lw_g (lw_at lw_m15 2 rfl) rfl
theorem q3543 : (Jvm.Cond.methodLink "CountyGazetteerLaw" (276 : Nat) ({ cls := "CountyGazetteerLaw", name := "setLines", desc := "(LCountyGazetteer;I[J)I" } : Jvm.MethodName)) ∈ lw_all := lw_g (lw_at lw_m15 7 rfl) rfl
theorem q3544 : (Jvm.Cond.static ({ cls := "CountyGazetteerLaw", name := "setLines", desc := "(LCountyGazetteer;I[J)I" } : Jvm.MethodName)) ∈ lw_all := lw_g (lw_at lw_m15 8 rfl) rfl
theorem q3545 : (Jvm.Cond.codeWith ({ cls := "CountyGazetteerLaw", name := "setLines", desc := "(LCountyGazetteer;I[J)I" } : Jvm.MethodName) method_32_code (4 : Nat) (Option.some Jvm.ClassFile.FieldType.int) [((0 : Nat), (9 : Nat), (12 : Nat), (13 : Nat))]) ∈ lw_all := lw_g (lw_at lw_m15 9 rfl) rfl
theorem q3546 : (Jvm.Cond.methodLink "CountyGazetteerLaw" (106 : Nat) ({ cls := "CountyGazetteer", name := "setLines", desc := "(I)I" } : Jvm.MethodName)) ∈ lw_all := lw_g (lw_at lw_m15 10 rfl) rfl
theorem q3551 : (Jvm.Cond.methodLink "CountyGazetteerLaw" (284 : Nat) ({ cls := "CountyGazetteerLaw", name := "undo", desc := "(LCountyGazetteer;[J)I" } : Jvm.MethodName)) ∈ lw_all := lw_g (lw_at lw_m15 15 rfl) rfl
theorem q3552 : (Jvm.Cond.static ({ cls := "CountyGazetteerLaw", name := "undo", desc := "(LCountyGazetteer;[J)I" } : Jvm.MethodName)) ∈ lw_all := lw_g (lw_at lw_m15 16 rfl) rfl
theorem q3553 : (Jvm.Cond.codeWith ({ cls := "CountyGazetteerLaw", name := "undo", desc := "(LCountyGazetteer;[J)I" } : Jvm.MethodName) method_33_code (3 : Nat) (Option.some Jvm.ClassFile.FieldType.int) [((0 : Nat), (8 : Nat), (11 : Nat), (113 : Nat))]) ∈ lw_all := lw_g (lw_at lw_m15 17 rfl) rfl
theorem q3554 : (Jvm.Cond.classLink "CountyGazetteerLaw" (113 : Nat) "java/util/NoSuchElementException") ∈ lw_all := lw_g (lw_at lw_m15 18 rfl) rfl
theorem q3555 : (Jvm.Cond.methodLink "CountyGazetteerLaw" (109 : Nat) ({ cls := "CountyGazetteer", name := "undo", desc := "()I" } : Jvm.MethodName)) ∈ lw_all := lw_g (lw_at lw_m15 19 rfl) rfl
theorem q3579 : (Jvm.Cond.methodLink "CountyGazetteerLaw" (288 : Nat) ({ cls := "CountyGazetteerLaw", name := "printPage", desc := "(LCountyGazetteer;I[J)I" } : Jvm.MethodName)) ∈ lw_all := lw_g (lw_at lw_m15 43 rfl) rfl
theorem q3580 : (Jvm.Cond.static ({ cls := "CountyGazetteerLaw", name := "printPage", desc := "(LCountyGazetteer;I[J)I" } : Jvm.MethodName)) ∈ lw_all := lw_g (lw_at lw_m15 44 rfl) rfl
theorem q3581 : (Jvm.Cond.codeWith ({ cls := "CountyGazetteerLaw", name := "printPage", desc := "(LCountyGazetteer;I[J)I" } : Jvm.MethodName) method_34_code (4 : Nat) (Option.some Jvm.ClassFile.FieldType.int) [((0 : Nat), (9 : Nat), (12 : Nat), (19 : Nat))]) ∈ lw_all := lw_g (lw_at lw_m15 45 rfl) rfl
theorem q3582 : (Jvm.Cond.methodLink "CountyGazetteerLaw" (115 : Nat) ({ cls := "CountyGazetteer", name := "printPage", desc := "(I)I" } : Jvm.MethodName)) ∈ lw_all := lw_g (lw_at lw_m15 46 rfl) rfl
theorem q3647 : (Jvm.Cond.methodLink "CountyGazetteerLaw" (291 : Nat) ({ cls := "CountyGazetteerLaw", name := "printRow", desc := "(LCountyGazetteer;II[J)I" } : Jvm.MethodName)) ∈ lw_all := lw_g (lw_at lw_m15 111 rfl) rfl
theorem q3648 : (Jvm.Cond.static ({ cls := "CountyGazetteerLaw", name := "printRow", desc := "(LCountyGazetteer;II[J)I" } : Jvm.MethodName)) ∈ lw_all := lw_g (lw_at lw_m15 112 rfl) rfl
theorem q3649 : (Jvm.Cond.codeWith ({ cls := "CountyGazetteerLaw", name := "printRow", desc := "(LCountyGazetteer;II[J)I" } : Jvm.MethodName) method_35_code (5 : Nat) (Option.some Jvm.ClassFile.FieldType.int) [((0 : Nat), (10 : Nat), (13 : Nat), (19 : Nat)), ((0 : Nat), (10 : Nat), (17 : Nat), (13 : Nat))]) ∈ lw_all := lw_g (lw_at lw_m15 113 rfl) rfl
theorem q3650 : (Jvm.Cond.methodLink "CountyGazetteerLaw" (118 : Nat) ({ cls := "CountyGazetteer", name := "printRow", desc := "(II)I" } : Jvm.MethodName)) ∈ lw_all := lw_g (lw_at lw_m15 114 rfl) rfl
theorem q3654 : (Jvm.Cond.methodLink "CountyGazetteerLaw" (302 : Nat) ({ cls := "CountyGazetteerLaw", name := "restoreState", desc := "(LCountyGazetteer;[J)I" } : Jvm.MethodName)) ∈ lw_all := lw_g (lw_at lw_m15 118 rfl) rfl
theorem q3655 : (Jvm.Cond.static ({ cls := "CountyGazetteerLaw", name := "restoreState", desc := "(LCountyGazetteer;[J)I" } : Jvm.MethodName)) ∈ lw_all := lw_g (lw_at lw_m15 119 rfl) rfl
theorem q3656 : (Jvm.Cond.codeWith ({ cls := "CountyGazetteerLaw", name := "restoreState", desc := "(LCountyGazetteer;[J)I" } : Jvm.MethodName) method_36_code (3 : Nat) (Option.some Jvm.ClassFile.FieldType.int) [((0 : Nat), (8 : Nat), (11 : Nat), (113 : Nat))]) ∈ lw_all := lw_g (lw_at lw_m15 120 rfl) rfl
theorem q3657 : (Jvm.Cond.methodLink "CountyGazetteerLaw" (121 : Nat) ({ cls := "CountyGazetteer", name := "restoreState", desc := "()I" } : Jvm.MethodName)) ∈ lw_all := lw_g (lw_at lw_m15 121 rfl) rfl
theorem q3661 : (Jvm.Cond.classLink "CountyGazetteerLaw" (125 : Nat) "CountyGazetteerModel") ∈ lw_all := lw_g (lw_at lw_m15 125 rfl) rfl
theorem q3663 : (Jvm.Cond.methodLink "CountyGazetteerLaw" (127 : Nat) ({ cls := "CountyGazetteerModel", name := "<init>", desc := "()V" } : Jvm.MethodName)) ∈ lw_all := lw_g (lw_at lw_m15 127 rfl) rfl
theorem q3821 : (Jvm.Cond.methodLink "CountyGazetteerLaw" (156 : Nat) ({ cls := "CountyGazetteerModel", name := "thrown", desc := "()I" } : Jvm.MethodName)) ∈ lw_all := lw_g (lw_at lw_m16 45 rfl) rfl
theorem q3825 : (Jvm.Cond.methodLink "CountyGazetteerLaw" (132 : Nat) ({ cls := "CountyGazetteerModel", name := "appendInput", desc := "(IIIII)I" } : Jvm.MethodName)) ∈ lw_all := lw_g (lw_at lw_m16 49 rfl) rfl
theorem q3833 : (Jvm.Cond.methodLink "CountyGazetteerLaw" (137 : Nat) ({ cls := "CountyGazetteerModel", name := "truncateInput", desc := "(I)Z" } : Jvm.MethodName)) ∈ lw_all := lw_g (lw_at lw_m16 57 rfl) rfl
theorem q3840 : (Jvm.Cond.methodLink "CountyGazetteerLaw" (141 : Nat) ({ cls := "CountyGazetteerModel", name := "loadMap", desc := "()I" } : Jvm.MethodName)) ∈ lw_all := lw_g (lw_at lw_m16 64 rfl) rfl
theorem q3963 : (Jvm.Cond.methodLink "CountyGazetteerLaw" (145 : Nat) ({ cls := "CountyGazetteerModel", name := "errorCode", desc := "()I" } : Jvm.MethodName)) ∈ lw_all := lw_g (lw_at lw_m16 187 rfl) rfl
theorem q3967 : (Jvm.Cond.methodLink "CountyGazetteerLaw" (149 : Nat) ({ cls := "CountyGazetteerModel", name := "errorOffset", desc := "()I" } : Jvm.MethodName)) ∈ lw_all := lw_g (lw_at lw_m16 191 rfl) rfl
theorem q3971 : (Jvm.Cond.methodLink "CountyGazetteerLaw" (155 : Nat) ({ cls := "CountyGazetteerModel", name := "count", desc := "(I)I" } : Jvm.MethodName)) ∈ lw_all := lw_g (lw_at lw_m16 195 rfl) rfl
theorem q4087 : (Jvm.Cond.methodLink "CountyGazetteerLaw" (162 : Nat) ({ cls := "CountyGazetteerModel", name := "village", desc := "(II)I" } : Jvm.MethodName)) ∈ lw_all := lw_g (lw_at lw_m17 71 rfl) rfl
theorem q4111 : (Jvm.Cond.methodLink "CountyGazetteerLaw" (165 : Nat) ({ cls := "CountyGazetteerModel", name := "county", desc := "(II)I" } : Jvm.MethodName)) ∈ lw_all := lw_g (lw_at lw_m17 95 rfl) rfl
theorem q4160 : (Jvm.Cond.methodLink "CountyGazetteerLaw" (168 : Nat) ({ cls := "CountyGazetteerModel", name := "reform", desc := "(II)I" } : Jvm.MethodName)) ∈ lw_all := lw_g (lw_at lw_m17 144 rfl) rfl
theorem q4172 : (Jvm.Cond.methodLink "CountyGazetteerLaw" (172 : Nat) ({ cls := "CountyGazetteerModel", name := "ownerOf", desc := "(III)I" } : Jvm.MethodName)) ∈ lw_all := lw_g (lw_at lw_m17 156 rfl) rfl
theorem q4179 : (Jvm.Cond.methodLink "CountyGazetteerLaw" (175 : Nat) ({ cls := "CountyGazetteerModel", name := "countyIn", desc := "(II)I" } : Jvm.MethodName)) ∈ lw_all := lw_g (lw_at lw_m17 163 rfl) rfl
theorem q4187 : (Jvm.Cond.methodLink "CountyGazetteerLaw" (178 : Nat) ({ cls := "CountyGazetteerModel", name := "nameLength", desc := "(II)I" } : Jvm.MethodName)) ∈ lw_all := lw_g (lw_at lw_m17 171 rfl) rfl
theorem q4194 : (Jvm.Cond.methodLink "CountyGazetteerLaw" (181 : Nat) ({ cls := "CountyGazetteerModel", name := "nameLetter", desc := "(III)I" } : Jvm.MethodName)) ∈ lw_all := lw_g (lw_at lw_m17 178 rfl) rfl
theorem q4201 : (Jvm.Cond.methodLink "CountyGazetteerLaw" (184 : Nat) ({ cls := "CountyGazetteerModel", name := "movesOf", desc := "(I)I" } : Jvm.MethodName)) ∈ lw_all := lw_g (lw_at lw_m17 185 rfl) rfl
theorem q4214 : (Jvm.Cond.methodLink "CountyGazetteerLaw" (187 : Nat) ({ cls := "CountyGazetteerModel", name := "lastMove", desc := "(I)I" } : Jvm.MethodName)) ∈ lw_all := lw_g (lw_at lw_m17 198 rfl) rfl
theorem q4218 : (Jvm.Cond.methodLink "CountyGazetteerLaw" (190 : Nat) ({ cls := "CountyGazetteerModel", name := "villagesIn", desc := "(II)I" } : Jvm.MethodName)) ∈ lw_all := lw_g (lw_at lw_m17 202 rfl) rfl
theorem q4222 : (Jvm.Cond.methodLink "CountyGazetteerLaw" (193 : Nat) ({ cls := "CountyGazetteerModel", name := "movedBetween", desc := "(II)I" } : Jvm.MethodName)) ∈ lw_all := lw_g (lw_at lw_m17 206 rfl) rfl
theorem q4226 : (Jvm.Cond.methodLink "CountyGazetteerLaw" (196 : Nat) ({ cls := "CountyGazetteerModel", name := "nextMove", desc := "(I)I" } : Jvm.MethodName)) ∈ lw_all := lw_g (lw_at lw_m17 210 rfl) rfl
theorem q4230 : (Jvm.Cond.methodLink "CountyGazetteerLaw" (200 : Nat) ({ cls := "CountyGazetteerModel", name := "named", desc := "()I" } : Jvm.MethodName)) ∈ lw_all := lw_g (lw_at lw_m17 214 rfl) rfl
theorem q4238 : (Jvm.Cond.methodLink "CountyGazetteerLaw" (204 : Nat) ({ cls := "CountyGazetteerModel", name := "everNamed", desc := "()I" } : Jvm.MethodName)) ∈ lw_all := lw_g (lw_at lw_m17 222 rfl) rfl
theorem q4246 : (Jvm.Cond.methodLink "CountyGazetteerLaw" (208 : Nat) ({ cls := "CountyGazetteerModel", name := "countyNamed", desc := "()I" } : Jvm.MethodName)) ∈ lw_all := lw_g (lw_at lw_m17 230 rfl) rfl
theorem q4250 : (Jvm.Cond.methodLink "CountyGazetteerLaw" (211 : Nat) ({ cls := "CountyGazetteerModel", name := "entry", desc := "(III)I" } : Jvm.MethodName)) ∈ lw_all := lw_g (lw_at lw_m17 234 rfl) rfl
theorem q4258 : (Jvm.Cond.methodLink "CountyGazetteerLaw" (214 : Nat) ({ cls := "CountyGazetteerModel", name := "entryLetter", desc := "(III)I" } : Jvm.MethodName)) ∈ lw_all := lw_g (lw_at lw_m18 2 rfl) rfl
theorem q4262 : (Jvm.Cond.methodLink "CountyGazetteerLaw" (217 : Nat) ({ cls := "CountyGazetteerModel", name := "block", desc := "(I)I" } : Jvm.MethodName)) ∈ lw_all := lw_g (lw_at lw_m18 6 rfl) rfl
theorem q4266 : (Jvm.Cond.methodLink "CountyGazetteerLaw" (220 : Nat) ({ cls := "CountyGazetteerModel", name := "used", desc := "(I)I" } : Jvm.MethodName)) ∈ lw_all := lw_g (lw_at lw_m18 10 rfl) rfl
theorem q4274 : (Jvm.Cond.methodLink "CountyGazetteerLaw" (223 : Nat) ({ cls := "CountyGazetteerModel", name := "line", desc := "(III)I" } : Jvm.MethodName)) ∈ lw_all := lw_g (lw_at lw_m18 18 rfl) rfl
theorem q4278 : (Jvm.Cond.methodLink "CountyGazetteerLaw" (227 : Nat) ({ cls := "CountyGazetteerModel", name := "waste", desc := "()I" } : Jvm.MethodName)) ∈ lw_all := lw_g (lw_at lw_m18 22 rfl) rfl
theorem q4282 : (Jvm.Cond.methodLink "CountyGazetteerLaw" (230 : Nat) ({ cls := "CountyGazetteerModel", name := "linesFor", desc := "(I)I" } : Jvm.MethodName)) ∈ lw_all := lw_g (lw_at lw_m18 26 rfl) rfl
theorem q4289 : (Jvm.Cond.methodLink "CountyGazetteerLaw" (233 : Nat) ({ cls := "CountyGazetteerModel", name := "volumes", desc := "(I)I" } : Jvm.MethodName)) ∈ lw_all := lw_g (lw_at lw_m18 33 rfl) rfl
theorem q4316 : (Jvm.Cond.methodLink "CountyGazetteerLaw" (236 : Nat) ({ cls := "CountyGazetteerModel", name := "volume", desc := "(III)I" } : Jvm.MethodName)) ∈ lw_all := lw_g (lw_at lw_m18 60 rfl) rfl
theorem q4332 : (Jvm.Cond.methodLink "CountyGazetteerLaw" (239 : Nat) ({ cls := "CountyGazetteerModel", name := "movedIf", desc := "(I)I" } : Jvm.MethodName)) ∈ lw_all := lw_g (lw_at lw_m18 76 rfl) rfl
theorem q4340 : (Jvm.Cond.methodLink "CountyGazetteerLaw" (242 : Nat) ({ cls := "CountyGazetteerModel", name := "pagesIf", desc := "(I)I" } : Jvm.MethodName)) ∈ lw_all := lw_g (lw_at lw_m18 84 rfl) rfl
theorem q4344 : (Jvm.Cond.methodLink "CountyGazetteerLaw" (246 : Nat) ({ cls := "CountyGazetteerModel", name := "fullest", desc := "()I" } : Jvm.MethodName)) ∈ lw_all := lw_g (lw_at lw_m18 88 rfl) rfl
theorem q4348 : (Jvm.Cond.methodLink "CountyGazetteerLaw" (251 : Nat) ({ cls := "CountyGazetteerModel", name := "meanVillages", desc := "()D" } : Jvm.MethodName)) ∈ lw_all := lw_g (lw_at lw_m18 92 rfl) rfl
theorem q4352 : (Jvm.Cond.methodLink "CountyGazetteerLaw" (256 : Nat) ({ cls := "CountyGazetteerModel", name := "seeShare", desc := "()F" } : Jvm.MethodName)) ∈ lw_all := lw_g (lw_at lw_m18 96 rfl) rfl
theorem q4356 : (Jvm.Cond.methodLink "CountyGazetteerLaw" (259 : Nat) ({ cls := "CountyGazetteerModel", name := "publish", desc := "(I)I" } : Jvm.MethodName)) ∈ lw_all := lw_g (lw_at lw_m18 100 rfl) rfl
theorem q4364 : (Jvm.Cond.methodLink "CountyGazetteerLaw" (263 : Nat) ({ cls := "CountyGazetteerModel", name := "redraw", desc := "(IIIIII)I" } : Jvm.MethodName)) ∈ lw_all := lw_g (lw_at lw_m18 108 rfl) rfl
theorem q4376 : (Jvm.Cond.methodLink "CountyGazetteerLaw" (266 : Nat) ({ cls := "CountyGazetteerModel", name := "join", desc := "(III)I" } : Jvm.MethodName)) ∈ lw_all := lw_g (lw_at lw_m18 120 rfl) rfl
theorem q4380 : (Jvm.Cond.methodLink "CountyGazetteerLaw" (269 : Nat) ({ cls := "CountyGazetteerModel", name := "dropReform", desc := "(I)I" } : Jvm.MethodName)) ∈ lw_all := lw_g (lw_at lw_m18 124 rfl) rfl
theorem q4384 : (Jvm.Cond.methodLink "CountyGazetteerLaw" (272 : Nat) ({ cls := "CountyGazetteerModel", name := "rename", desc := "(II)I" } : Jvm.MethodName)) ∈ lw_all := lw_g (lw_at lw_m18 128 rfl) rfl
theorem q4388 : (Jvm.Cond.methodLink "CountyGazetteerLaw" (275 : Nat) ({ cls := "CountyGazetteerModel", name := "setGone", desc := "(II)I" } : Jvm.MethodName)) ∈ lw_all := lw_g (lw_at lw_m18 132 rfl) rfl
theorem q4392 : (Jvm.Cond.methodLink "CountyGazetteerLaw" (278 : Nat) ({ cls := "CountyGazetteerModel", name := "setLines", desc := "(I)I" } : Jvm.MethodName)) ∈ lw_all := lw_g (lw_at lw_m18 136 rfl) rfl
theorem q4396 : (Jvm.Cond.methodLink "CountyGazetteerLaw" (283 : Nat) ({ cls := "CountyGazetteerModel", name := "setFresh", desc := "(Z)Z" } : Jvm.MethodName)) ∈ lw_all := lw_g (lw_at lw_m18 140 rfl) rfl
theorem q4400 : (Jvm.Cond.methodLink "CountyGazetteerLaw" (287 : Nat) ({ cls := "CountyGazetteerModel", name := "undo", desc := "()I" } : Jvm.MethodName)) ∈ lw_all := lw_g (lw_at lw_m18 144 rfl) rfl
theorem q4404 : (Jvm.Cond.methodLink "CountyGazetteerLaw" (290 : Nat) ({ cls := "CountyGazetteerModel", name := "printPage", desc := "(I)I" } : Jvm.MethodName)) ∈ lw_all := lw_g (lw_at lw_m18 148 rfl) rfl
theorem q4434 : (Jvm.Cond.methodLink "CountyGazetteerLaw" (293 : Nat) ({ cls := "CountyGazetteerModel", name := "printRow", desc := "(II)I" } : Jvm.MethodName)) ∈ lw_all := lw_g (lw_at lw_m18 178 rfl) rfl
theorem q4438 : (Jvm.Cond.methodLink "CountyGazetteerLaw" (297 : Nat) ({ cls := "CountyGazetteerModel", name := "outputByte", desc := "(I)I" } : Jvm.MethodName)) ∈ lw_all := lw_g (lw_at lw_m18 182 rfl) rfl
theorem q4442 : (Jvm.Cond.methodLink "CountyGazetteerLaw" (301 : Nat) ({ cls := "CountyGazetteerModel", name := "saveState", desc := "()I" } : Jvm.MethodName)) ∈ lw_all := lw_g (lw_at lw_m18 186 rfl) rfl
theorem q4446 : (Jvm.Cond.methodLink "CountyGazetteerLaw" (304 : Nat) ({ cls := "CountyGazetteerModel", name := "restoreState", desc := "()I" } : Jvm.MethodName)) ∈ lw_all := lw_g (lw_at lw_m18 190 rfl) rfl
