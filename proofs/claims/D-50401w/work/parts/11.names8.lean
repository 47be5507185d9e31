/-! java/util/LinkedList$ListItr -/
set_option maxRecDepth 100000
def RJ31 : String := "java/util/LinkedList$ListItr"
def TJ31 : u_T := fun k => match k with
  | 0 => ("java/util/LinkedList$ListItr", "lastReturned", "Ljava/util/LinkedList$Node;", false)
  | 1 => ("java/util/LinkedList$ListItr", "next", "Ljava/util/LinkedList$Node;", false)
  | 2 => ("java/util/LinkedList$ListItr", "nextIndex", "I", false)
  | 3 => ("java/util/LinkedList$ListItr", "expectedModCount", "I", false)
  | _ => ("java/util/LinkedList$ListItr", "this$0", "Ljava/util/LinkedList;", true)
def tyJ31 : Nat → FieldType := fun k => match k with
  | 0 => .object "java/util/LinkedList$Node"
  | 1 => .object "java/util/LinkedList$Node"
  | 2 => .int
  | 3 => .int
  | _ => .object "java/util/LinkedList"
abbrev wsJ310 : List Cond := u_ws RJ31 TJ31 5
theorem nmJ31 : ∀ a, a < 5 → ∀ b, b < 5 → a ≠ b → (TJ31 a).2.1 ≠ (TJ31 b).2.1 := by decide +kernel
theorem tyJ31_ok : ∀ k, k < 5 → parseFieldDescriptor (TJ31 k).2.2.1 = some (tyJ31 k) := by decide +kernel
abbrev cJ31_hasNext : ByteArray := prog_68_method_2_code
def yJ31_hasNext : MethodName := ⟨RJ31, "hasNext", "()Z"⟩
def dkwJ31_hasNext_0 : List UInt8 := [42, 180, 0, 33, 42, 180, 0, 1, 180, 0, 22, 162, 0, 7, 4, 167, 0, 4, 3, 172]
abbrev dktJ31_hasNext_0 : List UInt8 := dkwJ31_hasNext_0 ++ []
theorem dksJ31_hasNext_0 : cJ31_hasNext.data.toList.drop 0 = dktJ31_hasNext_0 := by decide +kernel
theorem dJ31_hasNext_0 : decode cJ31_hasNext 0 = .ok (.aload_n 0, 1) := dk_42 (dk_at dksJ31_hasNext_0 0 rfl rfl)
theorem dJ31_hasNext_1 : decode cJ31_hasNext 1 = .ok (.getfield 33, 3) := dk_180 0 33 (dk_at dksJ31_hasNext_0 1 rfl rfl)
theorem dJ31_hasNext_4 : decode cJ31_hasNext 4 = .ok (.aload_n 0, 1) := dk_42 (dk_at dksJ31_hasNext_0 4 rfl rfl)
theorem dJ31_hasNext_5 : decode cJ31_hasNext 5 = .ok (.getfield 1, 3) := dk_180 0 1 (dk_at dksJ31_hasNext_0 5 rfl rfl)
theorem dJ31_hasNext_8 : decode cJ31_hasNext 8 = .ok (.getfield 22, 3) := dk_180 0 22 (dk_at dksJ31_hasNext_0 8 rfl rfl)
theorem dJ31_hasNext_11 : decode cJ31_hasNext 11 = .ok (.if_icmp .ge 7, 3) := dk_162 0 7 (dk_at dksJ31_hasNext_0 11 rfl rfl)
theorem dJ31_hasNext_14 : decode cJ31_hasNext 14 = .ok (.iconst 1, 1) := dk_4 (dk_at dksJ31_hasNext_0 14 rfl rfl)
theorem dJ31_hasNext_15 : decode cJ31_hasNext 15 = .ok (.goto 4, 3) := dk_167 0 4 (dk_at dksJ31_hasNext_0 15 rfl rfl)
theorem dJ31_hasNext_18 : decode cJ31_hasNext 18 = .ok (.iconst 0, 1) := dk_3 (dk_at dksJ31_hasNext_0 18 rfl rfl)
theorem dJ31_hasNext_19 : decode cJ31_hasNext 19 = .ok (.ireturn, 1) := dk_172 (dk_at dksJ31_hasNext_0 19 rfl rfl)
abbrev cJ31_next : ByteArray := prog_68_method_3_code
def yJ31_next : MethodName := ⟨RJ31, "next", "()Ljava/lang/Object;"⟩
def dkwJ31_next_2 : List UInt8 := [42, 180, 0, 46, 180, 0, 52, 176]
abbrev dktJ31_next_2 : List UInt8 := dkwJ31_next_2 ++ []
def dkwJ31_next_1 : List UInt8 := [181, 0, 46, 42, 42, 180, 0, 29, 180, 0, 49, 181, 0, 29, 42, 89, 180, 0, 33, 4, 96, 181, 0, 33]
abbrev dktJ31_next_1 : List UInt8 := dkwJ31_next_1 ++ dktJ31_next_2
def dkwJ31_next_0 : List UInt8 := [42, 182, 0, 36, 42, 182, 0, 39, 154, 0, 11, 187, 0, 43, 89, 183, 0, 45, 191, 42, 42, 180, 0, 29]
abbrev dktJ31_next_0 : List UInt8 := dkwJ31_next_0 ++ dktJ31_next_1
theorem dksJ31_next_0 : cJ31_next.data.toList.drop 0 = dktJ31_next_0 := by decide +kernel
theorem dksJ31_next_1 : cJ31_next.data.toList.drop 24 = dktJ31_next_1 := dk_seg dksJ31_next_0 24 rfl rfl
theorem dksJ31_next_2 : cJ31_next.data.toList.drop 48 = dktJ31_next_2 := dk_seg dksJ31_next_1 24 rfl rfl
theorem dJ31_next_0 : decode cJ31_next 0 = .ok (.aload_n 0, 1) := dk_42 (dk_at dksJ31_next_0 0 rfl rfl)
theorem dJ31_next_1 : decode cJ31_next 1 = .ok (.invokevirtual 36, 3) := dk_182 0 36 (dk_at dksJ31_next_0 1 rfl rfl)
theorem dJ31_next_4 : decode cJ31_next 4 = .ok (.aload_n 0, 1) := dk_42 (dk_at dksJ31_next_0 4 rfl rfl)
theorem dJ31_next_5 : decode cJ31_next 5 = .ok (.invokevirtual 39, 3) := dk_182 0 39 (dk_at dksJ31_next_0 5 rfl rfl)
theorem dJ31_next_8 : decode cJ31_next 8 = .ok (.ifCond .ne 11, 3) := dk_154 0 11 (dk_at dksJ31_next_0 8 rfl rfl)
theorem dJ31_next_11 : decode cJ31_next 11 = .ok (.new 43, 3) := dk_187 0 43 (dk_at dksJ31_next_0 11 rfl rfl)
theorem dJ31_next_14 : decode cJ31_next 14 = .ok (.dup, 1) := dk_89 (dk_at dksJ31_next_0 14 rfl rfl)
theorem dJ31_next_15 : decode cJ31_next 15 = .ok (.invokespecial 45, 3) := dk_183 0 45 (dk_at dksJ31_next_0 15 rfl rfl)
theorem dJ31_next_18 : decode cJ31_next 18 = .ok (.athrow, 1) := dk_191 (dk_at dksJ31_next_0 18 rfl rfl)
theorem dJ31_next_19 : decode cJ31_next 19 = .ok (.aload_n 0, 1) := dk_42 (dk_at dksJ31_next_0 19 rfl rfl)
theorem dJ31_next_20 : decode cJ31_next 20 = .ok (.aload_n 0, 1) := dk_42 (dk_at dksJ31_next_0 20 rfl rfl)
theorem dJ31_next_21 : decode cJ31_next 21 = .ok (.getfield 29, 3) := dk_180 0 29 (dk_at dksJ31_next_0 21 rfl rfl)
theorem dJ31_next_24 : decode cJ31_next 24 = .ok (.putfield 46, 3) := dk_181 0 46 (dk_at dksJ31_next_1 0 rfl rfl)
theorem dJ31_next_27 : decode cJ31_next 27 = .ok (.aload_n 0, 1) := dk_42 (dk_at dksJ31_next_1 3 rfl rfl)
theorem dJ31_next_28 : decode cJ31_next 28 = .ok (.aload_n 0, 1) := dk_42 (dk_at dksJ31_next_1 4 rfl rfl)
theorem dJ31_next_29 : decode cJ31_next 29 = .ok (.getfield 29, 3) := dk_180 0 29 (dk_at dksJ31_next_1 5 rfl rfl)
theorem dJ31_next_32 : decode cJ31_next 32 = .ok (.getfield 49, 3) := dk_180 0 49 (dk_at dksJ31_next_1 8 rfl rfl)
theorem dJ31_next_35 : decode cJ31_next 35 = .ok (.putfield 29, 3) := dk_181 0 29 (dk_at dksJ31_next_1 11 rfl rfl)
theorem dJ31_next_38 : decode cJ31_next 38 = .ok (.aload_n 0, 1) := dk_42 (dk_at dksJ31_next_1 14 rfl rfl)
theorem dJ31_next_39 : decode cJ31_next 39 = .ok (.dup, 1) := dk_89 (dk_at dksJ31_next_1 15 rfl rfl)
theorem dJ31_next_40 : decode cJ31_next 40 = .ok (.getfield 33, 3) := dk_180 0 33 (dk_at dksJ31_next_1 16 rfl rfl)
theorem dJ31_next_43 : decode cJ31_next 43 = .ok (.iconst 1, 1) := dk_4 (dk_at dksJ31_next_1 19 rfl rfl)
theorem dJ31_next_44 : decode cJ31_next 44 = .ok (.iadd, 1) := dk_96 (dk_at dksJ31_next_1 20 rfl rfl)
theorem dJ31_next_45 : decode cJ31_next 45 = .ok (.putfield 33, 3) := dk_181 0 33 (dk_at dksJ31_next_1 21 rfl rfl)
theorem dJ31_next_48 : decode cJ31_next 48 = .ok (.aload_n 0, 1) := dk_42 (dk_at dksJ31_next_2 0 rfl rfl)
theorem dJ31_next_49 : decode cJ31_next 49 = .ok (.getfield 46, 3) := dk_180 0 46 (dk_at dksJ31_next_2 1 rfl rfl)
theorem dJ31_next_52 : decode cJ31_next 52 = .ok (.getfield 52, 3) := dk_180 0 52 (dk_at dksJ31_next_2 4 rfl rfl)
theorem dJ31_next_55 : decode cJ31_next 55 = .ok (.areturn, 1) := dk_176 (dk_at dksJ31_next_2 7 rfl rfl)
abbrev cJ31_checkForComodification : ByteArray := prog_68_method_12_code
def yJ31_checkForComodification : MethodName := ⟨RJ31, "checkForComodification", "()V"⟩
def dkwJ31_checkForComodification_0 : List UInt8 := [42, 180, 0, 1, 180, 0, 13, 42, 180, 0, 19, 159, 0, 11, 187, 0, 91, 89, 183, 0, 93, 191, 177]
abbrev dktJ31_checkForComodification_0 : List UInt8 := dkwJ31_checkForComodification_0 ++ []
theorem dksJ31_checkForComodification_0 : cJ31_checkForComodification.data.toList.drop 0 = dktJ31_checkForComodification_0 := by decide +kernel
theorem dJ31_checkForComodification_0 : decode cJ31_checkForComodification 0 = .ok (.aload_n 0, 1) := dk_42 (dk_at dksJ31_checkForComodification_0 0 rfl rfl)
theorem dJ31_checkForComodification_1 : decode cJ31_checkForComodification 1 = .ok (.getfield 1, 3) := dk_180 0 1 (dk_at dksJ31_checkForComodification_0 1 rfl rfl)
theorem dJ31_checkForComodification_4 : decode cJ31_checkForComodification 4 = .ok (.getfield 13, 3) := dk_180 0 13 (dk_at dksJ31_checkForComodification_0 4 rfl rfl)
theorem dJ31_checkForComodification_7 : decode cJ31_checkForComodification 7 = .ok (.aload_n 0, 1) := dk_42 (dk_at dksJ31_checkForComodification_0 7 rfl rfl)
theorem dJ31_checkForComodification_8 : decode cJ31_checkForComodification 8 = .ok (.getfield 19, 3) := dk_180 0 19 (dk_at dksJ31_checkForComodification_0 8 rfl rfl)
theorem dJ31_checkForComodification_11 : decode cJ31_checkForComodification 11 = .ok (.if_icmp .eq 11, 3) := dk_159 0 11 (dk_at dksJ31_checkForComodification_0 11 rfl rfl)
theorem dJ31_checkForComodification_14 : decode cJ31_checkForComodification 14 = .ok (.new 91, 3) := dk_187 0 91 (dk_at dksJ31_checkForComodification_0 14 rfl rfl)
theorem dJ31_checkForComodification_17 : decode cJ31_checkForComodification 17 = .ok (.dup, 1) := dk_89 (dk_at dksJ31_checkForComodification_0 17 rfl rfl)
theorem dJ31_checkForComodification_18 : decode cJ31_checkForComodification 18 = .ok (.invokespecial 93, 3) := dk_183 0 93 (dk_at dksJ31_checkForComodification_0 18 rfl rfl)
theorem dJ31_checkForComodification_21 : decode cJ31_checkForComodification 21 = .ok (.athrow, 1) := dk_191 (dk_at dksJ31_checkForComodification_0 21 rfl rfl)
theorem dJ31_checkForComodification_22 : decode cJ31_checkForComodification 22 = .ok (.return_, 1) := dk_177 (dk_at dksJ31_checkForComodification_0 22 rfl rfl)
abbrev cJ31_init : ByteArray := prog_68_method_1_code
def yJ31_init : MethodName := ⟨RJ31, "<init>", "(Ljava/util/LinkedList;I)V"⟩
def dkwJ31_init_1 : List UInt8 := [180, 0, 22, 160, 0, 7, 1, 167, 0, 8, 43, 28, 182, 0, 25, 181, 0, 29, 42, 28, 181, 0, 33, 177]
abbrev dktJ31_init_1 : List UInt8 := dkwJ31_init_1 ++ []
def dkwJ31_init_0 : List UInt8 := [42, 43, 181, 0, 1, 42, 183, 0, 7, 42, 42, 180, 0, 1, 180, 0, 13, 181, 0, 19, 42, 28, 43]
abbrev dktJ31_init_0 : List UInt8 := dkwJ31_init_0 ++ dktJ31_init_1
theorem dksJ31_init_0 : cJ31_init.data.toList.drop 0 = dktJ31_init_0 := by decide +kernel
theorem dksJ31_init_1 : cJ31_init.data.toList.drop 23 = dktJ31_init_1 := dk_seg dksJ31_init_0 23 rfl rfl
theorem dJ31_init_0 : decode cJ31_init 0 = .ok (.aload_n 0, 1) := dk_42 (dk_at dksJ31_init_0 0 rfl rfl)
theorem dJ31_init_1 : decode cJ31_init 1 = .ok (.aload_n 1, 1) := dk_43 (dk_at dksJ31_init_0 1 rfl rfl)
theorem dJ31_init_2 : decode cJ31_init 2 = .ok (.putfield 1, 3) := dk_181 0 1 (dk_at dksJ31_init_0 2 rfl rfl)
theorem dJ31_init_5 : decode cJ31_init 5 = .ok (.aload_n 0, 1) := dk_42 (dk_at dksJ31_init_0 5 rfl rfl)
theorem dJ31_init_6 : decode cJ31_init 6 = .ok (.invokespecial 7, 3) := dk_183 0 7 (dk_at dksJ31_init_0 6 rfl rfl)
theorem dJ31_init_9 : decode cJ31_init 9 = .ok (.aload_n 0, 1) := dk_42 (dk_at dksJ31_init_0 9 rfl rfl)
theorem dJ31_init_10 : decode cJ31_init 10 = .ok (.aload_n 0, 1) := dk_42 (dk_at dksJ31_init_0 10 rfl rfl)
theorem dJ31_init_11 : decode cJ31_init 11 = .ok (.getfield 1, 3) := dk_180 0 1 (dk_at dksJ31_init_0 11 rfl rfl)
theorem dJ31_init_14 : decode cJ31_init 14 = .ok (.getfield 13, 3) := dk_180 0 13 (dk_at dksJ31_init_0 14 rfl rfl)
theorem dJ31_init_17 : decode cJ31_init 17 = .ok (.putfield 19, 3) := dk_181 0 19 (dk_at dksJ31_init_0 17 rfl rfl)
theorem dJ31_init_20 : decode cJ31_init 20 = .ok (.aload_n 0, 1) := dk_42 (dk_at dksJ31_init_0 20 rfl rfl)
theorem dJ31_init_21 : decode cJ31_init 21 = .ok (.iload_n 2, 1) := dk_28 (dk_at dksJ31_init_0 21 rfl rfl)
theorem dJ31_init_22 : decode cJ31_init 22 = .ok (.aload_n 1, 1) := dk_43 (dk_at dksJ31_init_0 22 rfl rfl)
theorem dJ31_init_23 : decode cJ31_init 23 = .ok (.getfield 22, 3) := dk_180 0 22 (dk_at dksJ31_init_1 0 rfl rfl)
theorem dJ31_init_26 : decode cJ31_init 26 = .ok (.if_icmp .ne 7, 3) := dk_160 0 7 (dk_at dksJ31_init_1 3 rfl rfl)
theorem dJ31_init_29 : decode cJ31_init 29 = .ok (.aconst_null, 1) := dk_1 (dk_at dksJ31_init_1 6 rfl rfl)
theorem dJ31_init_30 : decode cJ31_init 30 = .ok (.goto 8, 3) := dk_167 0 8 (dk_at dksJ31_init_1 7 rfl rfl)
theorem dJ31_init_33 : decode cJ31_init 33 = .ok (.aload_n 1, 1) := dk_43 (dk_at dksJ31_init_1 10 rfl rfl)
theorem dJ31_init_34 : decode cJ31_init 34 = .ok (.iload_n 2, 1) := dk_28 (dk_at dksJ31_init_1 11 rfl rfl)
theorem dJ31_init_35 : decode cJ31_init 35 = .ok (.invokevirtual 25, 3) := dk_182 0 25 (dk_at dksJ31_init_1 12 rfl rfl)
theorem dJ31_init_38 : decode cJ31_init 38 = .ok (.putfield 29, 3) := dk_181 0 29 (dk_at dksJ31_init_1 15 rfl rfl)
theorem dJ31_init_41 : decode cJ31_init 41 = .ok (.aload_n 0, 1) := dk_42 (dk_at dksJ31_init_1 18 rfl rfl)
theorem dJ31_init_42 : decode cJ31_init 42 = .ok (.iload_n 2, 1) := dk_28 (dk_at dksJ31_init_1 19 rfl rfl)
theorem dJ31_init_43 : decode cJ31_init 43 = .ok (.putfield 33, 3) := dk_181 0 33 (dk_at dksJ31_init_1 20 rfl rfl)
theorem dJ31_init_46 : decode cJ31_init 46 = .ok (.return_, 1) := dk_177 (dk_at dksJ31_init_1 23 rfl rfl)
theorem q223 : (Jvm.Cond.initialized "java/util/LinkedList$ListItr") ∈ lw_all := lw_g (lw_at lw_m1 47 rfl) rfl
theorem q280 : (Jvm.Cond.fieldLink "java/util/LinkedList$ListItr" (13 : Nat) "java/util/LinkedList" "modCount" "I") ∈ lw_all := lw_g (lw_at lw_m1 104 rfl) rfl
theorem q432 : (Jvm.Cond.selects "java/util/LinkedList$ListItr" ({ cls := "java/lang/Object", name := "getClass", desc := "()Ljava/lang/Class;" } : Jvm.MethodName) ({ cls := "java/lang/Object", name := "getClass", desc := "()Ljava/lang/Class;" } : Jvm.MethodName)) ∈ lw_all := lw_g (lw_at lw_m2 16 rfl) rfl
theorem q476 : (Jvm.Cond.fieldLink "java/util/LinkedList$ListItr" (52 : Nat) "java/util/LinkedList$Node" "item" "Ljava/lang/Object;") ∈ lw_all := lw_g (lw_at lw_m2 60 rfl) rfl
theorem q479 : (Jvm.Cond.fieldLink "java/util/LinkedList$ListItr" (49 : Nat) "java/util/LinkedList$Node" "next" "Ljava/util/LinkedList$Node;") ∈ lw_all := lw_g (lw_at lw_m2 63 rfl) rfl
theorem q2058 : (Jvm.Cond.fieldLink "java/util/LinkedList$ListItr" (22 : Nat) "java/util/LinkedList" "size" "I") ∈ lw_all := lw_g (lw_at lw_m8 202 rfl) rfl
theorem q2199 : (Jvm.Cond.castable "java/util/LinkedList$ListItr" "java/util/Iterator") ∈ lw_tbl := lw_at lw_m9 103 rfl
theorem q2200 : (Jvm.Cond.selects "java/util/LinkedList$ListItr" ({ cls := "java/util/Iterator", name := "hasNext", desc := "()Z" } : Jvm.MethodName) ({ cls := "java/util/LinkedList$ListItr", name := "hasNext", desc := "()Z" } : Jvm.MethodName)) ∈ lw_all := lw_g (lw_at lw_m9 104 rfl) rfl
theorem q2201 : (Jvm.Cond.unhidden "java/util/LinkedList$ListItr" "hasNext" "()Z") ∈ lw_tbl := lw_at lw_m9 105 rfl
theorem q2202 : (Jvm.Cond.instanceMethod ({ cls := "java/util/LinkedList$ListItr", name := "hasNext", desc := "()Z" } : Jvm.MethodName)) ∈ lw_all := lw_g (lw_at lw_m9 106 rfl) rfl
theorem q2203 : (Jvm.Cond.publicMethod ({ cls := "java/util/LinkedList$ListItr", name := "hasNext", desc := "()Z" } : Jvm.MethodName)) ∈ lw_tbl := lw_at lw_m9 107 rfl
theorem q2204 : (Jvm.Cond.code ({ cls := "java/util/LinkedList$ListItr", name := "hasNext", desc := "()Z" } : Jvm.MethodName) prog_68_method_2_code (1 : Nat) (Option.some Jvm.ClassFile.FieldType.boolean)) ∈ lw_all := lw_g (lw_at lw_m9 108 rfl) rfl
theorem q2319 : (Jvm.Cond.selects "java/util/LinkedList$ListItr" ({ cls := "java/util/Iterator", name := "next", desc := "()Ljava/lang/Object;" } : Jvm.MethodName) ({ cls := "java/util/LinkedList$ListItr", name := "next", desc := "()Ljava/lang/Object;" } : Jvm.MethodName)) ∈ lw_all := lw_g (lw_at lw_m9 223 rfl) rfl
theorem q2320 : (Jvm.Cond.unhidden "java/util/LinkedList$ListItr" "next" "()Ljava/lang/Object;") ∈ lw_tbl := lw_at lw_m9 224 rfl
theorem q2321 : (Jvm.Cond.instanceMethod ({ cls := "java/util/LinkedList$ListItr", name := "next", desc := "()Ljava/lang/Object;" } : Jvm.MethodName)) ∈ lw_all := lw_g (lw_at lw_m9 225 rfl) rfl
theorem q2322 : (Jvm.Cond.publicMethod ({ cls := "java/util/LinkedList$ListItr", name := "next", desc := "()Ljava/lang/Object;" } : Jvm.MethodName)) ∈ lw_tbl := lw_at lw_m9 226 rfl
theorem q2323 : (Jvm.Cond.code ({ cls := "java/util/LinkedList$ListItr", name := "next", desc := "()Ljava/lang/Object;" } : Jvm.MethodName) prog_68_method_3_code (1 : Nat) (Option.some (Jvm.ClassFile.FieldType.object "java/lang/Object"))) ∈ lw_all := lw_g (lw_at lw_m9 227 rfl) rfl
theorem q2324 : (Jvm.Cond.methodLink "java/util/LinkedList$ListItr" (36 : Nat) ({ cls := "java/util/LinkedList$ListItr", name := "checkForComodification", desc := "()V" } : Jvm.MethodName)) ∈ lw_all := lw_g (lw_at lw_m9 228 rfl) rfl
theorem q2325 : (Jvm.Cond.instanceMethod ({ cls := "java/util/LinkedList$ListItr", name := "checkForComodification", desc := "()V" } : Jvm.MethodName)) ∈ lw_all := lw_g (lw_at lw_m9 229 rfl) rfl
theorem q2326 : (Jvm.Cond.selects "java/util/LinkedList$ListItr" ({ cls := "java/util/LinkedList$ListItr", name := "checkForComodification", desc := "()V" } : Jvm.MethodName) ({ cls := "java/util/LinkedList$ListItr", name := "checkForComodification", desc := "()V" } : Jvm.MethodName)) ∈ lw_all := lw_g (lw_at lw_m9 230 rfl) rfl
theorem q2327 : (Jvm.Cond.code ({ cls := "java/util/LinkedList$ListItr", name := "checkForComodification", desc := "()V" } : Jvm.MethodName) prog_68_method_12_code (1 : Nat) (Option.none : Option Jvm.ClassFile.FieldType)) ∈ lw_all := lw_g (lw_at lw_m9 231 rfl) rfl
theorem q2328 : (Jvm.Cond.methodLink "java/util/LinkedList$ListItr" (39 : Nat) ({ cls := "java/util/LinkedList$ListItr", name := "hasNext", desc := "()Z" } : Jvm.MethodName)) ∈ lw_all := lw_g (lw_at lw_m9 232 rfl) rfl
theorem q2329 : (Jvm.Cond.classLink "java/util/LinkedList$ListItr" (43 : Nat) "java/util/NoSuchElementException") ∈ lw_all := lw_g (lw_at lw_m9 233 rfl) rfl
theorem q2330 : (Jvm.Cond.methodLink "java/util/LinkedList$ListItr" (45 : Nat) ({ cls := "java/util/NoSuchElementException", name := "<init>", desc := "()V" } : Jvm.MethodName)) ∈ lw_all := lw_g (lw_at lw_m9 234 rfl) rfl
theorem q2435 : (Jvm.Cond.instantiable "java/util/LinkedList$ListItr" (5 : Nat)) ∈ lw_all := lw_g (lw_at lw_m10 99 rfl) rfl
theorem q2437 : (Jvm.Cond.instanceMethod ({ cls := "java/util/LinkedList$ListItr", name := "<init>", desc := "(Ljava/util/LinkedList;I)V" } : Jvm.MethodName)) ∈ lw_all := lw_g (lw_at lw_m10 101 rfl) rfl
theorem q2438 : (Jvm.Cond.code ({ cls := "java/util/LinkedList$ListItr", name := "<init>", desc := "(Ljava/util/LinkedList;I)V" } : Jvm.MethodName) prog_68_method_1_code (3 : Nat) (Option.none : Option Jvm.ClassFile.FieldType)) ∈ lw_all := lw_g (lw_at lw_m10 102 rfl) rfl
theorem q2439 : (Jvm.Cond.methodLink "java/util/LinkedList$ListItr" (7 : Nat) ({ cls := "java/lang/Object", name := "<init>", desc := "()V" } : Jvm.MethodName)) ∈ lw_all := lw_g (lw_at lw_m10 103 rfl) rfl
theorem q2440 : (Jvm.Cond.methodLink "java/util/LinkedList$ListItr" (25 : Nat) ({ cls := "java/util/LinkedList", name := "node", desc := "(I)Ljava/util/LinkedList$Node;" } : Jvm.MethodName)) ∈ lw_all := lw_g (lw_at lw_m10 104 rfl) rfl
theorem q2441 : (Jvm.Cond.fieldLink "java/util/LinkedList$ListItr" (46 : Nat) "java/util/LinkedList$ListItr" "lastReturned" "Ljava/util/LinkedList$Node;") ∈ lw_all := lw_g (lw_at lw_m10 105 rfl) rfl
theorem q2442 : (Jvm.Cond.fieldLink "java/util/LinkedList$ListItr" (29 : Nat) "java/util/LinkedList$ListItr" "next" "Ljava/util/LinkedList$Node;") ∈ lw_all := lw_g (lw_at lw_m10 106 rfl) rfl
theorem q2443 : (Jvm.Cond.fieldLink "java/util/LinkedList$ListItr" (33 : Nat) "java/util/LinkedList$ListItr" "nextIndex" "I") ∈ lw_all := lw_g (lw_at lw_m10 107 rfl) rfl
theorem q2444 : (Jvm.Cond.fieldLink "java/util/LinkedList$ListItr" (19 : Nat) "java/util/LinkedList$ListItr" "expectedModCount" "I") ∈ lw_all := lw_g (lw_at lw_m10 108 rfl) rfl
theorem q2445 : (Jvm.Cond.fieldLink "java/util/LinkedList$ListItr" (1 : Nat) "java/util/LinkedList$ListItr" "this$0" "Ljava/util/LinkedList;") ∈ lw_all := lw_g (lw_at lw_m10 109 rfl) rfl
theorem q2446 : (Jvm.Cond.lays "java/util/LinkedList$ListItr" "java/util/LinkedList$ListItr" "lastReturned" "Ljava/util/LinkedList$Node;") ∈ lw_all := lw_g (lw_at lw_m10 110 rfl) rfl
theorem q2447 : (Jvm.Cond.soleField "java/util/LinkedList$ListItr" "lastReturned") ∈ lw_all := lw_g (lw_at lw_m10 111 rfl) rfl
theorem q2448 : (Jvm.Cond.lays "java/util/LinkedList$ListItr" "java/util/LinkedList$ListItr" "next" "Ljava/util/LinkedList$Node;") ∈ lw_all := lw_g (lw_at lw_m10 112 rfl) rfl
theorem q2449 : (Jvm.Cond.soleField "java/util/LinkedList$ListItr" "next") ∈ lw_all := lw_g (lw_at lw_m10 113 rfl) rfl
theorem q2450 : (Jvm.Cond.lays "java/util/LinkedList$ListItr" "java/util/LinkedList$ListItr" "nextIndex" "I") ∈ lw_all := lw_g (lw_at lw_m10 114 rfl) rfl
theorem q2451 : (Jvm.Cond.soleField "java/util/LinkedList$ListItr" "nextIndex") ∈ lw_all := lw_g (lw_at lw_m10 115 rfl) rfl
theorem q2452 : (Jvm.Cond.lays "java/util/LinkedList$ListItr" "java/util/LinkedList$ListItr" "expectedModCount" "I") ∈ lw_all := lw_g (lw_at lw_m10 116 rfl) rfl
theorem q2453 : (Jvm.Cond.soleField "java/util/LinkedList$ListItr" "expectedModCount") ∈ lw_all := lw_g (lw_at lw_m10 117 rfl) rfl
theorem q2454 : (Jvm.Cond.laysFinal "java/util/LinkedList$ListItr" "java/util/LinkedList$ListItr" "this$0" "Ljava/util/LinkedList;") ∈ lw_all := lw_g (lw_at lw_m10 118 rfl) rfl
theorem q2455 : (Jvm.Cond.soleField "java/util/LinkedList$ListItr" "this$0") ∈ lw_all := lw_g (lw_at lw_m10 119 rfl) rfl
theorem q2456 : (Jvm.Cond.superclass "java/util/LinkedList$ListItr" "java/lang/Object") ∈ lw_all := lw_g (lw_at lw_m10 120 rfl) rfl
theorem q4462 : (Jvm.Cond.selects "java/util/LinkedList$ListItr" ({ cls := "java/util/LinkedList$ListItr", name := "hasNext", desc := "()Z" } : Jvm.MethodName) ({ cls := "java/util/LinkedList$ListItr", name := "hasNext", desc := "()Z" } : Jvm.MethodName)) ∈ lw_all := lw_g (lw_at lw_m18 206 rfl) rfl
theorem q4510 : (Jvm.Cond.castable "java/util/LinkedList$ListItr" "java/lang/Object") ∈ lw_tbl := lw_at lw_m19 14 rfl
theorem in_J31 : ∀ w ∈ wsJ310, w ∈ lw_all := lw_in wsJ310 [2446, 2448, 2450, 2452, 2454] (by decide +kernel) (by decide +kernel)

/-! java/util/NoSuchElementException -/
set_option maxRecDepth 100000
def RJ32 : String := "java/util/NoSuchElementException"
def TJ32 : u_T := fun k => match k with
  | 0 => ("java/lang/Throwable", "cause", "Ljava/lang/Throwable;", false)
  | 1 => ("java/lang/Throwable", "stackTrace", "[Ljava/lang/StackTraceElement;", false)
  | 2 => ("java/lang/Throwable", "suppressedExceptions", "Ljava/util/List;", false)
  | 3 => ("java/lang/Throwable", "detailMessage", "Ljava/lang/String;", false)
  | 4 => ("java/lang/Throwable", "backtrace", "Ljava/lang/Object;", false)
  | _ => ("java/lang/Throwable", "depth", "I", false)
def tyJ32 : Nat → FieldType := fun k => match k with
  | 0 => .object "java/lang/Throwable"
  | 1 => .array (.object "java/lang/StackTraceElement")
  | 2 => .object "java/util/List"
  | 3 => .object "java/lang/String"
  | 4 => .object "java/lang/Object"
  | _ => .int
abbrev wsJ320 : List Cond := u_ws RJ32 TJ32 6
theorem nmJ32 : ∀ a, a < 6 → ∀ b, b < 6 → a ≠ b → (TJ32 a).2.1 ≠ (TJ32 b).2.1 := by decide +kernel
theorem tyJ32_ok : ∀ k, k < 6 → parseFieldDescriptor (TJ32 k).2.2.1 = some (tyJ32 k) := by decide +kernel
abbrev cJ32_init : ByteArray := prog_76_method_3_code
def yJ32_init : MethodName := ⟨RJ32, "<init>", "(Ljava/lang/Throwable;)V"⟩
def dkwJ32_init_0 : List UInt8 := [42, 43, 183, 0, 10, 177]
abbrev dktJ32_init_0 : List UInt8 := dkwJ32_init_0 ++ []
theorem dksJ32_init_0 : cJ32_init.data.toList.drop 0 = dktJ32_init_0 := by decide +kernel
theorem dJ32_init_0 : decode cJ32_init 0 = .ok (.aload_n 0, 1) := dk_42 (dk_at dksJ32_init_0 0 rfl rfl)
theorem dJ32_init_1 : decode cJ32_init 1 = .ok (.aload_n 1, 1) := dk_43 (dk_at dksJ32_init_0 1 rfl rfl)
theorem dJ32_init_2 : decode cJ32_init 2 = .ok (.invokespecial 10, 3) := dk_183 0 10 (dk_at dksJ32_init_0 2 rfl rfl)
theorem dJ32_init_5 : decode cJ32_init 5 = .ok (.return_, 1) := dk_177 (dk_at dksJ32_init_0 5 rfl rfl)
abbrev cJ32_init_2 : ByteArray := prog_76_method_1_code
def yJ32_init_2 : MethodName := ⟨RJ32, "<init>", "()V"⟩
theorem dJ32_init_2_0 : decode cJ32_init_2 0 = .ok (.aload_n 0, 1) := by decide +kernel
theorem dJ32_init_2_1 : decode cJ32_init_2 1 = .ok (.invokespecial 1, 3) := by decide +kernel
theorem dJ32_init_2_4 : decode cJ32_init_2 4 = .ok (.return_, 1) := by decide +kernel
theorem q224 : (Jvm.Cond.initialized "java/util/NoSuchElementException") ∈ lw_all := lw_g (lw_at lw_m1 48 rfl) rfl
theorem q434 : (Jvm.Cond.selects "java/util/NoSuchElementException" ({ cls := "java/lang/Object", name := "getClass", desc := "()Ljava/lang/Class;" } : Jvm.MethodName) ({ cls := "java/lang/Object", name := "getClass", desc := "()Ljava/lang/Class;" } : Jvm.MethodName)) ∈ lw_all := lw_g (lw_at lw_m2 18 rfl) rfl
theorem q835 : (Jvm.Cond.selects "java/util/NoSuchElementException" ({ cls := "java/lang/Throwable", name := "fillInStackTrace", desc := "()Ljava/lang/Throwable;" } : Jvm.MethodName) ({ cls := "java/lang/Throwable", name := "fillInStackTrace", desc := "()Ljava/lang/Throwable;" } : Jvm.MethodName)) ∈ lw_all := lw_g (lw_at lw_m3 179 rfl) rfl
theorem q2234 : (Jvm.Cond.instantiable "java/util/NoSuchElementException" (6 : Nat)) ∈ lw_all := lw_g (lw_at lw_m9 138 rfl) rfl
theorem q2235 : (Jvm.Cond.castable "java/util/NoSuchElementException" "java/util/NoSuchElementException") ∈ lw_tbl := lw_at lw_m9 139 rfl
theorem q2236 : (Jvm.Cond.selects "java/util/NoSuchElementException" ({ cls := "java/lang/Throwable", name := "fillInStackTrace", desc := "(I)Ljava/lang/Throwable;" } : Jvm.MethodName) ({ cls := "java/lang/Throwable", name := "fillInStackTrace", desc := "(I)Ljava/lang/Throwable;" } : Jvm.MethodName)) ∈ lw_all := lw_g (lw_at lw_m9 140 rfl) rfl
theorem q2237 : (Jvm.Cond.lays "java/util/NoSuchElementException" "java/lang/Throwable" "cause" "Ljava/lang/Throwable;") ∈ lw_all := lw_g (lw_at lw_m9 141 rfl) rfl
theorem q2238 : (Jvm.Cond.lays "java/util/NoSuchElementException" "java/lang/Throwable" "stackTrace" "[Ljava/lang/StackTraceElement;") ∈ lw_all := lw_g (lw_at lw_m9 142 rfl) rfl
theorem q2239 : (Jvm.Cond.lays "java/util/NoSuchElementException" "java/lang/Throwable" "suppressedExceptions" "Ljava/util/List;") ∈ lw_all := lw_g (lw_at lw_m9 143 rfl) rfl
theorem q2240 : (Jvm.Cond.lays "java/util/NoSuchElementException" "java/lang/Throwable" "detailMessage" "Ljava/lang/String;") ∈ lw_all := lw_g (lw_at lw_m9 144 rfl) rfl
theorem q2241 : (Jvm.Cond.lays "java/util/NoSuchElementException" "java/lang/Throwable" "backtrace" "Ljava/lang/Object;") ∈ lw_all := lw_g (lw_at lw_m9 145 rfl) rfl
theorem q2243 : (Jvm.Cond.instanceMethod ({ cls := "java/util/NoSuchElementException", name := "<init>", desc := "(Ljava/lang/Throwable;)V" } : Jvm.MethodName)) ∈ lw_all := lw_g (lw_at lw_m9 147 rfl) rfl
theorem q2244 : (Jvm.Cond.code ({ cls := "java/util/NoSuchElementException", name := "<init>", desc := "(Ljava/lang/Throwable;)V" } : Jvm.MethodName) prog_76_method_3_code (2 : Nat) (Option.none : Option Jvm.ClassFile.FieldType)) ∈ lw_all := lw_g (lw_at lw_m9 148 rfl) rfl
theorem q2245 : (Jvm.Cond.methodLink "java/util/NoSuchElementException" (10 : Nat) ({ cls := "java/lang/RuntimeException", name := "<init>", desc := "(Ljava/lang/Throwable;)V" } : Jvm.MethodName)) ∈ lw_all := lw_g (lw_at lw_m9 149 rfl) rfl
theorem q2263 : (Jvm.Cond.selects "java/util/NoSuchElementException" ({ cls := "java/lang/Throwable", name := "toString", desc := "()Ljava/lang/String;" } : Jvm.MethodName) ({ cls := "java/lang/Throwable", name := "toString", desc := "()Ljava/lang/String;" } : Jvm.MethodName)) ∈ lw_all := lw_g (lw_at lw_m9 167 rfl) rfl
theorem q2275 : (Jvm.Cond.selects "java/util/NoSuchElementException" ({ cls := "java/lang/Throwable", name := "getLocalizedMessage", desc := "()Ljava/lang/String;" } : Jvm.MethodName) ({ cls := "java/lang/Throwable", name := "getLocalizedMessage", desc := "()Ljava/lang/String;" } : Jvm.MethodName)) ∈ lw_all := lw_g (lw_at lw_m9 179 rfl) rfl
theorem q2286 : (Jvm.Cond.selects "java/util/NoSuchElementException" ({ cls := "java/lang/Throwable", name := "getMessage", desc := "()Ljava/lang/String;" } : Jvm.MethodName) ({ cls := "java/lang/Throwable", name := "getMessage", desc := "()Ljava/lang/String;" } : Jvm.MethodName)) ∈ lw_all := lw_g (lw_at lw_m9 190 rfl) rfl
theorem q2293 : (Jvm.Cond.lays "java/util/NoSuchElementException" "java/lang/Throwable" "depth" "I") ∈ lw_all := lw_g (lw_at lw_m9 197 rfl) rfl
theorem q2294 : (Jvm.Cond.superclass "java/util/NoSuchElementException" "java/lang/RuntimeException") ∈ lw_all := lw_g (lw_at lw_m9 198 rfl) rfl
theorem q2308 : (Jvm.Cond.instanceMethod ({ cls := "java/util/NoSuchElementException", name := "<init>", desc := "()V" } : Jvm.MethodName)) ∈ lw_all := lw_g (lw_at lw_m9 212 rfl) rfl
theorem q2309 : (Jvm.Cond.code ({ cls := "java/util/NoSuchElementException", name := "<init>", desc := "()V" } : Jvm.MethodName) prog_76_method_1_code (1 : Nat) (Option.none : Option Jvm.ClassFile.FieldType)) ∈ lw_all := lw_g (lw_at lw_m9 213 rfl) rfl
theorem q2310 : (Jvm.Cond.methodLink "java/util/NoSuchElementException" (1 : Nat) ({ cls := "java/lang/RuntimeException", name := "<init>", desc := "()V" } : Jvm.MethodName)) ∈ lw_all := lw_g (lw_at lw_m9 214 rfl) rfl
theorem q4503 : (Jvm.Cond.castable "java/util/NoSuchElementException" "java/lang/Object") ∈ lw_tbl := lw_at lw_m19 7 rfl
theorem in_J32 : ∀ w ∈ wsJ320, w ∈ lw_all := lw_in wsJ320 [2237, 2238, 2239, 2240, 2241, 2293] (by decide +kernel) (by decide +kernel)

/-! java/util/AbstractSequentialList -/
set_option maxRecDepth 100000
def RJ33 : String := "java/util/AbstractSequentialList"
abbrev cJ33_init : ByteArray := prog_55_method_1_code
def yJ33_init : MethodName := ⟨RJ33, "<init>", "()V"⟩
theorem dJ33_init_0 : decode cJ33_init 0 = .ok (.aload_n 0, 1) := by decide +kernel
theorem dJ33_init_1 : decode cJ33_init 1 = .ok (.invokespecial 1, 3) := by decide +kernel
theorem dJ33_init_4 : decode cJ33_init 4 = .ok (.return_, 1) := by decide +kernel
abbrev cJ33_iterator : ByteArray := prog_55_method_7_code
def yJ33_iterator : MethodName := ⟨RJ33, "iterator", "()Ljava/util/Iterator;"⟩
theorem dJ33_iterator_0 : decode cJ33_iterator 0 = .ok (.aload_n 0, 1) := by decide +kernel
theorem dJ33_iterator_1 : decode cJ33_iterator 1 = .ok (.invokevirtual 65, 3) := by decide +kernel
theorem dJ33_iterator_4 : decode cJ33_iterator 4 = .ok (.areturn, 1) := by decide +kernel
theorem q225 : (Jvm.Cond.initialized "java/util/AbstractSequentialList") ∈ lw_all := lw_g (lw_at lw_m1 49 rfl) rfl
theorem q2054 : (Jvm.Cond.instanceMethod ({ cls := "java/util/AbstractSequentialList", name := "<init>", desc := "()V" } : Jvm.MethodName)) ∈ lw_all := lw_g (lw_at lw_m8 198 rfl) rfl
theorem q2055 : (Jvm.Cond.code ({ cls := "java/util/AbstractSequentialList", name := "<init>", desc := "()V" } : Jvm.MethodName) prog_55_method_1_code (1 : Nat) (Option.none : Option Jvm.ClassFile.FieldType)) ∈ lw_all := lw_g (lw_at lw_m8 199 rfl) rfl
theorem q2056 : (Jvm.Cond.methodLink "java/util/AbstractSequentialList" (1 : Nat) ({ cls := "java/util/AbstractList", name := "<init>", desc := "()V" } : Jvm.MethodName)) ∈ lw_all := lw_g (lw_at lw_m8 200 rfl) rfl
theorem q2363 : (Jvm.Cond.declares ({ cls := "java/util/AbstractSequentialList", name := "iterator", desc := "()Ljava/util/Iterator;" } : Jvm.MethodName)) ∈ lw_tbl := lw_at lw_m10 27 rfl
theorem q2365 : (Jvm.Cond.instanceMethod ({ cls := "java/util/AbstractSequentialList", name := "iterator", desc := "()Ljava/util/Iterator;" } : Jvm.MethodName)) ∈ lw_all := lw_g (lw_at lw_m10 29 rfl) rfl
theorem q2366 : (Jvm.Cond.code ({ cls := "java/util/AbstractSequentialList", name := "iterator", desc := "()Ljava/util/Iterator;" } : Jvm.MethodName) prog_55_method_7_code (1 : Nat) (Option.some (Jvm.ClassFile.FieldType.object "java/util/Iterator"))) ∈ lw_all := lw_g (lw_at lw_m10 30 rfl) rfl
theorem q2367 : (Jvm.Cond.methodLink "java/util/AbstractSequentialList" (65 : Nat) ({ cls := "java/util/AbstractSequentialList", name := "listIterator", desc := "()Ljava/util/ListIterator;" } : Jvm.MethodName)) ∈ lw_all := lw_g (lw_at lw_m10 31 rfl) rfl
theorem q2368 : (Jvm.Cond.sameMethod "java/util/AbstractSequentialList" "java/util/AbstractList" "listIterator" "()Ljava/util/ListIterator;") ∈ lw_all := lw_g (lw_at lw_m10 32 rfl) rfl
theorem q2557 : (Jvm.Cond.publicMethod ({ cls := "java/util/AbstractSequentialList", name := "iterator", desc := "()Ljava/util/Iterator;" } : Jvm.MethodName)) ∈ lw_tbl := lw_at lw_m10 221 rfl

/-! java/util/LinkedList -/
set_option maxRecDepth 100000
def RJ34 : String := "java/util/LinkedList"
def TJ34 : u_T := fun k => match k with
  | 0 => ("java/util/AbstractList", "modCount", "I", false)
  | 1 => ("java/util/LinkedList", "size", "I", false)
  | 2 => ("java/util/LinkedList", "first", "Ljava/util/LinkedList$Node;", false)
  | _ => ("java/util/LinkedList", "last", "Ljava/util/LinkedList$Node;", false)
def tyJ34 : Nat → FieldType := fun k => match k with
  | 0 => .int
  | 1 => .int
  | 2 => .object "java/util/LinkedList$Node"
  | _ => .object "java/util/LinkedList$Node"
abbrev wsJ340 : List Cond := u_ws RJ34 TJ34 4
theorem nmJ34 : ∀ a, a < 4 → ∀ b, b < 4 → a ≠ b → (TJ34 a).2.1 ≠ (TJ34 b).2.1 := by decide +kernel
theorem tyJ34_ok : ∀ k, k < 4 → parseFieldDescriptor (TJ34 k).2.2.1 = some (tyJ34 k) := by decide +kernel
abbrev cJ34_add : ByteArray := prog_67_method_17_code
def yJ34_add : MethodName := ⟨RJ34, "add", "(Ljava/lang/Object;)Z"⟩
def dkwJ34_add_0 : List UInt8 := [42, 43, 182, 0, 57, 4, 172]
abbrev dktJ34_add_0 : List UInt8 := dkwJ34_add_0 ++ []
theorem dksJ34_add_0 : cJ34_add.data.toList.drop 0 = dktJ34_add_0 := by decide +kernel
theorem dJ34_add_0 : decode cJ34_add 0 = .ok (.aload_n 0, 1) := dk_42 (dk_at dksJ34_add_0 0 rfl rfl)
theorem dJ34_add_1 : decode cJ34_add 1 = .ok (.aload_n 1, 1) := dk_43 (dk_at dksJ34_add_0 1 rfl rfl)
theorem dJ34_add_2 : decode cJ34_add 2 = .ok (.invokevirtual 57, 3) := dk_182 0 57 (dk_at dksJ34_add_0 2 rfl rfl)
theorem dJ34_add_5 : decode cJ34_add 5 = .ok (.iconst 1, 1) := dk_4 (dk_at dksJ34_add_0 5 rfl rfl)
theorem dJ34_add_6 : decode cJ34_add 6 = .ok (.ireturn, 1) := dk_172 (dk_at dksJ34_add_0 6 rfl rfl)
abbrev cJ34_linkLast : ByteArray := prog_67_method_4_code
def yJ34_linkLast : MethodName := ⟨RJ34, "linkLast", "(Ljava/lang/Object;)V"⟩
def dkwJ34_linkLast_2 : List UInt8 := [181, 0, 7, 42, 89, 180, 0, 33, 4, 96, 181, 0, 33, 177]
abbrev dktJ34_linkLast_2 : List UInt8 := dkwJ34_linkLast_2 ++ []
def dkwJ34_linkLast_1 : List UInt8 := [199, 0, 11, 42, 45, 181, 0, 18, 167, 0, 8, 44, 45, 181, 0, 36, 42, 89, 180, 0, 7, 4, 96]
abbrev dktJ34_linkLast_1 : List UInt8 := dkwJ34_linkLast_1 ++ dktJ34_linkLast_2
def dkwJ34_linkLast_0 : List UInt8 := [42, 180, 0, 27, 77, 187, 0, 22, 89, 44, 43, 1, 183, 0, 24, 78, 42, 45, 181, 0, 27, 44]
abbrev dktJ34_linkLast_0 : List UInt8 := dkwJ34_linkLast_0 ++ dktJ34_linkLast_1
theorem dksJ34_linkLast_0 : cJ34_linkLast.data.toList.drop 0 = dktJ34_linkLast_0 := by decide +kernel
theorem dksJ34_linkLast_1 : cJ34_linkLast.data.toList.drop 22 = dktJ34_linkLast_1 := dk_seg dksJ34_linkLast_0 22 rfl rfl
theorem dksJ34_linkLast_2 : cJ34_linkLast.data.toList.drop 45 = dktJ34_linkLast_2 := dk_seg dksJ34_linkLast_1 23 rfl rfl
theorem dJ34_linkLast_0 : decode cJ34_linkLast 0 = .ok (.aload_n 0, 1) := dk_42 (dk_at dksJ34_linkLast_0 0 rfl rfl)
theorem dJ34_linkLast_1 : decode cJ34_linkLast 1 = .ok (.getfield 27, 3) := dk_180 0 27 (dk_at dksJ34_linkLast_0 1 rfl rfl)
theorem dJ34_linkLast_4 : decode cJ34_linkLast 4 = .ok (.astore_n 2, 1) := dk_77 (dk_at dksJ34_linkLast_0 4 rfl rfl)
theorem dJ34_linkLast_5 : decode cJ34_linkLast 5 = .ok (.new 22, 3) := dk_187 0 22 (dk_at dksJ34_linkLast_0 5 rfl rfl)
theorem dJ34_linkLast_8 : decode cJ34_linkLast 8 = .ok (.dup, 1) := dk_89 (dk_at dksJ34_linkLast_0 8 rfl rfl)
theorem dJ34_linkLast_9 : decode cJ34_linkLast 9 = .ok (.aload_n 2, 1) := dk_44 (dk_at dksJ34_linkLast_0 9 rfl rfl)
theorem dJ34_linkLast_10 : decode cJ34_linkLast 10 = .ok (.aload_n 1, 1) := dk_43 (dk_at dksJ34_linkLast_0 10 rfl rfl)
theorem dJ34_linkLast_11 : decode cJ34_linkLast 11 = .ok (.aconst_null, 1) := dk_1 (dk_at dksJ34_linkLast_0 11 rfl rfl)
theorem dJ34_linkLast_12 : decode cJ34_linkLast 12 = .ok (.invokespecial 24, 3) := dk_183 0 24 (dk_at dksJ34_linkLast_0 12 rfl rfl)
theorem dJ34_linkLast_15 : decode cJ34_linkLast 15 = .ok (.astore_n 3, 1) := dk_78 (dk_at dksJ34_linkLast_0 15 rfl rfl)
theorem dJ34_linkLast_16 : decode cJ34_linkLast 16 = .ok (.aload_n 0, 1) := dk_42 (dk_at dksJ34_linkLast_0 16 rfl rfl)
theorem dJ34_linkLast_17 : decode cJ34_linkLast 17 = .ok (.aload_n 3, 1) := dk_45 (dk_at dksJ34_linkLast_0 17 rfl rfl)
theorem dJ34_linkLast_18 : decode cJ34_linkLast 18 = .ok (.putfield 27, 3) := dk_181 0 27 (dk_at dksJ34_linkLast_0 18 rfl rfl)
theorem dJ34_linkLast_21 : decode cJ34_linkLast 21 = .ok (.aload_n 2, 1) := dk_44 (dk_at dksJ34_linkLast_0 21 rfl rfl)
theorem dJ34_linkLast_22 : decode cJ34_linkLast 22 = .ok (.ifnonnull 11, 3) := dk_199 0 11 (dk_at dksJ34_linkLast_1 0 rfl rfl)
theorem dJ34_linkLast_25 : decode cJ34_linkLast 25 = .ok (.aload_n 0, 1) := dk_42 (dk_at dksJ34_linkLast_1 3 rfl rfl)
theorem dJ34_linkLast_26 : decode cJ34_linkLast 26 = .ok (.aload_n 3, 1) := dk_45 (dk_at dksJ34_linkLast_1 4 rfl rfl)
theorem dJ34_linkLast_27 : decode cJ34_linkLast 27 = .ok (.putfield 18, 3) := dk_181 0 18 (dk_at dksJ34_linkLast_1 5 rfl rfl)
theorem dJ34_linkLast_30 : decode cJ34_linkLast 30 = .ok (.goto 8, 3) := dk_167 0 8 (dk_at dksJ34_linkLast_1 8 rfl rfl)
theorem dJ34_linkLast_33 : decode cJ34_linkLast 33 = .ok (.aload_n 2, 1) := dk_44 (dk_at dksJ34_linkLast_1 11 rfl rfl)
theorem dJ34_linkLast_34 : decode cJ34_linkLast 34 = .ok (.aload_n 3, 1) := dk_45 (dk_at dksJ34_linkLast_1 12 rfl rfl)
theorem dJ34_linkLast_35 : decode cJ34_linkLast 35 = .ok (.putfield 36, 3) := dk_181 0 36 (dk_at dksJ34_linkLast_1 13 rfl rfl)
theorem dJ34_linkLast_38 : decode cJ34_linkLast 38 = .ok (.aload_n 0, 1) := dk_42 (dk_at dksJ34_linkLast_1 16 rfl rfl)
theorem dJ34_linkLast_39 : decode cJ34_linkLast 39 = .ok (.dup, 1) := dk_89 (dk_at dksJ34_linkLast_1 17 rfl rfl)
theorem dJ34_linkLast_40 : decode cJ34_linkLast 40 = .ok (.getfield 7, 3) := dk_180 0 7 (dk_at dksJ34_linkLast_1 18 rfl rfl)
theorem dJ34_linkLast_43 : decode cJ34_linkLast 43 = .ok (.iconst 1, 1) := dk_4 (dk_at dksJ34_linkLast_1 21 rfl rfl)
theorem dJ34_linkLast_44 : decode cJ34_linkLast 44 = .ok (.iadd, 1) := dk_96 (dk_at dksJ34_linkLast_1 22 rfl rfl)
theorem dJ34_linkLast_45 : decode cJ34_linkLast 45 = .ok (.putfield 7, 3) := dk_181 0 7 (dk_at dksJ34_linkLast_2 0 rfl rfl)
theorem dJ34_linkLast_48 : decode cJ34_linkLast 48 = .ok (.aload_n 0, 1) := dk_42 (dk_at dksJ34_linkLast_2 3 rfl rfl)
theorem dJ34_linkLast_49 : decode cJ34_linkLast 49 = .ok (.dup, 1) := dk_89 (dk_at dksJ34_linkLast_2 4 rfl rfl)
theorem dJ34_linkLast_50 : decode cJ34_linkLast 50 = .ok (.getfield 33, 3) := dk_180 0 33 (dk_at dksJ34_linkLast_2 5 rfl rfl)
theorem dJ34_linkLast_53 : decode cJ34_linkLast 53 = .ok (.iconst 1, 1) := dk_4 (dk_at dksJ34_linkLast_2 8 rfl rfl)
theorem dJ34_linkLast_54 : decode cJ34_linkLast 54 = .ok (.iadd, 1) := dk_96 (dk_at dksJ34_linkLast_2 9 rfl rfl)
theorem dJ34_linkLast_55 : decode cJ34_linkLast 55 = .ok (.putfield 33, 3) := dk_181 0 33 (dk_at dksJ34_linkLast_2 10 rfl rfl)
theorem dJ34_linkLast_58 : decode cJ34_linkLast 58 = .ok (.return_, 1) := dk_177 (dk_at dksJ34_linkLast_2 13 rfl rfl)
abbrev cJ34_size : ByteArray := prog_67_method_16_code
def yJ34_size : MethodName := ⟨RJ34, "size", "()I"⟩
theorem dJ34_size_0 : decode cJ34_size 0 = .ok (.aload_n 0, 1) := by decide +kernel
theorem dJ34_size_1 : decode cJ34_size 1 = .ok (.getfield 7, 3) := by decide +kernel
theorem dJ34_size_4 : decode cJ34_size 4 = .ok (.ireturn, 1) := by decide +kernel
abbrev cJ34_get : ByteArray := prog_67_method_22_code
def yJ34_get : MethodName := ⟨RJ34, "get", "(I)Ljava/lang/Object;"⟩
def dkwJ34_get_0 : List UInt8 := [42, 27, 182, 0, 90, 42, 27, 182, 0, 86, 180, 0, 39, 176]
abbrev dktJ34_get_0 : List UInt8 := dkwJ34_get_0 ++ []
theorem dksJ34_get_0 : cJ34_get.data.toList.drop 0 = dktJ34_get_0 := by decide +kernel
theorem dJ34_get_0 : decode cJ34_get 0 = .ok (.aload_n 0, 1) := dk_42 (dk_at dksJ34_get_0 0 rfl rfl)
theorem dJ34_get_1 : decode cJ34_get 1 = .ok (.iload_n 1, 1) := dk_27 (dk_at dksJ34_get_0 1 rfl rfl)
theorem dJ34_get_2 : decode cJ34_get 2 = .ok (.invokevirtual 90, 3) := dk_182 0 90 (dk_at dksJ34_get_0 2 rfl rfl)
theorem dJ34_get_5 : decode cJ34_get 5 = .ok (.aload_n 0, 1) := dk_42 (dk_at dksJ34_get_0 5 rfl rfl)
theorem dJ34_get_6 : decode cJ34_get 6 = .ok (.iload_n 1, 1) := dk_27 (dk_at dksJ34_get_0 6 rfl rfl)
theorem dJ34_get_7 : decode cJ34_get 7 = .ok (.invokevirtual 86, 3) := dk_182 0 86 (dk_at dksJ34_get_0 7 rfl rfl)
theorem dJ34_get_10 : decode cJ34_get 10 = .ok (.getfield 39, 3) := dk_180 0 39 (dk_at dksJ34_get_0 10 rfl rfl)
theorem dJ34_get_13 : decode cJ34_get 13 = .ok (.areturn, 1) := dk_176 (dk_at dksJ34_get_0 13 rfl rfl)
abbrev cJ34_checkElementIndex : ByteArray := prog_67_method_29_code
def yJ34_checkElementIndex : MethodName := ⟨RJ34, "checkElementIndex", "(I)V"⟩
def dkwJ34_checkElementIndex_0 : List UInt8 := [42, 27, 182, 0, 115, 154, 0, 16, 187, 0, 119, 89, 42, 27, 182, 0, 121, 183, 0, 125, 191, 177]
abbrev dktJ34_checkElementIndex_0 : List UInt8 := dkwJ34_checkElementIndex_0 ++ []
theorem dksJ34_checkElementIndex_0 : cJ34_checkElementIndex.data.toList.drop 0 = dktJ34_checkElementIndex_0 := by decide +kernel
theorem dJ34_checkElementIndex_0 : decode cJ34_checkElementIndex 0 = .ok (.aload_n 0, 1) := dk_42 (dk_at dksJ34_checkElementIndex_0 0 rfl rfl)
theorem dJ34_checkElementIndex_1 : decode cJ34_checkElementIndex 1 = .ok (.iload_n 1, 1) := dk_27 (dk_at dksJ34_checkElementIndex_0 1 rfl rfl)
theorem dJ34_checkElementIndex_2 : decode cJ34_checkElementIndex 2 = .ok (.invokevirtual 115, 3) := dk_182 0 115 (dk_at dksJ34_checkElementIndex_0 2 rfl rfl)
theorem dJ34_checkElementIndex_5 : decode cJ34_checkElementIndex 5 = .ok (.ifCond .ne 16, 3) := dk_154 0 16 (dk_at dksJ34_checkElementIndex_0 5 rfl rfl)
theorem dJ34_checkElementIndex_8 : decode cJ34_checkElementIndex 8 = .ok (.new 119, 3) := dk_187 0 119 (dk_at dksJ34_checkElementIndex_0 8 rfl rfl)
theorem dJ34_checkElementIndex_11 : decode cJ34_checkElementIndex 11 = .ok (.dup, 1) := dk_89 (dk_at dksJ34_checkElementIndex_0 11 rfl rfl)
theorem dJ34_checkElementIndex_12 : decode cJ34_checkElementIndex 12 = .ok (.aload_n 0, 1) := dk_42 (dk_at dksJ34_checkElementIndex_0 12 rfl rfl)
theorem dJ34_checkElementIndex_13 : decode cJ34_checkElementIndex 13 = .ok (.iload_n 1, 1) := dk_27 (dk_at dksJ34_checkElementIndex_0 13 rfl rfl)
theorem dJ34_checkElementIndex_14 : decode cJ34_checkElementIndex 14 = .ok (.invokevirtual 121, 3) := dk_182 0 121 (dk_at dksJ34_checkElementIndex_0 14 rfl rfl)
theorem dJ34_checkElementIndex_17 : decode cJ34_checkElementIndex 17 = .ok (.invokespecial 125, 3) := dk_183 0 125 (dk_at dksJ34_checkElementIndex_0 17 rfl rfl)
theorem dJ34_checkElementIndex_20 : decode cJ34_checkElementIndex 20 = .ok (.athrow, 1) := dk_191 (dk_at dksJ34_checkElementIndex_0 20 rfl rfl)
theorem dJ34_checkElementIndex_21 : decode cJ34_checkElementIndex 21 = .ok (.return_, 1) := dk_177 (dk_at dksJ34_checkElementIndex_0 21 rfl rfl)
abbrev cJ34_isElementIndex : ByteArray := prog_67_method_26_code
def yJ34_isElementIndex : MethodName := ⟨RJ34, "isElementIndex", "(I)Z"⟩
def dkwJ34_isElementIndex_0 : List UInt8 := [27, 155, 0, 15, 27, 42, 180, 0, 7, 162, 0, 7, 4, 167, 0, 4, 3, 172]
abbrev dktJ34_isElementIndex_0 : List UInt8 := dkwJ34_isElementIndex_0 ++ []
theorem dksJ34_isElementIndex_0 : cJ34_isElementIndex.data.toList.drop 0 = dktJ34_isElementIndex_0 := by decide +kernel
theorem dJ34_isElementIndex_0 : decode cJ34_isElementIndex 0 = .ok (.iload_n 1, 1) := dk_27 (dk_at dksJ34_isElementIndex_0 0 rfl rfl)
theorem dJ34_isElementIndex_1 : decode cJ34_isElementIndex 1 = .ok (.ifCond .lt 15, 3) := dk_155 0 15 (dk_at dksJ34_isElementIndex_0 1 rfl rfl)
theorem dJ34_isElementIndex_4 : decode cJ34_isElementIndex 4 = .ok (.iload_n 1, 1) := dk_27 (dk_at dksJ34_isElementIndex_0 4 rfl rfl)
theorem dJ34_isElementIndex_5 : decode cJ34_isElementIndex 5 = .ok (.aload_n 0, 1) := dk_42 (dk_at dksJ34_isElementIndex_0 5 rfl rfl)
theorem dJ34_isElementIndex_6 : decode cJ34_isElementIndex 6 = .ok (.getfield 7, 3) := dk_180 0 7 (dk_at dksJ34_isElementIndex_0 6 rfl rfl)
theorem dJ34_isElementIndex_9 : decode cJ34_isElementIndex 9 = .ok (.if_icmp .ge 7, 3) := dk_162 0 7 (dk_at dksJ34_isElementIndex_0 9 rfl rfl)
theorem dJ34_isElementIndex_12 : decode cJ34_isElementIndex 12 = .ok (.iconst 1, 1) := dk_4 (dk_at dksJ34_isElementIndex_0 12 rfl rfl)
theorem dJ34_isElementIndex_13 : decode cJ34_isElementIndex 13 = .ok (.goto 4, 3) := dk_167 0 4 (dk_at dksJ34_isElementIndex_0 13 rfl rfl)
theorem dJ34_isElementIndex_16 : decode cJ34_isElementIndex 16 = .ok (.iconst 0, 1) := dk_3 (dk_at dksJ34_isElementIndex_0 16 rfl rfl)
theorem dJ34_isElementIndex_17 : decode cJ34_isElementIndex 17 = .ok (.ireturn, 1) := dk_172 (dk_at dksJ34_isElementIndex_0 17 rfl rfl)
abbrev cJ34_outOfBoundsMsg : ByteArray := prog_67_method_28_code
def yJ34_outOfBoundsMsg : MethodName := ⟨RJ34, "outOfBoundsMsg", "(I)Ljava/lang/String;"⟩
def dkwJ34_outOfBoundsMsg_1 : List UInt8 := [180, 0, 7, 182, 0, 106, 182, 0, 111, 176]
abbrev dktJ34_outOfBoundsMsg_1 : List UInt8 := dkwJ34_outOfBoundsMsg_1 ++ []
def dkwJ34_outOfBoundsMsg_0 : List UInt8 := [187, 0, 97, 89, 183, 0, 99, 18, 100, 182, 0, 102, 27, 182, 0, 106, 18, 109, 182, 0, 102, 42]
abbrev dktJ34_outOfBoundsMsg_0 : List UInt8 := dkwJ34_outOfBoundsMsg_0 ++ dktJ34_outOfBoundsMsg_1
theorem dksJ34_outOfBoundsMsg_0 : cJ34_outOfBoundsMsg.data.toList.drop 0 = dktJ34_outOfBoundsMsg_0 := by decide +kernel
theorem dksJ34_outOfBoundsMsg_1 : cJ34_outOfBoundsMsg.data.toList.drop 22 = dktJ34_outOfBoundsMsg_1 := dk_seg dksJ34_outOfBoundsMsg_0 22 rfl rfl
theorem dJ34_outOfBoundsMsg_0 : decode cJ34_outOfBoundsMsg 0 = .ok (.new 97, 3) := dk_187 0 97 (dk_at dksJ34_outOfBoundsMsg_0 0 rfl rfl)
theorem dJ34_outOfBoundsMsg_3 : decode cJ34_outOfBoundsMsg 3 = .ok (.dup, 1) := dk_89 (dk_at dksJ34_outOfBoundsMsg_0 3 rfl rfl)
theorem dJ34_outOfBoundsMsg_4 : decode cJ34_outOfBoundsMsg 4 = .ok (.invokespecial 99, 3) := dk_183 0 99 (dk_at dksJ34_outOfBoundsMsg_0 4 rfl rfl)
theorem dJ34_outOfBoundsMsg_7 : decode cJ34_outOfBoundsMsg 7 = .ok (.ldc 100, 2) := dk_18 100 (dk_at dksJ34_outOfBoundsMsg_0 7 rfl rfl)
theorem dJ34_outOfBoundsMsg_9 : decode cJ34_outOfBoundsMsg 9 = .ok (.invokevirtual 102, 3) := dk_182 0 102 (dk_at dksJ34_outOfBoundsMsg_0 9 rfl rfl)
theorem dJ34_outOfBoundsMsg_12 : decode cJ34_outOfBoundsMsg 12 = .ok (.iload_n 1, 1) := dk_27 (dk_at dksJ34_outOfBoundsMsg_0 12 rfl rfl)
theorem dJ34_outOfBoundsMsg_13 : decode cJ34_outOfBoundsMsg 13 = .ok (.invokevirtual 106, 3) := dk_182 0 106 (dk_at dksJ34_outOfBoundsMsg_0 13 rfl rfl)
theorem dJ34_outOfBoundsMsg_16 : decode cJ34_outOfBoundsMsg 16 = .ok (.ldc 109, 2) := dk_18 109 (dk_at dksJ34_outOfBoundsMsg_0 16 rfl rfl)
theorem dJ34_outOfBoundsMsg_18 : decode cJ34_outOfBoundsMsg 18 = .ok (.invokevirtual 102, 3) := dk_182 0 102 (dk_at dksJ34_outOfBoundsMsg_0 18 rfl rfl)
theorem dJ34_outOfBoundsMsg_21 : decode cJ34_outOfBoundsMsg 21 = .ok (.aload_n 0, 1) := dk_42 (dk_at dksJ34_outOfBoundsMsg_0 21 rfl rfl)
theorem dJ34_outOfBoundsMsg_22 : decode cJ34_outOfBoundsMsg 22 = .ok (.getfield 7, 3) := dk_180 0 7 (dk_at dksJ34_outOfBoundsMsg_1 0 rfl rfl)
theorem dJ34_outOfBoundsMsg_25 : decode cJ34_outOfBoundsMsg 25 = .ok (.invokevirtual 106, 3) := dk_182 0 106 (dk_at dksJ34_outOfBoundsMsg_1 3 rfl rfl)
theorem dJ34_outOfBoundsMsg_28 : decode cJ34_outOfBoundsMsg 28 = .ok (.invokevirtual 111, 3) := dk_182 0 111 (dk_at dksJ34_outOfBoundsMsg_1 6 rfl rfl)
theorem dJ34_outOfBoundsMsg_31 : decode cJ34_outOfBoundsMsg 31 = .ok (.areturn, 1) := dk_176 (dk_at dksJ34_outOfBoundsMsg_1 9 rfl rfl)
abbrev cJ34_node : ByteArray := prog_67_method_31_code
def yJ34_node : MethodName := ⟨RJ34, "node", "(I)Ljava/util/LinkedList$Node;"⟩
def dkwJ34_node_2 : List UInt8 := [29, 27, 164, 0, 14, 44, 180, 0, 30, 77, 132, 3, 255, 167, 255, 243, 44, 176]
abbrev dktJ34_node_2 : List UInt8 := dkwJ34_node_2 ++ []
def dkwJ34_node_1 : List UInt8 := [180, 0, 36, 77, 132, 3, 1, 167, 255, 243, 44, 176, 42, 180, 0, 27, 77, 42, 180, 0, 7, 4, 100, 62]
abbrev dktJ34_node_1 : List UInt8 := dkwJ34_node_1 ++ dktJ34_node_2
def dkwJ34_node_0 : List UInt8 := [27, 42, 180, 0, 7, 4, 122, 162, 0, 28, 42, 180, 0, 18, 77, 3, 62, 29, 27, 162, 0, 14, 44]
abbrev dktJ34_node_0 : List UInt8 := dkwJ34_node_0 ++ dktJ34_node_1
theorem dksJ34_node_0 : cJ34_node.data.toList.drop 0 = dktJ34_node_0 := by decide +kernel
theorem dksJ34_node_1 : cJ34_node.data.toList.drop 23 = dktJ34_node_1 := dk_seg dksJ34_node_0 23 rfl rfl
theorem dksJ34_node_2 : cJ34_node.data.toList.drop 47 = dktJ34_node_2 := dk_seg dksJ34_node_1 24 rfl rfl
theorem dJ34_node_0 : decode cJ34_node 0 = .ok (.iload_n 1, 1) := dk_27 (dk_at dksJ34_node_0 0 rfl rfl)
theorem dJ34_node_1 : decode cJ34_node 1 = .ok (.aload_n 0, 1) := dk_42 (dk_at dksJ34_node_0 1 rfl rfl)
theorem dJ34_node_2 : decode cJ34_node 2 = .ok (.getfield 7, 3) := dk_180 0 7 (dk_at dksJ34_node_0 2 rfl rfl)
theorem dJ34_node_5 : decode cJ34_node 5 = .ok (.iconst 1, 1) := dk_4 (dk_at dksJ34_node_0 5 rfl rfl)
theorem dJ34_node_6 : decode cJ34_node 6 = .ok (.ishr, 1) := dk_122 (dk_at dksJ34_node_0 6 rfl rfl)
theorem dJ34_node_7 : decode cJ34_node 7 = .ok (.if_icmp .ge 28, 3) := dk_162 0 28 (dk_at dksJ34_node_0 7 rfl rfl)
theorem dJ34_node_10 : decode cJ34_node 10 = .ok (.aload_n 0, 1) := dk_42 (dk_at dksJ34_node_0 10 rfl rfl)
theorem dJ34_node_11 : decode cJ34_node 11 = .ok (.getfield 18, 3) := dk_180 0 18 (dk_at dksJ34_node_0 11 rfl rfl)
theorem dJ34_node_14 : decode cJ34_node 14 = .ok (.astore_n 2, 1) := dk_77 (dk_at dksJ34_node_0 14 rfl rfl)
theorem dJ34_node_15 : decode cJ34_node 15 = .ok (.iconst 0, 1) := dk_3 (dk_at dksJ34_node_0 15 rfl rfl)
theorem dJ34_node_16 : decode cJ34_node 16 = .ok (.istore_n 3, 1) := dk_62 (dk_at dksJ34_node_0 16 rfl rfl)
theorem dJ34_node_17 : decode cJ34_node 17 = .ok (.iload_n 3, 1) := dk_29 (dk_at dksJ34_node_0 17 rfl rfl)
theorem dJ34_node_18 : decode cJ34_node 18 = .ok (.iload_n 1, 1) := dk_27 (dk_at dksJ34_node_0 18 rfl rfl)
theorem dJ34_node_19 : decode cJ34_node 19 = .ok (.if_icmp .ge 14, 3) := dk_162 0 14 (dk_at dksJ34_node_0 19 rfl rfl)
theorem dJ34_node_22 : decode cJ34_node 22 = .ok (.aload_n 2, 1) := dk_44 (dk_at dksJ34_node_0 22 rfl rfl)
theorem dJ34_node_23 : decode cJ34_node 23 = .ok (.getfield 36, 3) := dk_180 0 36 (dk_at dksJ34_node_1 0 rfl rfl)
theorem dJ34_node_26 : decode cJ34_node 26 = .ok (.astore_n 2, 1) := dk_77 (dk_at dksJ34_node_1 3 rfl rfl)
theorem dJ34_node_27 : decode cJ34_node 27 = .ok (.iinc 3 1, 3) := dk_132 3 1 (dk_at dksJ34_node_1 4 rfl rfl)
theorem dJ34_node_30 : decode cJ34_node 30 = .ok (.goto (-13), 3) := dk_167 255 243 (dk_at dksJ34_node_1 7 rfl rfl)
theorem dJ34_node_33 : decode cJ34_node 33 = .ok (.aload_n 2, 1) := dk_44 (dk_at dksJ34_node_1 10 rfl rfl)
theorem dJ34_node_34 : decode cJ34_node 34 = .ok (.areturn, 1) := dk_176 (dk_at dksJ34_node_1 11 rfl rfl)
theorem dJ34_node_35 : decode cJ34_node 35 = .ok (.aload_n 0, 1) := dk_42 (dk_at dksJ34_node_1 12 rfl rfl)
theorem dJ34_node_36 : decode cJ34_node 36 = .ok (.getfield 27, 3) := dk_180 0 27 (dk_at dksJ34_node_1 13 rfl rfl)
theorem dJ34_node_39 : decode cJ34_node 39 = .ok (.astore_n 2, 1) := dk_77 (dk_at dksJ34_node_1 16 rfl rfl)
theorem dJ34_node_40 : decode cJ34_node 40 = .ok (.aload_n 0, 1) := dk_42 (dk_at dksJ34_node_1 17 rfl rfl)
theorem dJ34_node_41 : decode cJ34_node 41 = .ok (.getfield 7, 3) := dk_180 0 7 (dk_at dksJ34_node_1 18 rfl rfl)
theorem dJ34_node_44 : decode cJ34_node 44 = .ok (.iconst 1, 1) := dk_4 (dk_at dksJ34_node_1 21 rfl rfl)
theorem dJ34_node_45 : decode cJ34_node 45 = .ok (.isub, 1) := dk_100 (dk_at dksJ34_node_1 22 rfl rfl)
theorem dJ34_node_46 : decode cJ34_node 46 = .ok (.istore_n 3, 1) := dk_62 (dk_at dksJ34_node_1 23 rfl rfl)
theorem dJ34_node_47 : decode cJ34_node 47 = .ok (.iload_n 3, 1) := dk_29 (dk_at dksJ34_node_2 0 rfl rfl)
theorem dJ34_node_48 : decode cJ34_node 48 = .ok (.iload_n 1, 1) := dk_27 (dk_at dksJ34_node_2 1 rfl rfl)
theorem dJ34_node_49 : decode cJ34_node 49 = .ok (.if_icmp .le 14, 3) := dk_164 0 14 (dk_at dksJ34_node_2 2 rfl rfl)
theorem dJ34_node_52 : decode cJ34_node 52 = .ok (.aload_n 2, 1) := dk_44 (dk_at dksJ34_node_2 5 rfl rfl)
theorem dJ34_node_53 : decode cJ34_node 53 = .ok (.getfield 30, 3) := dk_180 0 30 (dk_at dksJ34_node_2 6 rfl rfl)
theorem dJ34_node_56 : decode cJ34_node 56 = .ok (.astore_n 2, 1) := dk_77 (dk_at dksJ34_node_2 9 rfl rfl)
theorem dJ34_node_57 : decode cJ34_node 57 = .ok (.iinc 3 (-1), 3) := dk_132 3 255 (dk_at dksJ34_node_2 10 rfl rfl)
theorem dJ34_node_60 : decode cJ34_node 60 = .ok (.goto (-13), 3) := dk_167 255 243 (dk_at dksJ34_node_2 13 rfl rfl)
theorem dJ34_node_63 : decode cJ34_node 63 = .ok (.aload_n 2, 1) := dk_44 (dk_at dksJ34_node_2 16 rfl rfl)
theorem dJ34_node_64 : decode cJ34_node 64 = .ok (.areturn, 1) := dk_176 (dk_at dksJ34_node_2 17 rfl rfl)
abbrev cJ34_init : ByteArray := prog_67_method_1_code
def yJ34_init : MethodName := ⟨RJ34, "<init>", "()V"⟩
def dkwJ34_init_0 : List UInt8 := [42, 183, 0, 1, 42, 3, 181, 0, 7, 177]
abbrev dktJ34_init_0 : List UInt8 := dkwJ34_init_0 ++ []
theorem dksJ34_init_0 : cJ34_init.data.toList.drop 0 = dktJ34_init_0 := by decide +kernel
theorem dJ34_init_0 : decode cJ34_init 0 = .ok (.aload_n 0, 1) := dk_42 (dk_at dksJ34_init_0 0 rfl rfl)
theorem dJ34_init_1 : decode cJ34_init 1 = .ok (.invokespecial 1, 3) := dk_183 0 1 (dk_at dksJ34_init_0 1 rfl rfl)
theorem dJ34_init_4 : decode cJ34_init 4 = .ok (.aload_n 0, 1) := dk_42 (dk_at dksJ34_init_0 4 rfl rfl)
theorem dJ34_init_5 : decode cJ34_init 5 = .ok (.iconst 0, 1) := dk_3 (dk_at dksJ34_init_0 5 rfl rfl)
theorem dJ34_init_6 : decode cJ34_init 6 = .ok (.putfield 7, 3) := dk_181 0 7 (dk_at dksJ34_init_0 6 rfl rfl)
theorem dJ34_init_9 : decode cJ34_init 9 = .ok (.return_, 1) := dk_177 (dk_at dksJ34_init_0 9 rfl rfl)
abbrev cJ34_addLast : ByteArray := prog_67_method_14_code
def yJ34_addLast : MethodName := ⟨RJ34, "addLast", "(Ljava/lang/Object;)V"⟩
def dkwJ34_addLast_0 : List UInt8 := [42, 43, 182, 0, 57, 177]
abbrev dktJ34_addLast_0 : List UInt8 := dkwJ34_addLast_0 ++ []
theorem dksJ34_addLast_0 : cJ34_addLast.data.toList.drop 0 = dktJ34_addLast_0 := by decide +kernel
theorem dJ34_addLast_0 : decode cJ34_addLast 0 = .ok (.aload_n 0, 1) := dk_42 (dk_at dksJ34_addLast_0 0 rfl rfl)
theorem dJ34_addLast_1 : decode cJ34_addLast 1 = .ok (.aload_n 1, 1) := dk_43 (dk_at dksJ34_addLast_0 1 rfl rfl)
theorem dJ34_addLast_2 : decode cJ34_addLast 2 = .ok (.invokevirtual 57, 3) := dk_182 0 57 (dk_at dksJ34_addLast_0 2 rfl rfl)
theorem dJ34_addLast_5 : decode cJ34_addLast 5 = .ok (.return_, 1) := dk_177 (dk_at dksJ34_addLast_0 5 rfl rfl)
abbrev cJ34_listIterator : ByteArray := prog_67_method_49_code
def yJ34_listIterator : MethodName := ⟨RJ34, "listIterator", "(I)Ljava/util/ListIterator;"⟩
def dkwJ34_listIterator_0 : List UInt8 := [42, 27, 182, 0, 76, 187, 0, 150, 89, 42, 27, 183, 0, 152, 176]
abbrev dktJ34_listIterator_0 : List UInt8 := dkwJ34_listIterator_0 ++ []
theorem dksJ34_listIterator_0 : cJ34_listIterator.data.toList.drop 0 = dktJ34_listIterator_0 := by decide +kernel
theorem dJ34_listIterator_0 : decode cJ34_listIterator 0 = .ok (.aload_n 0, 1) := dk_42 (dk_at dksJ34_listIterator_0 0 rfl rfl)
theorem dJ34_listIterator_1 : decode cJ34_listIterator 1 = .ok (.iload_n 1, 1) := dk_27 (dk_at dksJ34_listIterator_0 1 rfl rfl)
theorem dJ34_listIterator_2 : decode cJ34_listIterator 2 = .ok (.invokevirtual 76, 3) := dk_182 0 76 (dk_at dksJ34_listIterator_0 2 rfl rfl)
theorem dJ34_listIterator_5 : decode cJ34_listIterator 5 = .ok (.new 150, 3) := dk_187 0 150 (dk_at dksJ34_listIterator_0 5 rfl rfl)
theorem dJ34_listIterator_8 : decode cJ34_listIterator 8 = .ok (.dup, 1) := dk_89 (dk_at dksJ34_listIterator_0 8 rfl rfl)
theorem dJ34_listIterator_9 : decode cJ34_listIterator 9 = .ok (.aload_n 0, 1) := dk_42 (dk_at dksJ34_listIterator_0 9 rfl rfl)
theorem dJ34_listIterator_10 : decode cJ34_listIterator 10 = .ok (.iload_n 1, 1) := dk_27 (dk_at dksJ34_listIterator_0 10 rfl rfl)
theorem dJ34_listIterator_11 : decode cJ34_listIterator 11 = .ok (.invokespecial 152, 3) := dk_183 0 152 (dk_at dksJ34_listIterator_0 11 rfl rfl)
theorem dJ34_listIterator_14 : decode cJ34_listIterator 14 = .ok (.areturn, 1) := dk_176 (dk_at dksJ34_listIterator_0 14 rfl rfl)
abbrev cJ34_checkPositionIndex : ByteArray := prog_67_method_30_code
def yJ34_checkPositionIndex : MethodName := ⟨RJ34, "checkPositionIndex", "(I)V"⟩
def dkwJ34_checkPositionIndex_0 : List UInt8 := [42, 27, 182, 0, 128, 154, 0, 16, 187, 0, 119, 89, 42, 27, 182, 0, 121, 183, 0, 125, 191, 177]
abbrev dktJ34_checkPositionIndex_0 : List UInt8 := dkwJ34_checkPositionIndex_0 ++ []
theorem dksJ34_checkPositionIndex_0 : cJ34_checkPositionIndex.data.toList.drop 0 = dktJ34_checkPositionIndex_0 := by decide +kernel
theorem dJ34_checkPositionIndex_0 : decode cJ34_checkPositionIndex 0 = .ok (.aload_n 0, 1) := dk_42 (dk_at dksJ34_checkPositionIndex_0 0 rfl rfl)
theorem dJ34_checkPositionIndex_1 : decode cJ34_checkPositionIndex 1 = .ok (.iload_n 1, 1) := dk_27 (dk_at dksJ34_checkPositionIndex_0 1 rfl rfl)
theorem dJ34_checkPositionIndex_2 : decode cJ34_checkPositionIndex 2 = .ok (.invokevirtual 128, 3) := dk_182 0 128 (dk_at dksJ34_checkPositionIndex_0 2 rfl rfl)
theorem dJ34_checkPositionIndex_5 : decode cJ34_checkPositionIndex 5 = .ok (.ifCond .ne 16, 3) := dk_154 0 16 (dk_at dksJ34_checkPositionIndex_0 5 rfl rfl)
theorem dJ34_checkPositionIndex_8 : decode cJ34_checkPositionIndex 8 = .ok (.new 119, 3) := dk_187 0 119 (dk_at dksJ34_checkPositionIndex_0 8 rfl rfl)
theorem dJ34_checkPositionIndex_11 : decode cJ34_checkPositionIndex 11 = .ok (.dup, 1) := dk_89 (dk_at dksJ34_checkPositionIndex_0 11 rfl rfl)
theorem dJ34_checkPositionIndex_12 : decode cJ34_checkPositionIndex 12 = .ok (.aload_n 0, 1) := dk_42 (dk_at dksJ34_checkPositionIndex_0 12 rfl rfl)
theorem dJ34_checkPositionIndex_13 : decode cJ34_checkPositionIndex 13 = .ok (.iload_n 1, 1) := dk_27 (dk_at dksJ34_checkPositionIndex_0 13 rfl rfl)
theorem dJ34_checkPositionIndex_14 : decode cJ34_checkPositionIndex 14 = .ok (.invokevirtual 121, 3) := dk_182 0 121 (dk_at dksJ34_checkPositionIndex_0 14 rfl rfl)
theorem dJ34_checkPositionIndex_17 : decode cJ34_checkPositionIndex 17 = .ok (.invokespecial 125, 3) := dk_183 0 125 (dk_at dksJ34_checkPositionIndex_0 17 rfl rfl)
theorem dJ34_checkPositionIndex_20 : decode cJ34_checkPositionIndex 20 = .ok (.athrow, 1) := dk_191 (dk_at dksJ34_checkPositionIndex_0 20 rfl rfl)
theorem dJ34_checkPositionIndex_21 : decode cJ34_checkPositionIndex 21 = .ok (.return_, 1) := dk_177 (dk_at dksJ34_checkPositionIndex_0 21 rfl rfl)
abbrev cJ34_isPositionIndex : ByteArray := prog_67_method_27_code
def yJ34_isPositionIndex : MethodName := ⟨RJ34, "isPositionIndex", "(I)Z"⟩
def dkwJ34_isPositionIndex_0 : List UInt8 := [27, 155, 0, 15, 27, 42, 180, 0, 7, 163, 0, 7, 4, 167, 0, 4, 3, 172]
abbrev dktJ34_isPositionIndex_0 : List UInt8 := dkwJ34_isPositionIndex_0 ++ []
theorem dksJ34_isPositionIndex_0 : cJ34_isPositionIndex.data.toList.drop 0 = dktJ34_isPositionIndex_0 := by decide +kernel
theorem dJ34_isPositionIndex_0 : decode cJ34_isPositionIndex 0 = .ok (.iload_n 1, 1) := dk_27 (dk_at dksJ34_isPositionIndex_0 0 rfl rfl)
theorem dJ34_isPositionIndex_1 : decode cJ34_isPositionIndex 1 = .ok (.ifCond .lt 15, 3) := dk_155 0 15 (dk_at dksJ34_isPositionIndex_0 1 rfl rfl)
theorem dJ34_isPositionIndex_4 : decode cJ34_isPositionIndex 4 = .ok (.iload_n 1, 1) := dk_27 (dk_at dksJ34_isPositionIndex_0 4 rfl rfl)
theorem dJ34_isPositionIndex_5 : decode cJ34_isPositionIndex 5 = .ok (.aload_n 0, 1) := dk_42 (dk_at dksJ34_isPositionIndex_0 5 rfl rfl)
theorem dJ34_isPositionIndex_6 : decode cJ34_isPositionIndex 6 = .ok (.getfield 7, 3) := dk_180 0 7 (dk_at dksJ34_isPositionIndex_0 6 rfl rfl)
theorem dJ34_isPositionIndex_9 : decode cJ34_isPositionIndex 9 = .ok (.if_icmp .gt 7, 3) := dk_163 0 7 (dk_at dksJ34_isPositionIndex_0 9 rfl rfl)
theorem dJ34_isPositionIndex_12 : decode cJ34_isPositionIndex 12 = .ok (.iconst 1, 1) := dk_4 (dk_at dksJ34_isPositionIndex_0 12 rfl rfl)
theorem dJ34_isPositionIndex_13 : decode cJ34_isPositionIndex 13 = .ok (.goto 4, 3) := dk_167 0 4 (dk_at dksJ34_isPositionIndex_0 13 rfl rfl)
theorem dJ34_isPositionIndex_16 : decode cJ34_isPositionIndex 16 = .ok (.iconst 0, 1) := dk_3 (dk_at dksJ34_isPositionIndex_0 16 rfl rfl)
theorem dJ34_isPositionIndex_17 : decode cJ34_isPositionIndex 17 = .ok (.ireturn, 1) := dk_172 (dk_at dksJ34_isPositionIndex_0 17 rfl rfl)
abbrev cJ34_removeFirst : ByteArray := prog_67_method_11_code
def yJ34_removeFirst : MethodName := ⟨RJ34, "removeFirst", "()Ljava/lang/Object;"⟩
def dkwJ34_removeFirst_0 : List UInt8 := [42, 180, 0, 18, 76, 43, 199, 0, 11, 187, 0, 43, 89, 183, 0, 45, 191, 42, 43, 182, 0, 46, 176]
abbrev dktJ34_removeFirst_0 : List UInt8 := dkwJ34_removeFirst_0 ++ []
theorem dksJ34_removeFirst_0 : cJ34_removeFirst.data.toList.drop 0 = dktJ34_removeFirst_0 := by decide +kernel
theorem dJ34_removeFirst_0 : decode cJ34_removeFirst 0 = .ok (.aload_n 0, 1) := dk_42 (dk_at dksJ34_removeFirst_0 0 rfl rfl)
theorem dJ34_removeFirst_1 : decode cJ34_removeFirst 1 = .ok (.getfield 18, 3) := dk_180 0 18 (dk_at dksJ34_removeFirst_0 1 rfl rfl)
theorem dJ34_removeFirst_4 : decode cJ34_removeFirst 4 = .ok (.astore_n 1, 1) := dk_76 (dk_at dksJ34_removeFirst_0 4 rfl rfl)
theorem dJ34_removeFirst_5 : decode cJ34_removeFirst 5 = .ok (.aload_n 1, 1) := dk_43 (dk_at dksJ34_removeFirst_0 5 rfl rfl)
theorem dJ34_removeFirst_6 : decode cJ34_removeFirst 6 = .ok (.ifnonnull 11, 3) := dk_199 0 11 (dk_at dksJ34_removeFirst_0 6 rfl rfl)
theorem dJ34_removeFirst_9 : decode cJ34_removeFirst 9 = .ok (.new 43, 3) := dk_187 0 43 (dk_at dksJ34_removeFirst_0 9 rfl rfl)
theorem dJ34_removeFirst_12 : decode cJ34_removeFirst 12 = .ok (.dup, 1) := dk_89 (dk_at dksJ34_removeFirst_0 12 rfl rfl)
theorem dJ34_removeFirst_13 : decode cJ34_removeFirst 13 = .ok (.invokespecial 45, 3) := dk_183 0 45 (dk_at dksJ34_removeFirst_0 13 rfl rfl)
theorem dJ34_removeFirst_16 : decode cJ34_removeFirst 16 = .ok (.athrow, 1) := dk_191 (dk_at dksJ34_removeFirst_0 16 rfl rfl)
theorem dJ34_removeFirst_17 : decode cJ34_removeFirst 17 = .ok (.aload_n 0, 1) := dk_42 (dk_at dksJ34_removeFirst_0 17 rfl rfl)
theorem dJ34_removeFirst_18 : decode cJ34_removeFirst 18 = .ok (.aload_n 1, 1) := dk_43 (dk_at dksJ34_removeFirst_0 18 rfl rfl)
theorem dJ34_removeFirst_19 : decode cJ34_removeFirst 19 = .ok (.invokevirtual 46, 3) := dk_182 0 46 (dk_at dksJ34_removeFirst_0 19 rfl rfl)
theorem dJ34_removeFirst_22 : decode cJ34_removeFirst 22 = .ok (.areturn, 1) := dk_176 (dk_at dksJ34_removeFirst_0 22 rfl rfl)
abbrev cJ34_unlinkFirst : ByteArray := prog_67_method_6_code
def yJ34_unlinkFirst : MethodName := ⟨RJ34, "unlinkFirst", "(Ljava/util/LinkedList$Node;)Ljava/lang/Object;"⟩
def dkwJ34_unlinkFirst_2 : List UInt8 := [180, 0, 7, 4, 100, 181, 0, 7, 42, 89, 180, 0, 33, 4, 96, 181, 0, 33, 44, 176]
abbrev dktJ34_unlinkFirst_2 : List UInt8 := dkwJ34_unlinkFirst_2 ++ []
def dkwJ34_unlinkFirst_1 : List UInt8 := [181, 0, 18, 45, 199, 0, 11, 42, 1, 181, 0, 27, 167, 0, 8, 45, 1, 181, 0, 30, 42, 89]
abbrev dktJ34_unlinkFirst_1 : List UInt8 := dkwJ34_unlinkFirst_1 ++ dktJ34_unlinkFirst_2
def dkwJ34_unlinkFirst_0 : List UInt8 := [43, 180, 0, 39, 77, 43, 180, 0, 36, 78, 43, 1, 181, 0, 39, 43, 1, 181, 0, 36, 42, 45]
abbrev dktJ34_unlinkFirst_0 : List UInt8 := dkwJ34_unlinkFirst_0 ++ dktJ34_unlinkFirst_1
theorem dksJ34_unlinkFirst_0 : cJ34_unlinkFirst.data.toList.drop 0 = dktJ34_unlinkFirst_0 := by decide +kernel
theorem dksJ34_unlinkFirst_1 : cJ34_unlinkFirst.data.toList.drop 22 = dktJ34_unlinkFirst_1 := dk_seg dksJ34_unlinkFirst_0 22 rfl rfl
theorem dksJ34_unlinkFirst_2 : cJ34_unlinkFirst.data.toList.drop 44 = dktJ34_unlinkFirst_2 := dk_seg dksJ34_unlinkFirst_1 22 rfl rfl
theorem dJ34_unlinkFirst_0 : decode cJ34_unlinkFirst 0 = .ok (.aload_n 1, 1) := dk_43 (dk_at dksJ34_unlinkFirst_0 0 rfl rfl)
theorem dJ34_unlinkFirst_1 : decode cJ34_unlinkFirst 1 = .ok (.getfield 39, 3) := dk_180 0 39 (dk_at dksJ34_unlinkFirst_0 1 rfl rfl)
theorem dJ34_unlinkFirst_4 : decode cJ34_unlinkFirst 4 = .ok (.astore_n 2, 1) := dk_77 (dk_at dksJ34_unlinkFirst_0 4 rfl rfl)
theorem dJ34_unlinkFirst_5 : decode cJ34_unlinkFirst 5 = .ok (.aload_n 1, 1) := dk_43 (dk_at dksJ34_unlinkFirst_0 5 rfl rfl)
theorem dJ34_unlinkFirst_6 : decode cJ34_unlinkFirst 6 = .ok (.getfield 36, 3) := dk_180 0 36 (dk_at dksJ34_unlinkFirst_0 6 rfl rfl)
theorem dJ34_unlinkFirst_9 : decode cJ34_unlinkFirst 9 = .ok (.astore_n 3, 1) := dk_78 (dk_at dksJ34_unlinkFirst_0 9 rfl rfl)
theorem dJ34_unlinkFirst_10 : decode cJ34_unlinkFirst 10 = .ok (.aload_n 1, 1) := dk_43 (dk_at dksJ34_unlinkFirst_0 10 rfl rfl)
theorem dJ34_unlinkFirst_11 : decode cJ34_unlinkFirst 11 = .ok (.aconst_null, 1) := dk_1 (dk_at dksJ34_unlinkFirst_0 11 rfl rfl)
theorem dJ34_unlinkFirst_12 : decode cJ34_unlinkFirst 12 = .ok (.putfield 39, 3) := dk_181 0 39 (dk_at dksJ34_unlinkFirst_0 12 rfl rfl)
theorem dJ34_unlinkFirst_15 : decode cJ34_unlinkFirst 15 = .ok (.aload_n 1, 1) := dk_43 (dk_at dksJ34_unlinkFirst_0 15 rfl rfl)
theorem dJ34_unlinkFirst_16 : decode cJ34_unlinkFirst 16 = .ok (.aconst_null, 1) := dk_1 (dk_at dksJ34_unlinkFirst_0 16 rfl rfl)
theorem dJ34_unlinkFirst_17 : decode cJ34_unlinkFirst 17 = .ok (.putfield 36, 3) := dk_181 0 36 (dk_at dksJ34_unlinkFirst_0 17 rfl rfl)
theorem dJ34_unlinkFirst_20 : decode cJ34_unlinkFirst 20 = .ok (.aload_n 0, 1) := dk_42 (dk_at dksJ34_unlinkFirst_0 20 rfl rfl)
theorem dJ34_unlinkFirst_21 : decode cJ34_unlinkFirst 21 = .ok (.aload_n 3, 1) := dk_45 (dk_at dksJ34_unlinkFirst_0 21 rfl rfl)
theorem dJ34_unlinkFirst_22 : decode cJ34_unlinkFirst 22 = .ok (.putfield 18, 3) := dk_181 0 18 (dk_at dksJ34_unlinkFirst_1 0 rfl rfl)
theorem dJ34_unlinkFirst_25 : decode cJ34_unlinkFirst 25 = .ok (.aload_n 3, 1) := dk_45 (dk_at dksJ34_unlinkFirst_1 3 rfl rfl)
theorem dJ34_unlinkFirst_26 : decode cJ34_unlinkFirst 26 = .ok (.ifnonnull 11, 3) := dk_199 0 11 (dk_at dksJ34_unlinkFirst_1 4 rfl rfl)
theorem dJ34_unlinkFirst_29 : decode cJ34_unlinkFirst 29 = .ok (.aload_n 0, 1) := dk_42 (dk_at dksJ34_unlinkFirst_1 7 rfl rfl)
theorem dJ34_unlinkFirst_30 : decode cJ34_unlinkFirst 30 = .ok (.aconst_null, 1) := dk_1 (dk_at dksJ34_unlinkFirst_1 8 rfl rfl)
theorem dJ34_unlinkFirst_31 : decode cJ34_unlinkFirst 31 = .ok (.putfield 27, 3) := dk_181 0 27 (dk_at dksJ34_unlinkFirst_1 9 rfl rfl)
theorem dJ34_unlinkFirst_34 : decode cJ34_unlinkFirst 34 = .ok (.goto 8, 3) := dk_167 0 8 (dk_at dksJ34_unlinkFirst_1 12 rfl rfl)
theorem dJ34_unlinkFirst_37 : decode cJ34_unlinkFirst 37 = .ok (.aload_n 3, 1) := dk_45 (dk_at dksJ34_unlinkFirst_1 15 rfl rfl)
theorem dJ34_unlinkFirst_38 : decode cJ34_unlinkFirst 38 = .ok (.aconst_null, 1) := dk_1 (dk_at dksJ34_unlinkFirst_1 16 rfl rfl)
theorem dJ34_unlinkFirst_39 : decode cJ34_unlinkFirst 39 = .ok (.putfield 30, 3) := dk_181 0 30 (dk_at dksJ34_unlinkFirst_1 17 rfl rfl)
theorem dJ34_unlinkFirst_42 : decode cJ34_unlinkFirst 42 = .ok (.aload_n 0, 1) := dk_42 (dk_at dksJ34_unlinkFirst_1 20 rfl rfl)
theorem dJ34_unlinkFirst_43 : decode cJ34_unlinkFirst 43 = .ok (.dup, 1) := dk_89 (dk_at dksJ34_unlinkFirst_1 21 rfl rfl)
theorem dJ34_unlinkFirst_44 : decode cJ34_unlinkFirst 44 = .ok (.getfield 7, 3) := dk_180 0 7 (dk_at dksJ34_unlinkFirst_2 0 rfl rfl)
theorem dJ34_unlinkFirst_47 : decode cJ34_unlinkFirst 47 = .ok (.iconst 1, 1) := dk_4 (dk_at dksJ34_unlinkFirst_2 3 rfl rfl)
theorem dJ34_unlinkFirst_48 : decode cJ34_unlinkFirst 48 = .ok (.isub, 1) := dk_100 (dk_at dksJ34_unlinkFirst_2 4 rfl rfl)
theorem dJ34_unlinkFirst_49 : decode cJ34_unlinkFirst 49 = .ok (.putfield 7, 3) := dk_181 0 7 (dk_at dksJ34_unlinkFirst_2 5 rfl rfl)
theorem dJ34_unlinkFirst_52 : decode cJ34_unlinkFirst 52 = .ok (.aload_n 0, 1) := dk_42 (dk_at dksJ34_unlinkFirst_2 8 rfl rfl)
theorem dJ34_unlinkFirst_53 : decode cJ34_unlinkFirst 53 = .ok (.dup, 1) := dk_89 (dk_at dksJ34_unlinkFirst_2 9 rfl rfl)
theorem dJ34_unlinkFirst_54 : decode cJ34_unlinkFirst 54 = .ok (.getfield 33, 3) := dk_180 0 33 (dk_at dksJ34_unlinkFirst_2 10 rfl rfl)
theorem dJ34_unlinkFirst_57 : decode cJ34_unlinkFirst 57 = .ok (.iconst 1, 1) := dk_4 (dk_at dksJ34_unlinkFirst_2 13 rfl rfl)
theorem dJ34_unlinkFirst_58 : decode cJ34_unlinkFirst 58 = .ok (.iadd, 1) := dk_96 (dk_at dksJ34_unlinkFirst_2 14 rfl rfl)
theorem dJ34_unlinkFirst_59 : decode cJ34_unlinkFirst 59 = .ok (.putfield 33, 3) := dk_181 0 33 (dk_at dksJ34_unlinkFirst_2 15 rfl rfl)
theorem dJ34_unlinkFirst_62 : decode cJ34_unlinkFirst 62 = .ok (.aload_n 2, 1) := dk_44 (dk_at dksJ34_unlinkFirst_2 18 rfl rfl)
theorem dJ34_unlinkFirst_63 : decode cJ34_unlinkFirst 63 = .ok (.areturn, 1) := dk_176 (dk_at dksJ34_unlinkFirst_2 19 rfl rfl)
abbrev cJ34_clear : ByteArray := prog_67_method_21_code
def yJ34_clear : MethodName := ⟨RJ34, "clear", "()V"⟩
def dkwJ34_clear_2 : List UInt8 := [181, 0, 7, 42, 89, 180, 0, 33, 4, 96, 181, 0, 33, 177]
abbrev dktJ34_clear_2 : List UInt8 := dkwJ34_clear_2 ++ []
def dkwJ34_clear_1 : List UInt8 := [43, 1, 181, 0, 30, 44, 76, 167, 255, 230, 42, 42, 1, 90, 181, 0, 27, 181, 0, 18, 42, 3]
abbrev dktJ34_clear_1 : List UInt8 := dkwJ34_clear_1 ++ dktJ34_clear_2
def dkwJ34_clear_0 : List UInt8 := [42, 180, 0, 18, 76, 43, 198, 0, 28, 43, 180, 0, 36, 77, 43, 1, 181, 0, 39, 43, 1, 181, 0, 36]
abbrev dktJ34_clear_0 : List UInt8 := dkwJ34_clear_0 ++ dktJ34_clear_1
theorem dksJ34_clear_0 : cJ34_clear.data.toList.drop 0 = dktJ34_clear_0 := by decide +kernel
theorem dksJ34_clear_1 : cJ34_clear.data.toList.drop 24 = dktJ34_clear_1 := dk_seg dksJ34_clear_0 24 rfl rfl
theorem dksJ34_clear_2 : cJ34_clear.data.toList.drop 46 = dktJ34_clear_2 := dk_seg dksJ34_clear_1 22 rfl rfl
theorem dJ34_clear_0 : decode cJ34_clear 0 = .ok (.aload_n 0, 1) := dk_42 (dk_at dksJ34_clear_0 0 rfl rfl)
theorem dJ34_clear_1 : decode cJ34_clear 1 = .ok (.getfield 18, 3) := dk_180 0 18 (dk_at dksJ34_clear_0 1 rfl rfl)
theorem dJ34_clear_4 : decode cJ34_clear 4 = .ok (.astore_n 1, 1) := dk_76 (dk_at dksJ34_clear_0 4 rfl rfl)
theorem dJ34_clear_5 : decode cJ34_clear 5 = .ok (.aload_n 1, 1) := dk_43 (dk_at dksJ34_clear_0 5 rfl rfl)
theorem dJ34_clear_6 : decode cJ34_clear 6 = .ok (.ifnull 28, 3) := dk_198 0 28 (dk_at dksJ34_clear_0 6 rfl rfl)
theorem dJ34_clear_9 : decode cJ34_clear 9 = .ok (.aload_n 1, 1) := dk_43 (dk_at dksJ34_clear_0 9 rfl rfl)
theorem dJ34_clear_10 : decode cJ34_clear 10 = .ok (.getfield 36, 3) := dk_180 0 36 (dk_at dksJ34_clear_0 10 rfl rfl)
theorem dJ34_clear_13 : decode cJ34_clear 13 = .ok (.astore_n 2, 1) := dk_77 (dk_at dksJ34_clear_0 13 rfl rfl)
theorem dJ34_clear_14 : decode cJ34_clear 14 = .ok (.aload_n 1, 1) := dk_43 (dk_at dksJ34_clear_0 14 rfl rfl)
theorem dJ34_clear_15 : decode cJ34_clear 15 = .ok (.aconst_null, 1) := dk_1 (dk_at dksJ34_clear_0 15 rfl rfl)
theorem dJ34_clear_16 : decode cJ34_clear 16 = .ok (.putfield 39, 3) := dk_181 0 39 (dk_at dksJ34_clear_0 16 rfl rfl)
theorem dJ34_clear_19 : decode cJ34_clear 19 = .ok (.aload_n 1, 1) := dk_43 (dk_at dksJ34_clear_0 19 rfl rfl)
theorem dJ34_clear_20 : decode cJ34_clear 20 = .ok (.aconst_null, 1) := dk_1 (dk_at dksJ34_clear_0 20 rfl rfl)
theorem dJ34_clear_21 : decode cJ34_clear 21 = .ok (.putfield 36, 3) := dk_181 0 36 (dk_at dksJ34_clear_0 21 rfl rfl)
theorem dJ34_clear_24 : decode cJ34_clear 24 = .ok (.aload_n 1, 1) := dk_43 (dk_at dksJ34_clear_1 0 rfl rfl)
theorem dJ34_clear_25 : decode cJ34_clear 25 = .ok (.aconst_null, 1) := dk_1 (dk_at dksJ34_clear_1 1 rfl rfl)
theorem dJ34_clear_26 : decode cJ34_clear 26 = .ok (.putfield 30, 3) := dk_181 0 30 (dk_at dksJ34_clear_1 2 rfl rfl)
theorem dJ34_clear_29 : decode cJ34_clear 29 = .ok (.aload_n 2, 1) := dk_44 (dk_at dksJ34_clear_1 5 rfl rfl)
theorem dJ34_clear_30 : decode cJ34_clear 30 = .ok (.astore_n 1, 1) := dk_76 (dk_at dksJ34_clear_1 6 rfl rfl)
theorem dJ34_clear_31 : decode cJ34_clear 31 = .ok (.goto (-26), 3) := dk_167 255 230 (dk_at dksJ34_clear_1 7 rfl rfl)
theorem dJ34_clear_34 : decode cJ34_clear 34 = .ok (.aload_n 0, 1) := dk_42 (dk_at dksJ34_clear_1 10 rfl rfl)
theorem dJ34_clear_35 : decode cJ34_clear 35 = .ok (.aload_n 0, 1) := dk_42 (dk_at dksJ34_clear_1 11 rfl rfl)
theorem dJ34_clear_36 : decode cJ34_clear 36 = .ok (.aconst_null, 1) := dk_1 (dk_at dksJ34_clear_1 12 rfl rfl)
theorem dJ34_clear_37 : decode cJ34_clear 37 = .ok (.dup_x1, 1) := dk_90 (dk_at dksJ34_clear_1 13 rfl rfl)
theorem dJ34_clear_38 : decode cJ34_clear 38 = .ok (.putfield 27, 3) := dk_181 0 27 (dk_at dksJ34_clear_1 14 rfl rfl)
theorem dJ34_clear_41 : decode cJ34_clear 41 = .ok (.putfield 18, 3) := dk_181 0 18 (dk_at dksJ34_clear_1 17 rfl rfl)
theorem dJ34_clear_44 : decode cJ34_clear 44 = .ok (.aload_n 0, 1) := dk_42 (dk_at dksJ34_clear_1 20 rfl rfl)
theorem dJ34_clear_45 : decode cJ34_clear 45 = .ok (.iconst 0, 1) := dk_3 (dk_at dksJ34_clear_1 21 rfl rfl)
theorem dJ34_clear_46 : decode cJ34_clear 46 = .ok (.putfield 7, 3) := dk_181 0 7 (dk_at dksJ34_clear_2 0 rfl rfl)
theorem dJ34_clear_49 : decode cJ34_clear 49 = .ok (.aload_n 0, 1) := dk_42 (dk_at dksJ34_clear_2 3 rfl rfl)
theorem dJ34_clear_50 : decode cJ34_clear 50 = .ok (.dup, 1) := dk_89 (dk_at dksJ34_clear_2 4 rfl rfl)
theorem dJ34_clear_51 : decode cJ34_clear 51 = .ok (.getfield 33, 3) := dk_180 0 33 (dk_at dksJ34_clear_2 5 rfl rfl)
theorem dJ34_clear_54 : decode cJ34_clear 54 = .ok (.iconst 1, 1) := dk_4 (dk_at dksJ34_clear_2 8 rfl rfl)
theorem dJ34_clear_55 : decode cJ34_clear 55 = .ok (.iadd, 1) := dk_96 (dk_at dksJ34_clear_2 9 rfl rfl)
theorem dJ34_clear_56 : decode cJ34_clear 56 = .ok (.putfield 33, 3) := dk_181 0 33 (dk_at dksJ34_clear_2 10 rfl rfl)
theorem dJ34_clear_59 : decode cJ34_clear 59 = .ok (.return_, 1) := dk_177 (dk_at dksJ34_clear_2 13 rfl rfl)
abbrev cJ34_remove : ByteArray := prog_67_method_25_code
def yJ34_remove : MethodName := ⟨RJ34, "remove", "(I)Ljava/lang/Object;"⟩
def dkwJ34_remove_0 : List UInt8 := [42, 27, 182, 0, 90, 42, 42, 27, 182, 0, 86, 182, 0, 64, 176]
abbrev dktJ34_remove_0 : List UInt8 := dkwJ34_remove_0 ++ []
theorem dksJ34_remove_0 : cJ34_remove.data.toList.drop 0 = dktJ34_remove_0 := by decide +kernel
theorem dJ34_remove_0 : decode cJ34_remove 0 = .ok (.aload_n 0, 1) := dk_42 (dk_at dksJ34_remove_0 0 rfl rfl)
theorem dJ34_remove_1 : decode cJ34_remove 1 = .ok (.iload_n 1, 1) := dk_27 (dk_at dksJ34_remove_0 1 rfl rfl)
theorem dJ34_remove_2 : decode cJ34_remove 2 = .ok (.invokevirtual 90, 3) := dk_182 0 90 (dk_at dksJ34_remove_0 2 rfl rfl)
theorem dJ34_remove_5 : decode cJ34_remove 5 = .ok (.aload_n 0, 1) := dk_42 (dk_at dksJ34_remove_0 5 rfl rfl)
theorem dJ34_remove_6 : decode cJ34_remove 6 = .ok (.aload_n 0, 1) := dk_42 (dk_at dksJ34_remove_0 6 rfl rfl)
theorem dJ34_remove_7 : decode cJ34_remove 7 = .ok (.iload_n 1, 1) := dk_27 (dk_at dksJ34_remove_0 7 rfl rfl)
theorem dJ34_remove_8 : decode cJ34_remove 8 = .ok (.invokevirtual 86, 3) := dk_182 0 86 (dk_at dksJ34_remove_0 8 rfl rfl)
theorem dJ34_remove_11 : decode cJ34_remove 11 = .ok (.invokevirtual 64, 3) := dk_182 0 64 (dk_at dksJ34_remove_0 11 rfl rfl)
theorem dJ34_remove_14 : decode cJ34_remove 14 = .ok (.areturn, 1) := dk_176 (dk_at dksJ34_remove_0 14 rfl rfl)
abbrev cJ34_unlink : ByteArray := prog_67_method_8_code
def yJ34_unlink : MethodName := ⟨RJ34, "unlink", "(Ljava/util/LinkedList$Node;)Ljava/lang/Object;"⟩
def dkwJ34_unlink_3 : List UInt8 := [180, 0, 7, 4, 100, 181, 0, 7, 42, 89, 180, 0, 33, 4, 96, 181, 0, 33, 44, 176]
abbrev dktJ34_unlink_3 : List UInt8 := dkwJ34_unlink_3 ++ []
def dkwJ34_unlink_2 : List UInt8 := [181, 0, 27, 167, 0, 14, 45, 25, 4, 181, 0, 30, 43, 1, 181, 0, 36, 43, 1, 181, 0, 39, 42, 89]
abbrev dktJ34_unlink_2 : List UInt8 := dkwJ34_unlink_2 ++ dktJ34_unlink_3
def dkwJ34_unlink_1 : List UInt8 := [181, 0, 18, 167, 0, 14, 25, 4, 45, 181, 0, 36, 43, 1, 181, 0, 30, 45, 199, 0, 12, 42, 25, 4]
abbrev dktJ34_unlink_1 : List UInt8 := dkwJ34_unlink_1 ++ dktJ34_unlink_2
def dkwJ34_unlink_0 : List UInt8 := [43, 180, 0, 39, 77, 43, 180, 0, 36, 78, 43, 180, 0, 30, 58, 4, 25, 4, 199, 0, 11, 42, 45]
abbrev dktJ34_unlink_0 : List UInt8 := dkwJ34_unlink_0 ++ dktJ34_unlink_1
theorem dksJ34_unlink_0 : cJ34_unlink.data.toList.drop 0 = dktJ34_unlink_0 := by decide +kernel
theorem dksJ34_unlink_1 : cJ34_unlink.data.toList.drop 23 = dktJ34_unlink_1 := dk_seg dksJ34_unlink_0 23 rfl rfl
theorem dksJ34_unlink_2 : cJ34_unlink.data.toList.drop 47 = dktJ34_unlink_2 := dk_seg dksJ34_unlink_1 24 rfl rfl
theorem dksJ34_unlink_3 : cJ34_unlink.data.toList.drop 71 = dktJ34_unlink_3 := dk_seg dksJ34_unlink_2 24 rfl rfl
theorem dJ34_unlink_0 : decode cJ34_unlink 0 = .ok (.aload_n 1, 1) := dk_43 (dk_at dksJ34_unlink_0 0 rfl rfl)
theorem dJ34_unlink_1 : decode cJ34_unlink 1 = .ok (.getfield 39, 3) := dk_180 0 39 (dk_at dksJ34_unlink_0 1 rfl rfl)
theorem dJ34_unlink_4 : decode cJ34_unlink 4 = .ok (.astore_n 2, 1) := dk_77 (dk_at dksJ34_unlink_0 4 rfl rfl)
theorem dJ34_unlink_5 : decode cJ34_unlink 5 = .ok (.aload_n 1, 1) := dk_43 (dk_at dksJ34_unlink_0 5 rfl rfl)
theorem dJ34_unlink_6 : decode cJ34_unlink 6 = .ok (.getfield 36, 3) := dk_180 0 36 (dk_at dksJ34_unlink_0 6 rfl rfl)
theorem dJ34_unlink_9 : decode cJ34_unlink 9 = .ok (.astore_n 3, 1) := dk_78 (dk_at dksJ34_unlink_0 9 rfl rfl)
theorem dJ34_unlink_10 : decode cJ34_unlink 10 = .ok (.aload_n 1, 1) := dk_43 (dk_at dksJ34_unlink_0 10 rfl rfl)
theorem dJ34_unlink_11 : decode cJ34_unlink 11 = .ok (.getfield 30, 3) := dk_180 0 30 (dk_at dksJ34_unlink_0 11 rfl rfl)
theorem dJ34_unlink_14 : decode cJ34_unlink 14 = .ok (.astore 4, 2) := dk_58 4 (dk_at dksJ34_unlink_0 14 rfl rfl)
theorem dJ34_unlink_16 : decode cJ34_unlink 16 = .ok (.aload 4, 2) := dk_25 4 (dk_at dksJ34_unlink_0 16 rfl rfl)
theorem dJ34_unlink_18 : decode cJ34_unlink 18 = .ok (.ifnonnull 11, 3) := dk_199 0 11 (dk_at dksJ34_unlink_0 18 rfl rfl)
theorem dJ34_unlink_21 : decode cJ34_unlink 21 = .ok (.aload_n 0, 1) := dk_42 (dk_at dksJ34_unlink_0 21 rfl rfl)
theorem dJ34_unlink_22 : decode cJ34_unlink 22 = .ok (.aload_n 3, 1) := dk_45 (dk_at dksJ34_unlink_0 22 rfl rfl)
theorem dJ34_unlink_23 : decode cJ34_unlink 23 = .ok (.putfield 18, 3) := dk_181 0 18 (dk_at dksJ34_unlink_1 0 rfl rfl)
theorem dJ34_unlink_26 : decode cJ34_unlink 26 = .ok (.goto 14, 3) := dk_167 0 14 (dk_at dksJ34_unlink_1 3 rfl rfl)
theorem dJ34_unlink_29 : decode cJ34_unlink 29 = .ok (.aload 4, 2) := dk_25 4 (dk_at dksJ34_unlink_1 6 rfl rfl)
theorem dJ34_unlink_31 : decode cJ34_unlink 31 = .ok (.aload_n 3, 1) := dk_45 (dk_at dksJ34_unlink_1 8 rfl rfl)
theorem dJ34_unlink_32 : decode cJ34_unlink 32 = .ok (.putfield 36, 3) := dk_181 0 36 (dk_at dksJ34_unlink_1 9 rfl rfl)
theorem dJ34_unlink_35 : decode cJ34_unlink 35 = .ok (.aload_n 1, 1) := dk_43 (dk_at dksJ34_unlink_1 12 rfl rfl)
theorem dJ34_unlink_36 : decode cJ34_unlink 36 = .ok (.aconst_null, 1) := dk_1 (dk_at dksJ34_unlink_1 13 rfl rfl)
theorem dJ34_unlink_37 : decode cJ34_unlink 37 = .ok (.putfield 30, 3) := dk_181 0 30 (dk_at dksJ34_unlink_1 14 rfl rfl)
theorem dJ34_unlink_40 : decode cJ34_unlink 40 = .ok (.aload_n 3, 1) := dk_45 (dk_at dksJ34_unlink_1 17 rfl rfl)
theorem dJ34_unlink_41 : decode cJ34_unlink 41 = .ok (.ifnonnull 12, 3) := dk_199 0 12 (dk_at dksJ34_unlink_1 18 rfl rfl)
theorem dJ34_unlink_44 : decode cJ34_unlink 44 = .ok (.aload_n 0, 1) := dk_42 (dk_at dksJ34_unlink_1 21 rfl rfl)
theorem dJ34_unlink_45 : decode cJ34_unlink 45 = .ok (.aload 4, 2) := dk_25 4 (dk_at dksJ34_unlink_1 22 rfl rfl)
theorem dJ34_unlink_47 : decode cJ34_unlink 47 = .ok (.putfield 27, 3) := dk_181 0 27 (dk_at dksJ34_unlink_2 0 rfl rfl)
theorem dJ34_unlink_50 : decode cJ34_unlink 50 = .ok (.goto 14, 3) := dk_167 0 14 (dk_at dksJ34_unlink_2 3 rfl rfl)
theorem dJ34_unlink_53 : decode cJ34_unlink 53 = .ok (.aload_n 3, 1) := dk_45 (dk_at dksJ34_unlink_2 6 rfl rfl)
theorem dJ34_unlink_54 : decode cJ34_unlink 54 = .ok (.aload 4, 2) := dk_25 4 (dk_at dksJ34_unlink_2 7 rfl rfl)
theorem dJ34_unlink_56 : decode cJ34_unlink 56 = .ok (.putfield 30, 3) := dk_181 0 30 (dk_at dksJ34_unlink_2 9 rfl rfl)
theorem dJ34_unlink_59 : decode cJ34_unlink 59 = .ok (.aload_n 1, 1) := dk_43 (dk_at dksJ34_unlink_2 12 rfl rfl)
theorem dJ34_unlink_60 : decode cJ34_unlink 60 = .ok (.aconst_null, 1) := dk_1 (dk_at dksJ34_unlink_2 13 rfl rfl)
theorem dJ34_unlink_61 : decode cJ34_unlink 61 = .ok (.putfield 36, 3) := dk_181 0 36 (dk_at dksJ34_unlink_2 14 rfl rfl)
theorem dJ34_unlink_64 : decode cJ34_unlink 64 = .ok (.aload_n 1, 1) := dk_43 (dk_at dksJ34_unlink_2 17 rfl rfl)
theorem dJ34_unlink_65 : decode cJ34_unlink 65 = .ok (.aconst_null, 1) := dk_1 (dk_at dksJ34_unlink_2 18 rfl rfl)
theorem dJ34_unlink_66 : decode cJ34_unlink 66 = .ok (.putfield 39, 3) := dk_181 0 39 (dk_at dksJ34_unlink_2 19 rfl rfl)
theorem dJ34_unlink_69 : decode cJ34_unlink 69 = .ok (.aload_n 0, 1) := dk_42 (dk_at dksJ34_unlink_2 22 rfl rfl)
theorem dJ34_unlink_70 : decode cJ34_unlink 70 = .ok (.dup, 1) := dk_89 (dk_at dksJ34_unlink_2 23 rfl rfl)
theorem dJ34_unlink_71 : decode cJ34_unlink 71 = .ok (.getfield 7, 3) := dk_180 0 7 (dk_at dksJ34_unlink_3 0 rfl rfl)
theorem dJ34_unlink_74 : decode cJ34_unlink 74 = .ok (.iconst 1, 1) := dk_4 (dk_at dksJ34_unlink_3 3 rfl rfl)
theorem dJ34_unlink_75 : decode cJ34_unlink 75 = .ok (.isub, 1) := dk_100 (dk_at dksJ34_unlink_3 4 rfl rfl)
theorem dJ34_unlink_76 : decode cJ34_unlink 76 = .ok (.putfield 7, 3) := dk_181 0 7 (dk_at dksJ34_unlink_3 5 rfl rfl)
theorem dJ34_unlink_79 : decode cJ34_unlink 79 = .ok (.aload_n 0, 1) := dk_42 (dk_at dksJ34_unlink_3 8 rfl rfl)
theorem dJ34_unlink_80 : decode cJ34_unlink 80 = .ok (.dup, 1) := dk_89 (dk_at dksJ34_unlink_3 9 rfl rfl)
theorem dJ34_unlink_81 : decode cJ34_unlink 81 = .ok (.getfield 33, 3) := dk_180 0 33 (dk_at dksJ34_unlink_3 10 rfl rfl)
theorem dJ34_unlink_84 : decode cJ34_unlink 84 = .ok (.iconst 1, 1) := dk_4 (dk_at dksJ34_unlink_3 13 rfl rfl)
theorem dJ34_unlink_85 : decode cJ34_unlink 85 = .ok (.iadd, 1) := dk_96 (dk_at dksJ34_unlink_3 14 rfl rfl)
theorem dJ34_unlink_86 : decode cJ34_unlink 86 = .ok (.putfield 33, 3) := dk_181 0 33 (dk_at dksJ34_unlink_3 15 rfl rfl)
theorem dJ34_unlink_89 : decode cJ34_unlink 89 = .ok (.aload_n 2, 1) := dk_44 (dk_at dksJ34_unlink_3 18 rfl rfl)
theorem dJ34_unlink_90 : decode cJ34_unlink 90 = .ok (.areturn, 1) := dk_176 (dk_at dksJ34_unlink_3 19 rfl rfl)
theorem q226 : (Jvm.Cond.initialized "java/util/LinkedList") ∈ lw_all := lw_g (lw_at lw_m1 50 rfl) rfl
theorem q281 : (Jvm.Cond.sameField "java/util/LinkedList" "java/util/AbstractList" "modCount" "I") ∈ lw_all := lw_g (lw_at lw_m1 105 rfl) rfl
theorem q285 : (Jvm.Cond.fieldLink "java/util/LinkedList" (33 : Nat) "java/util/LinkedList" "modCount" "I") ∈ lw_all := lw_g (lw_at lw_m1 109 rfl) rfl
theorem q431 : (Jvm.Cond.selects "java/util/LinkedList" ({ cls := "java/lang/Object", name := "getClass", desc := "()Ljava/lang/Class;" } : Jvm.MethodName) ({ cls := "java/lang/Object", name := "getClass", desc := "()Ljava/lang/Class;" } : Jvm.MethodName)) ∈ lw_all := lw_g (lw_at lw_m2 15 rfl) rfl
theorem q459 : (Jvm.Cond.castable "java/util/LinkedList" "java/util/List") ∈ lw_tbl := lw_at lw_m2 43 rfl
theorem q460 : (Jvm.Cond.selects "java/util/LinkedList" ({ cls := "java/util/List", name := "add", desc := "(Ljava/lang/Object;)Z" } : Jvm.MethodName) ({ cls := "java/util/LinkedList", name := "add", desc := "(Ljava/lang/Object;)Z" } : Jvm.MethodName)) ∈ lw_all := lw_g (lw_at lw_m2 44 rfl) rfl
theorem q461 : (Jvm.Cond.unhidden "java/util/LinkedList" "add" "(Ljava/lang/Object;)Z") ∈ lw_tbl := lw_at lw_m2 45 rfl
theorem q462 : (Jvm.Cond.instanceMethod ({ cls := "java/util/LinkedList", name := "add", desc := "(Ljava/lang/Object;)Z" } : Jvm.MethodName)) ∈ lw_all := lw_g (lw_at lw_m2 46 rfl) rfl
theorem q463 : (Jvm.Cond.publicMethod ({ cls := "java/util/LinkedList", name := "add", desc := "(Ljava/lang/Object;)Z" } : Jvm.MethodName)) ∈ lw_tbl := lw_at lw_m2 47 rfl
theorem q464 : (Jvm.Cond.code ({ cls := "java/util/LinkedList", name := "add", desc := "(Ljava/lang/Object;)Z" } : Jvm.MethodName) prog_67_method_17_code (2 : Nat) (Option.some Jvm.ClassFile.FieldType.boolean)) ∈ lw_all := lw_g (lw_at lw_m2 48 rfl) rfl
theorem q465 : (Jvm.Cond.methodLink "java/util/LinkedList" (57 : Nat) ({ cls := "java/util/LinkedList", name := "linkLast", desc := "(Ljava/lang/Object;)V" } : Jvm.MethodName)) ∈ lw_all := lw_g (lw_at lw_m2 49 rfl) rfl
theorem q466 : (Jvm.Cond.instanceMethod ({ cls := "java/util/LinkedList", name := "linkLast", desc := "(Ljava/lang/Object;)V" } : Jvm.MethodName)) ∈ lw_all := lw_g (lw_at lw_m2 50 rfl) rfl
theorem q467 : (Jvm.Cond.selects "java/util/LinkedList" ({ cls := "java/util/LinkedList", name := "linkLast", desc := "(Ljava/lang/Object;)V" } : Jvm.MethodName) ({ cls := "java/util/LinkedList", name := "linkLast", desc := "(Ljava/lang/Object;)V" } : Jvm.MethodName)) ∈ lw_all := lw_g (lw_at lw_m2 51 rfl) rfl
theorem q468 : (Jvm.Cond.code ({ cls := "java/util/LinkedList", name := "linkLast", desc := "(Ljava/lang/Object;)V" } : Jvm.MethodName) prog_67_method_4_code (4 : Nat) (Option.none : Option Jvm.ClassFile.FieldType)) ∈ lw_all := lw_g (lw_at lw_m2 52 rfl) rfl
theorem q469 : (Jvm.Cond.classLink "java/util/LinkedList" (22 : Nat) "java/util/LinkedList$Node") ∈ lw_all := lw_g (lw_at lw_m2 53 rfl) rfl
theorem q471 : (Jvm.Cond.methodLink "java/util/LinkedList" (24 : Nat) ({ cls := "java/util/LinkedList$Node", name := "<init>", desc := "(Ljava/util/LinkedList$Node;Ljava/lang/Object;Ljava/util/LinkedList$Node;)V" } : Jvm.MethodName)) ∈ lw_all := lw_g (lw_at lw_m2 55 rfl) rfl
theorem q477 : (Jvm.Cond.fieldLink "java/util/LinkedList" (39 : Nat) "java/util/LinkedList$Node" "item" "Ljava/lang/Object;") ∈ lw_all := lw_g (lw_at lw_m2 61 rfl) rfl
theorem q480 : (Jvm.Cond.fieldLink "java/util/LinkedList" (36 : Nat) "java/util/LinkedList$Node" "next" "Ljava/util/LinkedList$Node;") ∈ lw_all := lw_g (lw_at lw_m2 64 rfl) rfl
theorem q482 : (Jvm.Cond.fieldLink "java/util/LinkedList" (30 : Nat) "java/util/LinkedList$Node" "prev" "Ljava/util/LinkedList$Node;") ∈ lw_all := lw_g (lw_at lw_m2 66 rfl) rfl
theorem q1166 : (Jvm.Cond.selects "java/util/LinkedList" ({ cls := "java/util/List", name := "size", desc := "()I" } : Jvm.MethodName) ({ cls := "java/util/LinkedList", name := "size", desc := "()I" } : Jvm.MethodName)) ∈ lw_all := lw_g (lw_at lw_m5 30 rfl) rfl
theorem q1167 : (Jvm.Cond.unhidden "java/util/LinkedList" "size" "()I") ∈ lw_tbl := lw_at lw_m5 31 rfl
theorem q1168 : (Jvm.Cond.instanceMethod ({ cls := "java/util/LinkedList", name := "size", desc := "()I" } : Jvm.MethodName)) ∈ lw_all := lw_g (lw_at lw_m5 32 rfl) rfl
theorem q1169 : (Jvm.Cond.publicMethod ({ cls := "java/util/LinkedList", name := "size", desc := "()I" } : Jvm.MethodName)) ∈ lw_tbl := lw_at lw_m5 33 rfl
theorem q1170 : (Jvm.Cond.code ({ cls := "java/util/LinkedList", name := "size", desc := "()I" } : Jvm.MethodName) prog_67_method_16_code (1 : Nat) (Option.some Jvm.ClassFile.FieldType.int)) ∈ lw_all := lw_g (lw_at lw_m5 34 rfl) rfl
theorem q1207 : (Jvm.Cond.selects "java/util/LinkedList" ({ cls := "java/util/List", name := "get", desc := "(I)Ljava/lang/Object;" } : Jvm.MethodName) ({ cls := "java/util/LinkedList", name := "get", desc := "(I)Ljava/lang/Object;" } : Jvm.MethodName)) ∈ lw_all := lw_g (lw_at lw_m5 71 rfl) rfl
theorem q1208 : (Jvm.Cond.unhidden "java/util/LinkedList" "get" "(I)Ljava/lang/Object;") ∈ lw_tbl := lw_at lw_m5 72 rfl
theorem q1209 : (Jvm.Cond.instanceMethod ({ cls := "java/util/LinkedList", name := "get", desc := "(I)Ljava/lang/Object;" } : Jvm.MethodName)) ∈ lw_all := lw_g (lw_at lw_m5 73 rfl) rfl
theorem q1210 : (Jvm.Cond.publicMethod ({ cls := "java/util/LinkedList", name := "get", desc := "(I)Ljava/lang/Object;" } : Jvm.MethodName)) ∈ lw_tbl := lw_at lw_m5 74 rfl
theorem q1211 : (Jvm.Cond.code ({ cls := "java/util/LinkedList", name := "get", desc := "(I)Ljava/lang/Object;" } : Jvm.MethodName) prog_67_method_22_code (2 : Nat) (Option.some (Jvm.ClassFile.FieldType.object "java/lang/Object"))) ∈ lw_all := lw_g (lw_at lw_m5 75 rfl) rfl
theorem q1212 : (Jvm.Cond.methodLink "java/util/LinkedList" (90 : Nat) ({ cls := "java/util/LinkedList", name := "checkElementIndex", desc := "(I)V" } : Jvm.MethodName)) ∈ lw_all := lw_g (lw_at lw_m5 76 rfl) rfl
theorem q1213 : (Jvm.Cond.privateMethod ({ cls := "java/util/LinkedList", name := "checkElementIndex", desc := "(I)V" } : Jvm.MethodName)) ∈ lw_tbl := lw_at lw_m5 77 rfl
theorem q1214 : (Jvm.Cond.instanceMethod ({ cls := "java/util/LinkedList", name := "checkElementIndex", desc := "(I)V" } : Jvm.MethodName)) ∈ lw_all := lw_g (lw_at lw_m5 78 rfl) rfl
theorem q1215 : (Jvm.Cond.instantiable "java/util/LinkedList" (4 : Nat)) ∈ lw_all := lw_g (lw_at lw_m5 79 rfl) rfl
theorem q1216 : (Jvm.Cond.code ({ cls := "java/util/LinkedList", name := "checkElementIndex", desc := "(I)V" } : Jvm.MethodName) prog_67_method_29_code (2 : Nat) (Option.none : Option Jvm.ClassFile.FieldType)) ∈ lw_all := lw_g (lw_at lw_m5 80 rfl) rfl
theorem q1217 : (Jvm.Cond.methodLink "java/util/LinkedList" (115 : Nat) ({ cls := "java/util/LinkedList", name := "isElementIndex", desc := "(I)Z" } : Jvm.MethodName)) ∈ lw_all := lw_g (lw_at lw_m5 81 rfl) rfl
theorem q1218 : (Jvm.Cond.privateMethod ({ cls := "java/util/LinkedList", name := "isElementIndex", desc := "(I)Z" } : Jvm.MethodName)) ∈ lw_tbl := lw_at lw_m5 82 rfl
theorem q1219 : (Jvm.Cond.instanceMethod ({ cls := "java/util/LinkedList", name := "isElementIndex", desc := "(I)Z" } : Jvm.MethodName)) ∈ lw_all := lw_g (lw_at lw_m5 83 rfl) rfl
theorem q1220 : (Jvm.Cond.code ({ cls := "java/util/LinkedList", name := "isElementIndex", desc := "(I)Z" } : Jvm.MethodName) prog_67_method_26_code (2 : Nat) (Option.some Jvm.ClassFile.FieldType.boolean)) ∈ lw_all := lw_g (lw_at lw_m5 84 rfl) rfl
theorem q1221 : (Jvm.Cond.classLink "java/util/LinkedList" (119 : Nat) "java/lang/IndexOutOfBoundsException") ∈ lw_all := lw_g (lw_at lw_m5 85 rfl) rfl
theorem q1222 : (Jvm.Cond.methodLink "java/util/LinkedList" (121 : Nat) ({ cls := "java/util/LinkedList", name := "outOfBoundsMsg", desc := "(I)Ljava/lang/String;" } : Jvm.MethodName)) ∈ lw_all := lw_g (lw_at lw_m5 86 rfl) rfl
theorem q1223 : (Jvm.Cond.privateMethod ({ cls := "java/util/LinkedList", name := "outOfBoundsMsg", desc := "(I)Ljava/lang/String;" } : Jvm.MethodName)) ∈ lw_tbl := lw_at lw_m5 87 rfl
theorem q1224 : (Jvm.Cond.instanceMethod ({ cls := "java/util/LinkedList", name := "outOfBoundsMsg", desc := "(I)Ljava/lang/String;" } : Jvm.MethodName)) ∈ lw_all := lw_g (lw_at lw_m5 88 rfl) rfl
theorem q1225 : (Jvm.Cond.code ({ cls := "java/util/LinkedList", name := "outOfBoundsMsg", desc := "(I)Ljava/lang/String;" } : Jvm.MethodName) prog_67_method_28_code (2 : Nat) (Option.some (Jvm.ClassFile.FieldType.object "java/lang/String"))) ∈ lw_all := lw_g (lw_at lw_m5 89 rfl) rfl
theorem q1226 : (Jvm.Cond.classLink "java/util/LinkedList" (97 : Nat) "java/lang/StringBuilder") ∈ lw_all := lw_g (lw_at lw_m5 90 rfl) rfl
theorem q1227 : (Jvm.Cond.methodLink "java/util/LinkedList" (99 : Nat) ({ cls := "java/lang/StringBuilder", name := "<init>", desc := "()V" } : Jvm.MethodName)) ∈ lw_all := lw_g (lw_at lw_m5 91 rfl) rfl
theorem q1228 : (Jvm.Cond.stringRef "java/util/LinkedList" (100 : Nat) "Index: ") ∈ lw_tbl := lw_at lw_m5 92 rfl
theorem q1229 : (Jvm.Cond.methodLink "java/util/LinkedList" (102 : Nat) ({ cls := "java/lang/StringBuilder", name := "append", desc := "(Ljava/lang/String;)Ljava/lang/StringBuilder;" } : Jvm.MethodName)) ∈ lw_all := lw_g (lw_at lw_m5 93 rfl) rfl
theorem q1230 : (Jvm.Cond.methodLink "java/util/LinkedList" (106 : Nat) ({ cls := "java/lang/StringBuilder", name := "append", desc := "(I)Ljava/lang/StringBuilder;" } : Jvm.MethodName)) ∈ lw_all := lw_g (lw_at lw_m5 94 rfl) rfl
theorem q1231 : (Jvm.Cond.stringRef "java/util/LinkedList" (109 : Nat) ", Size: ") ∈ lw_tbl := lw_at lw_m5 95 rfl
theorem q1232 : (Jvm.Cond.methodLink "java/util/LinkedList" (111 : Nat) ({ cls := "java/lang/StringBuilder", name := "toString", desc := "()Ljava/lang/String;" } : Jvm.MethodName)) ∈ lw_all := lw_g (lw_at lw_m5 96 rfl) rfl
theorem q1233 : (Jvm.Cond.methodLink "java/util/LinkedList" (125 : Nat) ({ cls := "java/lang/IndexOutOfBoundsException", name := "<init>", desc := "(Ljava/lang/String;)V" } : Jvm.MethodName)) ∈ lw_all := lw_g (lw_at lw_m5 97 rfl) rfl
theorem q1234 : (Jvm.Cond.methodLink "java/util/LinkedList" (86 : Nat) ({ cls := "java/util/LinkedList", name := "node", desc := "(I)Ljava/util/LinkedList$Node;" } : Jvm.MethodName)) ∈ lw_all := lw_g (lw_at lw_m5 98 rfl) rfl
theorem q1235 : (Jvm.Cond.instanceMethod ({ cls := "java/util/LinkedList", name := "node", desc := "(I)Ljava/util/LinkedList$Node;" } : Jvm.MethodName)) ∈ lw_all := lw_g (lw_at lw_m5 99 rfl) rfl
theorem q1236 : (Jvm.Cond.selects "java/util/LinkedList" ({ cls := "java/util/LinkedList", name := "node", desc := "(I)Ljava/util/LinkedList$Node;" } : Jvm.MethodName) ({ cls := "java/util/LinkedList", name := "node", desc := "(I)Ljava/util/LinkedList$Node;" } : Jvm.MethodName)) ∈ lw_all := lw_g (lw_at lw_m5 100 rfl) rfl
theorem q1237 : (Jvm.Cond.code ({ cls := "java/util/LinkedList", name := "node", desc := "(I)Ljava/util/LinkedList$Node;" } : Jvm.MethodName) prog_67_method_31_code (4 : Nat) (Option.some (Jvm.ClassFile.FieldType.object "java/util/LinkedList$Node"))) ∈ lw_all := lw_g (lw_at lw_m5 101 rfl) rfl
theorem q1794 : (Jvm.Cond.selects "java/util/LinkedList" ({ cls := "java/util/List", name := "isEmpty", desc := "()Z" } : Jvm.MethodName) ({ cls := "java/util/AbstractCollection", name := "isEmpty", desc := "()Z" } : Jvm.MethodName)) ∈ lw_all := lw_g (lw_at lw_m7 178 rfl) rfl
theorem q1795 : (Jvm.Cond.unhidden "java/util/LinkedList" "isEmpty" "()Z") ∈ lw_tbl := lw_at lw_m7 179 rfl
theorem q1809 : (Jvm.Cond.selects "java/util/LinkedList" ({ cls := "java/util/AbstractCollection", name := "size", desc := "()I" } : Jvm.MethodName) ({ cls := "java/util/LinkedList", name := "size", desc := "()I" } : Jvm.MethodName)) ∈ lw_all := lw_g (lw_at lw_m7 193 rfl) rfl
theorem q2051 : (Jvm.Cond.instanceMethod ({ cls := "java/util/LinkedList", name := "<init>", desc := "()V" } : Jvm.MethodName)) ∈ lw_all := lw_g (lw_at lw_m8 195 rfl) rfl
theorem q2052 : (Jvm.Cond.code ({ cls := "java/util/LinkedList", name := "<init>", desc := "()V" } : Jvm.MethodName) prog_67_method_1_code (1 : Nat) (Option.none : Option Jvm.ClassFile.FieldType)) ∈ lw_all := lw_g (lw_at lw_m8 196 rfl) rfl
theorem q2053 : (Jvm.Cond.methodLink "java/util/LinkedList" (1 : Nat) ({ cls := "java/util/AbstractSequentialList", name := "<init>", desc := "()V" } : Jvm.MethodName)) ∈ lw_all := lw_g (lw_at lw_m8 197 rfl) rfl
theorem q2057 : (Jvm.Cond.fieldLink "java/util/LinkedList" (7 : Nat) "java/util/LinkedList" "size" "I") ∈ lw_all := lw_g (lw_at lw_m8 201 rfl) rfl
theorem q2059 : (Jvm.Cond.fieldLink "java/util/LinkedList" (18 : Nat) "java/util/LinkedList" "first" "Ljava/util/LinkedList$Node;") ∈ lw_all := lw_g (lw_at lw_m8 203 rfl) rfl
theorem q2060 : (Jvm.Cond.fieldLink "java/util/LinkedList" (27 : Nat) "java/util/LinkedList" "last" "Ljava/util/LinkedList$Node;") ∈ lw_all := lw_g (lw_at lw_m8 204 rfl) rfl
theorem q2061 : (Jvm.Cond.lays "java/util/LinkedList" "java/util/LinkedList" "size" "I") ∈ lw_all := lw_g (lw_at lw_m8 205 rfl) rfl
theorem q2062 : (Jvm.Cond.soleField "java/util/LinkedList" "size") ∈ lw_all := lw_g (lw_at lw_m8 206 rfl) rfl
theorem q2063 : (Jvm.Cond.lays "java/util/LinkedList" "java/util/LinkedList" "first" "Ljava/util/LinkedList$Node;") ∈ lw_all := lw_g (lw_at lw_m8 207 rfl) rfl
theorem q2064 : (Jvm.Cond.soleField "java/util/LinkedList" "first") ∈ lw_all := lw_g (lw_at lw_m8 208 rfl) rfl
theorem q2065 : (Jvm.Cond.lays "java/util/LinkedList" "java/util/LinkedList" "last" "Ljava/util/LinkedList$Node;") ∈ lw_all := lw_g (lw_at lw_m8 209 rfl) rfl
theorem q2066 : (Jvm.Cond.soleField "java/util/LinkedList" "last") ∈ lw_all := lw_g (lw_at lw_m8 210 rfl) rfl
theorem q2067 : (Jvm.Cond.lays "java/util/LinkedList" "java/util/AbstractList" "modCount" "I") ∈ lw_all := lw_g (lw_at lw_m8 211 rfl) rfl
theorem q2068 : (Jvm.Cond.superclass "java/util/LinkedList" "java/util/AbstractSequentialList") ∈ lw_all := lw_g (lw_at lw_m8 212 rfl) rfl
theorem q2071 : (Jvm.Cond.instanceMethod ({ cls := "java/util/LinkedList", name := "addLast", desc := "(Ljava/lang/Object;)V" } : Jvm.MethodName)) ∈ lw_all := lw_g (lw_at lw_m8 215 rfl) rfl
theorem q2072 : (Jvm.Cond.selects "java/util/LinkedList" ({ cls := "java/util/LinkedList", name := "addLast", desc := "(Ljava/lang/Object;)V" } : Jvm.MethodName) ({ cls := "java/util/LinkedList", name := "addLast", desc := "(Ljava/lang/Object;)V" } : Jvm.MethodName)) ∈ lw_all := lw_g (lw_at lw_m8 216 rfl) rfl
theorem q2073 : (Jvm.Cond.code ({ cls := "java/util/LinkedList", name := "addLast", desc := "(Ljava/lang/Object;)V" } : Jvm.MethodName) prog_67_method_14_code (2 : Nat) (Option.none : Option Jvm.ClassFile.FieldType)) ∈ lw_all := lw_g (lw_at lw_m8 217 rfl) rfl
theorem q2189 : (Jvm.Cond.selects "java/util/LinkedList" ({ cls := "java/util/AbstractList", name := "size", desc := "()I" } : Jvm.MethodName) ({ cls := "java/util/LinkedList", name := "size", desc := "()I" } : Jvm.MethodName)) ∈ lw_all := lw_g (lw_at lw_m9 93 rfl) rfl
theorem q2232 : (Jvm.Cond.selects "java/util/LinkedList" ({ cls := "java/util/AbstractList", name := "get", desc := "(I)Ljava/lang/Object;" } : Jvm.MethodName) ({ cls := "java/util/LinkedList", name := "get", desc := "(I)Ljava/lang/Object;" } : Jvm.MethodName)) ∈ lw_all := lw_g (lw_at lw_m9 136 rfl) rfl
theorem q2362 : (Jvm.Cond.sameMethod "java/util/LinkedList" "java/util/AbstractSequentialList" "iterator" "()Ljava/util/Iterator;") ∈ lw_all := lw_g (lw_at lw_m10 26 rfl) rfl
theorem q2364 : (Jvm.Cond.selects "java/util/LinkedList" ({ cls := "java/util/LinkedList", name := "iterator", desc := "()Ljava/util/Iterator;" } : Jvm.MethodName) ({ cls := "java/util/AbstractSequentialList", name := "iterator", desc := "()Ljava/util/Iterator;" } : Jvm.MethodName)) ∈ lw_all := lw_g (lw_at lw_m10 28 rfl) rfl
theorem q2370 : (Jvm.Cond.selects "java/util/LinkedList" ({ cls := "java/util/AbstractSequentialList", name := "listIterator", desc := "()Ljava/util/ListIterator;" } : Jvm.MethodName) ({ cls := "java/util/AbstractList", name := "listIterator", desc := "()Ljava/util/ListIterator;" } : Jvm.MethodName)) ∈ lw_all := lw_g (lw_at lw_m10 34 rfl) rfl
theorem q2423 : (Jvm.Cond.selects "java/util/LinkedList" ({ cls := "java/util/AbstractList", name := "listIterator", desc := "(I)Ljava/util/ListIterator;" } : Jvm.MethodName) ({ cls := "java/util/LinkedList", name := "listIterator", desc := "(I)Ljava/util/ListIterator;" } : Jvm.MethodName)) ∈ lw_all := lw_g (lw_at lw_m10 87 rfl) rfl
theorem q2424 : (Jvm.Cond.instanceMethod ({ cls := "java/util/LinkedList", name := "listIterator", desc := "(I)Ljava/util/ListIterator;" } : Jvm.MethodName)) ∈ lw_all := lw_g (lw_at lw_m10 88 rfl) rfl
theorem q2425 : (Jvm.Cond.code ({ cls := "java/util/LinkedList", name := "listIterator", desc := "(I)Ljava/util/ListIterator;" } : Jvm.MethodName) prog_67_method_49_code (2 : Nat) (Option.some (Jvm.ClassFile.FieldType.object "java/util/ListIterator"))) ∈ lw_all := lw_g (lw_at lw_m10 89 rfl) rfl
theorem q2426 : (Jvm.Cond.methodLink "java/util/LinkedList" (76 : Nat) ({ cls := "java/util/LinkedList", name := "checkPositionIndex", desc := "(I)V" } : Jvm.MethodName)) ∈ lw_all := lw_g (lw_at lw_m10 90 rfl) rfl
theorem q2427 : (Jvm.Cond.privateMethod ({ cls := "java/util/LinkedList", name := "checkPositionIndex", desc := "(I)V" } : Jvm.MethodName)) ∈ lw_tbl := lw_at lw_m10 91 rfl
theorem q2428 : (Jvm.Cond.instanceMethod ({ cls := "java/util/LinkedList", name := "checkPositionIndex", desc := "(I)V" } : Jvm.MethodName)) ∈ lw_all := lw_g (lw_at lw_m10 92 rfl) rfl
theorem q2429 : (Jvm.Cond.code ({ cls := "java/util/LinkedList", name := "checkPositionIndex", desc := "(I)V" } : Jvm.MethodName) prog_67_method_30_code (2 : Nat) (Option.none : Option Jvm.ClassFile.FieldType)) ∈ lw_all := lw_g (lw_at lw_m10 93 rfl) rfl
theorem q2430 : (Jvm.Cond.methodLink "java/util/LinkedList" (128 : Nat) ({ cls := "java/util/LinkedList", name := "isPositionIndex", desc := "(I)Z" } : Jvm.MethodName)) ∈ lw_all := lw_g (lw_at lw_m10 94 rfl) rfl
theorem q2431 : (Jvm.Cond.privateMethod ({ cls := "java/util/LinkedList", name := "isPositionIndex", desc := "(I)Z" } : Jvm.MethodName)) ∈ lw_tbl := lw_at lw_m10 95 rfl
theorem q2432 : (Jvm.Cond.instanceMethod ({ cls := "java/util/LinkedList", name := "isPositionIndex", desc := "(I)Z" } : Jvm.MethodName)) ∈ lw_all := lw_g (lw_at lw_m10 96 rfl) rfl
theorem q2433 : (Jvm.Cond.code ({ cls := "java/util/LinkedList", name := "isPositionIndex", desc := "(I)Z" } : Jvm.MethodName) prog_67_method_27_code (2 : Nat) (Option.some Jvm.ClassFile.FieldType.boolean)) ∈ lw_all := lw_g (lw_at lw_m10 97 rfl) rfl
theorem q2434 : (Jvm.Cond.classLink "java/util/LinkedList" (150 : Nat) "java/util/LinkedList$ListItr") ∈ lw_all := lw_g (lw_at lw_m10 98 rfl) rfl
theorem q2436 : (Jvm.Cond.methodLink "java/util/LinkedList" (152 : Nat) ({ cls := "java/util/LinkedList$ListItr", name := "<init>", desc := "(Ljava/util/LinkedList;I)V" } : Jvm.MethodName)) ∈ lw_all := lw_g (lw_at lw_m10 100 rfl) rfl
theorem q2555 : (Jvm.Cond.selects "java/util/LinkedList" ({ cls := "java/util/List", name := "iterator", desc := "()Ljava/util/Iterator;" } : Jvm.MethodName) ({ cls := "java/util/AbstractSequentialList", name := "iterator", desc := "()Ljava/util/Iterator;" } : Jvm.MethodName)) ∈ lw_all := lw_g (lw_at lw_m10 219 rfl) rfl
theorem q2556 : (Jvm.Cond.unhidden "java/util/LinkedList" "iterator" "()Ljava/util/Iterator;") ∈ lw_tbl := lw_at lw_m10 220 rfl
theorem q3111 : (Jvm.Cond.sameMethod "java/util/LinkedList" "java/util/AbstractCollection" "isEmpty" "()Z") ∈ lw_all := lw_g (lw_at lw_m13 55 rfl) rfl
theorem q3113 : (Jvm.Cond.selects "java/util/LinkedList" ({ cls := "java/util/LinkedList", name := "isEmpty", desc := "()Z" } : Jvm.MethodName) ({ cls := "java/util/AbstractCollection", name := "isEmpty", desc := "()Z" } : Jvm.MethodName)) ∈ lw_all := lw_g (lw_at lw_m13 57 rfl) rfl
theorem q3115 : (Jvm.Cond.instanceMethod ({ cls := "java/util/LinkedList", name := "removeFirst", desc := "()Ljava/lang/Object;" } : Jvm.MethodName)) ∈ lw_all := lw_g (lw_at lw_m13 59 rfl) rfl
theorem q3116 : (Jvm.Cond.selects "java/util/LinkedList" ({ cls := "java/util/LinkedList", name := "removeFirst", desc := "()Ljava/lang/Object;" } : Jvm.MethodName) ({ cls := "java/util/LinkedList", name := "removeFirst", desc := "()Ljava/lang/Object;" } : Jvm.MethodName)) ∈ lw_all := lw_g (lw_at lw_m13 60 rfl) rfl
theorem q3117 : (Jvm.Cond.code ({ cls := "java/util/LinkedList", name := "removeFirst", desc := "()Ljava/lang/Object;" } : Jvm.MethodName) prog_67_method_11_code (2 : Nat) (Option.some (Jvm.ClassFile.FieldType.object "java/lang/Object"))) ∈ lw_all := lw_g (lw_at lw_m13 61 rfl) rfl
theorem q3118 : (Jvm.Cond.classLink "java/util/LinkedList" (43 : Nat) "java/util/NoSuchElementException") ∈ lw_all := lw_g (lw_at lw_m13 62 rfl) rfl
theorem q3119 : (Jvm.Cond.methodLink "java/util/LinkedList" (45 : Nat) ({ cls := "java/util/NoSuchElementException", name := "<init>", desc := "()V" } : Jvm.MethodName)) ∈ lw_all := lw_g (lw_at lw_m13 63 rfl) rfl
theorem q3120 : (Jvm.Cond.methodLink "java/util/LinkedList" (46 : Nat) ({ cls := "java/util/LinkedList", name := "unlinkFirst", desc := "(Ljava/util/LinkedList$Node;)Ljava/lang/Object;" } : Jvm.MethodName)) ∈ lw_all := lw_g (lw_at lw_m13 64 rfl) rfl
theorem q3121 : (Jvm.Cond.privateMethod ({ cls := "java/util/LinkedList", name := "unlinkFirst", desc := "(Ljava/util/LinkedList$Node;)Ljava/lang/Object;" } : Jvm.MethodName)) ∈ lw_tbl := lw_at lw_m13 65 rfl
theorem q3122 : (Jvm.Cond.instanceMethod ({ cls := "java/util/LinkedList", name := "unlinkFirst", desc := "(Ljava/util/LinkedList$Node;)Ljava/lang/Object;" } : Jvm.MethodName)) ∈ lw_all := lw_g (lw_at lw_m13 66 rfl) rfl
theorem q3123 : (Jvm.Cond.code ({ cls := "java/util/LinkedList", name := "unlinkFirst", desc := "(Ljava/util/LinkedList$Node;)Ljava/lang/Object;" } : Jvm.MethodName) prog_67_method_6_code (4 : Nat) (Option.some (Jvm.ClassFile.FieldType.object "java/lang/Object"))) ∈ lw_all := lw_g (lw_at lw_m13 67 rfl) rfl
theorem q3387 : (Jvm.Cond.instanceMethod ({ cls := "java/util/LinkedList", name := "clear", desc := "()V" } : Jvm.MethodName)) ∈ lw_all := lw_g (lw_at lw_m14 91 rfl) rfl
theorem q3388 : (Jvm.Cond.selects "java/util/LinkedList" ({ cls := "java/util/LinkedList", name := "clear", desc := "()V" } : Jvm.MethodName) ({ cls := "java/util/LinkedList", name := "clear", desc := "()V" } : Jvm.MethodName)) ∈ lw_all := lw_g (lw_at lw_m14 92 rfl) rfl
theorem q3389 : (Jvm.Cond.code ({ cls := "java/util/LinkedList", name := "clear", desc := "()V" } : Jvm.MethodName) prog_67_method_21_code (3 : Nat) (Option.none : Option Jvm.ClassFile.FieldType)) ∈ lw_all := lw_g (lw_at lw_m14 93 rfl) rfl
theorem q3508 : (Jvm.Cond.selects "java/util/LinkedList" ({ cls := "java/util/List", name := "remove", desc := "(I)Ljava/lang/Object;" } : Jvm.MethodName) ({ cls := "java/util/LinkedList", name := "remove", desc := "(I)Ljava/lang/Object;" } : Jvm.MethodName)) ∈ lw_all := lw_g (lw_at lw_m14 212 rfl) rfl
theorem q3509 : (Jvm.Cond.unhidden "java/util/LinkedList" "remove" "(I)Ljava/lang/Object;") ∈ lw_tbl := lw_at lw_m14 213 rfl
theorem q3510 : (Jvm.Cond.instanceMethod ({ cls := "java/util/LinkedList", name := "remove", desc := "(I)Ljava/lang/Object;" } : Jvm.MethodName)) ∈ lw_all := lw_g (lw_at lw_m14 214 rfl) rfl
theorem q3511 : (Jvm.Cond.publicMethod ({ cls := "java/util/LinkedList", name := "remove", desc := "(I)Ljava/lang/Object;" } : Jvm.MethodName)) ∈ lw_tbl := lw_at lw_m14 215 rfl
theorem q3512 : (Jvm.Cond.code ({ cls := "java/util/LinkedList", name := "remove", desc := "(I)Ljava/lang/Object;" } : Jvm.MethodName) prog_67_method_25_code (2 : Nat) (Option.some (Jvm.ClassFile.FieldType.object "java/lang/Object"))) ∈ lw_all := lw_g (lw_at lw_m14 216 rfl) rfl
theorem q3513 : (Jvm.Cond.methodLink "java/util/LinkedList" (64 : Nat) ({ cls := "java/util/LinkedList", name := "unlink", desc := "(Ljava/util/LinkedList$Node;)Ljava/lang/Object;" } : Jvm.MethodName)) ∈ lw_all := lw_g (lw_at lw_m14 217 rfl) rfl
theorem q3514 : (Jvm.Cond.instanceMethod ({ cls := "java/util/LinkedList", name := "unlink", desc := "(Ljava/util/LinkedList$Node;)Ljava/lang/Object;" } : Jvm.MethodName)) ∈ lw_all := lw_g (lw_at lw_m14 218 rfl) rfl
theorem q3515 : (Jvm.Cond.selects "java/util/LinkedList" ({ cls := "java/util/LinkedList", name := "unlink", desc := "(Ljava/util/LinkedList$Node;)Ljava/lang/Object;" } : Jvm.MethodName) ({ cls := "java/util/LinkedList", name := "unlink", desc := "(Ljava/util/LinkedList$Node;)Ljava/lang/Object;" } : Jvm.MethodName)) ∈ lw_all := lw_g (lw_at lw_m14 219 rfl) rfl
theorem q3516 : (Jvm.Cond.code ({ cls := "java/util/LinkedList", name := "unlink", desc := "(Ljava/util/LinkedList$Node;)Ljava/lang/Object;" } : Jvm.MethodName) prog_67_method_8_code (5 : Nat) (Option.some (Jvm.ClassFile.FieldType.object "java/lang/Object"))) ∈ lw_all := lw_g (lw_at lw_m14 220 rfl) rfl
theorem q4472 : (Jvm.Cond.selects "java/util/LinkedList" ({ cls := "java/util/LinkedList", name := "size", desc := "()I" } : Jvm.MethodName) ({ cls := "java/util/LinkedList", name := "size", desc := "()I" } : Jvm.MethodName)) ∈ lw_all := lw_g (lw_at lw_m18 216 rfl) rfl
theorem q4473 : (Jvm.Cond.selects "java/util/LinkedList" ({ cls := "java/util/LinkedList", name := "get", desc := "(I)Ljava/lang/Object;" } : Jvm.MethodName) ({ cls := "java/util/LinkedList", name := "get", desc := "(I)Ljava/lang/Object;" } : Jvm.MethodName)) ∈ lw_all := lw_g (lw_at lw_m18 217 rfl) rfl
theorem q4504 : (Jvm.Cond.castable "java/util/LinkedList" "java/lang/Object") ∈ lw_tbl := lw_at lw_m19 8 rfl
theorem in_J34 : ∀ w ∈ wsJ340, w ∈ lw_all := lw_in wsJ340 [2067, 2061, 2063, 2065] (by decide +kernel) (by decide +kernel)

/-! java/util/AbstractSet -/
set_option maxRecDepth 100000
def RJ35 : String := "java/util/AbstractSet"
abbrev cJ35_init : ByteArray := prog_56_method_1_code
def yJ35_init : MethodName := ⟨RJ35, "<init>", "()V"⟩
theorem dJ35_init_0 : decode cJ35_init 0 = .ok (.aload_n 0, 1) := by decide +kernel
theorem dJ35_init_1 : decode cJ35_init 1 = .ok (.invokespecial 1, 3) := by decide +kernel
theorem dJ35_init_4 : decode cJ35_init 4 = .ok (.return_, 1) := by decide +kernel
theorem q227 : (Jvm.Cond.initialized "java/util/AbstractSet") ∈ lw_all := lw_g (lw_at lw_m1 51 rfl) rfl
theorem q1931 : (Jvm.Cond.instanceMethod ({ cls := "java/util/AbstractSet", name := "<init>", desc := "()V" } : Jvm.MethodName)) ∈ lw_all := lw_g (lw_at lw_m8 75 rfl) rfl
theorem q1932 : (Jvm.Cond.code ({ cls := "java/util/AbstractSet", name := "<init>", desc := "()V" } : Jvm.MethodName) prog_56_method_1_code (1 : Nat) (Option.none : Option Jvm.ClassFile.FieldType)) ∈ lw_all := lw_g (lw_at lw_m8 76 rfl) rfl
theorem q1933 : (Jvm.Cond.methodLink "java/util/AbstractSet" (1 : Nat) ({ cls := "java/util/AbstractCollection", name := "<init>", desc := "()V" } : Jvm.MethodName)) ∈ lw_all := lw_g (lw_at lw_m8 77 rfl) rfl

/-! java/util/TreeMap$KeySet -/
set_option maxRecDepth 100000
def RJ36 : String := "java/util/TreeMap$KeySet"
def TJ36 : u_T := fun k => match k with
  | _ => ("java/util/TreeMap$KeySet", "m", "Ljava/util/NavigableMap;", true)
def tyJ36 : Nat → FieldType := fun k => match k with
  | _ => .object "java/util/NavigableMap"
abbrev wsJ360 : List Cond := u_ws RJ36 TJ36 1
theorem nmJ36 : ∀ a, a < 1 → ∀ b, b < 1 → a ≠ b → (TJ36 a).2.1 ≠ (TJ36 b).2.1 := by decide +kernel
theorem tyJ36_ok : ∀ k, k < 1 → parseFieldDescriptor (TJ36 k).2.2.1 = some (tyJ36 k) := by decide +kernel
abbrev cJ36_size : ByteArray := prog_92_method_4_code
def yJ36_size : MethodName := ⟨RJ36, "size", "()I"⟩
def dkwJ36_size_0 : List UInt8 := [42, 180, 0, 7, 185, 0, 26, 1, 0, 172]
abbrev dktJ36_size_0 : List UInt8 := dkwJ36_size_0 ++ []
theorem dksJ36_size_0 : cJ36_size.data.toList.drop 0 = dktJ36_size_0 := by decide +kernel
theorem dJ36_size_0 : decode cJ36_size 0 = .ok (.aload_n 0, 1) := dk_42 (dk_at dksJ36_size_0 0 rfl rfl)
theorem dJ36_size_1 : decode cJ36_size 1 = .ok (.getfield 7, 3) := dk_180 0 7 (dk_at dksJ36_size_0 1 rfl rfl)
theorem dJ36_size_4 : decode cJ36_size 4 = .ok (.invokeinterface 26 1, 5) := by decide +kernel
theorem dJ36_size_9 : decode cJ36_size 9 = .ok (.ireturn, 1) := dk_172 (dk_at dksJ36_size_0 9 rfl rfl)
abbrev cJ36_init : ByteArray := prog_92_method_1_code
def yJ36_init : MethodName := ⟨RJ36, "<init>", "(Ljava/util/NavigableMap;)V"⟩
def dkwJ36_init_0 : List UInt8 := [42, 183, 0, 1, 42, 43, 181, 0, 7, 177]
abbrev dktJ36_init_0 : List UInt8 := dkwJ36_init_0 ++ []
theorem dksJ36_init_0 : cJ36_init.data.toList.drop 0 = dktJ36_init_0 := by decide +kernel
theorem dJ36_init_0 : decode cJ36_init 0 = .ok (.aload_n 0, 1) := dk_42 (dk_at dksJ36_init_0 0 rfl rfl)
theorem dJ36_init_1 : decode cJ36_init 1 = .ok (.invokespecial 1, 3) := dk_183 0 1 (dk_at dksJ36_init_0 1 rfl rfl)
theorem dJ36_init_4 : decode cJ36_init 4 = .ok (.aload_n 0, 1) := dk_42 (dk_at dksJ36_init_0 4 rfl rfl)
theorem dJ36_init_5 : decode cJ36_init 5 = .ok (.aload_n 1, 1) := dk_43 (dk_at dksJ36_init_0 5 rfl rfl)
theorem dJ36_init_6 : decode cJ36_init 6 = .ok (.putfield 7, 3) := dk_181 0 7 (dk_at dksJ36_init_0 6 rfl rfl)
theorem dJ36_init_9 : decode cJ36_init 9 = .ok (.return_, 1) := dk_177 (dk_at dksJ36_init_0 9 rfl rfl)
abbrev cJ36_iterator : ByteArray := prog_92_method_2_code
def yJ36_iterator : MethodName := ⟨RJ36, "iterator", "()Ljava/util/Iterator;"⟩
def dkwJ36_iterator_1 : List UInt8 := [180, 0, 7, 192, 0, 19, 182, 0, 21, 176]
abbrev dktJ36_iterator_1 : List UInt8 := dkwJ36_iterator_1 ++ []
def dkwJ36_iterator_0 : List UInt8 := [42, 180, 0, 7, 193, 0, 13, 153, 0, 14, 42, 180, 0, 7, 192, 0, 13, 182, 0, 15, 176, 42]
abbrev dktJ36_iterator_0 : List UInt8 := dkwJ36_iterator_0 ++ dktJ36_iterator_1
theorem dksJ36_iterator_0 : cJ36_iterator.data.toList.drop 0 = dktJ36_iterator_0 := by decide +kernel
theorem dksJ36_iterator_1 : cJ36_iterator.data.toList.drop 22 = dktJ36_iterator_1 := dk_seg dksJ36_iterator_0 22 rfl rfl
theorem dJ36_iterator_0 : decode cJ36_iterator 0 = .ok (.aload_n 0, 1) := dk_42 (dk_at dksJ36_iterator_0 0 rfl rfl)
theorem dJ36_iterator_1 : decode cJ36_iterator 1 = .ok (.getfield 7, 3) := dk_180 0 7 (dk_at dksJ36_iterator_0 1 rfl rfl)
theorem dJ36_iterator_4 : decode cJ36_iterator 4 = .ok (.instanceof 13, 3) := dk_193 0 13 (dk_at dksJ36_iterator_0 4 rfl rfl)
theorem dJ36_iterator_7 : decode cJ36_iterator 7 = .ok (.ifCond .eq 14, 3) := dk_153 0 14 (dk_at dksJ36_iterator_0 7 rfl rfl)
theorem dJ36_iterator_10 : decode cJ36_iterator 10 = .ok (.aload_n 0, 1) := dk_42 (dk_at dksJ36_iterator_0 10 rfl rfl)
theorem dJ36_iterator_11 : decode cJ36_iterator 11 = .ok (.getfield 7, 3) := dk_180 0 7 (dk_at dksJ36_iterator_0 11 rfl rfl)
theorem dJ36_iterator_14 : decode cJ36_iterator 14 = .ok (.checkcast 13, 3) := dk_192 0 13 (dk_at dksJ36_iterator_0 14 rfl rfl)
theorem dJ36_iterator_17 : decode cJ36_iterator 17 = .ok (.invokevirtual 15, 3) := dk_182 0 15 (dk_at dksJ36_iterator_0 17 rfl rfl)
theorem dJ36_iterator_20 : decode cJ36_iterator 20 = .ok (.areturn, 1) := dk_176 (dk_at dksJ36_iterator_0 20 rfl rfl)
theorem dJ36_iterator_21 : decode cJ36_iterator 21 = .ok (.aload_n 0, 1) := dk_42 (dk_at dksJ36_iterator_0 21 rfl rfl)
theorem dJ36_iterator_22 : decode cJ36_iterator 22 = .ok (.getfield 7, 3) := dk_180 0 7 (dk_at dksJ36_iterator_1 0 rfl rfl)
theorem dJ36_iterator_25 : decode cJ36_iterator 25 = .ok (.checkcast 19, 3) := dk_192 0 19 (dk_at dksJ36_iterator_1 3 rfl rfl)
theorem dJ36_iterator_28 : decode cJ36_iterator 28 = .ok (.invokevirtual 21, 3) := dk_182 0 21 (dk_at dksJ36_iterator_1 6 rfl rfl)
theorem dJ36_iterator_31 : decode cJ36_iterator 31 = .ok (.areturn, 1) := dk_176 (dk_at dksJ36_iterator_1 9 rfl rfl)
theorem q228 : (Jvm.Cond.initialized "java/util/TreeMap$KeySet") ∈ lw_all := lw_g (lw_at lw_m1 52 rfl) rfl
theorem q441 : (Jvm.Cond.selects "java/util/TreeMap$KeySet" ({ cls := "java/lang/Object", name := "getClass", desc := "()Ljava/lang/Class;" } : Jvm.MethodName) ({ cls := "java/lang/Object", name := "getClass", desc := "()Ljava/lang/Class;" } : Jvm.MethodName)) ∈ lw_all := lw_g (lw_at lw_m2 25 rfl) rfl
theorem q1820 : (Jvm.Cond.selects "java/util/TreeMap$KeySet" ({ cls := "java/util/AbstractCollection", name := "size", desc := "()I" } : Jvm.MethodName) ({ cls := "java/util/TreeMap$KeySet", name := "size", desc := "()I" } : Jvm.MethodName)) ∈ lw_all := lw_g (lw_at lw_m7 204 rfl) rfl
theorem q1821 : (Jvm.Cond.instanceMethod ({ cls := "java/util/TreeMap$KeySet", name := "size", desc := "()I" } : Jvm.MethodName)) ∈ lw_all := lw_g (lw_at lw_m7 205 rfl) rfl
theorem q1822 : (Jvm.Cond.code ({ cls := "java/util/TreeMap$KeySet", name := "size", desc := "()I" } : Jvm.MethodName) prog_92_method_4_code (1 : Nat) (Option.some Jvm.ClassFile.FieldType.int)) ∈ lw_all := lw_g (lw_at lw_m7 206 rfl) rfl
theorem q1823 : (Jvm.Cond.interfaceEntry "java/util/TreeMap$KeySet" (26 : Nat)) ∈ lw_tbl := lw_at lw_m7 207 rfl
theorem q2083 : (Jvm.Cond.instantiable "java/util/TreeMap$KeySet" (1 : Nat)) ∈ lw_all := lw_g (lw_at lw_m8 227 rfl) rfl
theorem q2085 : (Jvm.Cond.instanceMethod ({ cls := "java/util/TreeMap$KeySet", name := "<init>", desc := "(Ljava/util/NavigableMap;)V" } : Jvm.MethodName)) ∈ lw_all := lw_g (lw_at lw_m8 229 rfl) rfl
theorem q2086 : (Jvm.Cond.code ({ cls := "java/util/TreeMap$KeySet", name := "<init>", desc := "(Ljava/util/NavigableMap;)V" } : Jvm.MethodName) prog_92_method_1_code (2 : Nat) (Option.none : Option Jvm.ClassFile.FieldType)) ∈ lw_all := lw_g (lw_at lw_m8 230 rfl) rfl
theorem q2087 : (Jvm.Cond.methodLink "java/util/TreeMap$KeySet" (1 : Nat) ({ cls := "java/util/AbstractSet", name := "<init>", desc := "()V" } : Jvm.MethodName)) ∈ lw_all := lw_g (lw_at lw_m8 231 rfl) rfl
theorem q2088 : (Jvm.Cond.fieldLink "java/util/TreeMap$KeySet" (7 : Nat) "java/util/TreeMap$KeySet" "m" "Ljava/util/NavigableMap;") ∈ lw_all := lw_g (lw_at lw_m8 232 rfl) rfl
theorem q2089 : (Jvm.Cond.laysFinal "java/util/TreeMap$KeySet" "java/util/TreeMap$KeySet" "m" "Ljava/util/NavigableMap;") ∈ lw_all := lw_g (lw_at lw_m8 233 rfl) rfl
theorem q2090 : (Jvm.Cond.soleField "java/util/TreeMap$KeySet" "m") ∈ lw_all := lw_g (lw_at lw_m8 234 rfl) rfl
theorem q2091 : (Jvm.Cond.superclass "java/util/TreeMap$KeySet" "java/util/AbstractSet") ∈ lw_all := lw_g (lw_at lw_m8 235 rfl) rfl
theorem q2128 : (Jvm.Cond.castable "java/util/TreeMap$KeySet" "java/util/Set") ∈ lw_tbl := lw_at lw_m9 32 rfl
theorem q2129 : (Jvm.Cond.selects "java/util/TreeMap$KeySet" ({ cls := "java/util/Set", name := "iterator", desc := "()Ljava/util/Iterator;" } : Jvm.MethodName) ({ cls := "java/util/TreeMap$KeySet", name := "iterator", desc := "()Ljava/util/Iterator;" } : Jvm.MethodName)) ∈ lw_all := lw_g (lw_at lw_m9 33 rfl) rfl
theorem q2130 : (Jvm.Cond.unhidden "java/util/TreeMap$KeySet" "iterator" "()Ljava/util/Iterator;") ∈ lw_tbl := lw_at lw_m9 34 rfl
theorem q2131 : (Jvm.Cond.instanceMethod ({ cls := "java/util/TreeMap$KeySet", name := "iterator", desc := "()Ljava/util/Iterator;" } : Jvm.MethodName)) ∈ lw_all := lw_g (lw_at lw_m9 35 rfl) rfl
theorem q2132 : (Jvm.Cond.publicMethod ({ cls := "java/util/TreeMap$KeySet", name := "iterator", desc := "()Ljava/util/Iterator;" } : Jvm.MethodName)) ∈ lw_tbl := lw_at lw_m9 36 rfl
theorem q2133 : (Jvm.Cond.code ({ cls := "java/util/TreeMap$KeySet", name := "iterator", desc := "()Ljava/util/Iterator;" } : Jvm.MethodName) prog_92_method_2_code (1 : Nat) (Option.some (Jvm.ClassFile.FieldType.object "java/util/Iterator"))) ∈ lw_all := lw_g (lw_at lw_m9 37 rfl) rfl
theorem q2134 : (Jvm.Cond.classLink "java/util/TreeMap$KeySet" (13 : Nat) "java/util/TreeMap") ∈ lw_all := lw_g (lw_at lw_m9 38 rfl) rfl
theorem q2135 : (Jvm.Cond.methodLink "java/util/TreeMap$KeySet" (15 : Nat) ({ cls := "java/util/TreeMap", name := "keyIterator", desc := "()Ljava/util/Iterator;" } : Jvm.MethodName)) ∈ lw_all := lw_g (lw_at lw_m9 39 rfl) rfl
theorem q2151 : (Jvm.Cond.classLink "java/util/TreeMap$KeySet" (19 : Nat) "java/util/TreeMap$NavigableSubMap") ∈ lw_all := lw_g (lw_at lw_m9 55 rfl) rfl
theorem q2152 : (Jvm.Cond.methodLink "java/util/TreeMap$KeySet" (21 : Nat) ({ cls := "java/util/TreeMap$NavigableSubMap", name := "keyIterator", desc := "()Ljava/util/Iterator;" } : Jvm.MethodName)) ∈ lw_all := lw_g (lw_at lw_m9 56 rfl) rfl
theorem q2172 : (Jvm.Cond.castable "java/util/TreeMap$KeySet" "java/util/NavigableSet") ∈ lw_tbl := lw_at lw_m9 76 rfl
theorem q2173 : (Jvm.Cond.selects "java/util/TreeMap$KeySet" ({ cls := "java/util/NavigableSet", name := "iterator", desc := "()Ljava/util/Iterator;" } : Jvm.MethodName) ({ cls := "java/util/TreeMap$KeySet", name := "iterator", desc := "()Ljava/util/Iterator;" } : Jvm.MethodName)) ∈ lw_all := lw_g (lw_at lw_m9 77 rfl) rfl
theorem q4506 : (Jvm.Cond.castable "java/util/TreeMap$KeySet" "java/lang/Object") ∈ lw_tbl := lw_at lw_m19 10 rfl
theorem in_J36 : ∀ w ∈ wsJ360, w ∈ lw_all := lw_in wsJ360 [2089] (by decide +kernel) (by decide +kernel)

/-! java/util/TreeMap$PrivateEntryIterator -/
set_option maxRecDepth 100000
def RJ37 : String := "java/util/TreeMap$PrivateEntryIterator"
abbrev cJ37_init : ByteArray := prog_94_method_1_code
def yJ37_init : MethodName := ⟨RJ37, "<init>", "(Ljava/util/TreeMap;Ljava/util/TreeMap$Entry;)V"⟩
def dkwJ37_init_1 : List UInt8 := [181, 0, 26, 177]
abbrev dktJ37_init_1 : List UInt8 := dkwJ37_init_1 ++ []
def dkwJ37_init_0 : List UInt8 := [42, 43, 181, 0, 1, 42, 183, 0, 7, 42, 43, 180, 0, 13, 181, 0, 19, 42, 1, 181, 0, 22, 42, 44]
abbrev dktJ37_init_0 : List UInt8 := dkwJ37_init_0 ++ dktJ37_init_1
theorem dksJ37_init_0 : cJ37_init.data.toList.drop 0 = dktJ37_init_0 := by decide +kernel
theorem dksJ37_init_1 : cJ37_init.data.toList.drop 24 = dktJ37_init_1 := dk_seg dksJ37_init_0 24 rfl rfl
theorem dJ37_init_0 : decode cJ37_init 0 = .ok (.aload_n 0, 1) := dk_42 (dk_at dksJ37_init_0 0 rfl rfl)
theorem dJ37_init_1 : decode cJ37_init 1 = .ok (.aload_n 1, 1) := dk_43 (dk_at dksJ37_init_0 1 rfl rfl)
theorem dJ37_init_2 : decode cJ37_init 2 = .ok (.putfield 1, 3) := dk_181 0 1 (dk_at dksJ37_init_0 2 rfl rfl)
theorem dJ37_init_5 : decode cJ37_init 5 = .ok (.aload_n 0, 1) := dk_42 (dk_at dksJ37_init_0 5 rfl rfl)
theorem dJ37_init_6 : decode cJ37_init 6 = .ok (.invokespecial 7, 3) := dk_183 0 7 (dk_at dksJ37_init_0 6 rfl rfl)
theorem dJ37_init_9 : decode cJ37_init 9 = .ok (.aload_n 0, 1) := dk_42 (dk_at dksJ37_init_0 9 rfl rfl)
theorem dJ37_init_10 : decode cJ37_init 10 = .ok (.aload_n 1, 1) := dk_43 (dk_at dksJ37_init_0 10 rfl rfl)
theorem dJ37_init_11 : decode cJ37_init 11 = .ok (.getfield 13, 3) := dk_180 0 13 (dk_at dksJ37_init_0 11 rfl rfl)
theorem dJ37_init_14 : decode cJ37_init 14 = .ok (.putfield 19, 3) := dk_181 0 19 (dk_at dksJ37_init_0 14 rfl rfl)
theorem dJ37_init_17 : decode cJ37_init 17 = .ok (.aload_n 0, 1) := dk_42 (dk_at dksJ37_init_0 17 rfl rfl)
theorem dJ37_init_18 : decode cJ37_init 18 = .ok (.aconst_null, 1) := dk_1 (dk_at dksJ37_init_0 18 rfl rfl)
theorem dJ37_init_19 : decode cJ37_init 19 = .ok (.putfield 22, 3) := dk_181 0 22 (dk_at dksJ37_init_0 19 rfl rfl)
theorem dJ37_init_22 : decode cJ37_init 22 = .ok (.aload_n 0, 1) := dk_42 (dk_at dksJ37_init_0 22 rfl rfl)
theorem dJ37_init_23 : decode cJ37_init 23 = .ok (.aload_n 2, 1) := dk_44 (dk_at dksJ37_init_0 23 rfl rfl)
theorem dJ37_init_24 : decode cJ37_init 24 = .ok (.putfield 26, 3) := dk_181 0 26 (dk_at dksJ37_init_1 0 rfl rfl)
theorem dJ37_init_27 : decode cJ37_init 27 = .ok (.return_, 1) := dk_177 (dk_at dksJ37_init_1 3 rfl rfl)
abbrev cJ37_hasNext : ByteArray := prog_94_method_2_code
def yJ37_hasNext : MethodName := ⟨RJ37, "hasNext", "()Z"⟩
def dkwJ37_hasNext_0 : List UInt8 := [42, 180, 0, 26, 198, 0, 7, 4, 167, 0, 4, 3, 172]
abbrev dktJ37_hasNext_0 : List UInt8 := dkwJ37_hasNext_0 ++ []
theorem dksJ37_hasNext_0 : cJ37_hasNext.data.toList.drop 0 = dktJ37_hasNext_0 := by decide +kernel
theorem dJ37_hasNext_0 : decode cJ37_hasNext 0 = .ok (.aload_n 0, 1) := dk_42 (dk_at dksJ37_hasNext_0 0 rfl rfl)
theorem dJ37_hasNext_1 : decode cJ37_hasNext 1 = .ok (.getfield 26, 3) := dk_180 0 26 (dk_at dksJ37_hasNext_0 1 rfl rfl)
theorem dJ37_hasNext_4 : decode cJ37_hasNext 4 = .ok (.ifnull 7, 3) := dk_198 0 7 (dk_at dksJ37_hasNext_0 4 rfl rfl)
theorem dJ37_hasNext_7 : decode cJ37_hasNext 7 = .ok (.iconst 1, 1) := dk_4 (dk_at dksJ37_hasNext_0 7 rfl rfl)
theorem dJ37_hasNext_8 : decode cJ37_hasNext 8 = .ok (.goto 4, 3) := dk_167 0 4 (dk_at dksJ37_hasNext_0 8 rfl rfl)
theorem dJ37_hasNext_11 : decode cJ37_hasNext 11 = .ok (.iconst 0, 1) := dk_3 (dk_at dksJ37_hasNext_0 11 rfl rfl)
theorem dJ37_hasNext_12 : decode cJ37_hasNext 12 = .ok (.ireturn, 1) := dk_172 (dk_at dksJ37_hasNext_0 12 rfl rfl)
abbrev cJ37_nextEntry : ByteArray := prog_94_method_3_code
def yJ37_nextEntry : MethodName := ⟨RJ37, "nextEntry", "()Ljava/util/TreeMap$Entry;"⟩
def dkwJ37_nextEntry_2 : List UInt8 := [43, 181, 0, 22, 43, 176]
abbrev dktJ37_nextEntry_2 : List UInt8 := dkwJ37_nextEntry_2 ++ []
def dkwJ37_nextEntry_1 : List UInt8 := [42, 180, 0, 19, 159, 0, 11, 187, 0, 32, 89, 183, 0, 34, 191, 42, 43, 184, 0, 35, 181, 0, 26, 42]
abbrev dktJ37_nextEntry_1 : List UInt8 := dkwJ37_nextEntry_1 ++ dktJ37_nextEntry_2
def dkwJ37_nextEntry_0 : List UInt8 := [42, 180, 0, 26, 76, 43, 199, 0, 11, 187, 0, 29, 89, 183, 0, 31, 191, 42, 180, 0, 1, 180, 0, 13]
abbrev dktJ37_nextEntry_0 : List UInt8 := dkwJ37_nextEntry_0 ++ dktJ37_nextEntry_1
theorem dksJ37_nextEntry_0 : cJ37_nextEntry.data.toList.drop 0 = dktJ37_nextEntry_0 := by decide +kernel
theorem dksJ37_nextEntry_1 : cJ37_nextEntry.data.toList.drop 24 = dktJ37_nextEntry_1 := dk_seg dksJ37_nextEntry_0 24 rfl rfl
theorem dksJ37_nextEntry_2 : cJ37_nextEntry.data.toList.drop 48 = dktJ37_nextEntry_2 := dk_seg dksJ37_nextEntry_1 24 rfl rfl
theorem dJ37_nextEntry_0 : decode cJ37_nextEntry 0 = .ok (.aload_n 0, 1) := dk_42 (dk_at dksJ37_nextEntry_0 0 rfl rfl)
theorem dJ37_nextEntry_1 : decode cJ37_nextEntry 1 = .ok (.getfield 26, 3) := dk_180 0 26 (dk_at dksJ37_nextEntry_0 1 rfl rfl)
theorem dJ37_nextEntry_4 : decode cJ37_nextEntry 4 = .ok (.astore_n 1, 1) := dk_76 (dk_at dksJ37_nextEntry_0 4 rfl rfl)
theorem dJ37_nextEntry_5 : decode cJ37_nextEntry 5 = .ok (.aload_n 1, 1) := dk_43 (dk_at dksJ37_nextEntry_0 5 rfl rfl)
theorem dJ37_nextEntry_6 : decode cJ37_nextEntry 6 = .ok (.ifnonnull 11, 3) := dk_199 0 11 (dk_at dksJ37_nextEntry_0 6 rfl rfl)
theorem dJ37_nextEntry_9 : decode cJ37_nextEntry 9 = .ok (.new 29, 3) := dk_187 0 29 (dk_at dksJ37_nextEntry_0 9 rfl rfl)
theorem dJ37_nextEntry_12 : decode cJ37_nextEntry 12 = .ok (.dup, 1) := dk_89 (dk_at dksJ37_nextEntry_0 12 rfl rfl)
theorem dJ37_nextEntry_13 : decode cJ37_nextEntry 13 = .ok (.invokespecial 31, 3) := dk_183 0 31 (dk_at dksJ37_nextEntry_0 13 rfl rfl)
theorem dJ37_nextEntry_16 : decode cJ37_nextEntry 16 = .ok (.athrow, 1) := dk_191 (dk_at dksJ37_nextEntry_0 16 rfl rfl)
theorem dJ37_nextEntry_17 : decode cJ37_nextEntry 17 = .ok (.aload_n 0, 1) := dk_42 (dk_at dksJ37_nextEntry_0 17 rfl rfl)
theorem dJ37_nextEntry_18 : decode cJ37_nextEntry 18 = .ok (.getfield 1, 3) := dk_180 0 1 (dk_at dksJ37_nextEntry_0 18 rfl rfl)
theorem dJ37_nextEntry_21 : decode cJ37_nextEntry 21 = .ok (.getfield 13, 3) := dk_180 0 13 (dk_at dksJ37_nextEntry_0 21 rfl rfl)
theorem dJ37_nextEntry_24 : decode cJ37_nextEntry 24 = .ok (.aload_n 0, 1) := dk_42 (dk_at dksJ37_nextEntry_1 0 rfl rfl)
theorem dJ37_nextEntry_25 : decode cJ37_nextEntry 25 = .ok (.getfield 19, 3) := dk_180 0 19 (dk_at dksJ37_nextEntry_1 1 rfl rfl)
theorem dJ37_nextEntry_28 : decode cJ37_nextEntry 28 = .ok (.if_icmp .eq 11, 3) := dk_159 0 11 (dk_at dksJ37_nextEntry_1 4 rfl rfl)
theorem dJ37_nextEntry_31 : decode cJ37_nextEntry 31 = .ok (.new 32, 3) := dk_187 0 32 (dk_at dksJ37_nextEntry_1 7 rfl rfl)
theorem dJ37_nextEntry_34 : decode cJ37_nextEntry 34 = .ok (.dup, 1) := dk_89 (dk_at dksJ37_nextEntry_1 10 rfl rfl)
theorem dJ37_nextEntry_35 : decode cJ37_nextEntry 35 = .ok (.invokespecial 34, 3) := dk_183 0 34 (dk_at dksJ37_nextEntry_1 11 rfl rfl)
theorem dJ37_nextEntry_38 : decode cJ37_nextEntry 38 = .ok (.athrow, 1) := dk_191 (dk_at dksJ37_nextEntry_1 14 rfl rfl)
theorem dJ37_nextEntry_39 : decode cJ37_nextEntry 39 = .ok (.aload_n 0, 1) := dk_42 (dk_at dksJ37_nextEntry_1 15 rfl rfl)
theorem dJ37_nextEntry_40 : decode cJ37_nextEntry 40 = .ok (.aload_n 1, 1) := dk_43 (dk_at dksJ37_nextEntry_1 16 rfl rfl)
theorem dJ37_nextEntry_41 : decode cJ37_nextEntry 41 = .ok (.invokestatic 35, 3) := dk_184 0 35 (dk_at dksJ37_nextEntry_1 17 rfl rfl)
theorem dJ37_nextEntry_44 : decode cJ37_nextEntry 44 = .ok (.putfield 26, 3) := dk_181 0 26 (dk_at dksJ37_nextEntry_1 20 rfl rfl)
theorem dJ37_nextEntry_47 : decode cJ37_nextEntry 47 = .ok (.aload_n 0, 1) := dk_42 (dk_at dksJ37_nextEntry_1 23 rfl rfl)
theorem dJ37_nextEntry_48 : decode cJ37_nextEntry 48 = .ok (.aload_n 1, 1) := dk_43 (dk_at dksJ37_nextEntry_2 0 rfl rfl)
theorem dJ37_nextEntry_49 : decode cJ37_nextEntry 49 = .ok (.putfield 22, 3) := dk_181 0 22 (dk_at dksJ37_nextEntry_2 1 rfl rfl)
theorem dJ37_nextEntry_52 : decode cJ37_nextEntry 52 = .ok (.aload_n 1, 1) := dk_43 (dk_at dksJ37_nextEntry_2 4 rfl rfl)
theorem dJ37_nextEntry_53 : decode cJ37_nextEntry 53 = .ok (.areturn, 1) := dk_176 (dk_at dksJ37_nextEntry_2 5 rfl rfl)
theorem q229 : (Jvm.Cond.initialized "java/util/TreeMap$PrivateEntryIterator") ∈ lw_all := lw_g (lw_at lw_m1 53 rfl) rfl
theorem q1332 : (Jvm.Cond.fieldLinkNest "java/util/TreeMap$PrivateEntryIterator" (13 : Nat) "java/util/TreeMap" "modCount" "I" "java/util/TreeMap") ∈ lw_tbl := lw_at lw_m5 196 rfl
theorem q2112 : (Jvm.Cond.instanceMethod ({ cls := "java/util/TreeMap$PrivateEntryIterator", name := "<init>", desc := "(Ljava/util/TreeMap;Ljava/util/TreeMap$Entry;)V" } : Jvm.MethodName)) ∈ lw_all := lw_g (lw_at lw_m9 16 rfl) rfl
theorem q2113 : (Jvm.Cond.code ({ cls := "java/util/TreeMap$PrivateEntryIterator", name := "<init>", desc := "(Ljava/util/TreeMap;Ljava/util/TreeMap$Entry;)V" } : Jvm.MethodName) prog_94_method_1_code (3 : Nat) (Option.none : Option Jvm.ClassFile.FieldType)) ∈ lw_all := lw_g (lw_at lw_m9 17 rfl) rfl
theorem q2114 : (Jvm.Cond.methodLink "java/util/TreeMap$PrivateEntryIterator" (7 : Nat) ({ cls := "java/lang/Object", name := "<init>", desc := "()V" } : Jvm.MethodName)) ∈ lw_all := lw_g (lw_at lw_m9 18 rfl) rfl
theorem q2115 : (Jvm.Cond.fieldLink "java/util/TreeMap$PrivateEntryIterator" (26 : Nat) "java/util/TreeMap$PrivateEntryIterator" "next" "Ljava/util/TreeMap$Entry;") ∈ lw_all := lw_g (lw_at lw_m9 19 rfl) rfl
theorem q2116 : (Jvm.Cond.fieldLink "java/util/TreeMap$PrivateEntryIterator" (22 : Nat) "java/util/TreeMap$PrivateEntryIterator" "lastReturned" "Ljava/util/TreeMap$Entry;") ∈ lw_all := lw_g (lw_at lw_m9 20 rfl) rfl
theorem q2117 : (Jvm.Cond.fieldLink "java/util/TreeMap$PrivateEntryIterator" (19 : Nat) "java/util/TreeMap$PrivateEntryIterator" "expectedModCount" "I") ∈ lw_all := lw_g (lw_at lw_m9 21 rfl) rfl
theorem q2118 : (Jvm.Cond.fieldLink "java/util/TreeMap$PrivateEntryIterator" (1 : Nat) "java/util/TreeMap$PrivateEntryIterator" "this$0" "Ljava/util/TreeMap;") ∈ lw_all := lw_g (lw_at lw_m9 22 rfl) rfl
theorem q2120 : (Jvm.Cond.soleField "java/util/TreeMap$PrivateEntryIterator" "next") ∈ lw_all := lw_g (lw_at lw_m9 24 rfl) rfl
theorem q2122 : (Jvm.Cond.soleField "java/util/TreeMap$PrivateEntryIterator" "lastReturned") ∈ lw_all := lw_g (lw_at lw_m9 26 rfl) rfl
theorem q2124 : (Jvm.Cond.soleField "java/util/TreeMap$PrivateEntryIterator" "expectedModCount") ∈ lw_all := lw_g (lw_at lw_m9 28 rfl) rfl
theorem q2126 : (Jvm.Cond.soleField "java/util/TreeMap$PrivateEntryIterator" "this$0") ∈ lw_all := lw_g (lw_at lw_m9 30 rfl) rfl
theorem q2208 : (Jvm.Cond.instanceMethod ({ cls := "java/util/TreeMap$PrivateEntryIterator", name := "hasNext", desc := "()Z" } : Jvm.MethodName)) ∈ lw_all := lw_g (lw_at lw_m9 112 rfl) rfl
theorem q2209 : (Jvm.Cond.publicMethod ({ cls := "java/util/TreeMap$PrivateEntryIterator", name := "hasNext", desc := "()Z" } : Jvm.MethodName)) ∈ lw_tbl := lw_at lw_m9 113 rfl
theorem q2210 : (Jvm.Cond.code ({ cls := "java/util/TreeMap$PrivateEntryIterator", name := "hasNext", desc := "()Z" } : Jvm.MethodName) prog_94_method_2_code (1 : Nat) (Option.some Jvm.ClassFile.FieldType.boolean)) ∈ lw_all := lw_g (lw_at lw_m9 114 rfl) rfl
theorem q2342 : (Jvm.Cond.declares ({ cls := "java/util/TreeMap$PrivateEntryIterator", name := "nextEntry", desc := "()Ljava/util/TreeMap$Entry;" } : Jvm.MethodName)) ∈ lw_tbl := lw_at lw_m10 6 rfl
theorem q2344 : (Jvm.Cond.instanceMethod ({ cls := "java/util/TreeMap$PrivateEntryIterator", name := "nextEntry", desc := "()Ljava/util/TreeMap$Entry;" } : Jvm.MethodName)) ∈ lw_all := lw_g (lw_at lw_m10 8 rfl) rfl
theorem q2345 : (Jvm.Cond.code ({ cls := "java/util/TreeMap$PrivateEntryIterator", name := "nextEntry", desc := "()Ljava/util/TreeMap$Entry;" } : Jvm.MethodName) prog_94_method_3_code (2 : Nat) (Option.some (Jvm.ClassFile.FieldType.object "java/util/TreeMap$Entry"))) ∈ lw_all := lw_g (lw_at lw_m10 9 rfl) rfl
theorem q2346 : (Jvm.Cond.classLink "java/util/TreeMap$PrivateEntryIterator" (29 : Nat) "java/util/NoSuchElementException") ∈ lw_all := lw_g (lw_at lw_m10 10 rfl) rfl
theorem q2347 : (Jvm.Cond.methodLink "java/util/TreeMap$PrivateEntryIterator" (31 : Nat) ({ cls := "java/util/NoSuchElementException", name := "<init>", desc := "()V" } : Jvm.MethodName)) ∈ lw_all := lw_g (lw_at lw_m10 11 rfl) rfl
theorem q2348 : (Jvm.Cond.methodLink "java/util/TreeMap$PrivateEntryIterator" (35 : Nat) ({ cls := "java/util/TreeMap", name := "successor", desc := "(Ljava/util/TreeMap$Entry;)Ljava/util/TreeMap$Entry;" } : Jvm.MethodName)) ∈ lw_all := lw_g (lw_at lw_m10 12 rfl) rfl

/-! java/util/TreeMap$EntryIterator -/
set_option maxRecDepth 100000
def RJ38 : String := "java/util/TreeMap$EntryIterator"
def TJ38 : u_T := fun k => match k with
  | 0 => ("java/util/TreeMap$PrivateEntryIterator", "next", "Ljava/util/TreeMap$Entry;", false)
  | 1 => ("java/util/TreeMap$PrivateEntryIterator", "lastReturned", "Ljava/util/TreeMap$Entry;", false)
  | 2 => ("java/util/TreeMap$PrivateEntryIterator", "expectedModCount", "I", false)
  | _ => ("java/util/TreeMap$PrivateEntryIterator", "this$0", "Ljava/util/TreeMap;", true)
def tyJ38 : Nat → FieldType := fun k => match k with
  | 0 => .object "java/util/TreeMap$Entry"
  | 1 => .object "java/util/TreeMap$Entry"
  | 2 => .int
  | _ => .object "java/util/TreeMap"
abbrev wsJ380 : List Cond := u_ws RJ38 TJ38 4
theorem nmJ38 : ∀ a, a < 4 → ∀ b, b < 4 → a ≠ b → (TJ38 a).2.1 ≠ (TJ38 b).2.1 := by decide +kernel
theorem tyJ38_ok : ∀ k, k < 4 → parseFieldDescriptor (TJ38 k).2.2.1 = some (tyJ38 k) := by decide +kernel
abbrev cJ38_init : ByteArray := prog_89_method_1_code
def yJ38_init : MethodName := ⟨RJ38, "<init>", "(Ljava/util/TreeMap;Ljava/util/TreeMap$Entry;)V"⟩
def dkwJ38_init_0 : List UInt8 := [42, 43, 44, 183, 0, 1, 177]
abbrev dktJ38_init_0 : List UInt8 := dkwJ38_init_0 ++ []
theorem dksJ38_init_0 : cJ38_init.data.toList.drop 0 = dktJ38_init_0 := by decide +kernel
theorem dJ38_init_0 : decode cJ38_init 0 = .ok (.aload_n 0, 1) := dk_42 (dk_at dksJ38_init_0 0 rfl rfl)
theorem dJ38_init_1 : decode cJ38_init 1 = .ok (.aload_n 1, 1) := dk_43 (dk_at dksJ38_init_0 1 rfl rfl)
theorem dJ38_init_2 : decode cJ38_init 2 = .ok (.aload_n 2, 1) := dk_44 (dk_at dksJ38_init_0 2 rfl rfl)
theorem dJ38_init_3 : decode cJ38_init 3 = .ok (.invokespecial 1, 3) := dk_183 0 1 (dk_at dksJ38_init_0 3 rfl rfl)
theorem dJ38_init_6 : decode cJ38_init 6 = .ok (.return_, 1) := dk_177 (dk_at dksJ38_init_0 6 rfl rfl)
abbrev cJ38_next : ByteArray := prog_89_method_3_code
def yJ38_next : MethodName := ⟨RJ38, "next", "()Ljava/lang/Object;"⟩
theorem dJ38_next_0 : decode cJ38_next 0 = .ok (.aload_n 0, 1) := by decide +kernel
theorem dJ38_next_1 : decode cJ38_next 1 = .ok (.invokevirtual 13, 3) := by decide +kernel
theorem dJ38_next_4 : decode cJ38_next 4 = .ok (.areturn, 1) := by decide +kernel
abbrev cJ38_next_2 : ByteArray := prog_89_method_2_code
def yJ38_next_2 : MethodName := ⟨RJ38, "next", "()Ljava/util/Map$Entry;"⟩
theorem dJ38_next_2_0 : decode cJ38_next_2 0 = .ok (.aload_n 0, 1) := by decide +kernel
theorem dJ38_next_2_1 : decode cJ38_next_2 1 = .ok (.invokevirtual 7, 3) := by decide +kernel
theorem dJ38_next_2_4 : decode cJ38_next_2 4 = .ok (.areturn, 1) := by decide +kernel
theorem q230 : (Jvm.Cond.initialized "java/util/TreeMap$EntryIterator") ∈ lw_all := lw_g (lw_at lw_m1 54 rfl) rfl
theorem q438 : (Jvm.Cond.selects "java/util/TreeMap$EntryIterator" ({ cls := "java/lang/Object", name := "getClass", desc := "()Ljava/lang/Class;" } : Jvm.MethodName) ({ cls := "java/lang/Object", name := "getClass", desc := "()Ljava/lang/Class;" } : Jvm.MethodName)) ∈ lw_all := lw_g (lw_at lw_m2 22 rfl) rfl
theorem q2103 : (Jvm.Cond.instantiable "java/util/TreeMap$EntryIterator" (4 : Nat)) ∈ lw_all := lw_g (lw_at lw_m9 7 rfl) rfl
theorem q2109 : (Jvm.Cond.instanceMethod ({ cls := "java/util/TreeMap$EntryIterator", name := "<init>", desc := "(Ljava/util/TreeMap;Ljava/util/TreeMap$Entry;)V" } : Jvm.MethodName)) ∈ lw_all := lw_g (lw_at lw_m9 13 rfl) rfl
theorem q2110 : (Jvm.Cond.code ({ cls := "java/util/TreeMap$EntryIterator", name := "<init>", desc := "(Ljava/util/TreeMap;Ljava/util/TreeMap$Entry;)V" } : Jvm.MethodName) prog_89_method_1_code (3 : Nat) (Option.none : Option Jvm.ClassFile.FieldType)) ∈ lw_all := lw_g (lw_at lw_m9 14 rfl) rfl
theorem q2111 : (Jvm.Cond.methodLink "java/util/TreeMap$EntryIterator" (1 : Nat) ({ cls := "java/util/TreeMap$PrivateEntryIterator", name := "<init>", desc := "(Ljava/util/TreeMap;Ljava/util/TreeMap$Entry;)V" } : Jvm.MethodName)) ∈ lw_all := lw_g (lw_at lw_m9 15 rfl) rfl
theorem q2119 : (Jvm.Cond.lays "java/util/TreeMap$EntryIterator" "java/util/TreeMap$PrivateEntryIterator" "next" "Ljava/util/TreeMap$Entry;") ∈ lw_all := lw_g (lw_at lw_m9 23 rfl) rfl
theorem q2121 : (Jvm.Cond.lays "java/util/TreeMap$EntryIterator" "java/util/TreeMap$PrivateEntryIterator" "lastReturned" "Ljava/util/TreeMap$Entry;") ∈ lw_all := lw_g (lw_at lw_m9 25 rfl) rfl
theorem q2123 : (Jvm.Cond.lays "java/util/TreeMap$EntryIterator" "java/util/TreeMap$PrivateEntryIterator" "expectedModCount" "I") ∈ lw_all := lw_g (lw_at lw_m9 27 rfl) rfl
theorem q2125 : (Jvm.Cond.laysFinal "java/util/TreeMap$EntryIterator" "java/util/TreeMap$PrivateEntryIterator" "this$0" "Ljava/util/TreeMap;") ∈ lw_all := lw_g (lw_at lw_m9 29 rfl) rfl
theorem q2127 : (Jvm.Cond.superclass "java/util/TreeMap$EntryIterator" "java/util/TreeMap$PrivateEntryIterator") ∈ lw_all := lw_g (lw_at lw_m9 31 rfl) rfl
theorem q2205 : (Jvm.Cond.castable "java/util/TreeMap$EntryIterator" "java/util/Iterator") ∈ lw_tbl := lw_at lw_m9 109 rfl
theorem q2206 : (Jvm.Cond.selects "java/util/TreeMap$EntryIterator" ({ cls := "java/util/Iterator", name := "hasNext", desc := "()Z" } : Jvm.MethodName) ({ cls := "java/util/TreeMap$PrivateEntryIterator", name := "hasNext", desc := "()Z" } : Jvm.MethodName)) ∈ lw_all := lw_g (lw_at lw_m9 110 rfl) rfl
theorem q2207 : (Jvm.Cond.unhidden "java/util/TreeMap$EntryIterator" "hasNext" "()Z") ∈ lw_tbl := lw_at lw_m9 111 rfl
theorem q2331 : (Jvm.Cond.selects "java/util/TreeMap$EntryIterator" ({ cls := "java/util/Iterator", name := "next", desc := "()Ljava/lang/Object;" } : Jvm.MethodName) ({ cls := "java/util/TreeMap$EntryIterator", name := "next", desc := "()Ljava/lang/Object;" } : Jvm.MethodName)) ∈ lw_all := lw_g (lw_at lw_m9 235 rfl) rfl
theorem q2332 : (Jvm.Cond.unhidden "java/util/TreeMap$EntryIterator" "next" "()Ljava/lang/Object;") ∈ lw_tbl := lw_at lw_m9 236 rfl
theorem q2333 : (Jvm.Cond.instanceMethod ({ cls := "java/util/TreeMap$EntryIterator", name := "next", desc := "()Ljava/lang/Object;" } : Jvm.MethodName)) ∈ lw_all := lw_g (lw_at lw_m9 237 rfl) rfl
theorem q2334 : (Jvm.Cond.publicMethod ({ cls := "java/util/TreeMap$EntryIterator", name := "next", desc := "()Ljava/lang/Object;" } : Jvm.MethodName)) ∈ lw_tbl := lw_at lw_m9 238 rfl
theorem q2335 : (Jvm.Cond.code ({ cls := "java/util/TreeMap$EntryIterator", name := "next", desc := "()Ljava/lang/Object;" } : Jvm.MethodName) prog_89_method_3_code (1 : Nat) (Option.some (Jvm.ClassFile.FieldType.object "java/lang/Object"))) ∈ lw_all := lw_g (lw_at lw_m9 239 rfl) rfl
theorem q2336 : (Jvm.Cond.methodLink "java/util/TreeMap$EntryIterator" (13 : Nat) ({ cls := "java/util/TreeMap$EntryIterator", name := "next", desc := "()Ljava/util/Map$Entry;" } : Jvm.MethodName)) ∈ lw_all := lw_g (lw_at lw_m10 0 rfl) rfl
theorem q2337 : (Jvm.Cond.instanceMethod ({ cls := "java/util/TreeMap$EntryIterator", name := "next", desc := "()Ljava/util/Map$Entry;" } : Jvm.MethodName)) ∈ lw_all := lw_g (lw_at lw_m10 1 rfl) rfl
theorem q2338 : (Jvm.Cond.selects "java/util/TreeMap$EntryIterator" ({ cls := "java/util/TreeMap$EntryIterator", name := "next", desc := "()Ljava/util/Map$Entry;" } : Jvm.MethodName) ({ cls := "java/util/TreeMap$EntryIterator", name := "next", desc := "()Ljava/util/Map$Entry;" } : Jvm.MethodName)) ∈ lw_all := lw_g (lw_at lw_m10 2 rfl) rfl
theorem q2339 : (Jvm.Cond.code ({ cls := "java/util/TreeMap$EntryIterator", name := "next", desc := "()Ljava/util/Map$Entry;" } : Jvm.MethodName) prog_89_method_2_code (1 : Nat) (Option.some (Jvm.ClassFile.FieldType.object "java/util/Map$Entry"))) ∈ lw_all := lw_g (lw_at lw_m10 3 rfl) rfl
theorem q2340 : (Jvm.Cond.methodLink "java/util/TreeMap$EntryIterator" (7 : Nat) ({ cls := "java/util/TreeMap$EntryIterator", name := "nextEntry", desc := "()Ljava/util/TreeMap$Entry;" } : Jvm.MethodName)) ∈ lw_all := lw_g (lw_at lw_m10 4 rfl) rfl
theorem q2341 : (Jvm.Cond.sameMethod "java/util/TreeMap$EntryIterator" "java/util/TreeMap$PrivateEntryIterator" "nextEntry" "()Ljava/util/TreeMap$Entry;") ∈ lw_all := lw_g (lw_at lw_m10 5 rfl) rfl
theorem q2343 : (Jvm.Cond.selects "java/util/TreeMap$EntryIterator" ({ cls := "java/util/TreeMap$EntryIterator", name := "nextEntry", desc := "()Ljava/util/TreeMap$Entry;" } : Jvm.MethodName) ({ cls := "java/util/TreeMap$PrivateEntryIterator", name := "nextEntry", desc := "()Ljava/util/TreeMap$Entry;" } : Jvm.MethodName)) ∈ lw_all := lw_g (lw_at lw_m10 7 rfl) rfl
theorem q4518 : (Jvm.Cond.castable "java/util/TreeMap$EntryIterator" "java/lang/Object") ∈ lw_tbl := lw_at lw_m19 22 rfl
theorem in_J38 : ∀ w ∈ wsJ380, w ∈ lw_all := lw_in wsJ380 [2119, 2121, 2123, 2125] (by decide +kernel) (by decide +kernel)

/-! java/util/TreeMap$KeyIterator -/
set_option maxRecDepth 100000
def RJ39 : String := "java/util/TreeMap$KeyIterator"
def TJ39 : u_T := fun k => match k with
  | 0 => ("java/util/TreeMap$PrivateEntryIterator", "next", "Ljava/util/TreeMap$Entry;", false)
  | 1 => ("java/util/TreeMap$PrivateEntryIterator", "lastReturned", "Ljava/util/TreeMap$Entry;", false)
  | 2 => ("java/util/TreeMap$PrivateEntryIterator", "expectedModCount", "I", false)
  | _ => ("java/util/TreeMap$PrivateEntryIterator", "this$0", "Ljava/util/TreeMap;", true)
def tyJ39 : Nat → FieldType := fun k => match k with
  | 0 => .object "java/util/TreeMap$Entry"
  | 1 => .object "java/util/TreeMap$Entry"
  | 2 => .int
  | _ => .object "java/util/TreeMap"
abbrev wsJ390 : List Cond := u_ws RJ39 TJ39 4
theorem nmJ39 : ∀ a, a < 4 → ∀ b, b < 4 → a ≠ b → (TJ39 a).2.1 ≠ (TJ39 b).2.1 := by decide +kernel
theorem tyJ39_ok : ∀ k, k < 4 → parseFieldDescriptor (TJ39 k).2.2.1 = some (tyJ39 k) := by decide +kernel
abbrev cJ39_init : ByteArray := prog_91_method_1_code
def yJ39_init : MethodName := ⟨RJ39, "<init>", "(Ljava/util/TreeMap;Ljava/util/TreeMap$Entry;)V"⟩
def dkwJ39_init_0 : List UInt8 := [42, 43, 44, 183, 0, 1, 177]
abbrev dktJ39_init_0 : List UInt8 := dkwJ39_init_0 ++ []
theorem dksJ39_init_0 : cJ39_init.data.toList.drop 0 = dktJ39_init_0 := by decide +kernel
theorem dJ39_init_0 : decode cJ39_init 0 = .ok (.aload_n 0, 1) := dk_42 (dk_at dksJ39_init_0 0 rfl rfl)
theorem dJ39_init_1 : decode cJ39_init 1 = .ok (.aload_n 1, 1) := dk_43 (dk_at dksJ39_init_0 1 rfl rfl)
theorem dJ39_init_2 : decode cJ39_init 2 = .ok (.aload_n 2, 1) := dk_44 (dk_at dksJ39_init_0 2 rfl rfl)
theorem dJ39_init_3 : decode cJ39_init 3 = .ok (.invokespecial 1, 3) := dk_183 0 1 (dk_at dksJ39_init_0 3 rfl rfl)
theorem dJ39_init_6 : decode cJ39_init 6 = .ok (.return_, 1) := dk_177 (dk_at dksJ39_init_0 6 rfl rfl)
abbrev cJ39_next : ByteArray := prog_91_method_2_code
def yJ39_next : MethodName := ⟨RJ39, "next", "()Ljava/lang/Object;"⟩
def dkwJ39_next_0 : List UInt8 := [42, 182, 0, 7, 180, 0, 13, 176]
abbrev dktJ39_next_0 : List UInt8 := dkwJ39_next_0 ++ []
theorem dksJ39_next_0 : cJ39_next.data.toList.drop 0 = dktJ39_next_0 := by decide +kernel
theorem dJ39_next_0 : decode cJ39_next 0 = .ok (.aload_n 0, 1) := dk_42 (dk_at dksJ39_next_0 0 rfl rfl)
theorem dJ39_next_1 : decode cJ39_next 1 = .ok (.invokevirtual 7, 3) := dk_182 0 7 (dk_at dksJ39_next_0 1 rfl rfl)
theorem dJ39_next_4 : decode cJ39_next 4 = .ok (.getfield 13, 3) := dk_180 0 13 (dk_at dksJ39_next_0 4 rfl rfl)
theorem dJ39_next_7 : decode cJ39_next 7 = .ok (.areturn, 1) := dk_176 (dk_at dksJ39_next_0 7 rfl rfl)
theorem q231 : (Jvm.Cond.initialized "java/util/TreeMap$KeyIterator") ∈ lw_all := lw_g (lw_at lw_m1 55 rfl) rfl
theorem q440 : (Jvm.Cond.selects "java/util/TreeMap$KeyIterator" ({ cls := "java/lang/Object", name := "getClass", desc := "()Ljava/lang/Class;" } : Jvm.MethodName) ({ cls := "java/lang/Object", name := "getClass", desc := "()Ljava/lang/Class;" } : Jvm.MethodName)) ∈ lw_all := lw_g (lw_at lw_m2 24 rfl) rfl
theorem q1727 : (Jvm.Cond.fieldLink "java/util/TreeMap$KeyIterator" (13 : Nat) "java/util/TreeMap$Entry" "key" "Ljava/lang/Object;") ∈ lw_all := lw_g (lw_at lw_m7 111 rfl) rfl
theorem q2140 : (Jvm.Cond.instantiable "java/util/TreeMap$KeyIterator" (4 : Nat)) ∈ lw_all := lw_g (lw_at lw_m9 44 rfl) rfl
theorem q2143 : (Jvm.Cond.instanceMethod ({ cls := "java/util/TreeMap$KeyIterator", name := "<init>", desc := "(Ljava/util/TreeMap;Ljava/util/TreeMap$Entry;)V" } : Jvm.MethodName)) ∈ lw_all := lw_g (lw_at lw_m9 47 rfl) rfl
theorem q2144 : (Jvm.Cond.code ({ cls := "java/util/TreeMap$KeyIterator", name := "<init>", desc := "(Ljava/util/TreeMap;Ljava/util/TreeMap$Entry;)V" } : Jvm.MethodName) prog_91_method_1_code (3 : Nat) (Option.none : Option Jvm.ClassFile.FieldType)) ∈ lw_all := lw_g (lw_at lw_m9 48 rfl) rfl
theorem q2145 : (Jvm.Cond.methodLink "java/util/TreeMap$KeyIterator" (1 : Nat) ({ cls := "java/util/TreeMap$PrivateEntryIterator", name := "<init>", desc := "(Ljava/util/TreeMap;Ljava/util/TreeMap$Entry;)V" } : Jvm.MethodName)) ∈ lw_all := lw_g (lw_at lw_m9 49 rfl) rfl
theorem q2146 : (Jvm.Cond.lays "java/util/TreeMap$KeyIterator" "java/util/TreeMap$PrivateEntryIterator" "next" "Ljava/util/TreeMap$Entry;") ∈ lw_all := lw_g (lw_at lw_m9 50 rfl) rfl
theorem q2147 : (Jvm.Cond.lays "java/util/TreeMap$KeyIterator" "java/util/TreeMap$PrivateEntryIterator" "lastReturned" "Ljava/util/TreeMap$Entry;") ∈ lw_all := lw_g (lw_at lw_m9 51 rfl) rfl
theorem q2148 : (Jvm.Cond.lays "java/util/TreeMap$KeyIterator" "java/util/TreeMap$PrivateEntryIterator" "expectedModCount" "I") ∈ lw_all := lw_g (lw_at lw_m9 52 rfl) rfl
theorem q2149 : (Jvm.Cond.laysFinal "java/util/TreeMap$KeyIterator" "java/util/TreeMap$PrivateEntryIterator" "this$0" "Ljava/util/TreeMap;") ∈ lw_all := lw_g (lw_at lw_m9 53 rfl) rfl
theorem q2150 : (Jvm.Cond.superclass "java/util/TreeMap$KeyIterator" "java/util/TreeMap$PrivateEntryIterator") ∈ lw_all := lw_g (lw_at lw_m9 54 rfl) rfl
theorem q2211 : (Jvm.Cond.castable "java/util/TreeMap$KeyIterator" "java/util/Iterator") ∈ lw_tbl := lw_at lw_m9 115 rfl
theorem q2212 : (Jvm.Cond.selects "java/util/TreeMap$KeyIterator" ({ cls := "java/util/Iterator", name := "hasNext", desc := "()Z" } : Jvm.MethodName) ({ cls := "java/util/TreeMap$PrivateEntryIterator", name := "hasNext", desc := "()Z" } : Jvm.MethodName)) ∈ lw_all := lw_g (lw_at lw_m9 116 rfl) rfl
theorem q2213 : (Jvm.Cond.unhidden "java/util/TreeMap$KeyIterator" "hasNext" "()Z") ∈ lw_tbl := lw_at lw_m9 117 rfl
theorem q2349 : (Jvm.Cond.selects "java/util/TreeMap$KeyIterator" ({ cls := "java/util/Iterator", name := "next", desc := "()Ljava/lang/Object;" } : Jvm.MethodName) ({ cls := "java/util/TreeMap$KeyIterator", name := "next", desc := "()Ljava/lang/Object;" } : Jvm.MethodName)) ∈ lw_all := lw_g (lw_at lw_m10 13 rfl) rfl
theorem q2350 : (Jvm.Cond.unhidden "java/util/TreeMap$KeyIterator" "next" "()Ljava/lang/Object;") ∈ lw_tbl := lw_at lw_m10 14 rfl
theorem q2351 : (Jvm.Cond.instanceMethod ({ cls := "java/util/TreeMap$KeyIterator", name := "next", desc := "()Ljava/lang/Object;" } : Jvm.MethodName)) ∈ lw_all := lw_g (lw_at lw_m10 15 rfl) rfl
theorem q2352 : (Jvm.Cond.publicMethod ({ cls := "java/util/TreeMap$KeyIterator", name := "next", desc := "()Ljava/lang/Object;" } : Jvm.MethodName)) ∈ lw_tbl := lw_at lw_m10 16 rfl
theorem q2353 : (Jvm.Cond.code ({ cls := "java/util/TreeMap$KeyIterator", name := "next", desc := "()Ljava/lang/Object;" } : Jvm.MethodName) prog_91_method_2_code (1 : Nat) (Option.some (Jvm.ClassFile.FieldType.object "java/lang/Object"))) ∈ lw_all := lw_g (lw_at lw_m10 17 rfl) rfl
theorem q2354 : (Jvm.Cond.methodLink "java/util/TreeMap$KeyIterator" (7 : Nat) ({ cls := "java/util/TreeMap$KeyIterator", name := "nextEntry", desc := "()Ljava/util/TreeMap$Entry;" } : Jvm.MethodName)) ∈ lw_all := lw_g (lw_at lw_m10 18 rfl) rfl
theorem q2355 : (Jvm.Cond.sameMethod "java/util/TreeMap$KeyIterator" "java/util/TreeMap$PrivateEntryIterator" "nextEntry" "()Ljava/util/TreeMap$Entry;") ∈ lw_all := lw_g (lw_at lw_m10 19 rfl) rfl
theorem q2356 : (Jvm.Cond.selects "java/util/TreeMap$KeyIterator" ({ cls := "java/util/TreeMap$KeyIterator", name := "nextEntry", desc := "()Ljava/util/TreeMap$Entry;" } : Jvm.MethodName) ({ cls := "java/util/TreeMap$PrivateEntryIterator", name := "nextEntry", desc := "()Ljava/util/TreeMap$Entry;" } : Jvm.MethodName)) ∈ lw_all := lw_g (lw_at lw_m10 20 rfl) rfl
theorem q4507 : (Jvm.Cond.castable "java/util/TreeMap$KeyIterator" "java/lang/Object") ∈ lw_tbl := lw_at lw_m19 11 rfl
theorem in_J39 : ∀ w ∈ wsJ390, w ∈ lw_all := lw_in wsJ390 [2146, 2147, 2148, 2149] (by decide +kernel) (by decide +kernel)

/-! java/util/TreeSet -/
set_option maxRecDepth 100000
def RJ40 : String := "java/util/TreeSet"
def TJ40 : u_T := fun k => match k with
  | _ => ("java/util/TreeSet", "m", "Ljava/util/NavigableMap;", false)
def tyJ40 : Nat → FieldType := fun k => match k with
  | _ => .object "java/util/NavigableMap"
abbrev wsJ400 : List Cond := u_ws RJ40 TJ40 1
theorem nmJ40 : ∀ a, a < 1 → ∀ b, b < 1 → a ≠ b → (TJ40 a).2.1 ≠ (TJ40 b).2.1 := by decide +kernel
theorem tyJ40_ok : ∀ k, k < 1 → parseFieldDescriptor (TJ40 k).2.2.1 = some (tyJ40 k) := by decide +kernel
abbrev cJ40_size : ByteArray := prog_95_method_9_code
def yJ40_size : MethodName := ⟨RJ40, "size", "()I"⟩
def dkwJ40_size_0 : List UInt8 := [42, 180, 0, 7, 185, 0, 53, 1, 0, 172]
abbrev dktJ40_size_0 : List UInt8 := dkwJ40_size_0 ++ []
theorem dksJ40_size_0 : cJ40_size.data.toList.drop 0 = dktJ40_size_0 := by decide +kernel
theorem dJ40_size_0 : decode cJ40_size 0 = .ok (.aload_n 0, 1) := dk_42 (dk_at dksJ40_size_0 0 rfl rfl)
theorem dJ40_size_1 : decode cJ40_size 1 = .ok (.getfield 7, 3) := dk_180 0 7 (dk_at dksJ40_size_0 1 rfl rfl)
theorem dJ40_size_4 : decode cJ40_size 4 = .ok (.invokeinterface 53 1, 5) := by decide +kernel
theorem dJ40_size_9 : decode cJ40_size 9 = .ok (.ireturn, 1) := dk_172 (dk_at dksJ40_size_0 9 rfl rfl)
abbrev cJ40_init : ByteArray := prog_95_method_2_code
def yJ40_init : MethodName := ⟨RJ40, "<init>", "()V"⟩
def dkwJ40_init_0 : List UInt8 := [42, 187, 0, 13, 89, 183, 0, 15, 183, 0, 16, 177]
abbrev dktJ40_init_0 : List UInt8 := dkwJ40_init_0 ++ []
theorem dksJ40_init_0 : cJ40_init.data.toList.drop 0 = dktJ40_init_0 := by decide +kernel
theorem dJ40_init_0 : decode cJ40_init 0 = .ok (.aload_n 0, 1) := dk_42 (dk_at dksJ40_init_0 0 rfl rfl)
theorem dJ40_init_1 : decode cJ40_init 1 = .ok (.new 13, 3) := dk_187 0 13 (dk_at dksJ40_init_0 1 rfl rfl)
theorem dJ40_init_4 : decode cJ40_init 4 = .ok (.dup, 1) := dk_89 (dk_at dksJ40_init_0 4 rfl rfl)
theorem dJ40_init_5 : decode cJ40_init 5 = .ok (.invokespecial 15, 3) := dk_183 0 15 (dk_at dksJ40_init_0 5 rfl rfl)
theorem dJ40_init_8 : decode cJ40_init 8 = .ok (.invokespecial 16, 3) := dk_183 0 16 (dk_at dksJ40_init_0 8 rfl rfl)
theorem dJ40_init_11 : decode cJ40_init 11 = .ok (.return_, 1) := dk_177 (dk_at dksJ40_init_0 11 rfl rfl)
abbrev cJ40_init_2 : ByteArray := prog_95_method_1_code
def yJ40_init_2 : MethodName := ⟨RJ40, "<init>", "(Ljava/util/NavigableMap;)V"⟩
def dkwJ40_init_2_0 : List UInt8 := [42, 183, 0, 1, 42, 43, 181, 0, 7, 177]
abbrev dktJ40_init_2_0 : List UInt8 := dkwJ40_init_2_0 ++ []
theorem dksJ40_init_2_0 : cJ40_init_2.data.toList.drop 0 = dktJ40_init_2_0 := by decide +kernel
theorem dJ40_init_2_0 : decode cJ40_init_2 0 = .ok (.aload_n 0, 1) := dk_42 (dk_at dksJ40_init_2_0 0 rfl rfl)
theorem dJ40_init_2_1 : decode cJ40_init_2 1 = .ok (.invokespecial 1, 3) := dk_183 0 1 (dk_at dksJ40_init_2_0 1 rfl rfl)
theorem dJ40_init_2_4 : decode cJ40_init_2 4 = .ok (.aload_n 0, 1) := dk_42 (dk_at dksJ40_init_2_0 4 rfl rfl)
theorem dJ40_init_2_5 : decode cJ40_init_2 5 = .ok (.aload_n 1, 1) := dk_43 (dk_at dksJ40_init_2_0 5 rfl rfl)
theorem dJ40_init_2_6 : decode cJ40_init_2 6 = .ok (.putfield 7, 3) := dk_181 0 7 (dk_at dksJ40_init_2_0 6 rfl rfl)
theorem dJ40_init_2_9 : decode cJ40_init_2 9 = .ok (.return_, 1) := dk_177 (dk_at dksJ40_init_2_0 9 rfl rfl)
abbrev cJ40_add : ByteArray := prog_95_method_12_code
def yJ40_add : MethodName := ⟨RJ40, "add", "(Ljava/lang/Object;)Z"⟩
def dkwJ40_add_0 : List UInt8 := [42, 180, 0, 7, 43, 178, 0, 65, 185, 0, 69, 3, 0, 199, 0, 7, 4, 167, 0, 4, 3, 172]
abbrev dktJ40_add_0 : List UInt8 := dkwJ40_add_0 ++ []
theorem dksJ40_add_0 : cJ40_add.data.toList.drop 0 = dktJ40_add_0 := by decide +kernel
theorem dJ40_add_0 : decode cJ40_add 0 = .ok (.aload_n 0, 1) := dk_42 (dk_at dksJ40_add_0 0 rfl rfl)
theorem dJ40_add_1 : decode cJ40_add 1 = .ok (.getfield 7, 3) := dk_180 0 7 (dk_at dksJ40_add_0 1 rfl rfl)
theorem dJ40_add_4 : decode cJ40_add 4 = .ok (.aload_n 1, 1) := dk_43 (dk_at dksJ40_add_0 4 rfl rfl)
theorem dJ40_add_5 : decode cJ40_add 5 = .ok (.getstatic 65, 3) := dk_178 0 65 (dk_at dksJ40_add_0 5 rfl rfl)
theorem dJ40_add_8 : decode cJ40_add 8 = .ok (.invokeinterface 69 3, 5) := by decide +kernel
theorem dJ40_add_13 : decode cJ40_add 13 = .ok (.ifnonnull 7, 3) := dk_199 0 7 (dk_at dksJ40_add_0 13 rfl rfl)
theorem dJ40_add_16 : decode cJ40_add 16 = .ok (.iconst 1, 1) := dk_4 (dk_at dksJ40_add_0 16 rfl rfl)
theorem dJ40_add_17 : decode cJ40_add 17 = .ok (.goto 4, 3) := dk_167 0 4 (dk_at dksJ40_add_0 17 rfl rfl)
theorem dJ40_add_20 : decode cJ40_add 20 = .ok (.iconst 0, 1) := dk_3 (dk_at dksJ40_add_0 20 rfl rfl)
theorem dJ40_add_21 : decode cJ40_add 21 = .ok (.ireturn, 1) := dk_172 (dk_at dksJ40_add_0 21 rfl rfl)
abbrev cJ40_remove : ByteArray := prog_95_method_13_code
def yJ40_remove : MethodName := ⟨RJ40, "remove", "(Ljava/lang/Object;)Z"⟩
def dkwJ40_remove_0 : List UInt8 := [42, 180, 0, 7, 43, 185, 0, 73, 2, 0, 178, 0, 65, 166, 0, 7, 4, 167, 0, 4, 3, 172]
abbrev dktJ40_remove_0 : List UInt8 := dkwJ40_remove_0 ++ []
theorem dksJ40_remove_0 : cJ40_remove.data.toList.drop 0 = dktJ40_remove_0 := by decide +kernel
theorem dJ40_remove_0 : decode cJ40_remove 0 = .ok (.aload_n 0, 1) := dk_42 (dk_at dksJ40_remove_0 0 rfl rfl)
theorem dJ40_remove_1 : decode cJ40_remove 1 = .ok (.getfield 7, 3) := dk_180 0 7 (dk_at dksJ40_remove_0 1 rfl rfl)
theorem dJ40_remove_4 : decode cJ40_remove 4 = .ok (.aload_n 1, 1) := dk_43 (dk_at dksJ40_remove_0 4 rfl rfl)
theorem dJ40_remove_5 : decode cJ40_remove 5 = .ok (.invokeinterface 73 2, 5) := by decide +kernel
theorem dJ40_remove_10 : decode cJ40_remove 10 = .ok (.getstatic 65, 3) := dk_178 0 65 (dk_at dksJ40_remove_0 10 rfl rfl)
theorem dJ40_remove_13 : decode cJ40_remove 13 = .ok (.if_acmp .ne 7, 3) := dk_166 0 7 (dk_at dksJ40_remove_0 13 rfl rfl)
theorem dJ40_remove_16 : decode cJ40_remove 16 = .ok (.iconst 1, 1) := dk_4 (dk_at dksJ40_remove_0 16 rfl rfl)
theorem dJ40_remove_17 : decode cJ40_remove 17 = .ok (.goto 4, 3) := dk_167 0 4 (dk_at dksJ40_remove_0 17 rfl rfl)
theorem dJ40_remove_20 : decode cJ40_remove 20 = .ok (.iconst 0, 1) := dk_3 (dk_at dksJ40_remove_0 20 rfl rfl)
theorem dJ40_remove_21 : decode cJ40_remove 21 = .ok (.ireturn, 1) := dk_172 (dk_at dksJ40_remove_0 21 rfl rfl)
abbrev cJ40_contains : ByteArray := prog_95_method_11_code
def yJ40_contains : MethodName := ⟨RJ40, "contains", "(Ljava/lang/Object;)Z"⟩
def dkwJ40_contains_0 : List UInt8 := [42, 180, 0, 7, 43, 185, 0, 61, 2, 0, 172]
abbrev dktJ40_contains_0 : List UInt8 := dkwJ40_contains_0 ++ []
theorem dksJ40_contains_0 : cJ40_contains.data.toList.drop 0 = dktJ40_contains_0 := by decide +kernel
theorem dJ40_contains_0 : decode cJ40_contains 0 = .ok (.aload_n 0, 1) := dk_42 (dk_at dksJ40_contains_0 0 rfl rfl)
theorem dJ40_contains_1 : decode cJ40_contains 1 = .ok (.getfield 7, 3) := dk_180 0 7 (dk_at dksJ40_contains_0 1 rfl rfl)
theorem dJ40_contains_4 : decode cJ40_contains 4 = .ok (.aload_n 1, 1) := dk_43 (dk_at dksJ40_contains_0 4 rfl rfl)
theorem dJ40_contains_5 : decode cJ40_contains 5 = .ok (.invokeinterface 61 2, 5) := by decide +kernel
theorem dJ40_contains_10 : decode cJ40_contains 10 = .ok (.ireturn, 1) := dk_172 (dk_at dksJ40_contains_0 10 rfl rfl)
abbrev cJ40_iterator : ByteArray := prog_95_method_6_code
def yJ40_iterator : MethodName := ⟨RJ40, "iterator", "()Ljava/util/Iterator;"⟩
def dkwJ40_iterator_0 : List UInt8 := [42, 180, 0, 7, 185, 0, 34, 1, 0, 185, 0, 40, 1, 0, 176]
abbrev dktJ40_iterator_0 : List UInt8 := dkwJ40_iterator_0 ++ []
theorem dksJ40_iterator_0 : cJ40_iterator.data.toList.drop 0 = dktJ40_iterator_0 := by decide +kernel
theorem dJ40_iterator_0 : decode cJ40_iterator 0 = .ok (.aload_n 0, 1) := dk_42 (dk_at dksJ40_iterator_0 0 rfl rfl)
theorem dJ40_iterator_1 : decode cJ40_iterator 1 = .ok (.getfield 7, 3) := dk_180 0 7 (dk_at dksJ40_iterator_0 1 rfl rfl)
theorem dJ40_iterator_4 : decode cJ40_iterator 4 = .ok (.invokeinterface 34 1, 5) := by decide +kernel
theorem dJ40_iterator_9 : decode cJ40_iterator 9 = .ok (.invokeinterface 40 1, 5) := by decide +kernel
theorem dJ40_iterator_14 : decode cJ40_iterator 14 = .ok (.areturn, 1) := dk_176 (dk_at dksJ40_iterator_0 14 rfl rfl)
abbrev cJ40_isEmpty : ByteArray := prog_95_method_10_code
def yJ40_isEmpty : MethodName := ⟨RJ40, "isEmpty", "()Z"⟩
def dkwJ40_isEmpty_0 : List UInt8 := [42, 180, 0, 7, 185, 0, 57, 1, 0, 172]
abbrev dktJ40_isEmpty_0 : List UInt8 := dkwJ40_isEmpty_0 ++ []
theorem dksJ40_isEmpty_0 : cJ40_isEmpty.data.toList.drop 0 = dktJ40_isEmpty_0 := by decide +kernel
theorem dJ40_isEmpty_0 : decode cJ40_isEmpty 0 = .ok (.aload_n 0, 1) := dk_42 (dk_at dksJ40_isEmpty_0 0 rfl rfl)
theorem dJ40_isEmpty_1 : decode cJ40_isEmpty 1 = .ok (.getfield 7, 3) := dk_180 0 7 (dk_at dksJ40_isEmpty_0 1 rfl rfl)
theorem dJ40_isEmpty_4 : decode cJ40_isEmpty 4 = .ok (.invokeinterface 57 1, 5) := by decide +kernel
theorem dJ40_isEmpty_9 : decode cJ40_isEmpty 9 = .ok (.ireturn, 1) := dk_172 (dk_at dksJ40_isEmpty_0 9 rfl rfl)
abbrev cJ40_first : ByteArray := prog_95_method_23_code
def yJ40_first : MethodName := ⟨RJ40, "first", "()Ljava/lang/Object;"⟩
def dkwJ40_first_0 : List UInt8 := [42, 180, 0, 7, 185, 0, 118, 1, 0, 176]
abbrev dktJ40_first_0 : List UInt8 := dkwJ40_first_0 ++ []
theorem dksJ40_first_0 : cJ40_first.data.toList.drop 0 = dktJ40_first_0 := by decide +kernel
theorem dJ40_first_0 : decode cJ40_first 0 = .ok (.aload_n 0, 1) := dk_42 (dk_at dksJ40_first_0 0 rfl rfl)
theorem dJ40_first_1 : decode cJ40_first 1 = .ok (.getfield 7, 3) := dk_180 0 7 (dk_at dksJ40_first_0 1 rfl rfl)
theorem dJ40_first_4 : decode cJ40_first 4 = .ok (.invokeinterface 118 1, 5) := by decide +kernel
theorem dJ40_first_9 : decode cJ40_first 9 = .ok (.areturn, 1) := dk_176 (dk_at dksJ40_first_0 9 rfl rfl)
abbrev cJ40_last : ByteArray := prog_95_method_24_code
def yJ40_last : MethodName := ⟨RJ40, "last", "()Ljava/lang/Object;"⟩
def dkwJ40_last_0 : List UInt8 := [42, 180, 0, 7, 185, 0, 122, 1, 0, 176]
abbrev dktJ40_last_0 : List UInt8 := dkwJ40_last_0 ++ []
theorem dksJ40_last_0 : cJ40_last.data.toList.drop 0 = dktJ40_last_0 := by decide +kernel
theorem dJ40_last_0 : decode cJ40_last 0 = .ok (.aload_n 0, 1) := dk_42 (dk_at dksJ40_last_0 0 rfl rfl)
theorem dJ40_last_1 : decode cJ40_last 1 = .ok (.getfield 7, 3) := dk_180 0 7 (dk_at dksJ40_last_0 1 rfl rfl)
theorem dJ40_last_4 : decode cJ40_last 4 = .ok (.invokeinterface 122 1, 5) := by decide +kernel
theorem dJ40_last_9 : decode cJ40_last 9 = .ok (.areturn, 1) := dk_176 (dk_at dksJ40_last_0 9 rfl rfl)
abbrev cJ40_higher : ByteArray := prog_95_method_28_code
def yJ40_higher : MethodName := ⟨RJ40, "higher", "(Ljava/lang/Object;)Ljava/lang/Object;"⟩
def dkwJ40_higher_0 : List UInt8 := [42, 180, 0, 7, 43, 185, 0, 134, 2, 0, 176]
abbrev dktJ40_higher_0 : List UInt8 := dkwJ40_higher_0 ++ []
theorem dksJ40_higher_0 : cJ40_higher.data.toList.drop 0 = dktJ40_higher_0 := by decide +kernel
theorem dJ40_higher_0 : decode cJ40_higher 0 = .ok (.aload_n 0, 1) := dk_42 (dk_at dksJ40_higher_0 0 rfl rfl)
theorem dJ40_higher_1 : decode cJ40_higher 1 = .ok (.getfield 7, 3) := dk_180 0 7 (dk_at dksJ40_higher_0 1 rfl rfl)
theorem dJ40_higher_4 : decode cJ40_higher 4 = .ok (.aload_n 1, 1) := dk_43 (dk_at dksJ40_higher_0 4 rfl rfl)
theorem dJ40_higher_5 : decode cJ40_higher 5 = .ok (.invokeinterface 134 2, 5) := by decide +kernel
theorem dJ40_higher_10 : decode cJ40_higher 10 = .ok (.areturn, 1) := dk_176 (dk_at dksJ40_higher_0 10 rfl rfl)
theorem q234 : (Jvm.Cond.initialized "java/util/TreeSet") ∈ lw_all := lw_g (lw_at lw_m1 58 rfl) rfl
theorem q442 : (Jvm.Cond.selects "java/util/TreeSet" ({ cls := "java/lang/Object", name := "getClass", desc := "()Ljava/lang/Class;" } : Jvm.MethodName) ({ cls := "java/lang/Object", name := "getClass", desc := "()Ljava/lang/Class;" } : Jvm.MethodName)) ∈ lw_all := lw_g (lw_at lw_m2 26 rfl) rfl
theorem q1830 : (Jvm.Cond.selects "java/util/TreeSet" ({ cls := "java/util/AbstractCollection", name := "size", desc := "()I" } : Jvm.MethodName) ({ cls := "java/util/TreeSet", name := "size", desc := "()I" } : Jvm.MethodName)) ∈ lw_all := lw_g (lw_at lw_m7 214 rfl) rfl
theorem q1831 : (Jvm.Cond.instanceMethod ({ cls := "java/util/TreeSet", name := "size", desc := "()I" } : Jvm.MethodName)) ∈ lw_all := lw_g (lw_at lw_m7 215 rfl) rfl
theorem q1832 : (Jvm.Cond.code ({ cls := "java/util/TreeSet", name := "size", desc := "()I" } : Jvm.MethodName) prog_95_method_9_code (1 : Nat) (Option.some Jvm.ClassFile.FieldType.int)) ∈ lw_all := lw_g (lw_at lw_m7 216 rfl) rfl
theorem q1833 : (Jvm.Cond.interfaceEntry "java/util/TreeSet" (53 : Nat)) ∈ lw_tbl := lw_at lw_m7 217 rfl
theorem q1921 : (Jvm.Cond.instantiable "java/util/TreeSet" (1 : Nat)) ∈ lw_all := lw_g (lw_at lw_m8 65 rfl) rfl
theorem q1923 : (Jvm.Cond.instanceMethod ({ cls := "java/util/TreeSet", name := "<init>", desc := "()V" } : Jvm.MethodName)) ∈ lw_all := lw_g (lw_at lw_m8 67 rfl) rfl
theorem q1924 : (Jvm.Cond.code ({ cls := "java/util/TreeSet", name := "<init>", desc := "()V" } : Jvm.MethodName) prog_95_method_2_code (1 : Nat) (Option.none : Option Jvm.ClassFile.FieldType)) ∈ lw_all := lw_g (lw_at lw_m8 68 rfl) rfl
theorem q1925 : (Jvm.Cond.classLink "java/util/TreeSet" (13 : Nat) "java/util/TreeMap") ∈ lw_all := lw_g (lw_at lw_m8 69 rfl) rfl
theorem q1926 : (Jvm.Cond.methodLink "java/util/TreeSet" (15 : Nat) ({ cls := "java/util/TreeMap", name := "<init>", desc := "()V" } : Jvm.MethodName)) ∈ lw_all := lw_g (lw_at lw_m8 70 rfl) rfl
theorem q1927 : (Jvm.Cond.methodLink "java/util/TreeSet" (16 : Nat) ({ cls := "java/util/TreeSet", name := "<init>", desc := "(Ljava/util/NavigableMap;)V" } : Jvm.MethodName)) ∈ lw_all := lw_g (lw_at lw_m8 71 rfl) rfl
theorem q1928 : (Jvm.Cond.instanceMethod ({ cls := "java/util/TreeSet", name := "<init>", desc := "(Ljava/util/NavigableMap;)V" } : Jvm.MethodName)) ∈ lw_all := lw_g (lw_at lw_m8 72 rfl) rfl
theorem q1929 : (Jvm.Cond.code ({ cls := "java/util/TreeSet", name := "<init>", desc := "(Ljava/util/NavigableMap;)V" } : Jvm.MethodName) prog_95_method_1_code (2 : Nat) (Option.none : Option Jvm.ClassFile.FieldType)) ∈ lw_all := lw_g (lw_at lw_m8 73 rfl) rfl
theorem q1930 : (Jvm.Cond.methodLink "java/util/TreeSet" (1 : Nat) ({ cls := "java/util/AbstractSet", name := "<init>", desc := "()V" } : Jvm.MethodName)) ∈ lw_all := lw_g (lw_at lw_m8 74 rfl) rfl
theorem q1934 : (Jvm.Cond.fieldLink "java/util/TreeSet" (7 : Nat) "java/util/TreeSet" "m" "Ljava/util/NavigableMap;") ∈ lw_all := lw_g (lw_at lw_m8 78 rfl) rfl
theorem q1935 : (Jvm.Cond.lays "java/util/TreeSet" "java/util/TreeSet" "m" "Ljava/util/NavigableMap;") ∈ lw_all := lw_g (lw_at lw_m8 79 rfl) rfl
theorem q1936 : (Jvm.Cond.soleField "java/util/TreeSet" "m") ∈ lw_all := lw_g (lw_at lw_m8 80 rfl) rfl
theorem q1937 : (Jvm.Cond.superclass "java/util/TreeSet" "java/util/AbstractSet") ∈ lw_all := lw_g (lw_at lw_m8 81 rfl) rfl
theorem q1940 : (Jvm.Cond.instanceMethod ({ cls := "java/util/TreeSet", name := "add", desc := "(Ljava/lang/Object;)Z" } : Jvm.MethodName)) ∈ lw_all := lw_g (lw_at lw_m8 84 rfl) rfl
theorem q1941 : (Jvm.Cond.selects "java/util/TreeSet" ({ cls := "java/util/TreeSet", name := "add", desc := "(Ljava/lang/Object;)Z" } : Jvm.MethodName) ({ cls := "java/util/TreeSet", name := "add", desc := "(Ljava/lang/Object;)Z" } : Jvm.MethodName)) ∈ lw_all := lw_g (lw_at lw_m8 85 rfl) rfl
theorem q1942 : (Jvm.Cond.code ({ cls := "java/util/TreeSet", name := "add", desc := "(Ljava/lang/Object;)Z" } : Jvm.MethodName) prog_95_method_12_code (2 : Nat) (Option.some Jvm.ClassFile.FieldType.boolean)) ∈ lw_all := lw_g (lw_at lw_m8 86 rfl) rfl
theorem q1943 : (Jvm.Cond.fieldLink "java/util/TreeSet" (65 : Nat) "java/util/TreeSet" "PRESENT" "Ljava/lang/Object;") ∈ lw_all := lw_g (lw_at lw_m8 87 rfl) rfl
theorem q1944 : (Jvm.Cond.laysStatic "java/util/TreeSet" "PRESENT" "Ljava/lang/Object;") ∈ lw_tbl := lw_at lw_m8 88 rfl
theorem q1945 : (Jvm.Cond.interfaceEntry "java/util/TreeSet" (69 : Nat)) ∈ lw_tbl := lw_at lw_m8 89 rfl
theorem q1964 : (Jvm.Cond.instanceMethod ({ cls := "java/util/TreeSet", name := "remove", desc := "(Ljava/lang/Object;)Z" } : Jvm.MethodName)) ∈ lw_all := lw_g (lw_at lw_m8 108 rfl) rfl
theorem q1965 : (Jvm.Cond.selects "java/util/TreeSet" ({ cls := "java/util/TreeSet", name := "remove", desc := "(Ljava/lang/Object;)Z" } : Jvm.MethodName) ({ cls := "java/util/TreeSet", name := "remove", desc := "(Ljava/lang/Object;)Z" } : Jvm.MethodName)) ∈ lw_all := lw_g (lw_at lw_m8 109 rfl) rfl
theorem q1966 : (Jvm.Cond.code ({ cls := "java/util/TreeSet", name := "remove", desc := "(Ljava/lang/Object;)Z" } : Jvm.MethodName) prog_95_method_13_code (2 : Nat) (Option.some Jvm.ClassFile.FieldType.boolean)) ∈ lw_all := lw_g (lw_at lw_m8 110 rfl) rfl
theorem q1967 : (Jvm.Cond.interfaceEntry "java/util/TreeSet" (73 : Nat)) ∈ lw_tbl := lw_at lw_m8 111 rfl
theorem q1987 : (Jvm.Cond.instanceMethod ({ cls := "java/util/TreeSet", name := "contains", desc := "(Ljava/lang/Object;)Z" } : Jvm.MethodName)) ∈ lw_all := lw_g (lw_at lw_m8 131 rfl) rfl
theorem q1988 : (Jvm.Cond.selects "java/util/TreeSet" ({ cls := "java/util/TreeSet", name := "contains", desc := "(Ljava/lang/Object;)Z" } : Jvm.MethodName) ({ cls := "java/util/TreeSet", name := "contains", desc := "(Ljava/lang/Object;)Z" } : Jvm.MethodName)) ∈ lw_all := lw_g (lw_at lw_m8 132 rfl) rfl
theorem q1989 : (Jvm.Cond.code ({ cls := "java/util/TreeSet", name := "contains", desc := "(Ljava/lang/Object;)Z" } : Jvm.MethodName) prog_95_method_11_code (2 : Nat) (Option.some Jvm.ClassFile.FieldType.boolean)) ∈ lw_all := lw_g (lw_at lw_m8 133 rfl) rfl
theorem q1990 : (Jvm.Cond.interfaceEntry "java/util/TreeSet" (61 : Nat)) ∈ lw_tbl := lw_at lw_m8 134 rfl
theorem q2155 : (Jvm.Cond.castable "java/util/TreeSet" "java/util/Set") ∈ lw_tbl := lw_at lw_m9 59 rfl
theorem q2156 : (Jvm.Cond.selects "java/util/TreeSet" ({ cls := "java/util/Set", name := "iterator", desc := "()Ljava/util/Iterator;" } : Jvm.MethodName) ({ cls := "java/util/TreeSet", name := "iterator", desc := "()Ljava/util/Iterator;" } : Jvm.MethodName)) ∈ lw_all := lw_g (lw_at lw_m9 60 rfl) rfl
theorem q2157 : (Jvm.Cond.unhidden "java/util/TreeSet" "iterator" "()Ljava/util/Iterator;") ∈ lw_tbl := lw_at lw_m9 61 rfl
theorem q2158 : (Jvm.Cond.instanceMethod ({ cls := "java/util/TreeSet", name := "iterator", desc := "()Ljava/util/Iterator;" } : Jvm.MethodName)) ∈ lw_all := lw_g (lw_at lw_m9 62 rfl) rfl
theorem q2159 : (Jvm.Cond.publicMethod ({ cls := "java/util/TreeSet", name := "iterator", desc := "()Ljava/util/Iterator;" } : Jvm.MethodName)) ∈ lw_tbl := lw_at lw_m9 63 rfl
theorem q2160 : (Jvm.Cond.code ({ cls := "java/util/TreeSet", name := "iterator", desc := "()Ljava/util/Iterator;" } : Jvm.MethodName) prog_95_method_6_code (1 : Nat) (Option.some (Jvm.ClassFile.FieldType.object "java/util/Iterator"))) ∈ lw_all := lw_g (lw_at lw_m9 64 rfl) rfl
theorem q2161 : (Jvm.Cond.interfaceEntry "java/util/TreeSet" (34 : Nat)) ∈ lw_tbl := lw_at lw_m9 65 rfl
theorem q2162 : (Jvm.Cond.methodLink "java/util/TreeSet" (34 : Nat) ({ cls := "java/util/NavigableMap", name := "navigableKeySet", desc := "()Ljava/util/NavigableSet;" } : Jvm.MethodName)) ∈ lw_all := lw_g (lw_at lw_m9 66 rfl) rfl
theorem q2168 : (Jvm.Cond.interfaceEntry "java/util/TreeSet" (40 : Nat)) ∈ lw_tbl := lw_at lw_m9 72 rfl
theorem q2169 : (Jvm.Cond.methodLink "java/util/TreeSet" (40 : Nat) ({ cls := "java/util/NavigableSet", name := "iterator", desc := "()Ljava/util/Iterator;" } : Jvm.MethodName)) ∈ lw_all := lw_g (lw_at lw_m9 73 rfl) rfl
theorem q2174 : (Jvm.Cond.castable "java/util/TreeSet" "java/util/NavigableSet") ∈ lw_tbl := lw_at lw_m9 78 rfl
theorem q2175 : (Jvm.Cond.selects "java/util/TreeSet" ({ cls := "java/util/NavigableSet", name := "iterator", desc := "()Ljava/util/Iterator;" } : Jvm.MethodName) ({ cls := "java/util/TreeSet", name := "iterator", desc := "()Ljava/util/Iterator;" } : Jvm.MethodName)) ∈ lw_all := lw_g (lw_at lw_m9 79 rfl) rfl
theorem q2646 : (Jvm.Cond.instanceMethod ({ cls := "java/util/TreeSet", name := "isEmpty", desc := "()Z" } : Jvm.MethodName)) ∈ lw_all := lw_g (lw_at lw_m11 70 rfl) rfl
theorem q2647 : (Jvm.Cond.selects "java/util/TreeSet" ({ cls := "java/util/TreeSet", name := "isEmpty", desc := "()Z" } : Jvm.MethodName) ({ cls := "java/util/TreeSet", name := "isEmpty", desc := "()Z" } : Jvm.MethodName)) ∈ lw_all := lw_g (lw_at lw_m11 71 rfl) rfl
theorem q2648 : (Jvm.Cond.code ({ cls := "java/util/TreeSet", name := "isEmpty", desc := "()Z" } : Jvm.MethodName) prog_95_method_10_code (1 : Nat) (Option.some Jvm.ClassFile.FieldType.boolean)) ∈ lw_all := lw_g (lw_at lw_m11 72 rfl) rfl
theorem q2649 : (Jvm.Cond.interfaceEntry "java/util/TreeSet" (57 : Nat)) ∈ lw_tbl := lw_at lw_m11 73 rfl
theorem q3064 : (Jvm.Cond.instanceMethod ({ cls := "java/util/TreeSet", name := "first", desc := "()Ljava/lang/Object;" } : Jvm.MethodName)) ∈ lw_all := lw_g (lw_at lw_m13 8 rfl) rfl
theorem q3065 : (Jvm.Cond.selects "java/util/TreeSet" ({ cls := "java/util/TreeSet", name := "first", desc := "()Ljava/lang/Object;" } : Jvm.MethodName) ({ cls := "java/util/TreeSet", name := "first", desc := "()Ljava/lang/Object;" } : Jvm.MethodName)) ∈ lw_all := lw_g (lw_at lw_m13 9 rfl) rfl
theorem q3066 : (Jvm.Cond.code ({ cls := "java/util/TreeSet", name := "first", desc := "()Ljava/lang/Object;" } : Jvm.MethodName) prog_95_method_23_code (1 : Nat) (Option.some (Jvm.ClassFile.FieldType.object "java/lang/Object"))) ∈ lw_all := lw_g (lw_at lw_m13 10 rfl) rfl
theorem q3067 : (Jvm.Cond.interfaceEntry "java/util/TreeSet" (118 : Nat)) ∈ lw_tbl := lw_at lw_m13 11 rfl
theorem q3245 : (Jvm.Cond.instanceMethod ({ cls := "java/util/TreeSet", name := "last", desc := "()Ljava/lang/Object;" } : Jvm.MethodName)) ∈ lw_all := lw_g (lw_at lw_m13 189 rfl) rfl
theorem q3246 : (Jvm.Cond.selects "java/util/TreeSet" ({ cls := "java/util/TreeSet", name := "last", desc := "()Ljava/lang/Object;" } : Jvm.MethodName) ({ cls := "java/util/TreeSet", name := "last", desc := "()Ljava/lang/Object;" } : Jvm.MethodName)) ∈ lw_all := lw_g (lw_at lw_m13 190 rfl) rfl
theorem q3247 : (Jvm.Cond.code ({ cls := "java/util/TreeSet", name := "last", desc := "()Ljava/lang/Object;" } : Jvm.MethodName) prog_95_method_24_code (1 : Nat) (Option.some (Jvm.ClassFile.FieldType.object "java/lang/Object"))) ∈ lw_all := lw_g (lw_at lw_m13 191 rfl) rfl
theorem q3248 : (Jvm.Cond.interfaceEntry "java/util/TreeSet" (122 : Nat)) ∈ lw_tbl := lw_at lw_m13 192 rfl
theorem q3285 : (Jvm.Cond.instanceMethod ({ cls := "java/util/TreeSet", name := "higher", desc := "(Ljava/lang/Object;)Ljava/lang/Object;" } : Jvm.MethodName)) ∈ lw_all := lw_g (lw_at lw_m13 229 rfl) rfl
theorem q3286 : (Jvm.Cond.selects "java/util/TreeSet" ({ cls := "java/util/TreeSet", name := "higher", desc := "(Ljava/lang/Object;)Ljava/lang/Object;" } : Jvm.MethodName) ({ cls := "java/util/TreeSet", name := "higher", desc := "(Ljava/lang/Object;)Ljava/lang/Object;" } : Jvm.MethodName)) ∈ lw_all := lw_g (lw_at lw_m13 230 rfl) rfl
theorem q3287 : (Jvm.Cond.code ({ cls := "java/util/TreeSet", name := "higher", desc := "(Ljava/lang/Object;)Ljava/lang/Object;" } : Jvm.MethodName) prog_95_method_28_code (2 : Nat) (Option.some (Jvm.ClassFile.FieldType.object "java/lang/Object"))) ∈ lw_all := lw_g (lw_at lw_m13 231 rfl) rfl
theorem q3288 : (Jvm.Cond.interfaceEntry "java/util/TreeSet" (134 : Nat)) ∈ lw_tbl := lw_at lw_m13 232 rfl
theorem q3289 : (Jvm.Cond.methodLink "java/util/TreeSet" (134 : Nat) ({ cls := "java/util/NavigableMap", name := "higherKey", desc := "(Ljava/lang/Object;)Ljava/lang/Object;" } : Jvm.MethodName)) ∈ lw_all := lw_g (lw_at lw_m13 233 rfl) rfl
theorem q4464 : (Jvm.Cond.selects "java/util/TreeSet" ({ cls := "java/util/TreeSet", name := "iterator", desc := "()Ljava/util/Iterator;" } : Jvm.MethodName) ({ cls := "java/util/TreeSet", name := "iterator", desc := "()Ljava/util/Iterator;" } : Jvm.MethodName)) ∈ lw_all := lw_g (lw_at lw_m18 208 rfl) rfl
theorem q4470 : (Jvm.Cond.selects "java/util/TreeSet" ({ cls := "java/util/TreeSet", name := "size", desc := "()I" } : Jvm.MethodName) ({ cls := "java/util/TreeSet", name := "size", desc := "()I" } : Jvm.MethodName)) ∈ lw_all := lw_g (lw_at lw_m18 214 rfl) rfl
theorem q4512 : (Jvm.Cond.castable "java/util/TreeSet" "java/lang/Object") ∈ lw_tbl := lw_at lw_m19 16 rfl
theorem in_J40 : ∀ w ∈ wsJ400, w ∈ lw_all := lw_in wsJ400 [1935] (by decide +kernel) (by decide +kernel)

/-! java/util/AbstractQueue -/
set_option maxRecDepth 100000
def RJ41 : String := "java/util/AbstractQueue"
abbrev cJ41_init : ByteArray := prog_54_method_1_code
def yJ41_init : MethodName := ⟨RJ41, "<init>", "()V"⟩
theorem dJ41_init_0 : decode cJ41_init 0 = .ok (.aload_n 0, 1) := by decide +kernel
theorem dJ41_init_1 : decode cJ41_init 1 = .ok (.invokespecial 1, 3) := by decide +kernel
theorem dJ41_init_4 : decode cJ41_init 4 = .ok (.return_, 1) := by decide +kernel
theorem q236 : (Jvm.Cond.initialized "java/util/AbstractQueue") ∈ lw_all := lw_g (lw_at lw_m1 60 rfl) rfl
theorem q2623 : (Jvm.Cond.instanceMethod ({ cls := "java/util/AbstractQueue", name := "<init>", desc := "()V" } : Jvm.MethodName)) ∈ lw_all := lw_g (lw_at lw_m11 47 rfl) rfl
theorem q2624 : (Jvm.Cond.code ({ cls := "java/util/AbstractQueue", name := "<init>", desc := "()V" } : Jvm.MethodName) prog_54_method_1_code (1 : Nat) (Option.none : Option Jvm.ClassFile.FieldType)) ∈ lw_all := lw_g (lw_at lw_m11 48 rfl) rfl
theorem q2625 : (Jvm.Cond.methodLink "java/util/AbstractQueue" (1 : Nat) ({ cls := "java/util/AbstractCollection", name := "<init>", desc := "()V" } : Jvm.MethodName)) ∈ lw_all := lw_g (lw_at lw_m11 49 rfl) rfl

/-! java/util/PriorityQueue -/
set_option maxRecDepth 100000
def RJ42 : String := "java/util/PriorityQueue"
def TJ42 : u_T := fun k => match k with
  | 0 => ("java/util/PriorityQueue", "queue", "[Ljava/lang/Object;", false)
  | 1 => ("java/util/PriorityQueue", "size", "I", false)
  | 2 => ("java/util/PriorityQueue", "comparator", "Ljava/util/Comparator;", true)
  | _ => ("java/util/PriorityQueue", "modCount", "I", false)
def tyJ42 : Nat → FieldType := fun k => match k with
  | 0 => .array (.object "java/lang/Object")
  | 1 => .int
  | 2 => .object "java/util/Comparator"
  | _ => .int
abbrev wsJ420 : List Cond := u_ws RJ42 TJ42 4
theorem nmJ42 : ∀ a, a < 4 → ∀ b, b < 4 → a ≠ b → (TJ42 a).2.1 ≠ (TJ42 b).2.1 := by decide +kernel
theorem tyJ42_ok : ∀ k, k < 4 → parseFieldDescriptor (TJ42 k).2.2.1 = some (tyJ42 k) := by decide +kernel
abbrev cJ42_size : ByteArray := prog_78_method_23_code
def yJ42_size : MethodName := ⟨RJ42, "size", "()I"⟩
theorem dJ42_size_0 : decode cJ42_size 0 = .ok (.aload_n 0, 1) := by decide +kernel
theorem dJ42_size_1 : decode cJ42_size 1 = .ok (.getfield 58, 3) := by decide +kernel
theorem dJ42_size_4 : decode cJ42_size 4 = .ok (.ireturn, 1) := by decide +kernel
abbrev cJ42_init : ByteArray := prog_78_method_3_code
def yJ42_init : MethodName := ⟨RJ42, "<init>", "(Ljava/util/Comparator;)V"⟩
def dkwJ42_init_0 : List UInt8 := [42, 16, 11, 43, 183, 0, 3, 177]
abbrev dktJ42_init_0 : List UInt8 := dkwJ42_init_0 ++ []
theorem dksJ42_init_0 : cJ42_init.data.toList.drop 0 = dktJ42_init_0 := by decide +kernel
theorem dJ42_init_0 : decode cJ42_init 0 = .ok (.aload_n 0, 1) := dk_42 (dk_at dksJ42_init_0 0 rfl rfl)
theorem dJ42_init_1 : decode cJ42_init 1 = .ok (.bipush 11, 2) := dk_16 11 (dk_at dksJ42_init_0 1 rfl rfl)
theorem dJ42_init_3 : decode cJ42_init 3 = .ok (.aload_n 1, 1) := dk_43 (dk_at dksJ42_init_0 3 rfl rfl)
theorem dJ42_init_4 : decode cJ42_init 4 = .ok (.invokespecial 3, 3) := dk_183 0 3 (dk_at dksJ42_init_0 4 rfl rfl)
theorem dJ42_init_7 : decode cJ42_init 7 = .ok (.return_, 1) := dk_177 (dk_at dksJ42_init_0 7 rfl rfl)
abbrev cJ42_init_2 : ByteArray := prog_78_method_4_code
def yJ42_init_2 : MethodName := ⟨RJ42, "<init>", "(ILjava/util/Comparator;)V"⟩
def dkwJ42_init_2_1 : List UInt8 := [181, 0, 17, 42, 44, 181, 0, 21, 177]
abbrev dktJ42_init_2_1 : List UInt8 := dkwJ42_init_2_1 ++ []
def dkwJ42_init_2_0 : List UInt8 := [42, 183, 0, 7, 27, 4, 162, 0, 11, 187, 0, 12, 89, 183, 0, 14, 191, 42, 27, 189, 0, 15]
abbrev dktJ42_init_2_0 : List UInt8 := dkwJ42_init_2_0 ++ dktJ42_init_2_1
theorem dksJ42_init_2_0 : cJ42_init_2.data.toList.drop 0 = dktJ42_init_2_0 := by decide +kernel
theorem dksJ42_init_2_1 : cJ42_init_2.data.toList.drop 22 = dktJ42_init_2_1 := dk_seg dksJ42_init_2_0 22 rfl rfl
theorem dJ42_init_2_0 : decode cJ42_init_2 0 = .ok (.aload_n 0, 1) := dk_42 (dk_at dksJ42_init_2_0 0 rfl rfl)
theorem dJ42_init_2_1 : decode cJ42_init_2 1 = .ok (.invokespecial 7, 3) := dk_183 0 7 (dk_at dksJ42_init_2_0 1 rfl rfl)
theorem dJ42_init_2_4 : decode cJ42_init_2 4 = .ok (.iload_n 1, 1) := dk_27 (dk_at dksJ42_init_2_0 4 rfl rfl)
theorem dJ42_init_2_5 : decode cJ42_init_2 5 = .ok (.iconst 1, 1) := dk_4 (dk_at dksJ42_init_2_0 5 rfl rfl)
theorem dJ42_init_2_6 : decode cJ42_init_2 6 = .ok (.if_icmp .ge 11, 3) := dk_162 0 11 (dk_at dksJ42_init_2_0 6 rfl rfl)
theorem dJ42_init_2_9 : decode cJ42_init_2 9 = .ok (.new 12, 3) := dk_187 0 12 (dk_at dksJ42_init_2_0 9 rfl rfl)
theorem dJ42_init_2_12 : decode cJ42_init_2 12 = .ok (.dup, 1) := dk_89 (dk_at dksJ42_init_2_0 12 rfl rfl)
theorem dJ42_init_2_13 : decode cJ42_init_2 13 = .ok (.invokespecial 14, 3) := dk_183 0 14 (dk_at dksJ42_init_2_0 13 rfl rfl)
theorem dJ42_init_2_16 : decode cJ42_init_2 16 = .ok (.athrow, 1) := dk_191 (dk_at dksJ42_init_2_0 16 rfl rfl)
theorem dJ42_init_2_17 : decode cJ42_init_2 17 = .ok (.aload_n 0, 1) := dk_42 (dk_at dksJ42_init_2_0 17 rfl rfl)
theorem dJ42_init_2_18 : decode cJ42_init_2 18 = .ok (.iload_n 1, 1) := dk_27 (dk_at dksJ42_init_2_0 18 rfl rfl)
theorem dJ42_init_2_19 : decode cJ42_init_2 19 = .ok (.anewarray 15, 3) := dk_189 0 15 (dk_at dksJ42_init_2_0 19 rfl rfl)
theorem dJ42_init_2_22 : decode cJ42_init_2 22 = .ok (.putfield 17, 3) := dk_181 0 17 (dk_at dksJ42_init_2_1 0 rfl rfl)
theorem dJ42_init_2_25 : decode cJ42_init_2 25 = .ok (.aload_n 0, 1) := dk_42 (dk_at dksJ42_init_2_1 3 rfl rfl)
theorem dJ42_init_2_26 : decode cJ42_init_2 26 = .ok (.aload_n 2, 1) := dk_44 (dk_at dksJ42_init_2_1 4 rfl rfl)
theorem dJ42_init_2_27 : decode cJ42_init_2 27 = .ok (.putfield 21, 3) := dk_181 0 21 (dk_at dksJ42_init_2_1 5 rfl rfl)
theorem dJ42_init_2_30 : decode cJ42_init_2 30 = .ok (.return_, 1) := dk_177 (dk_at dksJ42_init_2_1 8 rfl rfl)
abbrev cJ42_add : ByteArray := prog_78_method_13_code
def yJ42_add : MethodName := ⟨RJ42, "add", "(Ljava/lang/Object;)Z"⟩
def dkwJ42_add_0 : List UInt8 := [42, 43, 182, 0, 89, 172]
abbrev dktJ42_add_0 : List UInt8 := dkwJ42_add_0 ++ []
theorem dksJ42_add_0 : cJ42_add.data.toList.drop 0 = dktJ42_add_0 := by decide +kernel
theorem dJ42_add_0 : decode cJ42_add 0 = .ok (.aload_n 0, 1) := dk_42 (dk_at dksJ42_add_0 0 rfl rfl)
theorem dJ42_add_1 : decode cJ42_add 1 = .ok (.aload_n 1, 1) := dk_43 (dk_at dksJ42_add_0 1 rfl rfl)
theorem dJ42_add_2 : decode cJ42_add 2 = .ok (.invokevirtual 89, 3) := dk_182 0 89 (dk_at dksJ42_add_0 2 rfl rfl)
theorem dJ42_add_5 : decode cJ42_add 5 = .ok (.ireturn, 1) := dk_172 (dk_at dksJ42_add_0 5 rfl rfl)
abbrev cJ42_offer : ByteArray := prog_78_method_14_code
def yJ42_offer : MethodName := ⟨RJ42, "offer", "(Ljava/lang/Object;)Z"⟩
def dkwJ42_offer_2 : List UInt8 := [182, 0, 100, 42, 28, 4, 96, 181, 0, 58, 4, 172]
abbrev dktJ42_offer_2 : List UInt8 := dkwJ42_offer_2 ++ []
def dkwJ42_offer_1 : List UInt8 := [180, 0, 58, 61, 28, 42, 180, 0, 17, 190, 161, 0, 10, 42, 28, 4, 96, 182, 0, 96, 42, 28, 43]
abbrev dktJ42_offer_1 : List UInt8 := dkwJ42_offer_1 ++ dktJ42_offer_2
def dkwJ42_offer_0 : List UInt8 := [43, 199, 0, 11, 187, 0, 74, 89, 183, 0, 76, 191, 42, 89, 180, 0, 93, 4, 96, 181, 0, 93, 42]
abbrev dktJ42_offer_0 : List UInt8 := dkwJ42_offer_0 ++ dktJ42_offer_1
theorem dksJ42_offer_0 : cJ42_offer.data.toList.drop 0 = dktJ42_offer_0 := by decide +kernel
theorem dksJ42_offer_1 : cJ42_offer.data.toList.drop 23 = dktJ42_offer_1 := dk_seg dksJ42_offer_0 23 rfl rfl
theorem dksJ42_offer_2 : cJ42_offer.data.toList.drop 46 = dktJ42_offer_2 := dk_seg dksJ42_offer_1 23 rfl rfl
theorem dJ42_offer_0 : decode cJ42_offer 0 = .ok (.aload_n 1, 1) := dk_43 (dk_at dksJ42_offer_0 0 rfl rfl)
theorem dJ42_offer_1 : decode cJ42_offer 1 = .ok (.ifnonnull 11, 3) := dk_199 0 11 (dk_at dksJ42_offer_0 1 rfl rfl)
theorem dJ42_offer_4 : decode cJ42_offer 4 = .ok (.new 74, 3) := dk_187 0 74 (dk_at dksJ42_offer_0 4 rfl rfl)
theorem dJ42_offer_7 : decode cJ42_offer 7 = .ok (.dup, 1) := dk_89 (dk_at dksJ42_offer_0 7 rfl rfl)
theorem dJ42_offer_8 : decode cJ42_offer 8 = .ok (.invokespecial 76, 3) := dk_183 0 76 (dk_at dksJ42_offer_0 8 rfl rfl)
theorem dJ42_offer_11 : decode cJ42_offer 11 = .ok (.athrow, 1) := dk_191 (dk_at dksJ42_offer_0 11 rfl rfl)
theorem dJ42_offer_12 : decode cJ42_offer 12 = .ok (.aload_n 0, 1) := dk_42 (dk_at dksJ42_offer_0 12 rfl rfl)
theorem dJ42_offer_13 : decode cJ42_offer 13 = .ok (.dup, 1) := dk_89 (dk_at dksJ42_offer_0 13 rfl rfl)
theorem dJ42_offer_14 : decode cJ42_offer 14 = .ok (.getfield 93, 3) := dk_180 0 93 (dk_at dksJ42_offer_0 14 rfl rfl)
theorem dJ42_offer_17 : decode cJ42_offer 17 = .ok (.iconst 1, 1) := dk_4 (dk_at dksJ42_offer_0 17 rfl rfl)
theorem dJ42_offer_18 : decode cJ42_offer 18 = .ok (.iadd, 1) := dk_96 (dk_at dksJ42_offer_0 18 rfl rfl)
theorem dJ42_offer_19 : decode cJ42_offer 19 = .ok (.putfield 93, 3) := dk_181 0 93 (dk_at dksJ42_offer_0 19 rfl rfl)
theorem dJ42_offer_22 : decode cJ42_offer 22 = .ok (.aload_n 0, 1) := dk_42 (dk_at dksJ42_offer_0 22 rfl rfl)
theorem dJ42_offer_23 : decode cJ42_offer 23 = .ok (.getfield 58, 3) := dk_180 0 58 (dk_at dksJ42_offer_1 0 rfl rfl)
theorem dJ42_offer_26 : decode cJ42_offer 26 = .ok (.istore_n 2, 1) := dk_61 (dk_at dksJ42_offer_1 3 rfl rfl)
theorem dJ42_offer_27 : decode cJ42_offer 27 = .ok (.iload_n 2, 1) := dk_28 (dk_at dksJ42_offer_1 4 rfl rfl)
theorem dJ42_offer_28 : decode cJ42_offer 28 = .ok (.aload_n 0, 1) := dk_42 (dk_at dksJ42_offer_1 5 rfl rfl)
theorem dJ42_offer_29 : decode cJ42_offer 29 = .ok (.getfield 17, 3) := dk_180 0 17 (dk_at dksJ42_offer_1 6 rfl rfl)
theorem dJ42_offer_32 : decode cJ42_offer 32 = .ok (.arraylength, 1) := dk_190 (dk_at dksJ42_offer_1 9 rfl rfl)
theorem dJ42_offer_33 : decode cJ42_offer 33 = .ok (.if_icmp .lt 10, 3) := dk_161 0 10 (dk_at dksJ42_offer_1 10 rfl rfl)
theorem dJ42_offer_36 : decode cJ42_offer 36 = .ok (.aload_n 0, 1) := dk_42 (dk_at dksJ42_offer_1 13 rfl rfl)
theorem dJ42_offer_37 : decode cJ42_offer 37 = .ok (.iload_n 2, 1) := dk_28 (dk_at dksJ42_offer_1 14 rfl rfl)
theorem dJ42_offer_38 : decode cJ42_offer 38 = .ok (.iconst 1, 1) := dk_4 (dk_at dksJ42_offer_1 15 rfl rfl)
theorem dJ42_offer_39 : decode cJ42_offer 39 = .ok (.iadd, 1) := dk_96 (dk_at dksJ42_offer_1 16 rfl rfl)
theorem dJ42_offer_40 : decode cJ42_offer 40 = .ok (.invokevirtual 96, 3) := dk_182 0 96 (dk_at dksJ42_offer_1 17 rfl rfl)
theorem dJ42_offer_43 : decode cJ42_offer 43 = .ok (.aload_n 0, 1) := dk_42 (dk_at dksJ42_offer_1 20 rfl rfl)
theorem dJ42_offer_44 : decode cJ42_offer 44 = .ok (.iload_n 2, 1) := dk_28 (dk_at dksJ42_offer_1 21 rfl rfl)
theorem dJ42_offer_45 : decode cJ42_offer 45 = .ok (.aload_n 1, 1) := dk_43 (dk_at dksJ42_offer_1 22 rfl rfl)
theorem dJ42_offer_46 : decode cJ42_offer 46 = .ok (.invokevirtual 100, 3) := dk_182 0 100 (dk_at dksJ42_offer_2 0 rfl rfl)
theorem dJ42_offer_49 : decode cJ42_offer 49 = .ok (.aload_n 0, 1) := dk_42 (dk_at dksJ42_offer_2 3 rfl rfl)
theorem dJ42_offer_50 : decode cJ42_offer 50 = .ok (.iload_n 2, 1) := dk_28 (dk_at dksJ42_offer_2 4 rfl rfl)
theorem dJ42_offer_51 : decode cJ42_offer 51 = .ok (.iconst 1, 1) := dk_4 (dk_at dksJ42_offer_2 5 rfl rfl)
theorem dJ42_offer_52 : decode cJ42_offer 52 = .ok (.iadd, 1) := dk_96 (dk_at dksJ42_offer_2 6 rfl rfl)
theorem dJ42_offer_53 : decode cJ42_offer 53 = .ok (.putfield 58, 3) := dk_181 0 58 (dk_at dksJ42_offer_2 7 rfl rfl)
theorem dJ42_offer_56 : decode cJ42_offer 56 = .ok (.iconst 1, 1) := dk_4 (dk_at dksJ42_offer_2 10 rfl rfl)
theorem dJ42_offer_57 : decode cJ42_offer 57 = .ok (.ireturn, 1) := dk_172 (dk_at dksJ42_offer_2 11 rfl rfl)
abbrev cJ42_grow : ByteArray := prog_78_method_12_code
def yJ42_grow : MethodName := ⟨RJ42, "grow", "(I)V"⟩
def dkwJ42_grow_1 : List UInt8 := [122, 184, 0, 80, 62, 42, 42, 180, 0, 17, 29, 184, 0, 86, 181, 0, 17, 177]
abbrev dktJ42_grow_1 : List UInt8 := dkwJ42_grow_1 ++ []
def dkwJ42_grow_0 : List UInt8 := [42, 180, 0, 17, 190, 61, 28, 27, 28, 100, 28, 16, 64, 162, 0, 9, 28, 5, 96, 167, 0, 6, 28, 4]
abbrev dktJ42_grow_0 : List UInt8 := dkwJ42_grow_0 ++ dktJ42_grow_1
theorem dksJ42_grow_0 : cJ42_grow.data.toList.drop 0 = dktJ42_grow_0 := by decide +kernel
theorem dksJ42_grow_1 : cJ42_grow.data.toList.drop 24 = dktJ42_grow_1 := dk_seg dksJ42_grow_0 24 rfl rfl
theorem dJ42_grow_0 : decode cJ42_grow 0 = .ok (.aload_n 0, 1) := dk_42 (dk_at dksJ42_grow_0 0 rfl rfl)
theorem dJ42_grow_1 : decode cJ42_grow 1 = .ok (.getfield 17, 3) := dk_180 0 17 (dk_at dksJ42_grow_0 1 rfl rfl)
theorem dJ42_grow_4 : decode cJ42_grow 4 = .ok (.arraylength, 1) := dk_190 (dk_at dksJ42_grow_0 4 rfl rfl)
theorem dJ42_grow_5 : decode cJ42_grow 5 = .ok (.istore_n 2, 1) := dk_61 (dk_at dksJ42_grow_0 5 rfl rfl)
theorem dJ42_grow_6 : decode cJ42_grow 6 = .ok (.iload_n 2, 1) := dk_28 (dk_at dksJ42_grow_0 6 rfl rfl)
theorem dJ42_grow_7 : decode cJ42_grow 7 = .ok (.iload_n 1, 1) := dk_27 (dk_at dksJ42_grow_0 7 rfl rfl)
theorem dJ42_grow_8 : decode cJ42_grow 8 = .ok (.iload_n 2, 1) := dk_28 (dk_at dksJ42_grow_0 8 rfl rfl)
theorem dJ42_grow_9 : decode cJ42_grow 9 = .ok (.isub, 1) := dk_100 (dk_at dksJ42_grow_0 9 rfl rfl)
theorem dJ42_grow_10 : decode cJ42_grow 10 = .ok (.iload_n 2, 1) := dk_28 (dk_at dksJ42_grow_0 10 rfl rfl)
theorem dJ42_grow_11 : decode cJ42_grow 11 = .ok (.bipush 64, 2) := dk_16 64 (dk_at dksJ42_grow_0 11 rfl rfl)
theorem dJ42_grow_13 : decode cJ42_grow 13 = .ok (.if_icmp .ge 9, 3) := dk_162 0 9 (dk_at dksJ42_grow_0 13 rfl rfl)
theorem dJ42_grow_16 : decode cJ42_grow 16 = .ok (.iload_n 2, 1) := dk_28 (dk_at dksJ42_grow_0 16 rfl rfl)
theorem dJ42_grow_17 : decode cJ42_grow 17 = .ok (.iconst 2, 1) := dk_5 (dk_at dksJ42_grow_0 17 rfl rfl)
theorem dJ42_grow_18 : decode cJ42_grow 18 = .ok (.iadd, 1) := dk_96 (dk_at dksJ42_grow_0 18 rfl rfl)
theorem dJ42_grow_19 : decode cJ42_grow 19 = .ok (.goto 6, 3) := dk_167 0 6 (dk_at dksJ42_grow_0 19 rfl rfl)
theorem dJ42_grow_22 : decode cJ42_grow 22 = .ok (.iload_n 2, 1) := dk_28 (dk_at dksJ42_grow_0 22 rfl rfl)
theorem dJ42_grow_23 : decode cJ42_grow 23 = .ok (.iconst 1, 1) := dk_4 (dk_at dksJ42_grow_0 23 rfl rfl)
theorem dJ42_grow_24 : decode cJ42_grow 24 = .ok (.ishr, 1) := dk_122 (dk_at dksJ42_grow_1 0 rfl rfl)
theorem dJ42_grow_25 : decode cJ42_grow 25 = .ok (.invokestatic 80, 3) := dk_184 0 80 (dk_at dksJ42_grow_1 1 rfl rfl)
theorem dJ42_grow_28 : decode cJ42_grow 28 = .ok (.istore_n 3, 1) := dk_62 (dk_at dksJ42_grow_1 4 rfl rfl)
theorem dJ42_grow_29 : decode cJ42_grow 29 = .ok (.aload_n 0, 1) := dk_42 (dk_at dksJ42_grow_1 5 rfl rfl)
theorem dJ42_grow_30 : decode cJ42_grow 30 = .ok (.aload_n 0, 1) := dk_42 (dk_at dksJ42_grow_1 6 rfl rfl)
theorem dJ42_grow_31 : decode cJ42_grow 31 = .ok (.getfield 17, 3) := dk_180 0 17 (dk_at dksJ42_grow_1 7 rfl rfl)
theorem dJ42_grow_34 : decode cJ42_grow 34 = .ok (.iload_n 3, 1) := dk_29 (dk_at dksJ42_grow_1 10 rfl rfl)
theorem dJ42_grow_35 : decode cJ42_grow 35 = .ok (.invokestatic 86, 3) := dk_184 0 86 (dk_at dksJ42_grow_1 11 rfl rfl)
theorem dJ42_grow_38 : decode cJ42_grow 38 = .ok (.putfield 17, 3) := dk_181 0 17 (dk_at dksJ42_grow_1 14 rfl rfl)
theorem dJ42_grow_41 : decode cJ42_grow 41 = .ok (.return_, 1) := dk_177 (dk_at dksJ42_grow_1 17 rfl rfl)
abbrev cJ42_siftUp : ByteArray := prog_78_method_27_code
def yJ42_siftUp : MethodName := ⟨RJ42, "siftUp", "(ILjava/lang/Object;)V"⟩
def dkwJ42_siftUp_1 : List UInt8 := [44, 42, 180, 0, 17, 184, 0, 140, 177]
abbrev dktJ42_siftUp_1 : List UInt8 := dkwJ42_siftUp_1 ++ []
def dkwJ42_siftUp_0 : List UInt8 := [42, 180, 0, 21, 198, 0, 19, 27, 44, 42, 180, 0, 17, 42, 180, 0, 21, 184, 0, 136, 167, 0, 12, 27]
abbrev dktJ42_siftUp_0 : List UInt8 := dkwJ42_siftUp_0 ++ dktJ42_siftUp_1
theorem dksJ42_siftUp_0 : cJ42_siftUp.data.toList.drop 0 = dktJ42_siftUp_0 := by decide +kernel
theorem dksJ42_siftUp_1 : cJ42_siftUp.data.toList.drop 24 = dktJ42_siftUp_1 := dk_seg dksJ42_siftUp_0 24 rfl rfl
theorem dJ42_siftUp_0 : decode cJ42_siftUp 0 = .ok (.aload_n 0, 1) := dk_42 (dk_at dksJ42_siftUp_0 0 rfl rfl)
theorem dJ42_siftUp_1 : decode cJ42_siftUp 1 = .ok (.getfield 21, 3) := dk_180 0 21 (dk_at dksJ42_siftUp_0 1 rfl rfl)
theorem dJ42_siftUp_4 : decode cJ42_siftUp 4 = .ok (.ifnull 19, 3) := dk_198 0 19 (dk_at dksJ42_siftUp_0 4 rfl rfl)
theorem dJ42_siftUp_7 : decode cJ42_siftUp 7 = .ok (.iload_n 1, 1) := dk_27 (dk_at dksJ42_siftUp_0 7 rfl rfl)
theorem dJ42_siftUp_8 : decode cJ42_siftUp 8 = .ok (.aload_n 2, 1) := dk_44 (dk_at dksJ42_siftUp_0 8 rfl rfl)
theorem dJ42_siftUp_9 : decode cJ42_siftUp 9 = .ok (.aload_n 0, 1) := dk_42 (dk_at dksJ42_siftUp_0 9 rfl rfl)
theorem dJ42_siftUp_10 : decode cJ42_siftUp 10 = .ok (.getfield 17, 3) := dk_180 0 17 (dk_at dksJ42_siftUp_0 10 rfl rfl)
theorem dJ42_siftUp_13 : decode cJ42_siftUp 13 = .ok (.aload_n 0, 1) := dk_42 (dk_at dksJ42_siftUp_0 13 rfl rfl)
theorem dJ42_siftUp_14 : decode cJ42_siftUp 14 = .ok (.getfield 21, 3) := dk_180 0 21 (dk_at dksJ42_siftUp_0 14 rfl rfl)
theorem dJ42_siftUp_17 : decode cJ42_siftUp 17 = .ok (.invokestatic 136, 3) := dk_184 0 136 (dk_at dksJ42_siftUp_0 17 rfl rfl)
theorem dJ42_siftUp_20 : decode cJ42_siftUp 20 = .ok (.goto 12, 3) := dk_167 0 12 (dk_at dksJ42_siftUp_0 20 rfl rfl)
theorem dJ42_siftUp_23 : decode cJ42_siftUp 23 = .ok (.iload_n 1, 1) := dk_27 (dk_at dksJ42_siftUp_0 23 rfl rfl)
theorem dJ42_siftUp_24 : decode cJ42_siftUp 24 = .ok (.aload_n 2, 1) := dk_44 (dk_at dksJ42_siftUp_1 0 rfl rfl)
theorem dJ42_siftUp_25 : decode cJ42_siftUp 25 = .ok (.aload_n 0, 1) := dk_42 (dk_at dksJ42_siftUp_1 1 rfl rfl)
theorem dJ42_siftUp_26 : decode cJ42_siftUp 26 = .ok (.getfield 17, 3) := dk_180 0 17 (dk_at dksJ42_siftUp_1 2 rfl rfl)
theorem dJ42_siftUp_29 : decode cJ42_siftUp 29 = .ok (.invokestatic 140, 3) := dk_184 0 140 (dk_at dksJ42_siftUp_1 5 rfl rfl)
theorem dJ42_siftUp_32 : decode cJ42_siftUp 32 = .ok (.return_, 1) := dk_177 (dk_at dksJ42_siftUp_1 8 rfl rfl)
abbrev cJ42_siftUpUsingComparator : ByteArray := prog_78_method_29_code
def yJ42_siftUpUsingComparator : MethodName := ⟨RJ42, "siftUpUsingComparator", "(ILjava/lang/Object;[Ljava/lang/Object;Ljava/util/Comparator;)V"⟩
def dkwJ42_siftUpUsingComparator_2 : List UInt8 := [43, 83, 177]
abbrev dktJ42_siftUpUsingComparator_2 : List UInt8 := dkwJ42_siftUpUsingComparator_2 ++ []
def dkwJ42_siftUpUsingComparator_1 : List UInt8 := [185, 0, 149, 3, 0, 155, 0, 6, 167, 0, 14, 44, 26, 25, 5, 83, 21, 4, 59, 167, 255, 216, 44, 26]
abbrev dktJ42_siftUpUsingComparator_1 : List UInt8 := dkwJ42_siftUpUsingComparator_1 ++ dktJ42_siftUpUsingComparator_2
def dkwJ42_siftUpUsingComparator_0 : List UInt8 := [26, 158, 0, 42, 26, 4, 100, 4, 124, 54, 4, 44, 21, 4, 50, 58, 5, 45, 43, 25, 5]
abbrev dktJ42_siftUpUsingComparator_0 : List UInt8 := dkwJ42_siftUpUsingComparator_0 ++ dktJ42_siftUpUsingComparator_1
theorem dksJ42_siftUpUsingComparator_0 : cJ42_siftUpUsingComparator.data.toList.drop 0 = dktJ42_siftUpUsingComparator_0 := by decide +kernel
theorem dksJ42_siftUpUsingComparator_1 : cJ42_siftUpUsingComparator.data.toList.drop 21 = dktJ42_siftUpUsingComparator_1 := dk_seg dksJ42_siftUpUsingComparator_0 21 rfl rfl
theorem dksJ42_siftUpUsingComparator_2 : cJ42_siftUpUsingComparator.data.toList.drop 45 = dktJ42_siftUpUsingComparator_2 := dk_seg dksJ42_siftUpUsingComparator_1 24 rfl rfl
theorem dJ42_siftUpUsingComparator_0 : decode cJ42_siftUpUsingComparator 0 = .ok (.iload_n 0, 1) := dk_26 (dk_at dksJ42_siftUpUsingComparator_0 0 rfl rfl)
theorem dJ42_siftUpUsingComparator_1 : decode cJ42_siftUpUsingComparator 1 = .ok (.ifCond .le 42, 3) := dk_158 0 42 (dk_at dksJ42_siftUpUsingComparator_0 1 rfl rfl)
theorem dJ42_siftUpUsingComparator_4 : decode cJ42_siftUpUsingComparator 4 = .ok (.iload_n 0, 1) := dk_26 (dk_at dksJ42_siftUpUsingComparator_0 4 rfl rfl)
theorem dJ42_siftUpUsingComparator_5 : decode cJ42_siftUpUsingComparator 5 = .ok (.iconst 1, 1) := dk_4 (dk_at dksJ42_siftUpUsingComparator_0 5 rfl rfl)
theorem dJ42_siftUpUsingComparator_6 : decode cJ42_siftUpUsingComparator 6 = .ok (.isub, 1) := dk_100 (dk_at dksJ42_siftUpUsingComparator_0 6 rfl rfl)
theorem dJ42_siftUpUsingComparator_7 : decode cJ42_siftUpUsingComparator 7 = .ok (.iconst 1, 1) := dk_4 (dk_at dksJ42_siftUpUsingComparator_0 7 rfl rfl)
theorem dJ42_siftUpUsingComparator_8 : decode cJ42_siftUpUsingComparator 8 = .ok (.iushr, 1) := dk_124 (dk_at dksJ42_siftUpUsingComparator_0 8 rfl rfl)
theorem dJ42_siftUpUsingComparator_9 : decode cJ42_siftUpUsingComparator 9 = .ok (.istore 4, 2) := dk_54 4 (dk_at dksJ42_siftUpUsingComparator_0 9 rfl rfl)
theorem dJ42_siftUpUsingComparator_11 : decode cJ42_siftUpUsingComparator 11 = .ok (.aload_n 2, 1) := dk_44 (dk_at dksJ42_siftUpUsingComparator_0 11 rfl rfl)
theorem dJ42_siftUpUsingComparator_12 : decode cJ42_siftUpUsingComparator 12 = .ok (.iload 4, 2) := dk_21 4 (dk_at dksJ42_siftUpUsingComparator_0 12 rfl rfl)
theorem dJ42_siftUpUsingComparator_14 : decode cJ42_siftUpUsingComparator 14 = .ok (.aaload, 1) := dk_50 (dk_at dksJ42_siftUpUsingComparator_0 14 rfl rfl)
theorem dJ42_siftUpUsingComparator_15 : decode cJ42_siftUpUsingComparator 15 = .ok (.astore 5, 2) := dk_58 5 (dk_at dksJ42_siftUpUsingComparator_0 15 rfl rfl)
theorem dJ42_siftUpUsingComparator_17 : decode cJ42_siftUpUsingComparator 17 = .ok (.aload_n 3, 1) := dk_45 (dk_at dksJ42_siftUpUsingComparator_0 17 rfl rfl)
theorem dJ42_siftUpUsingComparator_18 : decode cJ42_siftUpUsingComparator 18 = .ok (.aload_n 1, 1) := dk_43 (dk_at dksJ42_siftUpUsingComparator_0 18 rfl rfl)
theorem dJ42_siftUpUsingComparator_19 : decode cJ42_siftUpUsingComparator 19 = .ok (.aload 5, 2) := dk_25 5 (dk_at dksJ42_siftUpUsingComparator_0 19 rfl rfl)
theorem dJ42_siftUpUsingComparator_21 : decode cJ42_siftUpUsingComparator 21 = .ok (.invokeinterface 149 3, 5) := by decide +kernel
theorem dJ42_siftUpUsingComparator_26 : decode cJ42_siftUpUsingComparator 26 = .ok (.ifCond .lt 6, 3) := dk_155 0 6 (dk_at dksJ42_siftUpUsingComparator_1 5 rfl rfl)
theorem dJ42_siftUpUsingComparator_29 : decode cJ42_siftUpUsingComparator 29 = .ok (.goto 14, 3) := dk_167 0 14 (dk_at dksJ42_siftUpUsingComparator_1 8 rfl rfl)
theorem dJ42_siftUpUsingComparator_32 : decode cJ42_siftUpUsingComparator 32 = .ok (.aload_n 2, 1) := dk_44 (dk_at dksJ42_siftUpUsingComparator_1 11 rfl rfl)
theorem dJ42_siftUpUsingComparator_33 : decode cJ42_siftUpUsingComparator 33 = .ok (.iload_n 0, 1) := dk_26 (dk_at dksJ42_siftUpUsingComparator_1 12 rfl rfl)
theorem dJ42_siftUpUsingComparator_34 : decode cJ42_siftUpUsingComparator 34 = .ok (.aload 5, 2) := dk_25 5 (dk_at dksJ42_siftUpUsingComparator_1 13 rfl rfl)
theorem dJ42_siftUpUsingComparator_36 : decode cJ42_siftUpUsingComparator 36 = .ok (.aastore, 1) := dk_83 (dk_at dksJ42_siftUpUsingComparator_1 15 rfl rfl)
theorem dJ42_siftUpUsingComparator_37 : decode cJ42_siftUpUsingComparator 37 = .ok (.iload 4, 2) := dk_21 4 (dk_at dksJ42_siftUpUsingComparator_1 16 rfl rfl)
theorem dJ42_siftUpUsingComparator_39 : decode cJ42_siftUpUsingComparator 39 = .ok (.istore_n 0, 1) := dk_59 (dk_at dksJ42_siftUpUsingComparator_1 18 rfl rfl)
theorem dJ42_siftUpUsingComparator_40 : decode cJ42_siftUpUsingComparator 40 = .ok (.goto (-40), 3) := dk_167 255 216 (dk_at dksJ42_siftUpUsingComparator_1 19 rfl rfl)
theorem dJ42_siftUpUsingComparator_43 : decode cJ42_siftUpUsingComparator 43 = .ok (.aload_n 2, 1) := dk_44 (dk_at dksJ42_siftUpUsingComparator_1 22 rfl rfl)
theorem dJ42_siftUpUsingComparator_44 : decode cJ42_siftUpUsingComparator 44 = .ok (.iload_n 0, 1) := dk_26 (dk_at dksJ42_siftUpUsingComparator_1 23 rfl rfl)
theorem dJ42_siftUpUsingComparator_45 : decode cJ42_siftUpUsingComparator 45 = .ok (.aload_n 1, 1) := dk_43 (dk_at dksJ42_siftUpUsingComparator_2 0 rfl rfl)
theorem dJ42_siftUpUsingComparator_46 : decode cJ42_siftUpUsingComparator 46 = .ok (.aastore, 1) := dk_83 (dk_at dksJ42_siftUpUsingComparator_2 1 rfl rfl)
theorem dJ42_siftUpUsingComparator_47 : decode cJ42_siftUpUsingComparator 47 = .ok (.return_, 1) := dk_177 (dk_at dksJ42_siftUpUsingComparator_2 2 rfl rfl)
abbrev cJ42_siftUpComparable : ByteArray := prog_78_method_28_code
def yJ42_siftUpComparable : MethodName := ⟨RJ42, "siftUpComparable", "(ILjava/lang/Object;[Ljava/lang/Object;)V"⟩
def dkwJ42_siftUpComparable_2 : List UInt8 := [44, 26, 45, 83, 177]
abbrev dktJ42_siftUpComparable_2 : List UInt8 := dkwJ42_siftUpComparable_2 ++ []
def dkwJ42_siftUpComparable_1 : List UInt8 := [25, 5, 185, 0, 146, 2, 0, 155, 0, 6, 167, 0, 14, 44, 26, 25, 5, 83, 21, 4, 59, 167, 255, 217]
abbrev dktJ42_siftUpComparable_1 : List UInt8 := dkwJ42_siftUpComparable_1 ++ dktJ42_siftUpComparable_2
def dkwJ42_siftUpComparable_0 : List UInt8 := [43, 192, 0, 144, 78, 26, 158, 0, 41, 26, 4, 100, 4, 124, 54, 4, 44, 21, 4, 50, 58, 5, 45]
abbrev dktJ42_siftUpComparable_0 : List UInt8 := dkwJ42_siftUpComparable_0 ++ dktJ42_siftUpComparable_1
theorem dksJ42_siftUpComparable_0 : cJ42_siftUpComparable.data.toList.drop 0 = dktJ42_siftUpComparable_0 := by decide +kernel
theorem dksJ42_siftUpComparable_1 : cJ42_siftUpComparable.data.toList.drop 23 = dktJ42_siftUpComparable_1 := dk_seg dksJ42_siftUpComparable_0 23 rfl rfl
theorem dksJ42_siftUpComparable_2 : cJ42_siftUpComparable.data.toList.drop 47 = dktJ42_siftUpComparable_2 := dk_seg dksJ42_siftUpComparable_1 24 rfl rfl
theorem dJ42_siftUpComparable_0 : decode cJ42_siftUpComparable 0 = .ok (.aload_n 1, 1) := dk_43 (dk_at dksJ42_siftUpComparable_0 0 rfl rfl)
theorem dJ42_siftUpComparable_1 : decode cJ42_siftUpComparable 1 = .ok (.checkcast 144, 3) := dk_192 0 144 (dk_at dksJ42_siftUpComparable_0 1 rfl rfl)
theorem dJ42_siftUpComparable_4 : decode cJ42_siftUpComparable 4 = .ok (.astore_n 3, 1) := dk_78 (dk_at dksJ42_siftUpComparable_0 4 rfl rfl)
theorem dJ42_siftUpComparable_5 : decode cJ42_siftUpComparable 5 = .ok (.iload_n 0, 1) := dk_26 (dk_at dksJ42_siftUpComparable_0 5 rfl rfl)
theorem dJ42_siftUpComparable_6 : decode cJ42_siftUpComparable 6 = .ok (.ifCond .le 41, 3) := dk_158 0 41 (dk_at dksJ42_siftUpComparable_0 6 rfl rfl)
theorem dJ42_siftUpComparable_9 : decode cJ42_siftUpComparable 9 = .ok (.iload_n 0, 1) := dk_26 (dk_at dksJ42_siftUpComparable_0 9 rfl rfl)
theorem dJ42_siftUpComparable_10 : decode cJ42_siftUpComparable 10 = .ok (.iconst 1, 1) := dk_4 (dk_at dksJ42_siftUpComparable_0 10 rfl rfl)
theorem dJ42_siftUpComparable_11 : decode cJ42_siftUpComparable 11 = .ok (.isub, 1) := dk_100 (dk_at dksJ42_siftUpComparable_0 11 rfl rfl)
theorem dJ42_siftUpComparable_12 : decode cJ42_siftUpComparable 12 = .ok (.iconst 1, 1) := dk_4 (dk_at dksJ42_siftUpComparable_0 12 rfl rfl)
theorem dJ42_siftUpComparable_13 : decode cJ42_siftUpComparable 13 = .ok (.iushr, 1) := dk_124 (dk_at dksJ42_siftUpComparable_0 13 rfl rfl)
theorem dJ42_siftUpComparable_14 : decode cJ42_siftUpComparable 14 = .ok (.istore 4, 2) := dk_54 4 (dk_at dksJ42_siftUpComparable_0 14 rfl rfl)
theorem dJ42_siftUpComparable_16 : decode cJ42_siftUpComparable 16 = .ok (.aload_n 2, 1) := dk_44 (dk_at dksJ42_siftUpComparable_0 16 rfl rfl)
theorem dJ42_siftUpComparable_17 : decode cJ42_siftUpComparable 17 = .ok (.iload 4, 2) := dk_21 4 (dk_at dksJ42_siftUpComparable_0 17 rfl rfl)
theorem dJ42_siftUpComparable_19 : decode cJ42_siftUpComparable 19 = .ok (.aaload, 1) := dk_50 (dk_at dksJ42_siftUpComparable_0 19 rfl rfl)
theorem dJ42_siftUpComparable_20 : decode cJ42_siftUpComparable 20 = .ok (.astore 5, 2) := dk_58 5 (dk_at dksJ42_siftUpComparable_0 20 rfl rfl)
theorem dJ42_siftUpComparable_22 : decode cJ42_siftUpComparable 22 = .ok (.aload_n 3, 1) := dk_45 (dk_at dksJ42_siftUpComparable_0 22 rfl rfl)
theorem dJ42_siftUpComparable_23 : decode cJ42_siftUpComparable 23 = .ok (.aload 5, 2) := dk_25 5 (dk_at dksJ42_siftUpComparable_1 0 rfl rfl)
theorem dJ42_siftUpComparable_25 : decode cJ42_siftUpComparable 25 = .ok (.invokeinterface 146 2, 5) := by decide +kernel
theorem dJ42_siftUpComparable_30 : decode cJ42_siftUpComparable 30 = .ok (.ifCond .lt 6, 3) := dk_155 0 6 (dk_at dksJ42_siftUpComparable_1 7 rfl rfl)
theorem dJ42_siftUpComparable_33 : decode cJ42_siftUpComparable 33 = .ok (.goto 14, 3) := dk_167 0 14 (dk_at dksJ42_siftUpComparable_1 10 rfl rfl)
theorem dJ42_siftUpComparable_36 : decode cJ42_siftUpComparable 36 = .ok (.aload_n 2, 1) := dk_44 (dk_at dksJ42_siftUpComparable_1 13 rfl rfl)
theorem dJ42_siftUpComparable_37 : decode cJ42_siftUpComparable 37 = .ok (.iload_n 0, 1) := dk_26 (dk_at dksJ42_siftUpComparable_1 14 rfl rfl)
theorem dJ42_siftUpComparable_38 : decode cJ42_siftUpComparable 38 = .ok (.aload 5, 2) := dk_25 5 (dk_at dksJ42_siftUpComparable_1 15 rfl rfl)
theorem dJ42_siftUpComparable_40 : decode cJ42_siftUpComparable 40 = .ok (.aastore, 1) := dk_83 (dk_at dksJ42_siftUpComparable_1 17 rfl rfl)
theorem dJ42_siftUpComparable_41 : decode cJ42_siftUpComparable 41 = .ok (.iload 4, 2) := dk_21 4 (dk_at dksJ42_siftUpComparable_1 18 rfl rfl)
theorem dJ42_siftUpComparable_43 : decode cJ42_siftUpComparable 43 = .ok (.istore_n 0, 1) := dk_59 (dk_at dksJ42_siftUpComparable_1 20 rfl rfl)
theorem dJ42_siftUpComparable_44 : decode cJ42_siftUpComparable 44 = .ok (.goto (-39), 3) := dk_167 255 217 (dk_at dksJ42_siftUpComparable_1 21 rfl rfl)
theorem dJ42_siftUpComparable_47 : decode cJ42_siftUpComparable 47 = .ok (.aload_n 2, 1) := dk_44 (dk_at dksJ42_siftUpComparable_2 0 rfl rfl)
theorem dJ42_siftUpComparable_48 : decode cJ42_siftUpComparable 48 = .ok (.iload_n 0, 1) := dk_26 (dk_at dksJ42_siftUpComparable_2 1 rfl rfl)
theorem dJ42_siftUpComparable_49 : decode cJ42_siftUpComparable 49 = .ok (.aload_n 3, 1) := dk_45 (dk_at dksJ42_siftUpComparable_2 2 rfl rfl)
theorem dJ42_siftUpComparable_50 : decode cJ42_siftUpComparable 50 = .ok (.aastore, 1) := dk_83 (dk_at dksJ42_siftUpComparable_2 3 rfl rfl)
theorem dJ42_siftUpComparable_51 : decode cJ42_siftUpComparable 51 = .ok (.return_, 1) := dk_177 (dk_at dksJ42_siftUpComparable_2 4 rfl rfl)
abbrev cJ42_poll : ByteArray := prog_78_method_25_code
def yJ42_poll : MethodName := ⟨RJ42, "poll", "()Ljava/lang/Object;"⟩
def dkwJ42_poll_3 : List UInt8 := [43, 29, 25, 5, 184, 0, 129, 44, 176]
abbrev dktJ42_poll_3 : List UInt8 := dkwJ42_poll_3 ++ []
def dkwJ42_poll_2 : List UInt8 := [42, 180, 0, 21, 89, 58, 5, 199, 0, 14, 3, 25, 4, 43, 29, 184, 0, 125, 167, 0, 13, 3, 25, 4]
abbrev dktJ42_poll_2 : List UInt8 := dkwJ42_poll_2 ++ dktJ42_poll_3
def dkwJ42_poll_1 : List UInt8 := [42, 89, 180, 0, 58, 4, 100, 90, 181, 0, 58, 89, 62, 50, 58, 4, 43, 29, 1, 83, 29, 158, 0, 34]
abbrev dktJ42_poll_1 : List UInt8 := dkwJ42_poll_1 ++ dktJ42_poll_2
def dkwJ42_poll_0 : List UInt8 := [42, 180, 0, 17, 89, 76, 3, 50, 89, 77, 198, 0, 69, 42, 89, 180, 0, 93, 4, 96, 181, 0, 93, 43]
abbrev dktJ42_poll_0 : List UInt8 := dkwJ42_poll_0 ++ dktJ42_poll_1
theorem dksJ42_poll_0 : cJ42_poll.data.toList.drop 0 = dktJ42_poll_0 := by decide +kernel
theorem dksJ42_poll_1 : cJ42_poll.data.toList.drop 24 = dktJ42_poll_1 := dk_seg dksJ42_poll_0 24 rfl rfl
theorem dksJ42_poll_2 : cJ42_poll.data.toList.drop 48 = dktJ42_poll_2 := dk_seg dksJ42_poll_1 24 rfl rfl
theorem dksJ42_poll_3 : cJ42_poll.data.toList.drop 72 = dktJ42_poll_3 := dk_seg dksJ42_poll_2 24 rfl rfl
theorem dJ42_poll_0 : decode cJ42_poll 0 = .ok (.aload_n 0, 1) := dk_42 (dk_at dksJ42_poll_0 0 rfl rfl)
theorem dJ42_poll_1 : decode cJ42_poll 1 = .ok (.getfield 17, 3) := dk_180 0 17 (dk_at dksJ42_poll_0 1 rfl rfl)
theorem dJ42_poll_4 : decode cJ42_poll 4 = .ok (.dup, 1) := dk_89 (dk_at dksJ42_poll_0 4 rfl rfl)
theorem dJ42_poll_5 : decode cJ42_poll 5 = .ok (.astore_n 1, 1) := dk_76 (dk_at dksJ42_poll_0 5 rfl rfl)
theorem dJ42_poll_6 : decode cJ42_poll 6 = .ok (.iconst 0, 1) := dk_3 (dk_at dksJ42_poll_0 6 rfl rfl)
theorem dJ42_poll_7 : decode cJ42_poll 7 = .ok (.aaload, 1) := dk_50 (dk_at dksJ42_poll_0 7 rfl rfl)
theorem dJ42_poll_8 : decode cJ42_poll 8 = .ok (.dup, 1) := dk_89 (dk_at dksJ42_poll_0 8 rfl rfl)
theorem dJ42_poll_9 : decode cJ42_poll 9 = .ok (.astore_n 2, 1) := dk_77 (dk_at dksJ42_poll_0 9 rfl rfl)
theorem dJ42_poll_10 : decode cJ42_poll 10 = .ok (.ifnull 69, 3) := dk_198 0 69 (dk_at dksJ42_poll_0 10 rfl rfl)
theorem dJ42_poll_13 : decode cJ42_poll 13 = .ok (.aload_n 0, 1) := dk_42 (dk_at dksJ42_poll_0 13 rfl rfl)
theorem dJ42_poll_14 : decode cJ42_poll 14 = .ok (.dup, 1) := dk_89 (dk_at dksJ42_poll_0 14 rfl rfl)
theorem dJ42_poll_15 : decode cJ42_poll 15 = .ok (.getfield 93, 3) := dk_180 0 93 (dk_at dksJ42_poll_0 15 rfl rfl)
theorem dJ42_poll_18 : decode cJ42_poll 18 = .ok (.iconst 1, 1) := dk_4 (dk_at dksJ42_poll_0 18 rfl rfl)
theorem dJ42_poll_19 : decode cJ42_poll 19 = .ok (.iadd, 1) := dk_96 (dk_at dksJ42_poll_0 19 rfl rfl)
theorem dJ42_poll_20 : decode cJ42_poll 20 = .ok (.putfield 93, 3) := dk_181 0 93 (dk_at dksJ42_poll_0 20 rfl rfl)
theorem dJ42_poll_23 : decode cJ42_poll 23 = .ok (.aload_n 1, 1) := dk_43 (dk_at dksJ42_poll_0 23 rfl rfl)
theorem dJ42_poll_24 : decode cJ42_poll 24 = .ok (.aload_n 0, 1) := dk_42 (dk_at dksJ42_poll_1 0 rfl rfl)
theorem dJ42_poll_25 : decode cJ42_poll 25 = .ok (.dup, 1) := dk_89 (dk_at dksJ42_poll_1 1 rfl rfl)
theorem dJ42_poll_26 : decode cJ42_poll 26 = .ok (.getfield 58, 3) := dk_180 0 58 (dk_at dksJ42_poll_1 2 rfl rfl)
theorem dJ42_poll_29 : decode cJ42_poll 29 = .ok (.iconst 1, 1) := dk_4 (dk_at dksJ42_poll_1 5 rfl rfl)
theorem dJ42_poll_30 : decode cJ42_poll 30 = .ok (.isub, 1) := dk_100 (dk_at dksJ42_poll_1 6 rfl rfl)
theorem dJ42_poll_31 : decode cJ42_poll 31 = .ok (.dup_x1, 1) := dk_90 (dk_at dksJ42_poll_1 7 rfl rfl)
theorem dJ42_poll_32 : decode cJ42_poll 32 = .ok (.putfield 58, 3) := dk_181 0 58 (dk_at dksJ42_poll_1 8 rfl rfl)
theorem dJ42_poll_35 : decode cJ42_poll 35 = .ok (.dup, 1) := dk_89 (dk_at dksJ42_poll_1 11 rfl rfl)
theorem dJ42_poll_36 : decode cJ42_poll 36 = .ok (.istore_n 3, 1) := dk_62 (dk_at dksJ42_poll_1 12 rfl rfl)
theorem dJ42_poll_37 : decode cJ42_poll 37 = .ok (.aaload, 1) := dk_50 (dk_at dksJ42_poll_1 13 rfl rfl)
theorem dJ42_poll_38 : decode cJ42_poll 38 = .ok (.astore 4, 2) := dk_58 4 (dk_at dksJ42_poll_1 14 rfl rfl)
theorem dJ42_poll_40 : decode cJ42_poll 40 = .ok (.aload_n 1, 1) := dk_43 (dk_at dksJ42_poll_1 16 rfl rfl)
theorem dJ42_poll_41 : decode cJ42_poll 41 = .ok (.iload_n 3, 1) := dk_29 (dk_at dksJ42_poll_1 17 rfl rfl)
theorem dJ42_poll_42 : decode cJ42_poll 42 = .ok (.aconst_null, 1) := dk_1 (dk_at dksJ42_poll_1 18 rfl rfl)
theorem dJ42_poll_43 : decode cJ42_poll 43 = .ok (.aastore, 1) := dk_83 (dk_at dksJ42_poll_1 19 rfl rfl)
theorem dJ42_poll_44 : decode cJ42_poll 44 = .ok (.iload_n 3, 1) := dk_29 (dk_at dksJ42_poll_1 20 rfl rfl)
theorem dJ42_poll_45 : decode cJ42_poll 45 = .ok (.ifCond .le 34, 3) := dk_158 0 34 (dk_at dksJ42_poll_1 21 rfl rfl)
theorem dJ42_poll_48 : decode cJ42_poll 48 = .ok (.aload_n 0, 1) := dk_42 (dk_at dksJ42_poll_2 0 rfl rfl)
theorem dJ42_poll_49 : decode cJ42_poll 49 = .ok (.getfield 21, 3) := dk_180 0 21 (dk_at dksJ42_poll_2 1 rfl rfl)
theorem dJ42_poll_52 : decode cJ42_poll 52 = .ok (.dup, 1) := dk_89 (dk_at dksJ42_poll_2 4 rfl rfl)
theorem dJ42_poll_53 : decode cJ42_poll 53 = .ok (.astore 5, 2) := dk_58 5 (dk_at dksJ42_poll_2 5 rfl rfl)
theorem dJ42_poll_55 : decode cJ42_poll 55 = .ok (.ifnonnull 14, 3) := dk_199 0 14 (dk_at dksJ42_poll_2 7 rfl rfl)
theorem dJ42_poll_58 : decode cJ42_poll 58 = .ok (.iconst 0, 1) := dk_3 (dk_at dksJ42_poll_2 10 rfl rfl)
theorem dJ42_poll_59 : decode cJ42_poll 59 = .ok (.aload 4, 2) := dk_25 4 (dk_at dksJ42_poll_2 11 rfl rfl)
theorem dJ42_poll_61 : decode cJ42_poll 61 = .ok (.aload_n 1, 1) := dk_43 (dk_at dksJ42_poll_2 13 rfl rfl)
theorem dJ42_poll_62 : decode cJ42_poll 62 = .ok (.iload_n 3, 1) := dk_29 (dk_at dksJ42_poll_2 14 rfl rfl)
theorem dJ42_poll_63 : decode cJ42_poll 63 = .ok (.invokestatic 125, 3) := dk_184 0 125 (dk_at dksJ42_poll_2 15 rfl rfl)
theorem dJ42_poll_66 : decode cJ42_poll 66 = .ok (.goto 13, 3) := dk_167 0 13 (dk_at dksJ42_poll_2 18 rfl rfl)
theorem dJ42_poll_69 : decode cJ42_poll 69 = .ok (.iconst 0, 1) := dk_3 (dk_at dksJ42_poll_2 21 rfl rfl)
theorem dJ42_poll_70 : decode cJ42_poll 70 = .ok (.aload 4, 2) := dk_25 4 (dk_at dksJ42_poll_2 22 rfl rfl)
theorem dJ42_poll_72 : decode cJ42_poll 72 = .ok (.aload_n 1, 1) := dk_43 (dk_at dksJ42_poll_3 0 rfl rfl)
theorem dJ42_poll_73 : decode cJ42_poll 73 = .ok (.iload_n 3, 1) := dk_29 (dk_at dksJ42_poll_3 1 rfl rfl)
theorem dJ42_poll_74 : decode cJ42_poll 74 = .ok (.aload 5, 2) := dk_25 5 (dk_at dksJ42_poll_3 2 rfl rfl)
theorem dJ42_poll_76 : decode cJ42_poll 76 = .ok (.invokestatic 129, 3) := dk_184 0 129 (dk_at dksJ42_poll_3 4 rfl rfl)
theorem dJ42_poll_79 : decode cJ42_poll 79 = .ok (.aload_n 2, 1) := dk_44 (dk_at dksJ42_poll_3 7 rfl rfl)
theorem dJ42_poll_80 : decode cJ42_poll 80 = .ok (.areturn, 1) := dk_176 (dk_at dksJ42_poll_3 8 rfl rfl)
abbrev cJ42_siftDownComparable : ByteArray := prog_78_method_31_code
def yJ42_siftDownComparable : MethodName := ⟨RJ42, "siftDownComparable", "(ILjava/lang/Object;[Ljava/lang/Object;I)V"⟩
def dkwJ42_siftDownComparable_4 : List UInt8 := [25, 4, 83, 177]
abbrev dktJ42_siftDownComparable_4 : List UInt8 := dkwJ42_siftDownComparable_4 ++ []
def dkwJ42_siftDownComparable_3 : List UInt8 := [185, 0, 146, 2, 0, 157, 0, 6, 167, 0, 14, 44, 26, 25, 7, 83, 21, 6, 59, 167, 255, 176, 44, 26]
abbrev dktJ42_siftDownComparable_3 : List UInt8 := dkwJ42_siftDownComparable_3 ++ dktJ42_siftDownComparable_4
def dkwJ42_siftDownComparable_2 : List UInt8 := [21, 8, 50, 185, 0, 146, 2, 0, 158, 0, 12, 44, 21, 8, 89, 54, 6, 50, 58, 7, 25, 4, 25, 7]
abbrev dktJ42_siftDownComparable_2 : List UInt8 := dkwJ42_siftDownComparable_2 ++ dktJ42_siftDownComparable_3
def dkwJ42_siftDownComparable_1 : List UInt8 := [44, 21, 6, 50, 58, 7, 21, 6, 4, 96, 54, 8, 21, 8, 29, 162, 0, 29, 25, 7, 192, 0, 144, 44]
abbrev dktJ42_siftDownComparable_1 : List UInt8 := dkwJ42_siftDownComparable_1 ++ dktJ42_siftDownComparable_2
def dkwJ42_siftDownComparable_0 : List UInt8 := [43, 192, 0, 144, 58, 4, 29, 4, 124, 54, 5, 26, 21, 5, 162, 0, 80, 26, 4, 120, 4, 96, 54, 6]
abbrev dktJ42_siftDownComparable_0 : List UInt8 := dkwJ42_siftDownComparable_0 ++ dktJ42_siftDownComparable_1
theorem dksJ42_siftDownComparable_0 : cJ42_siftDownComparable.data.toList.drop 0 = dktJ42_siftDownComparable_0 := by decide +kernel
theorem dksJ42_siftDownComparable_1 : cJ42_siftDownComparable.data.toList.drop 24 = dktJ42_siftDownComparable_1 := dk_seg dksJ42_siftDownComparable_0 24 rfl rfl
theorem dksJ42_siftDownComparable_2 : cJ42_siftDownComparable.data.toList.drop 48 = dktJ42_siftDownComparable_2 := dk_seg dksJ42_siftDownComparable_1 24 rfl rfl
theorem dksJ42_siftDownComparable_3 : cJ42_siftDownComparable.data.toList.drop 72 = dktJ42_siftDownComparable_3 := dk_seg dksJ42_siftDownComparable_2 24 rfl rfl
theorem dksJ42_siftDownComparable_4 : cJ42_siftDownComparable.data.toList.drop 96 = dktJ42_siftDownComparable_4 := dk_seg dksJ42_siftDownComparable_3 24 rfl rfl
theorem dJ42_siftDownComparable_0 : decode cJ42_siftDownComparable 0 = .ok (.aload_n 1, 1) := dk_43 (dk_at dksJ42_siftDownComparable_0 0 rfl rfl)
theorem dJ42_siftDownComparable_1 : decode cJ42_siftDownComparable 1 = .ok (.checkcast 144, 3) := dk_192 0 144 (dk_at dksJ42_siftDownComparable_0 1 rfl rfl)
theorem dJ42_siftDownComparable_4 : decode cJ42_siftDownComparable 4 = .ok (.astore 4, 2) := dk_58 4 (dk_at dksJ42_siftDownComparable_0 4 rfl rfl)
theorem dJ42_siftDownComparable_6 : decode cJ42_siftDownComparable 6 = .ok (.iload_n 3, 1) := dk_29 (dk_at dksJ42_siftDownComparable_0 6 rfl rfl)
theorem dJ42_siftDownComparable_7 : decode cJ42_siftDownComparable 7 = .ok (.iconst 1, 1) := dk_4 (dk_at dksJ42_siftDownComparable_0 7 rfl rfl)
theorem dJ42_siftDownComparable_8 : decode cJ42_siftDownComparable 8 = .ok (.iushr, 1) := dk_124 (dk_at dksJ42_siftDownComparable_0 8 rfl rfl)
theorem dJ42_siftDownComparable_9 : decode cJ42_siftDownComparable 9 = .ok (.istore 5, 2) := dk_54 5 (dk_at dksJ42_siftDownComparable_0 9 rfl rfl)
theorem dJ42_siftDownComparable_11 : decode cJ42_siftDownComparable 11 = .ok (.iload_n 0, 1) := dk_26 (dk_at dksJ42_siftDownComparable_0 11 rfl rfl)
theorem dJ42_siftDownComparable_12 : decode cJ42_siftDownComparable 12 = .ok (.iload 5, 2) := dk_21 5 (dk_at dksJ42_siftDownComparable_0 12 rfl rfl)
theorem dJ42_siftDownComparable_14 : decode cJ42_siftDownComparable 14 = .ok (.if_icmp .ge 80, 3) := dk_162 0 80 (dk_at dksJ42_siftDownComparable_0 14 rfl rfl)
theorem dJ42_siftDownComparable_17 : decode cJ42_siftDownComparable 17 = .ok (.iload_n 0, 1) := dk_26 (dk_at dksJ42_siftDownComparable_0 17 rfl rfl)
theorem dJ42_siftDownComparable_18 : decode cJ42_siftDownComparable 18 = .ok (.iconst 1, 1) := dk_4 (dk_at dksJ42_siftDownComparable_0 18 rfl rfl)
theorem dJ42_siftDownComparable_19 : decode cJ42_siftDownComparable 19 = .ok (.ishl, 1) := dk_120 (dk_at dksJ42_siftDownComparable_0 19 rfl rfl)
theorem dJ42_siftDownComparable_20 : decode cJ42_siftDownComparable 20 = .ok (.iconst 1, 1) := dk_4 (dk_at dksJ42_siftDownComparable_0 20 rfl rfl)
theorem dJ42_siftDownComparable_21 : decode cJ42_siftDownComparable 21 = .ok (.iadd, 1) := dk_96 (dk_at dksJ42_siftDownComparable_0 21 rfl rfl)
theorem dJ42_siftDownComparable_22 : decode cJ42_siftDownComparable 22 = .ok (.istore 6, 2) := dk_54 6 (dk_at dksJ42_siftDownComparable_0 22 rfl rfl)
theorem dJ42_siftDownComparable_24 : decode cJ42_siftDownComparable 24 = .ok (.aload_n 2, 1) := dk_44 (dk_at dksJ42_siftDownComparable_1 0 rfl rfl)
theorem dJ42_siftDownComparable_25 : decode cJ42_siftDownComparable 25 = .ok (.iload 6, 2) := dk_21 6 (dk_at dksJ42_siftDownComparable_1 1 rfl rfl)
theorem dJ42_siftDownComparable_27 : decode cJ42_siftDownComparable 27 = .ok (.aaload, 1) := dk_50 (dk_at dksJ42_siftDownComparable_1 3 rfl rfl)
theorem dJ42_siftDownComparable_28 : decode cJ42_siftDownComparable 28 = .ok (.astore 7, 2) := dk_58 7 (dk_at dksJ42_siftDownComparable_1 4 rfl rfl)
theorem dJ42_siftDownComparable_30 : decode cJ42_siftDownComparable 30 = .ok (.iload 6, 2) := dk_21 6 (dk_at dksJ42_siftDownComparable_1 6 rfl rfl)
theorem dJ42_siftDownComparable_32 : decode cJ42_siftDownComparable 32 = .ok (.iconst 1, 1) := dk_4 (dk_at dksJ42_siftDownComparable_1 8 rfl rfl)
theorem dJ42_siftDownComparable_33 : decode cJ42_siftDownComparable 33 = .ok (.iadd, 1) := dk_96 (dk_at dksJ42_siftDownComparable_1 9 rfl rfl)
theorem dJ42_siftDownComparable_34 : decode cJ42_siftDownComparable 34 = .ok (.istore 8, 2) := dk_54 8 (dk_at dksJ42_siftDownComparable_1 10 rfl rfl)
theorem dJ42_siftDownComparable_36 : decode cJ42_siftDownComparable 36 = .ok (.iload 8, 2) := dk_21 8 (dk_at dksJ42_siftDownComparable_1 12 rfl rfl)
theorem dJ42_siftDownComparable_38 : decode cJ42_siftDownComparable 38 = .ok (.iload_n 3, 1) := dk_29 (dk_at dksJ42_siftDownComparable_1 14 rfl rfl)
theorem dJ42_siftDownComparable_39 : decode cJ42_siftDownComparable 39 = .ok (.if_icmp .ge 29, 3) := dk_162 0 29 (dk_at dksJ42_siftDownComparable_1 15 rfl rfl)
theorem dJ42_siftDownComparable_42 : decode cJ42_siftDownComparable 42 = .ok (.aload 7, 2) := dk_25 7 (dk_at dksJ42_siftDownComparable_1 18 rfl rfl)
theorem dJ42_siftDownComparable_44 : decode cJ42_siftDownComparable 44 = .ok (.checkcast 144, 3) := dk_192 0 144 (dk_at dksJ42_siftDownComparable_1 20 rfl rfl)
theorem dJ42_siftDownComparable_47 : decode cJ42_siftDownComparable 47 = .ok (.aload_n 2, 1) := dk_44 (dk_at dksJ42_siftDownComparable_1 23 rfl rfl)
theorem dJ42_siftDownComparable_48 : decode cJ42_siftDownComparable 48 = .ok (.iload 8, 2) := dk_21 8 (dk_at dksJ42_siftDownComparable_2 0 rfl rfl)
theorem dJ42_siftDownComparable_50 : decode cJ42_siftDownComparable 50 = .ok (.aaload, 1) := dk_50 (dk_at dksJ42_siftDownComparable_2 2 rfl rfl)
theorem dJ42_siftDownComparable_51 : decode cJ42_siftDownComparable 51 = .ok (.invokeinterface 146 2, 5) := by decide +kernel
theorem dJ42_siftDownComparable_56 : decode cJ42_siftDownComparable 56 = .ok (.ifCond .le 12, 3) := dk_158 0 12 (dk_at dksJ42_siftDownComparable_2 8 rfl rfl)
theorem dJ42_siftDownComparable_59 : decode cJ42_siftDownComparable 59 = .ok (.aload_n 2, 1) := dk_44 (dk_at dksJ42_siftDownComparable_2 11 rfl rfl)
theorem dJ42_siftDownComparable_60 : decode cJ42_siftDownComparable 60 = .ok (.iload 8, 2) := dk_21 8 (dk_at dksJ42_siftDownComparable_2 12 rfl rfl)
theorem dJ42_siftDownComparable_62 : decode cJ42_siftDownComparable 62 = .ok (.dup, 1) := dk_89 (dk_at dksJ42_siftDownComparable_2 14 rfl rfl)
theorem dJ42_siftDownComparable_63 : decode cJ42_siftDownComparable 63 = .ok (.istore 6, 2) := dk_54 6 (dk_at dksJ42_siftDownComparable_2 15 rfl rfl)
theorem dJ42_siftDownComparable_65 : decode cJ42_siftDownComparable 65 = .ok (.aaload, 1) := dk_50 (dk_at dksJ42_siftDownComparable_2 17 rfl rfl)
theorem dJ42_siftDownComparable_66 : decode cJ42_siftDownComparable 66 = .ok (.astore 7, 2) := dk_58 7 (dk_at dksJ42_siftDownComparable_2 18 rfl rfl)
theorem dJ42_siftDownComparable_68 : decode cJ42_siftDownComparable 68 = .ok (.aload 4, 2) := dk_25 4 (dk_at dksJ42_siftDownComparable_2 20 rfl rfl)
theorem dJ42_siftDownComparable_70 : decode cJ42_siftDownComparable 70 = .ok (.aload 7, 2) := dk_25 7 (dk_at dksJ42_siftDownComparable_2 22 rfl rfl)
theorem dJ42_siftDownComparable_72 : decode cJ42_siftDownComparable 72 = .ok (.invokeinterface 146 2, 5) := by decide +kernel
theorem dJ42_siftDownComparable_77 : decode cJ42_siftDownComparable 77 = .ok (.ifCond .gt 6, 3) := dk_157 0 6 (dk_at dksJ42_siftDownComparable_3 5 rfl rfl)
theorem dJ42_siftDownComparable_80 : decode cJ42_siftDownComparable 80 = .ok (.goto 14, 3) := dk_167 0 14 (dk_at dksJ42_siftDownComparable_3 8 rfl rfl)
theorem dJ42_siftDownComparable_83 : decode cJ42_siftDownComparable 83 = .ok (.aload_n 2, 1) := dk_44 (dk_at dksJ42_siftDownComparable_3 11 rfl rfl)
theorem dJ42_siftDownComparable_84 : decode cJ42_siftDownComparable 84 = .ok (.iload_n 0, 1) := dk_26 (dk_at dksJ42_siftDownComparable_3 12 rfl rfl)
theorem dJ42_siftDownComparable_85 : decode cJ42_siftDownComparable 85 = .ok (.aload 7, 2) := dk_25 7 (dk_at dksJ42_siftDownComparable_3 13 rfl rfl)
theorem dJ42_siftDownComparable_87 : decode cJ42_siftDownComparable 87 = .ok (.aastore, 1) := dk_83 (dk_at dksJ42_siftDownComparable_3 15 rfl rfl)
theorem dJ42_siftDownComparable_88 : decode cJ42_siftDownComparable 88 = .ok (.iload 6, 2) := dk_21 6 (dk_at dksJ42_siftDownComparable_3 16 rfl rfl)
theorem dJ42_siftDownComparable_90 : decode cJ42_siftDownComparable 90 = .ok (.istore_n 0, 1) := dk_59 (dk_at dksJ42_siftDownComparable_3 18 rfl rfl)
theorem dJ42_siftDownComparable_91 : decode cJ42_siftDownComparable 91 = .ok (.goto (-80), 3) := dk_167 255 176 (dk_at dksJ42_siftDownComparable_3 19 rfl rfl)
theorem dJ42_siftDownComparable_94 : decode cJ42_siftDownComparable 94 = .ok (.aload_n 2, 1) := dk_44 (dk_at dksJ42_siftDownComparable_3 22 rfl rfl)
theorem dJ42_siftDownComparable_95 : decode cJ42_siftDownComparable 95 = .ok (.iload_n 0, 1) := dk_26 (dk_at dksJ42_siftDownComparable_3 23 rfl rfl)
theorem dJ42_siftDownComparable_96 : decode cJ42_siftDownComparable 96 = .ok (.aload 4, 2) := dk_25 4 (dk_at dksJ42_siftDownComparable_4 0 rfl rfl)
theorem dJ42_siftDownComparable_98 : decode cJ42_siftDownComparable 98 = .ok (.aastore, 1) := dk_83 (dk_at dksJ42_siftDownComparable_4 2 rfl rfl)
theorem dJ42_siftDownComparable_99 : decode cJ42_siftDownComparable 99 = .ok (.return_, 1) := dk_177 (dk_at dksJ42_siftDownComparable_4 3 rfl rfl)
abbrev cJ42_siftDownUsingComparator : ByteArray := prog_78_method_32_code
def yJ42_siftDownUsingComparator : MethodName := ⟨RJ42, "siftDownUsingComparator", "(ILjava/lang/Object;[Ljava/lang/Object;ILjava/util/Comparator;)V"⟩
def dkwJ42_siftDownUsingComparator_4 : List UInt8 := [43, 83, 177]
abbrev dktJ42_siftDownUsingComparator_4 : List UInt8 := dkwJ42_siftDownUsingComparator_4 ++ []
def dkwJ42_siftDownUsingComparator_3 : List UInt8 := [185, 0, 149, 3, 0, 157, 0, 6, 167, 0, 14, 44, 26, 25, 7, 83, 21, 6, 59, 167, 255, 176, 44, 26]
abbrev dktJ42_siftDownUsingComparator_3 : List UInt8 := dkwJ42_siftDownUsingComparator_3 ++ dktJ42_siftDownUsingComparator_4
def dkwJ42_siftDownUsingComparator_2 : List UInt8 := [185, 0, 149, 3, 0, 158, 0, 12, 44, 21, 8, 89, 54, 6, 50, 58, 7, 25, 4, 43, 25, 7]
abbrev dktJ42_siftDownUsingComparator_2 : List UInt8 := dkwJ42_siftDownUsingComparator_2 ++ dktJ42_siftDownUsingComparator_3
def dkwJ42_siftDownUsingComparator_1 : List UInt8 := [21, 6, 4, 96, 54, 8, 21, 8, 29, 162, 0, 28, 25, 4, 25, 7, 44, 21, 8, 50]
abbrev dktJ42_siftDownUsingComparator_1 : List UInt8 := dkwJ42_siftDownUsingComparator_1 ++ dktJ42_siftDownUsingComparator_2
def dkwJ42_siftDownUsingComparator_0 : List UInt8 := [29, 4, 124, 54, 5, 26, 21, 5, 162, 0, 80, 26, 4, 120, 4, 96, 54, 6, 44, 21, 6, 50, 58, 7]
abbrev dktJ42_siftDownUsingComparator_0 : List UInt8 := dkwJ42_siftDownUsingComparator_0 ++ dktJ42_siftDownUsingComparator_1
theorem dksJ42_siftDownUsingComparator_0 : cJ42_siftDownUsingComparator.data.toList.drop 0 = dktJ42_siftDownUsingComparator_0 := by decide +kernel
theorem dksJ42_siftDownUsingComparator_1 : cJ42_siftDownUsingComparator.data.toList.drop 24 = dktJ42_siftDownUsingComparator_1 := dk_seg dksJ42_siftDownUsingComparator_0 24 rfl rfl
theorem dksJ42_siftDownUsingComparator_2 : cJ42_siftDownUsingComparator.data.toList.drop 44 = dktJ42_siftDownUsingComparator_2 := dk_seg dksJ42_siftDownUsingComparator_1 20 rfl rfl
theorem dksJ42_siftDownUsingComparator_3 : cJ42_siftDownUsingComparator.data.toList.drop 66 = dktJ42_siftDownUsingComparator_3 := dk_seg dksJ42_siftDownUsingComparator_2 22 rfl rfl
theorem dksJ42_siftDownUsingComparator_4 : cJ42_siftDownUsingComparator.data.toList.drop 90 = dktJ42_siftDownUsingComparator_4 := dk_seg dksJ42_siftDownUsingComparator_3 24 rfl rfl
theorem dJ42_siftDownUsingComparator_0 : decode cJ42_siftDownUsingComparator 0 = .ok (.iload_n 3, 1) := dk_29 (dk_at dksJ42_siftDownUsingComparator_0 0 rfl rfl)
theorem dJ42_siftDownUsingComparator_1 : decode cJ42_siftDownUsingComparator 1 = .ok (.iconst 1, 1) := dk_4 (dk_at dksJ42_siftDownUsingComparator_0 1 rfl rfl)
theorem dJ42_siftDownUsingComparator_2 : decode cJ42_siftDownUsingComparator 2 = .ok (.iushr, 1) := dk_124 (dk_at dksJ42_siftDownUsingComparator_0 2 rfl rfl)
theorem dJ42_siftDownUsingComparator_3 : decode cJ42_siftDownUsingComparator 3 = .ok (.istore 5, 2) := dk_54 5 (dk_at dksJ42_siftDownUsingComparator_0 3 rfl rfl)
theorem dJ42_siftDownUsingComparator_5 : decode cJ42_siftDownUsingComparator 5 = .ok (.iload_n 0, 1) := dk_26 (dk_at dksJ42_siftDownUsingComparator_0 5 rfl rfl)
theorem dJ42_siftDownUsingComparator_6 : decode cJ42_siftDownUsingComparator 6 = .ok (.iload 5, 2) := dk_21 5 (dk_at dksJ42_siftDownUsingComparator_0 6 rfl rfl)
theorem dJ42_siftDownUsingComparator_8 : decode cJ42_siftDownUsingComparator 8 = .ok (.if_icmp .ge 80, 3) := dk_162 0 80 (dk_at dksJ42_siftDownUsingComparator_0 8 rfl rfl)
theorem dJ42_siftDownUsingComparator_11 : decode cJ42_siftDownUsingComparator 11 = .ok (.iload_n 0, 1) := dk_26 (dk_at dksJ42_siftDownUsingComparator_0 11 rfl rfl)
theorem dJ42_siftDownUsingComparator_12 : decode cJ42_siftDownUsingComparator 12 = .ok (.iconst 1, 1) := dk_4 (dk_at dksJ42_siftDownUsingComparator_0 12 rfl rfl)
theorem dJ42_siftDownUsingComparator_13 : decode cJ42_siftDownUsingComparator 13 = .ok (.ishl, 1) := dk_120 (dk_at dksJ42_siftDownUsingComparator_0 13 rfl rfl)
theorem dJ42_siftDownUsingComparator_14 : decode cJ42_siftDownUsingComparator 14 = .ok (.iconst 1, 1) := dk_4 (dk_at dksJ42_siftDownUsingComparator_0 14 rfl rfl)
theorem dJ42_siftDownUsingComparator_15 : decode cJ42_siftDownUsingComparator 15 = .ok (.iadd, 1) := dk_96 (dk_at dksJ42_siftDownUsingComparator_0 15 rfl rfl)
theorem dJ42_siftDownUsingComparator_16 : decode cJ42_siftDownUsingComparator 16 = .ok (.istore 6, 2) := dk_54 6 (dk_at dksJ42_siftDownUsingComparator_0 16 rfl rfl)
theorem dJ42_siftDownUsingComparator_18 : decode cJ42_siftDownUsingComparator 18 = .ok (.aload_n 2, 1) := dk_44 (dk_at dksJ42_siftDownUsingComparator_0 18 rfl rfl)
theorem dJ42_siftDownUsingComparator_19 : decode cJ42_siftDownUsingComparator 19 = .ok (.iload 6, 2) := dk_21 6 (dk_at dksJ42_siftDownUsingComparator_0 19 rfl rfl)
theorem dJ42_siftDownUsingComparator_21 : decode cJ42_siftDownUsingComparator 21 = .ok (.aaload, 1) := dk_50 (dk_at dksJ42_siftDownUsingComparator_0 21 rfl rfl)
theorem dJ42_siftDownUsingComparator_22 : decode cJ42_siftDownUsingComparator 22 = .ok (.astore 7, 2) := dk_58 7 (dk_at dksJ42_siftDownUsingComparator_0 22 rfl rfl)
theorem dJ42_siftDownUsingComparator_24 : decode cJ42_siftDownUsingComparator 24 = .ok (.iload 6, 2) := dk_21 6 (dk_at dksJ42_siftDownUsingComparator_1 0 rfl rfl)
theorem dJ42_siftDownUsingComparator_26 : decode cJ42_siftDownUsingComparator 26 = .ok (.iconst 1, 1) := dk_4 (dk_at dksJ42_siftDownUsingComparator_1 2 rfl rfl)
theorem dJ42_siftDownUsingComparator_27 : decode cJ42_siftDownUsingComparator 27 = .ok (.iadd, 1) := dk_96 (dk_at dksJ42_siftDownUsingComparator_1 3 rfl rfl)
theorem dJ42_siftDownUsingComparator_28 : decode cJ42_siftDownUsingComparator 28 = .ok (.istore 8, 2) := dk_54 8 (dk_at dksJ42_siftDownUsingComparator_1 4 rfl rfl)
theorem dJ42_siftDownUsingComparator_30 : decode cJ42_siftDownUsingComparator 30 = .ok (.iload 8, 2) := dk_21 8 (dk_at dksJ42_siftDownUsingComparator_1 6 rfl rfl)
theorem dJ42_siftDownUsingComparator_32 : decode cJ42_siftDownUsingComparator 32 = .ok (.iload_n 3, 1) := dk_29 (dk_at dksJ42_siftDownUsingComparator_1 8 rfl rfl)
theorem dJ42_siftDownUsingComparator_33 : decode cJ42_siftDownUsingComparator 33 = .ok (.if_icmp .ge 28, 3) := dk_162 0 28 (dk_at dksJ42_siftDownUsingComparator_1 9 rfl rfl)
theorem dJ42_siftDownUsingComparator_36 : decode cJ42_siftDownUsingComparator 36 = .ok (.aload 4, 2) := dk_25 4 (dk_at dksJ42_siftDownUsingComparator_1 12 rfl rfl)
theorem dJ42_siftDownUsingComparator_38 : decode cJ42_siftDownUsingComparator 38 = .ok (.aload 7, 2) := dk_25 7 (dk_at dksJ42_siftDownUsingComparator_1 14 rfl rfl)
theorem dJ42_siftDownUsingComparator_40 : decode cJ42_siftDownUsingComparator 40 = .ok (.aload_n 2, 1) := dk_44 (dk_at dksJ42_siftDownUsingComparator_1 16 rfl rfl)
theorem dJ42_siftDownUsingComparator_41 : decode cJ42_siftDownUsingComparator 41 = .ok (.iload 8, 2) := dk_21 8 (dk_at dksJ42_siftDownUsingComparator_1 17 rfl rfl)
theorem dJ42_siftDownUsingComparator_43 : decode cJ42_siftDownUsingComparator 43 = .ok (.aaload, 1) := dk_50 (dk_at dksJ42_siftDownUsingComparator_1 19 rfl rfl)
theorem dJ42_siftDownUsingComparator_44 : decode cJ42_siftDownUsingComparator 44 = .ok (.invokeinterface 149 3, 5) := by decide +kernel
theorem dJ42_siftDownUsingComparator_49 : decode cJ42_siftDownUsingComparator 49 = .ok (.ifCond .le 12, 3) := dk_158 0 12 (dk_at dksJ42_siftDownUsingComparator_2 5 rfl rfl)
theorem dJ42_siftDownUsingComparator_52 : decode cJ42_siftDownUsingComparator 52 = .ok (.aload_n 2, 1) := dk_44 (dk_at dksJ42_siftDownUsingComparator_2 8 rfl rfl)
theorem dJ42_siftDownUsingComparator_53 : decode cJ42_siftDownUsingComparator 53 = .ok (.iload 8, 2) := dk_21 8 (dk_at dksJ42_siftDownUsingComparator_2 9 rfl rfl)
theorem dJ42_siftDownUsingComparator_55 : decode cJ42_siftDownUsingComparator 55 = .ok (.dup, 1) := dk_89 (dk_at dksJ42_siftDownUsingComparator_2 11 rfl rfl)
theorem dJ42_siftDownUsingComparator_56 : decode cJ42_siftDownUsingComparator 56 = .ok (.istore 6, 2) := dk_54 6 (dk_at dksJ42_siftDownUsingComparator_2 12 rfl rfl)
theorem dJ42_siftDownUsingComparator_58 : decode cJ42_siftDownUsingComparator 58 = .ok (.aaload, 1) := dk_50 (dk_at dksJ42_siftDownUsingComparator_2 14 rfl rfl)
theorem dJ42_siftDownUsingComparator_59 : decode cJ42_siftDownUsingComparator 59 = .ok (.astore 7, 2) := dk_58 7 (dk_at dksJ42_siftDownUsingComparator_2 15 rfl rfl)
theorem dJ42_siftDownUsingComparator_61 : decode cJ42_siftDownUsingComparator 61 = .ok (.aload 4, 2) := dk_25 4 (dk_at dksJ42_siftDownUsingComparator_2 17 rfl rfl)
theorem dJ42_siftDownUsingComparator_63 : decode cJ42_siftDownUsingComparator 63 = .ok (.aload_n 1, 1) := dk_43 (dk_at dksJ42_siftDownUsingComparator_2 19 rfl rfl)
theorem dJ42_siftDownUsingComparator_64 : decode cJ42_siftDownUsingComparator 64 = .ok (.aload 7, 2) := dk_25 7 (dk_at dksJ42_siftDownUsingComparator_2 20 rfl rfl)
theorem dJ42_siftDownUsingComparator_66 : decode cJ42_siftDownUsingComparator 66 = .ok (.invokeinterface 149 3, 5) := by decide +kernel
theorem dJ42_siftDownUsingComparator_71 : decode cJ42_siftDownUsingComparator 71 = .ok (.ifCond .gt 6, 3) := dk_157 0 6 (dk_at dksJ42_siftDownUsingComparator_3 5 rfl rfl)
theorem dJ42_siftDownUsingComparator_74 : decode cJ42_siftDownUsingComparator 74 = .ok (.goto 14, 3) := dk_167 0 14 (dk_at dksJ42_siftDownUsingComparator_3 8 rfl rfl)
theorem dJ42_siftDownUsingComparator_77 : decode cJ42_siftDownUsingComparator 77 = .ok (.aload_n 2, 1) := dk_44 (dk_at dksJ42_siftDownUsingComparator_3 11 rfl rfl)
theorem dJ42_siftDownUsingComparator_78 : decode cJ42_siftDownUsingComparator 78 = .ok (.iload_n 0, 1) := dk_26 (dk_at dksJ42_siftDownUsingComparator_3 12 rfl rfl)
theorem dJ42_siftDownUsingComparator_79 : decode cJ42_siftDownUsingComparator 79 = .ok (.aload 7, 2) := dk_25 7 (dk_at dksJ42_siftDownUsingComparator_3 13 rfl rfl)
theorem dJ42_siftDownUsingComparator_81 : decode cJ42_siftDownUsingComparator 81 = .ok (.aastore, 1) := dk_83 (dk_at dksJ42_siftDownUsingComparator_3 15 rfl rfl)
theorem dJ42_siftDownUsingComparator_82 : decode cJ42_siftDownUsingComparator 82 = .ok (.iload 6, 2) := dk_21 6 (dk_at dksJ42_siftDownUsingComparator_3 16 rfl rfl)
theorem dJ42_siftDownUsingComparator_84 : decode cJ42_siftDownUsingComparator 84 = .ok (.istore_n 0, 1) := dk_59 (dk_at dksJ42_siftDownUsingComparator_3 18 rfl rfl)
theorem dJ42_siftDownUsingComparator_85 : decode cJ42_siftDownUsingComparator 85 = .ok (.goto (-80), 3) := dk_167 255 176 (dk_at dksJ42_siftDownUsingComparator_3 19 rfl rfl)
theorem dJ42_siftDownUsingComparator_88 : decode cJ42_siftDownUsingComparator 88 = .ok (.aload_n 2, 1) := dk_44 (dk_at dksJ42_siftDownUsingComparator_3 22 rfl rfl)
theorem dJ42_siftDownUsingComparator_89 : decode cJ42_siftDownUsingComparator 89 = .ok (.iload_n 0, 1) := dk_26 (dk_at dksJ42_siftDownUsingComparator_3 23 rfl rfl)
theorem dJ42_siftDownUsingComparator_90 : decode cJ42_siftDownUsingComparator 90 = .ok (.aload_n 1, 1) := dk_43 (dk_at dksJ42_siftDownUsingComparator_4 0 rfl rfl)
theorem dJ42_siftDownUsingComparator_91 : decode cJ42_siftDownUsingComparator 91 = .ok (.aastore, 1) := dk_83 (dk_at dksJ42_siftDownUsingComparator_4 1 rfl rfl)
theorem dJ42_siftDownUsingComparator_92 : decode cJ42_siftDownUsingComparator 92 = .ok (.return_, 1) := dk_177 (dk_at dksJ42_siftDownUsingComparator_4 2 rfl rfl)
theorem q237 : (Jvm.Cond.initialized "java/util/PriorityQueue") ∈ lw_all := lw_g (lw_at lw_m1 61 rfl) rfl
theorem q435 : (Jvm.Cond.selects "java/util/PriorityQueue" ({ cls := "java/lang/Object", name := "getClass", desc := "()Ljava/lang/Class;" } : Jvm.MethodName) ({ cls := "java/lang/Object", name := "getClass", desc := "()Ljava/lang/Class;" } : Jvm.MethodName)) ∈ lw_all := lw_g (lw_at lw_m2 19 rfl) rfl
theorem q1810 : (Jvm.Cond.selects "java/util/PriorityQueue" ({ cls := "java/util/AbstractCollection", name := "size", desc := "()I" } : Jvm.MethodName) ({ cls := "java/util/PriorityQueue", name := "size", desc := "()I" } : Jvm.MethodName)) ∈ lw_all := lw_g (lw_at lw_m7 194 rfl) rfl
theorem q1811 : (Jvm.Cond.instanceMethod ({ cls := "java/util/PriorityQueue", name := "size", desc := "()I" } : Jvm.MethodName)) ∈ lw_all := lw_g (lw_at lw_m7 195 rfl) rfl
theorem q1812 : (Jvm.Cond.code ({ cls := "java/util/PriorityQueue", name := "size", desc := "()I" } : Jvm.MethodName) prog_78_method_23_code (1 : Nat) (Option.some Jvm.ClassFile.FieldType.int)) ∈ lw_all := lw_g (lw_at lw_m7 196 rfl) rfl
theorem q2608 : (Jvm.Cond.instantiable "java/util/PriorityQueue" (4 : Nat)) ∈ lw_all := lw_g (lw_at lw_m11 32 rfl) rfl
theorem q2617 : (Jvm.Cond.instanceMethod ({ cls := "java/util/PriorityQueue", name := "<init>", desc := "(Ljava/util/Comparator;)V" } : Jvm.MethodName)) ∈ lw_all := lw_g (lw_at lw_m11 41 rfl) rfl
theorem q2618 : (Jvm.Cond.code ({ cls := "java/util/PriorityQueue", name := "<init>", desc := "(Ljava/util/Comparator;)V" } : Jvm.MethodName) prog_78_method_3_code (2 : Nat) (Option.none : Option Jvm.ClassFile.FieldType)) ∈ lw_all := lw_g (lw_at lw_m11 42 rfl) rfl
theorem q2619 : (Jvm.Cond.methodLink "java/util/PriorityQueue" (3 : Nat) ({ cls := "java/util/PriorityQueue", name := "<init>", desc := "(ILjava/util/Comparator;)V" } : Jvm.MethodName)) ∈ lw_all := lw_g (lw_at lw_m11 43 rfl) rfl
theorem q2620 : (Jvm.Cond.instanceMethod ({ cls := "java/util/PriorityQueue", name := "<init>", desc := "(ILjava/util/Comparator;)V" } : Jvm.MethodName)) ∈ lw_all := lw_g (lw_at lw_m11 44 rfl) rfl
theorem q2621 : (Jvm.Cond.code ({ cls := "java/util/PriorityQueue", name := "<init>", desc := "(ILjava/util/Comparator;)V" } : Jvm.MethodName) prog_78_method_4_code (3 : Nat) (Option.none : Option Jvm.ClassFile.FieldType)) ∈ lw_all := lw_g (lw_at lw_m11 45 rfl) rfl
theorem q2622 : (Jvm.Cond.methodLink "java/util/PriorityQueue" (7 : Nat) ({ cls := "java/util/AbstractQueue", name := "<init>", desc := "()V" } : Jvm.MethodName)) ∈ lw_all := lw_g (lw_at lw_m11 46 rfl) rfl
theorem q2626 : (Jvm.Cond.classLink "java/util/PriorityQueue" (12 : Nat) "java/lang/IllegalArgumentException") ∈ lw_all := lw_g (lw_at lw_m11 50 rfl) rfl
theorem q2627 : (Jvm.Cond.methodLink "java/util/PriorityQueue" (14 : Nat) ({ cls := "java/lang/IllegalArgumentException", name := "<init>", desc := "()V" } : Jvm.MethodName)) ∈ lw_all := lw_g (lw_at lw_m11 51 rfl) rfl
theorem q2631 : (Jvm.Cond.classLink "java/util/PriorityQueue" (15 : Nat) "java/lang/Object") ∈ lw_all := lw_g (lw_at lw_m11 55 rfl) rfl
theorem q2632 : (Jvm.Cond.fieldLink "java/util/PriorityQueue" (17 : Nat) "java/util/PriorityQueue" "queue" "[Ljava/lang/Object;") ∈ lw_all := lw_g (lw_at lw_m11 56 rfl) rfl
theorem q2633 : (Jvm.Cond.fieldLink "java/util/PriorityQueue" (58 : Nat) "java/util/PriorityQueue" "size" "I") ∈ lw_all := lw_g (lw_at lw_m11 57 rfl) rfl
theorem q2634 : (Jvm.Cond.fieldLink "java/util/PriorityQueue" (21 : Nat) "java/util/PriorityQueue" "comparator" "Ljava/util/Comparator;") ∈ lw_all := lw_g (lw_at lw_m11 58 rfl) rfl
theorem q2635 : (Jvm.Cond.fieldLink "java/util/PriorityQueue" (93 : Nat) "java/util/PriorityQueue" "modCount" "I") ∈ lw_all := lw_g (lw_at lw_m11 59 rfl) rfl
theorem q2636 : (Jvm.Cond.lays "java/util/PriorityQueue" "java/util/PriorityQueue" "queue" "[Ljava/lang/Object;") ∈ lw_all := lw_g (lw_at lw_m11 60 rfl) rfl
theorem q2637 : (Jvm.Cond.soleField "java/util/PriorityQueue" "queue") ∈ lw_all := lw_g (lw_at lw_m11 61 rfl) rfl
theorem q2638 : (Jvm.Cond.lays "java/util/PriorityQueue" "java/util/PriorityQueue" "size" "I") ∈ lw_all := lw_g (lw_at lw_m11 62 rfl) rfl
theorem q2639 : (Jvm.Cond.soleField "java/util/PriorityQueue" "size") ∈ lw_all := lw_g (lw_at lw_m11 63 rfl) rfl
theorem q2640 : (Jvm.Cond.laysFinal "java/util/PriorityQueue" "java/util/PriorityQueue" "comparator" "Ljava/util/Comparator;") ∈ lw_all := lw_g (lw_at lw_m11 64 rfl) rfl
theorem q2641 : (Jvm.Cond.soleField "java/util/PriorityQueue" "comparator") ∈ lw_all := lw_g (lw_at lw_m11 65 rfl) rfl
theorem q2642 : (Jvm.Cond.lays "java/util/PriorityQueue" "java/util/PriorityQueue" "modCount" "I") ∈ lw_all := lw_g (lw_at lw_m11 66 rfl) rfl
theorem q2643 : (Jvm.Cond.soleField "java/util/PriorityQueue" "modCount") ∈ lw_all := lw_g (lw_at lw_m11 67 rfl) rfl
theorem q2644 : (Jvm.Cond.superclass "java/util/PriorityQueue" "java/util/AbstractQueue") ∈ lw_all := lw_g (lw_at lw_m11 68 rfl) rfl
theorem q2663 : (Jvm.Cond.instanceMethod ({ cls := "java/util/PriorityQueue", name := "add", desc := "(Ljava/lang/Object;)Z" } : Jvm.MethodName)) ∈ lw_all := lw_g (lw_at lw_m11 87 rfl) rfl
theorem q2664 : (Jvm.Cond.selects "java/util/PriorityQueue" ({ cls := "java/util/PriorityQueue", name := "add", desc := "(Ljava/lang/Object;)Z" } : Jvm.MethodName) ({ cls := "java/util/PriorityQueue", name := "add", desc := "(Ljava/lang/Object;)Z" } : Jvm.MethodName)) ∈ lw_all := lw_g (lw_at lw_m11 88 rfl) rfl
theorem q2665 : (Jvm.Cond.code ({ cls := "java/util/PriorityQueue", name := "add", desc := "(Ljava/lang/Object;)Z" } : Jvm.MethodName) prog_78_method_13_code (2 : Nat) (Option.some Jvm.ClassFile.FieldType.boolean)) ∈ lw_all := lw_g (lw_at lw_m11 89 rfl) rfl
theorem q2666 : (Jvm.Cond.methodLink "java/util/PriorityQueue" (89 : Nat) ({ cls := "java/util/PriorityQueue", name := "offer", desc := "(Ljava/lang/Object;)Z" } : Jvm.MethodName)) ∈ lw_all := lw_g (lw_at lw_m11 90 rfl) rfl
theorem q2667 : (Jvm.Cond.instanceMethod ({ cls := "java/util/PriorityQueue", name := "offer", desc := "(Ljava/lang/Object;)Z" } : Jvm.MethodName)) ∈ lw_all := lw_g (lw_at lw_m11 91 rfl) rfl
theorem q2668 : (Jvm.Cond.selects "java/util/PriorityQueue" ({ cls := "java/util/PriorityQueue", name := "offer", desc := "(Ljava/lang/Object;)Z" } : Jvm.MethodName) ({ cls := "java/util/PriorityQueue", name := "offer", desc := "(Ljava/lang/Object;)Z" } : Jvm.MethodName)) ∈ lw_all := lw_g (lw_at lw_m11 92 rfl) rfl
theorem q2669 : (Jvm.Cond.code ({ cls := "java/util/PriorityQueue", name := "offer", desc := "(Ljava/lang/Object;)Z" } : Jvm.MethodName) prog_78_method_14_code (3 : Nat) (Option.some Jvm.ClassFile.FieldType.boolean)) ∈ lw_all := lw_g (lw_at lw_m11 93 rfl) rfl
theorem q2670 : (Jvm.Cond.methodLink "java/util/PriorityQueue" (96 : Nat) ({ cls := "java/util/PriorityQueue", name := "grow", desc := "(I)V" } : Jvm.MethodName)) ∈ lw_all := lw_g (lw_at lw_m11 94 rfl) rfl
theorem q2671 : (Jvm.Cond.privateMethod ({ cls := "java/util/PriorityQueue", name := "grow", desc := "(I)V" } : Jvm.MethodName)) ∈ lw_tbl := lw_at lw_m11 95 rfl
theorem q2672 : (Jvm.Cond.instanceMethod ({ cls := "java/util/PriorityQueue", name := "grow", desc := "(I)V" } : Jvm.MethodName)) ∈ lw_all := lw_g (lw_at lw_m11 96 rfl) rfl
theorem q2673 : (Jvm.Cond.code ({ cls := "java/util/PriorityQueue", name := "grow", desc := "(I)V" } : Jvm.MethodName) prog_78_method_12_code (4 : Nat) (Option.none : Option Jvm.ClassFile.FieldType)) ∈ lw_all := lw_g (lw_at lw_m11 97 rfl) rfl
theorem q2674 : (Jvm.Cond.methodLink "java/util/PriorityQueue" (80 : Nat) ({ cls := "jdk/internal/util/ArraysSupport", name := "newLength", desc := "(III)I" } : Jvm.MethodName)) ∈ lw_all := lw_g (lw_at lw_m11 98 rfl) rfl
theorem q2675 : (Jvm.Cond.methodLink "java/util/PriorityQueue" (86 : Nat) ({ cls := "java/util/Arrays", name := "copyOf", desc := "([Ljava/lang/Object;I)[Ljava/lang/Object;" } : Jvm.MethodName)) ∈ lw_all := lw_g (lw_at lw_m11 99 rfl) rfl
theorem q2676 : (Jvm.Cond.methodLink "java/util/PriorityQueue" (100 : Nat) ({ cls := "java/util/PriorityQueue", name := "siftUp", desc := "(ILjava/lang/Object;)V" } : Jvm.MethodName)) ∈ lw_all := lw_g (lw_at lw_m11 100 rfl) rfl
theorem q2677 : (Jvm.Cond.privateMethod ({ cls := "java/util/PriorityQueue", name := "siftUp", desc := "(ILjava/lang/Object;)V" } : Jvm.MethodName)) ∈ lw_tbl := lw_at lw_m11 101 rfl
theorem q2678 : (Jvm.Cond.instanceMethod ({ cls := "java/util/PriorityQueue", name := "siftUp", desc := "(ILjava/lang/Object;)V" } : Jvm.MethodName)) ∈ lw_all := lw_g (lw_at lw_m11 102 rfl) rfl
theorem q2679 : (Jvm.Cond.code ({ cls := "java/util/PriorityQueue", name := "siftUp", desc := "(ILjava/lang/Object;)V" } : Jvm.MethodName) prog_78_method_27_code (3 : Nat) (Option.none : Option Jvm.ClassFile.FieldType)) ∈ lw_all := lw_g (lw_at lw_m11 103 rfl) rfl
theorem q2680 : (Jvm.Cond.methodLink "java/util/PriorityQueue" (136 : Nat) ({ cls := "java/util/PriorityQueue", name := "siftUpUsingComparator", desc := "(ILjava/lang/Object;[Ljava/lang/Object;Ljava/util/Comparator;)V" } : Jvm.MethodName)) ∈ lw_all := lw_g (lw_at lw_m11 104 rfl) rfl
theorem q2681 : (Jvm.Cond.static ({ cls := "java/util/PriorityQueue", name := "siftUpUsingComparator", desc := "(ILjava/lang/Object;[Ljava/lang/Object;Ljava/util/Comparator;)V" } : Jvm.MethodName)) ∈ lw_all := lw_g (lw_at lw_m11 105 rfl) rfl
theorem q2682 : (Jvm.Cond.code ({ cls := "java/util/PriorityQueue", name := "siftUpUsingComparator", desc := "(ILjava/lang/Object;[Ljava/lang/Object;Ljava/util/Comparator;)V" } : Jvm.MethodName) prog_78_method_29_code (6 : Nat) (Option.none : Option Jvm.ClassFile.FieldType)) ∈ lw_all := lw_g (lw_at lw_m11 106 rfl) rfl
theorem q2683 : (Jvm.Cond.interfaceEntry "java/util/PriorityQueue" (149 : Nat)) ∈ lw_tbl := lw_at lw_m11 107 rfl
theorem q2684 : (Jvm.Cond.methodLink "java/util/PriorityQueue" (149 : Nat) ({ cls := "java/util/Comparator", name := "compare", desc := "(Ljava/lang/Object;Ljava/lang/Object;)I" } : Jvm.MethodName)) ∈ lw_all := lw_g (lw_at lw_m11 108 rfl) rfl
theorem q2685 : (Jvm.Cond.methodLink "java/util/PriorityQueue" (140 : Nat) ({ cls := "java/util/PriorityQueue", name := "siftUpComparable", desc := "(ILjava/lang/Object;[Ljava/lang/Object;)V" } : Jvm.MethodName)) ∈ lw_all := lw_g (lw_at lw_m11 109 rfl) rfl
theorem q2686 : (Jvm.Cond.static ({ cls := "java/util/PriorityQueue", name := "siftUpComparable", desc := "(ILjava/lang/Object;[Ljava/lang/Object;)V" } : Jvm.MethodName)) ∈ lw_all := lw_g (lw_at lw_m11 110 rfl) rfl
theorem q2687 : (Jvm.Cond.code ({ cls := "java/util/PriorityQueue", name := "siftUpComparable", desc := "(ILjava/lang/Object;[Ljava/lang/Object;)V" } : Jvm.MethodName) prog_78_method_28_code (6 : Nat) (Option.none : Option Jvm.ClassFile.FieldType)) ∈ lw_all := lw_g (lw_at lw_m11 111 rfl) rfl
theorem q2688 : (Jvm.Cond.classLink "java/util/PriorityQueue" (144 : Nat) "java/lang/Comparable") ∈ lw_all := lw_g (lw_at lw_m11 112 rfl) rfl
theorem q2689 : (Jvm.Cond.interfaceEntry "java/util/PriorityQueue" (146 : Nat)) ∈ lw_tbl := lw_at lw_m11 113 rfl
theorem q2690 : (Jvm.Cond.methodLink "java/util/PriorityQueue" (146 : Nat) ({ cls := "java/lang/Comparable", name := "compareTo", desc := "(Ljava/lang/Object;)I" } : Jvm.MethodName)) ∈ lw_all := lw_g (lw_at lw_m11 114 rfl) rfl
theorem q2693 : (Jvm.Cond.instanceMethod ({ cls := "java/util/PriorityQueue", name := "poll", desc := "()Ljava/lang/Object;" } : Jvm.MethodName)) ∈ lw_all := lw_g (lw_at lw_m11 117 rfl) rfl
theorem q2694 : (Jvm.Cond.selects "java/util/PriorityQueue" ({ cls := "java/util/PriorityQueue", name := "poll", desc := "()Ljava/lang/Object;" } : Jvm.MethodName) ({ cls := "java/util/PriorityQueue", name := "poll", desc := "()Ljava/lang/Object;" } : Jvm.MethodName)) ∈ lw_all := lw_g (lw_at lw_m11 118 rfl) rfl
theorem q2695 : (Jvm.Cond.code ({ cls := "java/util/PriorityQueue", name := "poll", desc := "()Ljava/lang/Object;" } : Jvm.MethodName) prog_78_method_25_code (6 : Nat) (Option.some (Jvm.ClassFile.FieldType.object "java/lang/Object"))) ∈ lw_all := lw_g (lw_at lw_m11 119 rfl) rfl
theorem q2696 : (Jvm.Cond.methodLink "java/util/PriorityQueue" (125 : Nat) ({ cls := "java/util/PriorityQueue", name := "siftDownComparable", desc := "(ILjava/lang/Object;[Ljava/lang/Object;I)V" } : Jvm.MethodName)) ∈ lw_all := lw_g (lw_at lw_m11 120 rfl) rfl
theorem q2697 : (Jvm.Cond.static ({ cls := "java/util/PriorityQueue", name := "siftDownComparable", desc := "(ILjava/lang/Object;[Ljava/lang/Object;I)V" } : Jvm.MethodName)) ∈ lw_all := lw_g (lw_at lw_m11 121 rfl) rfl
theorem q2698 : (Jvm.Cond.code ({ cls := "java/util/PriorityQueue", name := "siftDownComparable", desc := "(ILjava/lang/Object;[Ljava/lang/Object;I)V" } : Jvm.MethodName) prog_78_method_31_code (9 : Nat) (Option.none : Option Jvm.ClassFile.FieldType)) ∈ lw_all := lw_g (lw_at lw_m11 122 rfl) rfl
theorem q2699 : (Jvm.Cond.methodLink "java/util/PriorityQueue" (129 : Nat) ({ cls := "java/util/PriorityQueue", name := "siftDownUsingComparator", desc := "(ILjava/lang/Object;[Ljava/lang/Object;ILjava/util/Comparator;)V" } : Jvm.MethodName)) ∈ lw_all := lw_g (lw_at lw_m11 123 rfl) rfl
theorem q2700 : (Jvm.Cond.static ({ cls := "java/util/PriorityQueue", name := "siftDownUsingComparator", desc := "(ILjava/lang/Object;[Ljava/lang/Object;ILjava/util/Comparator;)V" } : Jvm.MethodName)) ∈ lw_all := lw_g (lw_at lw_m11 124 rfl) rfl
theorem q2701 : (Jvm.Cond.code ({ cls := "java/util/PriorityQueue", name := "siftDownUsingComparator", desc := "(ILjava/lang/Object;[Ljava/lang/Object;ILjava/util/Comparator;)V" } : Jvm.MethodName) prog_78_method_32_code (9 : Nat) (Option.none : Option Jvm.ClassFile.FieldType)) ∈ lw_all := lw_g (lw_at lw_m11 125 rfl) rfl
theorem q4465 : (Jvm.Cond.selects "java/util/PriorityQueue" ({ cls := "java/util/PriorityQueue", name := "size", desc := "()I" } : Jvm.MethodName) ({ cls := "java/util/PriorityQueue", name := "size", desc := "()I" } : Jvm.MethodName)) ∈ lw_all := lw_g (lw_at lw_m18 209 rfl) rfl
theorem q4514 : (Jvm.Cond.castable "java/util/PriorityQueue" "java/lang/Object") ∈ lw_tbl := lw_at lw_m19 18 rfl
theorem in_J42 : ∀ w ∈ wsJ420, w ∈ lw_all := lw_in wsJ420 [2636, 2638, 2640, 2642] (by decide +kernel) (by decide +kernel)

/-! java/util/TreeMap$EntrySet -/
set_option maxRecDepth 100000
def RJ43 : String := "java/util/TreeMap$EntrySet"
def TJ43 : u_T := fun k => match k with
  | _ => ("java/util/TreeMap$EntrySet", "this$0", "Ljava/util/TreeMap;", true)
def tyJ43 : Nat → FieldType := fun k => match k with
  | _ => .object "java/util/TreeMap"
abbrev wsJ430 : List Cond := u_ws RJ43 TJ43 1
theorem nmJ43 : ∀ a, a < 1 → ∀ b, b < 1 → a ≠ b → (TJ43 a).2.1 ≠ (TJ43 b).2.1 := by decide +kernel
theorem tyJ43_ok : ∀ k, k < 1 → parseFieldDescriptor (TJ43 k).2.2.1 = some (tyJ43 k) := by decide +kernel
abbrev cJ43_size : ByteArray := prog_90_method_5_code
def yJ43_size : MethodName := ⟨RJ43, "size", "()I"⟩
def dkwJ43_size_0 : List UInt8 := [42, 180, 0, 1, 182, 0, 48, 172]
abbrev dktJ43_size_0 : List UInt8 := dkwJ43_size_0 ++ []
theorem dksJ43_size_0 : cJ43_size.data.toList.drop 0 = dktJ43_size_0 := by decide +kernel
theorem dJ43_size_0 : decode cJ43_size 0 = .ok (.aload_n 0, 1) := dk_42 (dk_at dksJ43_size_0 0 rfl rfl)
theorem dJ43_size_1 : decode cJ43_size 1 = .ok (.getfield 1, 3) := dk_180 0 1 (dk_at dksJ43_size_0 1 rfl rfl)
theorem dJ43_size_4 : decode cJ43_size 4 = .ok (.invokevirtual 48, 3) := dk_182 0 48 (dk_at dksJ43_size_0 4 rfl rfl)
theorem dJ43_size_7 : decode cJ43_size 7 = .ok (.ireturn, 1) := dk_172 (dk_at dksJ43_size_0 7 rfl rfl)
abbrev cJ43_iterator : ByteArray := prog_90_method_2_code
def yJ43_iterator : MethodName := ⟨RJ43, "iterator", "()Ljava/util/Iterator;"⟩
def dkwJ43_iterator_0 : List UInt8 := [187, 0, 13, 89, 42, 180, 0, 1, 42, 180, 0, 1, 182, 0, 15, 183, 0, 21, 176]
abbrev dktJ43_iterator_0 : List UInt8 := dkwJ43_iterator_0 ++ []
theorem dksJ43_iterator_0 : cJ43_iterator.data.toList.drop 0 = dktJ43_iterator_0 := by decide +kernel
theorem dJ43_iterator_0 : decode cJ43_iterator 0 = .ok (.new 13, 3) := dk_187 0 13 (dk_at dksJ43_iterator_0 0 rfl rfl)
theorem dJ43_iterator_3 : decode cJ43_iterator 3 = .ok (.dup, 1) := dk_89 (dk_at dksJ43_iterator_0 3 rfl rfl)
theorem dJ43_iterator_4 : decode cJ43_iterator 4 = .ok (.aload_n 0, 1) := dk_42 (dk_at dksJ43_iterator_0 4 rfl rfl)
theorem dJ43_iterator_5 : decode cJ43_iterator 5 = .ok (.getfield 1, 3) := dk_180 0 1 (dk_at dksJ43_iterator_0 5 rfl rfl)
theorem dJ43_iterator_8 : decode cJ43_iterator 8 = .ok (.aload_n 0, 1) := dk_42 (dk_at dksJ43_iterator_0 8 rfl rfl)
theorem dJ43_iterator_9 : decode cJ43_iterator 9 = .ok (.getfield 1, 3) := dk_180 0 1 (dk_at dksJ43_iterator_0 9 rfl rfl)
theorem dJ43_iterator_12 : decode cJ43_iterator 12 = .ok (.invokevirtual 15, 3) := dk_182 0 15 (dk_at dksJ43_iterator_0 12 rfl rfl)
theorem dJ43_iterator_15 : decode cJ43_iterator 15 = .ok (.invokespecial 21, 3) := dk_183 0 21 (dk_at dksJ43_iterator_0 15 rfl rfl)
theorem dJ43_iterator_18 : decode cJ43_iterator 18 = .ok (.areturn, 1) := dk_176 (dk_at dksJ43_iterator_0 18 rfl rfl)
abbrev cJ43_init : ByteArray := prog_90_method_1_code
def yJ43_init : MethodName := ⟨RJ43, "<init>", "(Ljava/util/TreeMap;)V"⟩
def dkwJ43_init_0 : List UInt8 := [42, 43, 181, 0, 1, 42, 183, 0, 7, 177]
abbrev dktJ43_init_0 : List UInt8 := dkwJ43_init_0 ++ []
theorem dksJ43_init_0 : cJ43_init.data.toList.drop 0 = dktJ43_init_0 := by decide +kernel
theorem dJ43_init_0 : decode cJ43_init 0 = .ok (.aload_n 0, 1) := dk_42 (dk_at dksJ43_init_0 0 rfl rfl)
theorem dJ43_init_1 : decode cJ43_init 1 = .ok (.aload_n 1, 1) := dk_43 (dk_at dksJ43_init_0 1 rfl rfl)
theorem dJ43_init_2 : decode cJ43_init 2 = .ok (.putfield 1, 3) := dk_181 0 1 (dk_at dksJ43_init_0 2 rfl rfl)
theorem dJ43_init_5 : decode cJ43_init 5 = .ok (.aload_n 0, 1) := dk_42 (dk_at dksJ43_init_0 5 rfl rfl)
theorem dJ43_init_6 : decode cJ43_init 6 = .ok (.invokespecial 7, 3) := dk_183 0 7 (dk_at dksJ43_init_0 6 rfl rfl)
theorem dJ43_init_9 : decode cJ43_init 9 = .ok (.return_, 1) := dk_177 (dk_at dksJ43_init_0 9 rfl rfl)
theorem q239 : (Jvm.Cond.initialized "java/util/TreeMap$EntrySet") ∈ lw_all := lw_g (lw_at lw_m1 63 rfl) rfl
theorem q439 : (Jvm.Cond.selects "java/util/TreeMap$EntrySet" ({ cls := "java/lang/Object", name := "getClass", desc := "()Ljava/lang/Class;" } : Jvm.MethodName) ({ cls := "java/lang/Object", name := "getClass", desc := "()Ljava/lang/Class;" } : Jvm.MethodName)) ∈ lw_all := lw_g (lw_at lw_m2 23 rfl) rfl
theorem q1813 : (Jvm.Cond.selects "java/util/TreeMap$EntrySet" ({ cls := "java/util/AbstractCollection", name := "size", desc := "()I" } : Jvm.MethodName) ({ cls := "java/util/TreeMap$EntrySet", name := "size", desc := "()I" } : Jvm.MethodName)) ∈ lw_all := lw_g (lw_at lw_m7 197 rfl) rfl
theorem q1814 : (Jvm.Cond.instanceMethod ({ cls := "java/util/TreeMap$EntrySet", name := "size", desc := "()I" } : Jvm.MethodName)) ∈ lw_all := lw_g (lw_at lw_m7 198 rfl) rfl
theorem q1815 : (Jvm.Cond.code ({ cls := "java/util/TreeMap$EntrySet", name := "size", desc := "()I" } : Jvm.MethodName) prog_90_method_5_code (1 : Nat) (Option.some Jvm.ClassFile.FieldType.int)) ∈ lw_all := lw_g (lw_at lw_m7 199 rfl) rfl
theorem q1816 : (Jvm.Cond.methodLink "java/util/TreeMap$EntrySet" (48 : Nat) ({ cls := "java/util/TreeMap", name := "size", desc := "()I" } : Jvm.MethodName)) ∈ lw_all := lw_g (lw_at lw_m7 200 rfl) rfl
theorem q2096 : (Jvm.Cond.castable "java/util/TreeMap$EntrySet" "java/util/Set") ∈ lw_tbl := lw_at lw_m9 0 rfl
theorem q2097 : (Jvm.Cond.selects "java/util/TreeMap$EntrySet" ({ cls := "java/util/Set", name := "iterator", desc := "()Ljava/util/Iterator;" } : Jvm.MethodName) ({ cls := "java/util/TreeMap$EntrySet", name := "iterator", desc := "()Ljava/util/Iterator;" } : Jvm.MethodName)) ∈ lw_all := lw_g (lw_at lw_m9 1 rfl) rfl
theorem q2098 : (Jvm.Cond.unhidden "java/util/TreeMap$EntrySet" "iterator" "()Ljava/util/Iterator;") ∈ lw_tbl := lw_at lw_m9 2 rfl
theorem q2099 : (Jvm.Cond.instanceMethod ({ cls := "java/util/TreeMap$EntrySet", name := "iterator", desc := "()Ljava/util/Iterator;" } : Jvm.MethodName)) ∈ lw_all := lw_g (lw_at lw_m9 3 rfl) rfl
theorem q2100 : (Jvm.Cond.publicMethod ({ cls := "java/util/TreeMap$EntrySet", name := "iterator", desc := "()Ljava/util/Iterator;" } : Jvm.MethodName)) ∈ lw_tbl := lw_at lw_m9 4 rfl
theorem q2101 : (Jvm.Cond.code ({ cls := "java/util/TreeMap$EntrySet", name := "iterator", desc := "()Ljava/util/Iterator;" } : Jvm.MethodName) prog_90_method_2_code (1 : Nat) (Option.some (Jvm.ClassFile.FieldType.object "java/util/Iterator"))) ∈ lw_all := lw_g (lw_at lw_m9 5 rfl) rfl
theorem q2102 : (Jvm.Cond.classLink "java/util/TreeMap$EntrySet" (13 : Nat) "java/util/TreeMap$EntryIterator") ∈ lw_all := lw_g (lw_at lw_m9 6 rfl) rfl
theorem q2104 : (Jvm.Cond.methodLink "java/util/TreeMap$EntrySet" (15 : Nat) ({ cls := "java/util/TreeMap", name := "getFirstEntry", desc := "()Ljava/util/TreeMap$Entry;" } : Jvm.MethodName)) ∈ lw_all := lw_g (lw_at lw_m9 8 rfl) rfl
theorem q2108 : (Jvm.Cond.methodLink "java/util/TreeMap$EntrySet" (21 : Nat) ({ cls := "java/util/TreeMap$EntryIterator", name := "<init>", desc := "(Ljava/util/TreeMap;Ljava/util/TreeMap$Entry;)V" } : Jvm.MethodName)) ∈ lw_all := lw_g (lw_at lw_m9 12 rfl) rfl
theorem q2847 : (Jvm.Cond.instantiable "java/util/TreeMap$EntrySet" (1 : Nat)) ∈ lw_all := lw_g (lw_at lw_m12 31 rfl) rfl
theorem q2849 : (Jvm.Cond.instanceMethod ({ cls := "java/util/TreeMap$EntrySet", name := "<init>", desc := "(Ljava/util/TreeMap;)V" } : Jvm.MethodName)) ∈ lw_all := lw_g (lw_at lw_m12 33 rfl) rfl
theorem q2850 : (Jvm.Cond.code ({ cls := "java/util/TreeMap$EntrySet", name := "<init>", desc := "(Ljava/util/TreeMap;)V" } : Jvm.MethodName) prog_90_method_1_code (2 : Nat) (Option.none : Option Jvm.ClassFile.FieldType)) ∈ lw_all := lw_g (lw_at lw_m12 34 rfl) rfl
theorem q2851 : (Jvm.Cond.methodLink "java/util/TreeMap$EntrySet" (7 : Nat) ({ cls := "java/util/AbstractSet", name := "<init>", desc := "()V" } : Jvm.MethodName)) ∈ lw_all := lw_g (lw_at lw_m12 35 rfl) rfl
theorem q2852 : (Jvm.Cond.fieldLink "java/util/TreeMap$EntrySet" (1 : Nat) "java/util/TreeMap$EntrySet" "this$0" "Ljava/util/TreeMap;") ∈ lw_all := lw_g (lw_at lw_m12 36 rfl) rfl
theorem q2853 : (Jvm.Cond.laysFinal "java/util/TreeMap$EntrySet" "java/util/TreeMap$EntrySet" "this$0" "Ljava/util/TreeMap;") ∈ lw_all := lw_g (lw_at lw_m12 37 rfl) rfl
theorem q2854 : (Jvm.Cond.soleField "java/util/TreeMap$EntrySet" "this$0") ∈ lw_all := lw_g (lw_at lw_m12 38 rfl) rfl
theorem q2855 : (Jvm.Cond.superclass "java/util/TreeMap$EntrySet" "java/util/AbstractSet") ∈ lw_all := lw_g (lw_at lw_m12 39 rfl) rfl
theorem q4516 : (Jvm.Cond.castable "java/util/TreeMap$EntrySet" "java/lang/Object") ∈ lw_tbl := lw_at lw_m19 20 rfl
theorem in_J43 : ∀ w ∈ wsJ430, w ∈ lw_all := lw_in wsJ430 [2853] (by decide +kernel) (by decide +kernel)

/-! java/lang/ArrayIndexOutOfBoundsException -/
set_option maxRecDepth 100000
def RJ44 : String := "java/lang/ArrayIndexOutOfBoundsException"
def TJ44 : u_T := fun k => match k with
  | 0 => ("java/lang/Throwable", "backtrace", "Ljava/lang/Object;", false)
  | 1 => ("java/lang/Throwable", "detailMessage", "Ljava/lang/String;", false)
  | 2 => ("java/lang/Throwable", "cause", "Ljava/lang/Throwable;", false)
  | 3 => ("java/lang/Throwable", "stackTrace", "[Ljava/lang/StackTraceElement;", false)
  | 4 => ("java/lang/Throwable", "depth", "I", false)
  | _ => ("java/lang/Throwable", "suppressedExceptions", "Ljava/util/List;", false)
def tyJ44 : Nat → FieldType := fun k => match k with
  | 0 => .object "java/lang/Object"
  | 1 => .object "java/lang/String"
  | 2 => .object "java/lang/Throwable"
  | 3 => .array (.object "java/lang/StackTraceElement")
  | 4 => .int
  | _ => .object "java/util/List"
abbrev wsJ440 : List Cond := u_ws RJ44 TJ44 6
theorem nmJ44 : ∀ a, a < 6 → ∀ b, b < 6 → a ≠ b → (TJ44 a).2.1 ≠ (TJ44 b).2.1 := by decide +kernel
theorem tyJ44_ok : ∀ k, k < 6 → parseFieldDescriptor (TJ44 k).2.2.1 = some (tyJ44 k) := by decide +kernel
abbrev cJ44_init : ByteArray := prog_24_method_2_code
def yJ44_init : MethodName := ⟨RJ44, "<init>", "(Ljava/lang/String;)V"⟩
def dkwJ44_init_0 : List UInt8 := [42, 43, 183, 0, 7, 177]
abbrev dktJ44_init_0 : List UInt8 := dkwJ44_init_0 ++ []
theorem dksJ44_init_0 : cJ44_init.data.toList.drop 0 = dktJ44_init_0 := by decide +kernel
theorem dJ44_init_0 : decode cJ44_init 0 = .ok (.aload_n 0, 1) := dk_42 (dk_at dksJ44_init_0 0 rfl rfl)
theorem dJ44_init_1 : decode cJ44_init 1 = .ok (.aload_n 1, 1) := dk_43 (dk_at dksJ44_init_0 1 rfl rfl)
theorem dJ44_init_2 : decode cJ44_init 2 = .ok (.invokespecial 7, 3) := dk_183 0 7 (dk_at dksJ44_init_0 2 rfl rfl)
theorem dJ44_init_5 : decode cJ44_init 5 = .ok (.return_, 1) := dk_177 (dk_at dksJ44_init_0 5 rfl rfl)
abbrev cJ44_init_2 : ByteArray := prog_24_method_3_code
def yJ44_init_2 : MethodName := ⟨RJ44, "<init>", "(I)V"⟩
def dkwJ44_init_2_0 : List UInt8 := [42, 187, 0, 10, 89, 183, 0, 12, 18, 13, 182, 0, 15, 27, 182, 0, 19, 182, 0, 22, 183, 0, 7, 177]
abbrev dktJ44_init_2_0 : List UInt8 := dkwJ44_init_2_0 ++ []
theorem dksJ44_init_2_0 : cJ44_init_2.data.toList.drop 0 = dktJ44_init_2_0 := by decide +kernel
theorem dJ44_init_2_0 : decode cJ44_init_2 0 = .ok (.aload_n 0, 1) := dk_42 (dk_at dksJ44_init_2_0 0 rfl rfl)
theorem dJ44_init_2_1 : decode cJ44_init_2 1 = .ok (.new 10, 3) := dk_187 0 10 (dk_at dksJ44_init_2_0 1 rfl rfl)
theorem dJ44_init_2_4 : decode cJ44_init_2 4 = .ok (.dup, 1) := dk_89 (dk_at dksJ44_init_2_0 4 rfl rfl)
theorem dJ44_init_2_5 : decode cJ44_init_2 5 = .ok (.invokespecial 12, 3) := dk_183 0 12 (dk_at dksJ44_init_2_0 5 rfl rfl)
theorem dJ44_init_2_8 : decode cJ44_init_2 8 = .ok (.ldc 13, 2) := dk_18 13 (dk_at dksJ44_init_2_0 8 rfl rfl)
theorem dJ44_init_2_10 : decode cJ44_init_2 10 = .ok (.invokevirtual 15, 3) := dk_182 0 15 (dk_at dksJ44_init_2_0 10 rfl rfl)
theorem dJ44_init_2_13 : decode cJ44_init_2 13 = .ok (.iload_n 1, 1) := dk_27 (dk_at dksJ44_init_2_0 13 rfl rfl)
theorem dJ44_init_2_14 : decode cJ44_init_2 14 = .ok (.invokevirtual 19, 3) := dk_182 0 19 (dk_at dksJ44_init_2_0 14 rfl rfl)
theorem dJ44_init_2_17 : decode cJ44_init_2 17 = .ok (.invokevirtual 22, 3) := dk_182 0 22 (dk_at dksJ44_init_2_0 17 rfl rfl)
theorem dJ44_init_2_20 : decode cJ44_init_2 20 = .ok (.invokespecial 7, 3) := dk_183 0 7 (dk_at dksJ44_init_2_0 20 rfl rfl)
theorem dJ44_init_2_23 : decode cJ44_init_2 23 = .ok (.return_, 1) := dk_177 (dk_at dksJ44_init_2_0 23 rfl rfl)
theorem q240 : (Jvm.Cond.initialized "java/lang/ArrayIndexOutOfBoundsException") ∈ lw_all := lw_g (lw_at lw_m1 64 rfl) rfl
theorem q416 : (Jvm.Cond.selects "java/lang/ArrayIndexOutOfBoundsException" ({ cls := "java/lang/Object", name := "getClass", desc := "()Ljava/lang/Class;" } : Jvm.MethodName) ({ cls := "java/lang/Object", name := "getClass", desc := "()Ljava/lang/Class;" } : Jvm.MethodName)) ∈ lw_all := lw_g (lw_at lw_m2 0 rfl) rfl
theorem q831 : (Jvm.Cond.selects "java/lang/ArrayIndexOutOfBoundsException" ({ cls := "java/lang/Throwable", name := "fillInStackTrace", desc := "()Ljava/lang/Throwable;" } : Jvm.MethodName) ({ cls := "java/lang/Throwable", name := "fillInStackTrace", desc := "()Ljava/lang/Throwable;" } : Jvm.MethodName)) ∈ lw_all := lw_g (lw_at lw_m3 175 rfl) rfl
theorem q2258 : (Jvm.Cond.selects "java/lang/ArrayIndexOutOfBoundsException" ({ cls := "java/lang/Throwable", name := "toString", desc := "()Ljava/lang/String;" } : Jvm.MethodName) ({ cls := "java/lang/Throwable", name := "toString", desc := "()Ljava/lang/String;" } : Jvm.MethodName)) ∈ lw_all := lw_g (lw_at lw_m9 162 rfl) rfl
theorem q2270 : (Jvm.Cond.selects "java/lang/ArrayIndexOutOfBoundsException" ({ cls := "java/lang/Throwable", name := "getLocalizedMessage", desc := "()Ljava/lang/String;" } : Jvm.MethodName) ({ cls := "java/lang/Throwable", name := "getLocalizedMessage", desc := "()Ljava/lang/String;" } : Jvm.MethodName)) ∈ lw_all := lw_g (lw_at lw_m9 174 rfl) rfl
theorem q2281 : (Jvm.Cond.selects "java/lang/ArrayIndexOutOfBoundsException" ({ cls := "java/lang/Throwable", name := "getMessage", desc := "()Ljava/lang/String;" } : Jvm.MethodName) ({ cls := "java/lang/Throwable", name := "getMessage", desc := "()Ljava/lang/String;" } : Jvm.MethodName)) ∈ lw_all := lw_g (lw_at lw_m9 185 rfl) rfl
theorem q2823 : (Jvm.Cond.selects "java/lang/ArrayIndexOutOfBoundsException" ({ cls := "java/lang/Object", name := "equals", desc := "(Ljava/lang/Object;)Z" } : Jvm.MethodName) ({ cls := "java/lang/Object", name := "equals", desc := "(Ljava/lang/Object;)Z" } : Jvm.MethodName)) ∈ lw_all := lw_g (lw_at lw_m12 7 rfl) rfl
theorem q2996 : (Jvm.Cond.instantiable "java/lang/ArrayIndexOutOfBoundsException" (6 : Nat)) ∈ lw_all := lw_g (lw_at lw_m12 180 rfl) rfl
theorem q2997 : (Jvm.Cond.instanceMethod ({ cls := "java/lang/ArrayIndexOutOfBoundsException", name := "<init>", desc := "(Ljava/lang/String;)V" } : Jvm.MethodName)) ∈ lw_all := lw_g (lw_at lw_m12 181 rfl) rfl
theorem q2998 : (Jvm.Cond.code ({ cls := "java/lang/ArrayIndexOutOfBoundsException", name := "<init>", desc := "(Ljava/lang/String;)V" } : Jvm.MethodName) prog_24_method_2_code (2 : Nat) (Option.none : Option Jvm.ClassFile.FieldType)) ∈ lw_all := lw_g (lw_at lw_m12 182 rfl) rfl
theorem q2999 : (Jvm.Cond.methodLink "java/lang/ArrayIndexOutOfBoundsException" (7 : Nat) ({ cls := "java/lang/IndexOutOfBoundsException", name := "<init>", desc := "(Ljava/lang/String;)V" } : Jvm.MethodName)) ∈ lw_all := lw_g (lw_at lw_m12 183 rfl) rfl
theorem q3000 : (Jvm.Cond.lays "java/lang/ArrayIndexOutOfBoundsException" "java/lang/Throwable" "backtrace" "Ljava/lang/Object;") ∈ lw_all := lw_g (lw_at lw_m12 184 rfl) rfl
theorem q3001 : (Jvm.Cond.lays "java/lang/ArrayIndexOutOfBoundsException" "java/lang/Throwable" "detailMessage" "Ljava/lang/String;") ∈ lw_all := lw_g (lw_at lw_m12 185 rfl) rfl
theorem q3002 : (Jvm.Cond.lays "java/lang/ArrayIndexOutOfBoundsException" "java/lang/Throwable" "cause" "Ljava/lang/Throwable;") ∈ lw_all := lw_g (lw_at lw_m12 186 rfl) rfl
theorem q3003 : (Jvm.Cond.lays "java/lang/ArrayIndexOutOfBoundsException" "java/lang/Throwable" "stackTrace" "[Ljava/lang/StackTraceElement;") ∈ lw_all := lw_g (lw_at lw_m12 187 rfl) rfl
theorem q3004 : (Jvm.Cond.lays "java/lang/ArrayIndexOutOfBoundsException" "java/lang/Throwable" "depth" "I") ∈ lw_all := lw_g (lw_at lw_m12 188 rfl) rfl
theorem q3005 : (Jvm.Cond.lays "java/lang/ArrayIndexOutOfBoundsException" "java/lang/Throwable" "suppressedExceptions" "Ljava/util/List;") ∈ lw_all := lw_g (lw_at lw_m12 189 rfl) rfl
theorem q3006 : (Jvm.Cond.superclass "java/lang/ArrayIndexOutOfBoundsException" "java/lang/IndexOutOfBoundsException") ∈ lw_all := lw_g (lw_at lw_m12 190 rfl) rfl
theorem q3007 : (Jvm.Cond.castable "java/lang/ArrayIndexOutOfBoundsException" "java/lang/ArrayIndexOutOfBoundsException") ∈ lw_tbl := lw_at lw_m12 191 rfl
theorem q3010 : (Jvm.Cond.selects "java/lang/ArrayIndexOutOfBoundsException" ({ cls := "java/lang/Throwable", name := "fillInStackTrace", desc := "(I)Ljava/lang/Throwable;" } : Jvm.MethodName) ({ cls := "java/lang/Throwable", name := "fillInStackTrace", desc := "(I)Ljava/lang/Throwable;" } : Jvm.MethodName)) ∈ lw_all := lw_g (lw_at lw_m12 194 rfl) rfl
theorem q3626 : (Jvm.Cond.instanceMethod ({ cls := "java/lang/ArrayIndexOutOfBoundsException", name := "<init>", desc := "(I)V" } : Jvm.MethodName)) ∈ lw_all := lw_g (lw_at lw_m15 90 rfl) rfl
theorem q3627 : (Jvm.Cond.code ({ cls := "java/lang/ArrayIndexOutOfBoundsException", name := "<init>", desc := "(I)V" } : Jvm.MethodName) prog_24_method_3_code (2 : Nat) (Option.none : Option Jvm.ClassFile.FieldType)) ∈ lw_all := lw_g (lw_at lw_m15 91 rfl) rfl
theorem q3628 : (Jvm.Cond.classLink "java/lang/ArrayIndexOutOfBoundsException" (10 : Nat) "java/lang/StringBuilder") ∈ lw_all := lw_g (lw_at lw_m15 92 rfl) rfl
theorem q3629 : (Jvm.Cond.methodLink "java/lang/ArrayIndexOutOfBoundsException" (12 : Nat) ({ cls := "java/lang/StringBuilder", name := "<init>", desc := "()V" } : Jvm.MethodName)) ∈ lw_all := lw_g (lw_at lw_m15 93 rfl) rfl
theorem q3630 : (Jvm.Cond.stringRef "java/lang/ArrayIndexOutOfBoundsException" (13 : Nat) "Array index out of range: ") ∈ lw_tbl := lw_at lw_m15 94 rfl
theorem q3631 : (Jvm.Cond.methodLink "java/lang/ArrayIndexOutOfBoundsException" (15 : Nat) ({ cls := "java/lang/StringBuilder", name := "append", desc := "(Ljava/lang/String;)Ljava/lang/StringBuilder;" } : Jvm.MethodName)) ∈ lw_all := lw_g (lw_at lw_m15 95 rfl) rfl
theorem q3632 : (Jvm.Cond.methodLink "java/lang/ArrayIndexOutOfBoundsException" (19 : Nat) ({ cls := "java/lang/StringBuilder", name := "append", desc := "(I)Ljava/lang/StringBuilder;" } : Jvm.MethodName)) ∈ lw_all := lw_g (lw_at lw_m15 96 rfl) rfl
theorem q3633 : (Jvm.Cond.methodLink "java/lang/ArrayIndexOutOfBoundsException" (22 : Nat) ({ cls := "java/lang/StringBuilder", name := "toString", desc := "()Ljava/lang/String;" } : Jvm.MethodName)) ∈ lw_all := lw_g (lw_at lw_m15 97 rfl) rfl
theorem q4477 : (Jvm.Cond.castable "java/lang/ArrayIndexOutOfBoundsException" "java/lang/IndexOutOfBoundsException") ∈ lw_tbl := lw_at lw_m18 221 rfl
theorem q4517 : (Jvm.Cond.castable "java/lang/ArrayIndexOutOfBoundsException" "java/lang/Object") ∈ lw_tbl := lw_at lw_m19 21 rfl
theorem in_J44 : ∀ w ∈ wsJ440, w ∈ lw_all := lw_in wsJ440 [3000, 3001, 3002, 3003, 3004, 3005] (by decide +kernel) (by decide +kernel)

/-! java/lang/IllegalStateException -/
set_option maxRecDepth 100000
def RJ45 : String := "java/lang/IllegalStateException"
def TJ45 : u_T := fun k => match k with
  | 0 => ("java/lang/Throwable", "cause", "Ljava/lang/Throwable;", false)
  | 1 => ("java/lang/Throwable", "stackTrace", "[Ljava/lang/StackTraceElement;", false)
  | 2 => ("java/lang/Throwable", "suppressedExceptions", "Ljava/util/List;", false)
  | 3 => ("java/lang/Throwable", "detailMessage", "Ljava/lang/String;", false)
  | 4 => ("java/lang/Throwable", "backtrace", "Ljava/lang/Object;", false)
  | _ => ("java/lang/Throwable", "depth", "I", false)
def tyJ45 : Nat → FieldType := fun k => match k with
  | 0 => .object "java/lang/Throwable"
  | 1 => .array (.object "java/lang/StackTraceElement")
  | 2 => .object "java/util/List"
  | 3 => .object "java/lang/String"
  | 4 => .object "java/lang/Object"
  | _ => .int
abbrev wsJ450 : List Cond := u_ws RJ45 TJ45 6
theorem nmJ45 : ∀ a, a < 6 → ∀ b, b < 6 → a ≠ b → (TJ45 a).2.1 ≠ (TJ45 b).2.1 := by decide +kernel
theorem tyJ45_ok : ∀ k, k < 6 → parseFieldDescriptor (TJ45 k).2.2.1 = some (tyJ45 k) := by decide +kernel
abbrev cJ45_init : ByteArray := prog_30_method_2_code
def yJ45_init : MethodName := ⟨RJ45, "<init>", "(Ljava/lang/String;)V"⟩
def dkwJ45_init_0 : List UInt8 := [42, 43, 183, 0, 7, 177]
abbrev dktJ45_init_0 : List UInt8 := dkwJ45_init_0 ++ []
theorem dksJ45_init_0 : cJ45_init.data.toList.drop 0 = dktJ45_init_0 := by decide +kernel
theorem dJ45_init_0 : decode cJ45_init 0 = .ok (.aload_n 0, 1) := dk_42 (dk_at dksJ45_init_0 0 rfl rfl)
theorem dJ45_init_1 : decode cJ45_init 1 = .ok (.aload_n 1, 1) := dk_43 (dk_at dksJ45_init_0 1 rfl rfl)
theorem dJ45_init_2 : decode cJ45_init 2 = .ok (.invokespecial 7, 3) := dk_183 0 7 (dk_at dksJ45_init_0 2 rfl rfl)
theorem dJ45_init_5 : decode cJ45_init 5 = .ok (.return_, 1) := dk_177 (dk_at dksJ45_init_0 5 rfl rfl)
abbrev cJ45_init_2 : ByteArray := prog_30_method_1_code
def yJ45_init_2 : MethodName := ⟨RJ45, "<init>", "()V"⟩
theorem dJ45_init_2_0 : decode cJ45_init_2 0 = .ok (.aload_n 0, 1) := by decide +kernel
theorem dJ45_init_2_1 : decode cJ45_init_2 1 = .ok (.invokespecial 1, 3) := by decide +kernel
theorem dJ45_init_2_4 : decode cJ45_init_2 4 = .ok (.return_, 1) := by decide +kernel
theorem q242 : (Jvm.Cond.initialized "java/lang/IllegalStateException") ∈ lw_all := lw_g (lw_at lw_m1 66 rfl) rfl
theorem q418 : (Jvm.Cond.selects "java/lang/IllegalStateException" ({ cls := "java/lang/Object", name := "getClass", desc := "()Ljava/lang/Class;" } : Jvm.MethodName) ({ cls := "java/lang/Object", name := "getClass", desc := "()Ljava/lang/Class;" } : Jvm.MethodName)) ∈ lw_all := lw_g (lw_at lw_m2 2 rfl) rfl
theorem q832 : (Jvm.Cond.selects "java/lang/IllegalStateException" ({ cls := "java/lang/Throwable", name := "fillInStackTrace", desc := "()Ljava/lang/Throwable;" } : Jvm.MethodName) ({ cls := "java/lang/Throwable", name := "fillInStackTrace", desc := "()Ljava/lang/Throwable;" } : Jvm.MethodName)) ∈ lw_all := lw_g (lw_at lw_m3 176 rfl) rfl
theorem q2260 : (Jvm.Cond.selects "java/lang/IllegalStateException" ({ cls := "java/lang/Throwable", name := "toString", desc := "()Ljava/lang/String;" } : Jvm.MethodName) ({ cls := "java/lang/Throwable", name := "toString", desc := "()Ljava/lang/String;" } : Jvm.MethodName)) ∈ lw_all := lw_g (lw_at lw_m9 164 rfl) rfl
theorem q2272 : (Jvm.Cond.selects "java/lang/IllegalStateException" ({ cls := "java/lang/Throwable", name := "getLocalizedMessage", desc := "()Ljava/lang/String;" } : Jvm.MethodName) ({ cls := "java/lang/Throwable", name := "getLocalizedMessage", desc := "()Ljava/lang/String;" } : Jvm.MethodName)) ∈ lw_all := lw_g (lw_at lw_m9 176 rfl) rfl
theorem q2283 : (Jvm.Cond.selects "java/lang/IllegalStateException" ({ cls := "java/lang/Throwable", name := "getMessage", desc := "()Ljava/lang/String;" } : Jvm.MethodName) ({ cls := "java/lang/Throwable", name := "getMessage", desc := "()Ljava/lang/String;" } : Jvm.MethodName)) ∈ lw_all := lw_g (lw_at lw_m9 187 rfl) rfl
theorem q2825 : (Jvm.Cond.selects "java/lang/IllegalStateException" ({ cls := "java/lang/Object", name := "equals", desc := "(Ljava/lang/Object;)Z" } : Jvm.MethodName) ({ cls := "java/lang/Object", name := "equals", desc := "(Ljava/lang/Object;)Z" } : Jvm.MethodName)) ∈ lw_all := lw_g (lw_at lw_m12 9 rfl) rfl
theorem q2948 : (Jvm.Cond.instantiable "java/lang/IllegalStateException" (6 : Nat)) ∈ lw_all := lw_g (lw_at lw_m12 132 rfl) rfl
theorem q2949 : (Jvm.Cond.castable "java/lang/IllegalStateException" "java/lang/IllegalStateException") ∈ lw_tbl := lw_at lw_m12 133 rfl
theorem q2950 : (Jvm.Cond.selects "java/lang/IllegalStateException" ({ cls := "java/lang/Throwable", name := "fillInStackTrace", desc := "(I)Ljava/lang/Throwable;" } : Jvm.MethodName) ({ cls := "java/lang/Throwable", name := "fillInStackTrace", desc := "(I)Ljava/lang/Throwable;" } : Jvm.MethodName)) ∈ lw_all := lw_g (lw_at lw_m12 134 rfl) rfl
theorem q2951 : (Jvm.Cond.lays "java/lang/IllegalStateException" "java/lang/Throwable" "cause" "Ljava/lang/Throwable;") ∈ lw_all := lw_g (lw_at lw_m12 135 rfl) rfl
theorem q2952 : (Jvm.Cond.lays "java/lang/IllegalStateException" "java/lang/Throwable" "stackTrace" "[Ljava/lang/StackTraceElement;") ∈ lw_all := lw_g (lw_at lw_m12 136 rfl) rfl
theorem q2953 : (Jvm.Cond.lays "java/lang/IllegalStateException" "java/lang/Throwable" "suppressedExceptions" "Ljava/util/List;") ∈ lw_all := lw_g (lw_at lw_m12 137 rfl) rfl
theorem q2954 : (Jvm.Cond.lays "java/lang/IllegalStateException" "java/lang/Throwable" "detailMessage" "Ljava/lang/String;") ∈ lw_all := lw_g (lw_at lw_m12 138 rfl) rfl
theorem q2955 : (Jvm.Cond.lays "java/lang/IllegalStateException" "java/lang/Throwable" "backtrace" "Ljava/lang/Object;") ∈ lw_all := lw_g (lw_at lw_m12 139 rfl) rfl
theorem q2958 : (Jvm.Cond.instanceMethod ({ cls := "java/lang/IllegalStateException", name := "<init>", desc := "(Ljava/lang/String;)V" } : Jvm.MethodName)) ∈ lw_all := lw_g (lw_at lw_m12 142 rfl) rfl
theorem q2959 : (Jvm.Cond.code ({ cls := "java/lang/IllegalStateException", name := "<init>", desc := "(Ljava/lang/String;)V" } : Jvm.MethodName) prog_30_method_2_code (2 : Nat) (Option.none : Option Jvm.ClassFile.FieldType)) ∈ lw_all := lw_g (lw_at lw_m12 143 rfl) rfl
theorem q2960 : (Jvm.Cond.methodLink "java/lang/IllegalStateException" (7 : Nat) ({ cls := "java/lang/RuntimeException", name := "<init>", desc := "(Ljava/lang/String;)V" } : Jvm.MethodName)) ∈ lw_all := lw_g (lw_at lw_m12 144 rfl) rfl
theorem q2961 : (Jvm.Cond.lays "java/lang/IllegalStateException" "java/lang/Throwable" "depth" "I") ∈ lw_all := lw_g (lw_at lw_m12 145 rfl) rfl
theorem q2962 : (Jvm.Cond.superclass "java/lang/IllegalStateException" "java/lang/RuntimeException") ∈ lw_all := lw_g (lw_at lw_m12 146 rfl) rfl
theorem q3475 : (Jvm.Cond.instanceMethod ({ cls := "java/lang/IllegalStateException", name := "<init>", desc := "()V" } : Jvm.MethodName)) ∈ lw_all := lw_g (lw_at lw_m14 179 rfl) rfl
theorem q3476 : (Jvm.Cond.code ({ cls := "java/lang/IllegalStateException", name := "<init>", desc := "()V" } : Jvm.MethodName) prog_30_method_1_code (1 : Nat) (Option.none : Option Jvm.ClassFile.FieldType)) ∈ lw_all := lw_g (lw_at lw_m14 180 rfl) rfl
theorem q3477 : (Jvm.Cond.methodLink "java/lang/IllegalStateException" (1 : Nat) ({ cls := "java/lang/RuntimeException", name := "<init>", desc := "()V" } : Jvm.MethodName)) ∈ lw_all := lw_g (lw_at lw_m14 181 rfl) rfl
theorem q4520 : (Jvm.Cond.castable "java/lang/IllegalStateException" "java/lang/Object") ∈ lw_tbl := lw_at lw_m19 24 rfl
theorem in_J45 : ∀ w ∈ wsJ450, w ∈ lw_all := lw_in wsJ450 [2951, 2952, 2953, 2954, 2955, 2961] (by decide +kernel) (by decide +kernel)

/-! java/lang/StringIndexOutOfBoundsException -/
set_option maxRecDepth 100000
def RJ46 : String := "java/lang/StringIndexOutOfBoundsException"
def TJ46 : u_T := fun k => match k with
  | 0 => ("java/lang/Throwable", "backtrace", "Ljava/lang/Object;", false)
  | 1 => ("java/lang/Throwable", "detailMessage", "Ljava/lang/String;", false)
  | 2 => ("java/lang/Throwable", "cause", "Ljava/lang/Throwable;", false)
  | 3 => ("java/lang/Throwable", "stackTrace", "[Ljava/lang/StackTraceElement;", false)
  | 4 => ("java/lang/Throwable", "depth", "I", false)
  | _ => ("java/lang/Throwable", "suppressedExceptions", "Ljava/util/List;", false)
def tyJ46 : Nat → FieldType := fun k => match k with
  | 0 => .object "java/lang/Object"
  | 1 => .object "java/lang/String"
  | 2 => .object "java/lang/Throwable"
  | 3 => .array (.object "java/lang/StackTraceElement")
  | 4 => .int
  | _ => .object "java/util/List"
abbrev wsJ460 : List Cond := u_ws RJ46 TJ46 6
theorem nmJ46 : ∀ a, a < 6 → ∀ b, b < 6 → a ≠ b → (TJ46 a).2.1 ≠ (TJ46 b).2.1 := by decide +kernel
theorem tyJ46_ok : ∀ k, k < 6 → parseFieldDescriptor (TJ46 k).2.2.1 = some (tyJ46 k) := by decide +kernel
abbrev cJ46_init : ByteArray := prog_41_method_3_code
def yJ46_init : MethodName := ⟨RJ46, "<init>", "(I)V"⟩
def dkwJ46_init_0 : List UInt8 := [42, 187, 0, 10, 89, 183, 0, 12, 18, 13, 182, 0, 15, 27, 182, 0, 19, 182, 0, 22, 183, 0, 7, 177]
abbrev dktJ46_init_0 : List UInt8 := dkwJ46_init_0 ++ []
theorem dksJ46_init_0 : cJ46_init.data.toList.drop 0 = dktJ46_init_0 := by decide +kernel
theorem dJ46_init_0 : decode cJ46_init 0 = .ok (.aload_n 0, 1) := dk_42 (dk_at dksJ46_init_0 0 rfl rfl)
theorem dJ46_init_1 : decode cJ46_init 1 = .ok (.new 10, 3) := dk_187 0 10 (dk_at dksJ46_init_0 1 rfl rfl)
theorem dJ46_init_4 : decode cJ46_init 4 = .ok (.dup, 1) := dk_89 (dk_at dksJ46_init_0 4 rfl rfl)
theorem dJ46_init_5 : decode cJ46_init 5 = .ok (.invokespecial 12, 3) := dk_183 0 12 (dk_at dksJ46_init_0 5 rfl rfl)
theorem dJ46_init_8 : decode cJ46_init 8 = .ok (.ldc 13, 2) := dk_18 13 (dk_at dksJ46_init_0 8 rfl rfl)
theorem dJ46_init_10 : decode cJ46_init 10 = .ok (.invokevirtual 15, 3) := dk_182 0 15 (dk_at dksJ46_init_0 10 rfl rfl)
theorem dJ46_init_13 : decode cJ46_init 13 = .ok (.iload_n 1, 1) := dk_27 (dk_at dksJ46_init_0 13 rfl rfl)
theorem dJ46_init_14 : decode cJ46_init 14 = .ok (.invokevirtual 19, 3) := dk_182 0 19 (dk_at dksJ46_init_0 14 rfl rfl)
theorem dJ46_init_17 : decode cJ46_init 17 = .ok (.invokevirtual 22, 3) := dk_182 0 22 (dk_at dksJ46_init_0 17 rfl rfl)
theorem dJ46_init_20 : decode cJ46_init 20 = .ok (.invokespecial 7, 3) := dk_183 0 7 (dk_at dksJ46_init_0 20 rfl rfl)
theorem dJ46_init_23 : decode cJ46_init 23 = .ok (.return_, 1) := dk_177 (dk_at dksJ46_init_0 23 rfl rfl)
theorem q243 : (Jvm.Cond.initialized "java/lang/StringIndexOutOfBoundsException") ∈ lw_all := lw_g (lw_at lw_m1 67 rfl) rfl
theorem q423 : (Jvm.Cond.selects "java/lang/StringIndexOutOfBoundsException" ({ cls := "java/lang/Object", name := "getClass", desc := "()Ljava/lang/Class;" } : Jvm.MethodName) ({ cls := "java/lang/Object", name := "getClass", desc := "()Ljava/lang/Class;" } : Jvm.MethodName)) ∈ lw_all := lw_g (lw_at lw_m2 7 rfl) rfl
theorem q834 : (Jvm.Cond.selects "java/lang/StringIndexOutOfBoundsException" ({ cls := "java/lang/Throwable", name := "fillInStackTrace", desc := "()Ljava/lang/Throwable;" } : Jvm.MethodName) ({ cls := "java/lang/Throwable", name := "fillInStackTrace", desc := "()Ljava/lang/Throwable;" } : Jvm.MethodName)) ∈ lw_all := lw_g (lw_at lw_m3 178 rfl) rfl
theorem q2262 : (Jvm.Cond.selects "java/lang/StringIndexOutOfBoundsException" ({ cls := "java/lang/Throwable", name := "toString", desc := "()Ljava/lang/String;" } : Jvm.MethodName) ({ cls := "java/lang/Throwable", name := "toString", desc := "()Ljava/lang/String;" } : Jvm.MethodName)) ∈ lw_all := lw_g (lw_at lw_m9 166 rfl) rfl
theorem q2274 : (Jvm.Cond.selects "java/lang/StringIndexOutOfBoundsException" ({ cls := "java/lang/Throwable", name := "getLocalizedMessage", desc := "()Ljava/lang/String;" } : Jvm.MethodName) ({ cls := "java/lang/Throwable", name := "getLocalizedMessage", desc := "()Ljava/lang/String;" } : Jvm.MethodName)) ∈ lw_all := lw_g (lw_at lw_m9 178 rfl) rfl
theorem q2285 : (Jvm.Cond.selects "java/lang/StringIndexOutOfBoundsException" ({ cls := "java/lang/Throwable", name := "getMessage", desc := "()Ljava/lang/String;" } : Jvm.MethodName) ({ cls := "java/lang/Throwable", name := "getMessage", desc := "()Ljava/lang/String;" } : Jvm.MethodName)) ∈ lw_all := lw_g (lw_at lw_m9 189 rfl) rfl
theorem q2833 : (Jvm.Cond.selects "java/lang/StringIndexOutOfBoundsException" ({ cls := "java/lang/Object", name := "equals", desc := "(Ljava/lang/Object;)Z" } : Jvm.MethodName) ({ cls := "java/lang/Object", name := "equals", desc := "(Ljava/lang/Object;)Z" } : Jvm.MethodName)) ∈ lw_all := lw_g (lw_at lw_m12 17 rfl) rfl
theorem q3594 : (Jvm.Cond.instantiable "java/lang/StringIndexOutOfBoundsException" (6 : Nat)) ∈ lw_all := lw_g (lw_at lw_m15 58 rfl) rfl
theorem q3596 : (Jvm.Cond.instanceMethod ({ cls := "java/lang/StringIndexOutOfBoundsException", name := "<init>", desc := "(I)V" } : Jvm.MethodName)) ∈ lw_all := lw_g (lw_at lw_m15 60 rfl) rfl
theorem q3597 : (Jvm.Cond.code ({ cls := "java/lang/StringIndexOutOfBoundsException", name := "<init>", desc := "(I)V" } : Jvm.MethodName) prog_41_method_3_code (2 : Nat) (Option.none : Option Jvm.ClassFile.FieldType)) ∈ lw_all := lw_g (lw_at lw_m15 61 rfl) rfl
theorem q3598 : (Jvm.Cond.classLink "java/lang/StringIndexOutOfBoundsException" (10 : Nat) "java/lang/StringBuilder") ∈ lw_all := lw_g (lw_at lw_m15 62 rfl) rfl
theorem q3599 : (Jvm.Cond.methodLink "java/lang/StringIndexOutOfBoundsException" (12 : Nat) ({ cls := "java/lang/StringBuilder", name := "<init>", desc := "()V" } : Jvm.MethodName)) ∈ lw_all := lw_g (lw_at lw_m15 63 rfl) rfl
theorem q3600 : (Jvm.Cond.stringRef "java/lang/StringIndexOutOfBoundsException" (13 : Nat) "String index out of range: ") ∈ lw_tbl := lw_at lw_m15 64 rfl
theorem q3601 : (Jvm.Cond.methodLink "java/lang/StringIndexOutOfBoundsException" (15 : Nat) ({ cls := "java/lang/StringBuilder", name := "append", desc := "(Ljava/lang/String;)Ljava/lang/StringBuilder;" } : Jvm.MethodName)) ∈ lw_all := lw_g (lw_at lw_m15 65 rfl) rfl
theorem q3602 : (Jvm.Cond.methodLink "java/lang/StringIndexOutOfBoundsException" (19 : Nat) ({ cls := "java/lang/StringBuilder", name := "append", desc := "(I)Ljava/lang/StringBuilder;" } : Jvm.MethodName)) ∈ lw_all := lw_g (lw_at lw_m15 66 rfl) rfl
theorem q3603 : (Jvm.Cond.methodLink "java/lang/StringIndexOutOfBoundsException" (22 : Nat) ({ cls := "java/lang/StringBuilder", name := "toString", desc := "()Ljava/lang/String;" } : Jvm.MethodName)) ∈ lw_all := lw_g (lw_at lw_m15 67 rfl) rfl
theorem q3604 : (Jvm.Cond.methodLink "java/lang/StringIndexOutOfBoundsException" (7 : Nat) ({ cls := "java/lang/IndexOutOfBoundsException", name := "<init>", desc := "(Ljava/lang/String;)V" } : Jvm.MethodName)) ∈ lw_all := lw_g (lw_at lw_m15 68 rfl) rfl
theorem q3605 : (Jvm.Cond.lays "java/lang/StringIndexOutOfBoundsException" "java/lang/Throwable" "backtrace" "Ljava/lang/Object;") ∈ lw_all := lw_g (lw_at lw_m15 69 rfl) rfl
theorem q3606 : (Jvm.Cond.lays "java/lang/StringIndexOutOfBoundsException" "java/lang/Throwable" "detailMessage" "Ljava/lang/String;") ∈ lw_all := lw_g (lw_at lw_m15 70 rfl) rfl
theorem q3607 : (Jvm.Cond.lays "java/lang/StringIndexOutOfBoundsException" "java/lang/Throwable" "cause" "Ljava/lang/Throwable;") ∈ lw_all := lw_g (lw_at lw_m15 71 rfl) rfl
theorem q3608 : (Jvm.Cond.lays "java/lang/StringIndexOutOfBoundsException" "java/lang/Throwable" "stackTrace" "[Ljava/lang/StackTraceElement;") ∈ lw_all := lw_g (lw_at lw_m15 72 rfl) rfl
theorem q3609 : (Jvm.Cond.lays "java/lang/StringIndexOutOfBoundsException" "java/lang/Throwable" "depth" "I") ∈ lw_all := lw_g (lw_at lw_m15 73 rfl) rfl
theorem q3610 : (Jvm.Cond.lays "java/lang/StringIndexOutOfBoundsException" "java/lang/Throwable" "suppressedExceptions" "Ljava/util/List;") ∈ lw_all := lw_g (lw_at lw_m15 74 rfl) rfl
theorem q3611 : (Jvm.Cond.superclass "java/lang/StringIndexOutOfBoundsException" "java/lang/IndexOutOfBoundsException") ∈ lw_all := lw_g (lw_at lw_m15 75 rfl) rfl
theorem q4478 : (Jvm.Cond.castable "java/lang/StringIndexOutOfBoundsException" "java/lang/IndexOutOfBoundsException") ∈ lw_tbl := lw_at lw_m18 222 rfl
theorem q4521 : (Jvm.Cond.castable "java/lang/StringIndexOutOfBoundsException" "java/lang/Object") ∈ lw_tbl := lw_at lw_m19 25 rfl
theorem in_J46 : ∀ w ∈ wsJ460, w ∈ lw_all := lw_in wsJ460 [3605, 3606, 3607, 3608, 3609, 3610] (by decide +kernel) (by decide +kernel)

/-! java/lang/Object -/
set_option maxRecDepth 100000
def RJ47 : String := "java/lang/Object"
abbrev cJ47_init : ByteArray := object_method_1_code
def yJ47_init : MethodName := ⟨RJ47, "<init>", "()V"⟩
theorem dJ47_init_0 : decode cJ47_init 0 = .ok (.return_, 1) := by decide +kernel
abbrev cJ47_equals : ByteArray := object_method_4_code
def yJ47_equals : MethodName := ⟨RJ47, "equals", "(Ljava/lang/Object;)Z"⟩
def dkwJ47_equals_0 : List UInt8 := [42, 43, 166, 0, 7, 4, 167, 0, 4, 3, 172]
abbrev dktJ47_equals_0 : List UInt8 := dkwJ47_equals_0 ++ []
theorem dksJ47_equals_0 : cJ47_equals.data.toList.drop 0 = dktJ47_equals_0 := by decide +kernel
theorem dJ47_equals_0 : decode cJ47_equals 0 = .ok (.aload_n 0, 1) := dk_42 (dk_at dksJ47_equals_0 0 rfl rfl)
theorem dJ47_equals_1 : decode cJ47_equals 1 = .ok (.aload_n 1, 1) := dk_43 (dk_at dksJ47_equals_0 1 rfl rfl)
theorem dJ47_equals_2 : decode cJ47_equals 2 = .ok (.if_acmp .ne 7, 3) := dk_166 0 7 (dk_at dksJ47_equals_0 2 rfl rfl)
theorem dJ47_equals_5 : decode cJ47_equals 5 = .ok (.iconst 1, 1) := dk_4 (dk_at dksJ47_equals_0 5 rfl rfl)
theorem dJ47_equals_6 : decode cJ47_equals 6 = .ok (.goto 4, 3) := dk_167 0 4 (dk_at dksJ47_equals_0 6 rfl rfl)
theorem dJ47_equals_9 : decode cJ47_equals 9 = .ok (.iconst 0, 1) := dk_3 (dk_at dksJ47_equals_0 9 rfl rfl)
theorem dJ47_equals_10 : decode cJ47_equals 10 = .ok (.ireturn, 1) := dk_172 (dk_at dksJ47_equals_0 10 rfl rfl)
theorem q250 : (Jvm.Cond.instanceMethod ({ cls := "java/lang/Object", name := "<init>", desc := "()V" } : Jvm.MethodName)) ∈ lw_all := lw_g (lw_at lw_m1 74 rfl) rfl
theorem q251 : (Jvm.Cond.code ({ cls := "java/lang/Object", name := "<init>", desc := "()V" } : Jvm.MethodName) object_method_1_code (1 : Nat) (Option.none : Option Jvm.ClassFile.FieldType)) ∈ lw_all := lw_g (lw_at lw_m1 75 rfl) rfl
theorem q399 : (Jvm.Cond.instanceMethod ({ cls := "java/lang/Object", name := "getClass", desc := "()Ljava/lang/Class;" } : Jvm.MethodName)) ∈ lw_all := lw_g (lw_at lw_m1 223 rfl) rfl
theorem q400 : (Jvm.Cond.sameMethod "java/lang/Object" "java/lang/Object" "getClass" "()Ljava/lang/Class;") ∈ lw_all := lw_g (lw_at lw_m1 224 rfl) rfl
theorem q444 : (Jvm.Cond.native ({ cls := "java/lang/Object", name := "getClass", desc := "()Ljava/lang/Class;" } : Jvm.MethodName)) ∈ lw_all := lw_g (lw_at lw_m2 28 rfl) rfl
theorem q703 : (Jvm.Cond.native ({ cls := "java/lang/Object", name := "clone", desc := "()Ljava/lang/Object;" } : Jvm.MethodName)) ∈ lw_all := lw_g (lw_at lw_m3 47 rfl) rfl
theorem q704 : (Jvm.Cond.instanceMethod ({ cls := "java/lang/Object", name := "clone", desc := "()Ljava/lang/Object;" } : Jvm.MethodName)) ∈ lw_all := lw_g (lw_at lw_m3 48 rfl) rfl
theorem q2804 : (Jvm.Cond.declares ({ cls := "java/lang/Object", name := "equals", desc := "(Ljava/lang/Object;)Z" } : Jvm.MethodName)) ∈ lw_tbl := lw_at lw_m11 228 rfl
theorem q2806 : (Jvm.Cond.instanceMethod ({ cls := "java/lang/Object", name := "equals", desc := "(Ljava/lang/Object;)Z" } : Jvm.MethodName)) ∈ lw_all := lw_g (lw_at lw_m11 230 rfl) rfl
theorem q2807 : (Jvm.Cond.sameMethod "java/lang/Object" "java/lang/Object" "equals" "(Ljava/lang/Object;)Z") ∈ lw_all := lw_g (lw_at lw_m11 231 rfl) rfl
theorem q2836 : (Jvm.Cond.code ({ cls := "java/lang/Object", name := "equals", desc := "(Ljava/lang/Object;)Z" } : Jvm.MethodName) object_method_4_code (2 : Nat) (Option.some Jvm.ClassFile.FieldType.boolean)) ∈ lw_all := lw_g (lw_at lw_m12 20 rfl) rfl
theorem q4475 : (Jvm.Cond.initialized "java/lang/Object") ∈ lw_all := lw_g (lw_at lw_m18 219 rfl) rfl
theorem q4525 : (Jvm.Cond.declares ({ cls := "java/lang/Object", name := "getClass", desc := "()Ljava/lang/Class;" } : Jvm.MethodName)) ∈ lw_tbl := lw_at lw_m19 29 rfl
theorem q4541 : (Jvm.Cond.instantiable "java/lang/Object" (0 : Nat)) ∈ lw_all := lw_g (lw_at lw_m19 45 rfl) rfl

/-! java/lang/System$2 -/
set_option maxRecDepth 100000
def RJ48 : String := "java/lang/System$2"
abbrev cJ48_getUTF16Char : ByteArray := prog_45_method_45_code
def yJ48_getUTF16Char : MethodName := ⟨RJ48, "getUTF16Char", "([BI)C"⟩
def dkwJ48_getUTF16Char_0 : List UInt8 := [43, 28, 184, 0, 185, 172]
abbrev dktJ48_getUTF16Char_0 : List UInt8 := dkwJ48_getUTF16Char_0 ++ []
theorem dksJ48_getUTF16Char_0 : cJ48_getUTF16Char.data.toList.drop 0 = dktJ48_getUTF16Char_0 := by decide +kernel
theorem dJ48_getUTF16Char_0 : decode cJ48_getUTF16Char 0 = .ok (.aload_n 1, 1) := dk_43 (dk_at dksJ48_getUTF16Char_0 0 rfl rfl)
theorem dJ48_getUTF16Char_1 : decode cJ48_getUTF16Char 1 = .ok (.iload_n 2, 1) := dk_28 (dk_at dksJ48_getUTF16Char_0 1 rfl rfl)
theorem dJ48_getUTF16Char_2 : decode cJ48_getUTF16Char 2 = .ok (.invokestatic 185, 3) := dk_184 0 185 (dk_at dksJ48_getUTF16Char_0 2 rfl rfl)
theorem dJ48_getUTF16Char_5 : decode cJ48_getUTF16Char 5 = .ok (.ireturn, 1) := dk_172 (dk_at dksJ48_getUTF16Char_0 5 rfl rfl)
theorem q424 : (Jvm.Cond.selects "java/lang/System$2" ({ cls := "java/lang/Object", name := "getClass", desc := "()Ljava/lang/Class;" } : Jvm.MethodName) ({ cls := "java/lang/Object", name := "getClass", desc := "()Ljava/lang/Class;" } : Jvm.MethodName)) ∈ lw_all := lw_g (lw_at lw_m2 8 rfl) rfl
theorem q1059 : (Jvm.Cond.castable "java/lang/System$2" "jdk/internal/access/JavaLangAccess") ∈ lw_tbl := lw_at lw_m4 163 rfl
theorem q1060 : (Jvm.Cond.selects "java/lang/System$2" ({ cls := "jdk/internal/access/JavaLangAccess", name := "getUTF16Char", desc := "([BI)C" } : Jvm.MethodName) ({ cls := "java/lang/System$2", name := "getUTF16Char", desc := "([BI)C" } : Jvm.MethodName)) ∈ lw_all := lw_g (lw_at lw_m4 164 rfl) rfl
theorem q1061 : (Jvm.Cond.unhidden "java/lang/System$2" "getUTF16Char" "([BI)C") ∈ lw_tbl := lw_at lw_m4 165 rfl
theorem q1062 : (Jvm.Cond.instanceMethod ({ cls := "java/lang/System$2", name := "getUTF16Char", desc := "([BI)C" } : Jvm.MethodName)) ∈ lw_all := lw_g (lw_at lw_m4 166 rfl) rfl
theorem q1063 : (Jvm.Cond.publicMethod ({ cls := "java/lang/System$2", name := "getUTF16Char", desc := "([BI)C" } : Jvm.MethodName)) ∈ lw_tbl := lw_at lw_m4 167 rfl
theorem q1064 : (Jvm.Cond.code ({ cls := "java/lang/System$2", name := "getUTF16Char", desc := "([BI)C" } : Jvm.MethodName) prog_45_method_45_code (3 : Nat) (Option.some Jvm.ClassFile.FieldType.char)) ∈ lw_all := lw_g (lw_at lw_m4 168 rfl) rfl
theorem q1065 : (Jvm.Cond.methodLink "java/lang/System$2" (185 : Nat) ({ cls := "java/lang/StringUTF16", name := "getChar", desc := "([BI)C" } : Jvm.MethodName)) ∈ lw_all := lw_g (lw_at lw_m4 169 rfl) rfl
theorem q2834 : (Jvm.Cond.selects "java/lang/System$2" ({ cls := "java/lang/Object", name := "equals", desc := "(Ljava/lang/Object;)Z" } : Jvm.MethodName) ({ cls := "java/lang/Object", name := "equals", desc := "(Ljava/lang/Object;)Z" } : Jvm.MethodName)) ∈ lw_all := lw_g (lw_at lw_m12 18 rfl) rfl
theorem q4493 : (Jvm.Cond.castable "java/lang/System$2" "java/lang/Object") ∈ lw_tbl := lw_at lw_m18 237 rfl
