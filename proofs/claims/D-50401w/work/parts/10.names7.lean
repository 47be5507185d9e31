/-! java/util/TreeMap -/
set_option maxRecDepth 100000
def RJ24 : String := "java/util/TreeMap"
def TJ24 : u_T := fun k => match k with
  | 0 => ("java/util/AbstractMap", "keySet", "Ljava/util/Set;", false)
  | 1 => ("java/util/AbstractMap", "values", "Ljava/util/Collection;", false)
  | 2 => ("java/util/TreeMap", "comparator", "Ljava/util/Comparator;", true)
  | 3 => ("java/util/TreeMap", "root", "Ljava/util/TreeMap$Entry;", false)
  | 4 => ("java/util/TreeMap", "size", "I", false)
  | 5 => ("java/util/TreeMap", "modCount", "I", false)
  | 6 => ("java/util/TreeMap", "entrySet", "Ljava/util/TreeMap$EntrySet;", false)
  | 7 => ("java/util/TreeMap", "navigableKeySet", "Ljava/util/TreeMap$KeySet;", false)
  | _ => ("java/util/TreeMap", "descendingMap", "Ljava/util/NavigableMap;", false)
def tyJ24 : Nat → FieldType := fun k => match k with
  | 0 => .object "java/util/Set"
  | 1 => .object "java/util/Collection"
  | 2 => .object "java/util/Comparator"
  | 3 => .object "java/util/TreeMap$Entry"
  | 4 => .int
  | 5 => .int
  | 6 => .object "java/util/TreeMap$EntrySet"
  | 7 => .object "java/util/TreeMap$KeySet"
  | _ => .object "java/util/NavigableMap"
abbrev wsJ240 : List Cond := u_ws RJ24 TJ24 9
theorem nmJ24 : ∀ a, a < 9 → ∀ b, b < 9 → a ≠ b → (TJ24 a).2.1 ≠ (TJ24 b).2.1 := by decide +kernel
theorem tyJ24_ok : ∀ k, k < 9 → parseFieldDescriptor (TJ24 k).2.2.1 = some (tyJ24 k) := by decide +kernel
abbrev cJ24_init : ByteArray := prog_87_method_1_code
def yJ24_init : MethodName := ⟨RJ24, "<init>", "()V"⟩
def dkwJ24_init_0 : List UInt8 := [42, 183, 0, 1, 42, 3, 181, 0, 7, 42, 3, 181, 0, 13, 42, 1, 181, 0, 16, 177]
abbrev dktJ24_init_0 : List UInt8 := dkwJ24_init_0 ++ []
theorem dksJ24_init_0 : cJ24_init.data.toList.drop 0 = dktJ24_init_0 := by decide +kernel
theorem dJ24_init_0 : decode cJ24_init 0 = .ok (.aload_n 0, 1) := dk_42 (dk_at dksJ24_init_0 0 rfl rfl)
theorem dJ24_init_1 : decode cJ24_init 1 = .ok (.invokespecial 1, 3) := dk_183 0 1 (dk_at dksJ24_init_0 1 rfl rfl)
theorem dJ24_init_4 : decode cJ24_init 4 = .ok (.aload_n 0, 1) := dk_42 (dk_at dksJ24_init_0 4 rfl rfl)
theorem dJ24_init_5 : decode cJ24_init 5 = .ok (.iconst 0, 1) := dk_3 (dk_at dksJ24_init_0 5 rfl rfl)
theorem dJ24_init_6 : decode cJ24_init 6 = .ok (.putfield 7, 3) := dk_181 0 7 (dk_at dksJ24_init_0 6 rfl rfl)
theorem dJ24_init_9 : decode cJ24_init 9 = .ok (.aload_n 0, 1) := dk_42 (dk_at dksJ24_init_0 9 rfl rfl)
theorem dJ24_init_10 : decode cJ24_init 10 = .ok (.iconst 0, 1) := dk_3 (dk_at dksJ24_init_0 10 rfl rfl)
theorem dJ24_init_11 : decode cJ24_init 11 = .ok (.putfield 13, 3) := dk_181 0 13 (dk_at dksJ24_init_0 11 rfl rfl)
theorem dJ24_init_14 : decode cJ24_init 14 = .ok (.aload_n 0, 1) := dk_42 (dk_at dksJ24_init_0 14 rfl rfl)
theorem dJ24_init_15 : decode cJ24_init 15 = .ok (.aconst_null, 1) := dk_1 (dk_at dksJ24_init_0 15 rfl rfl)
theorem dJ24_init_16 : decode cJ24_init 16 = .ok (.putfield 16, 3) := dk_181 0 16 (dk_at dksJ24_init_0 16 rfl rfl)
theorem dJ24_init_19 : decode cJ24_init 19 = .ok (.return_, 1) := dk_177 (dk_at dksJ24_init_0 19 rfl rfl)
abbrev cJ24_put : ByteArray := prog_87_method_21_code
def yJ24_put : MethodName := ⟨RJ24, "put", "(Ljava/lang/Object;Ljava/lang/Object;)Ljava/lang/Object;"⟩
def dkwJ24_put_0 : List UInt8 := [42, 43, 44, 4, 182, 0, 127, 176]
abbrev dktJ24_put_0 : List UInt8 := dkwJ24_put_0 ++ []
theorem dksJ24_put_0 : cJ24_put.data.toList.drop 0 = dktJ24_put_0 := by decide +kernel
theorem dJ24_put_0 : decode cJ24_put 0 = .ok (.aload_n 0, 1) := dk_42 (dk_at dksJ24_put_0 0 rfl rfl)
theorem dJ24_put_1 : decode cJ24_put 1 = .ok (.aload_n 1, 1) := dk_43 (dk_at dksJ24_put_0 1 rfl rfl)
theorem dJ24_put_2 : decode cJ24_put 2 = .ok (.aload_n 2, 1) := dk_44 (dk_at dksJ24_put_0 2 rfl rfl)
theorem dJ24_put_3 : decode cJ24_put 3 = .ok (.iconst 1, 1) := dk_4 (dk_at dksJ24_put_0 3 rfl rfl)
theorem dJ24_put_4 : decode cJ24_put 4 = .ok (.invokevirtual 127, 3) := dk_182 0 127 (dk_at dksJ24_put_0 4 rfl rfl)
theorem dJ24_put_7 : decode cJ24_put 7 = .ok (.areturn, 1) := dk_176 (dk_at dksJ24_put_0 7 rfl rfl)
abbrev cJ24_put_2 : ByteArray := prog_87_method_31_code
def yJ24_put_2 : MethodName := ⟨RJ24, "put", "(Ljava/lang/Object;Ljava/lang/Object;Z)Ljava/lang/Object;"⟩
def dkwJ24_put_2_9 : List UInt8 := [4, 167, 0, 4, 3, 182, 0, 139, 1, 176]
abbrev dktJ24_put_2_9 : List UInt8 := dkwJ24_put_2_9 ++ []
def dkwJ24_put_2_8 : List UInt8 := [25, 4, 44, 181, 0, 58, 25, 9, 176, 25, 4, 199, 255, 181, 42, 43, 44, 25, 6, 21, 5, 156, 0, 7]
abbrev dktJ24_put_2_8 : List UInt8 := dkwJ24_put_2_8 ++ dktJ24_put_2_9
def dkwJ24_put_2_7 : List UInt8 := [180, 0, 114, 58, 4, 167, 0, 28, 25, 4, 180, 0, 58, 58, 9, 29, 154, 0, 8, 25, 9, 199, 0, 9]
abbrev dktJ24_put_2_7 : List UInt8 := dkwJ24_put_2_7 ++ dktJ24_put_2_8
def dkwJ24_put_2_6 : List UInt8 := [21, 5, 156, 0, 13, 25, 4, 180, 0, 111, 58, 4, 167, 0, 43, 21, 5, 158, 0, 13, 25, 4]
abbrev dktJ24_put_2_6 : List UInt8 := dkwJ24_put_2_6 ++ dktJ24_put_2_7
def dkwJ24_put_2_5 : List UInt8 := [192, 0, 99, 58, 8, 25, 4, 58, 6, 25, 8, 25, 4, 180, 0, 105, 185, 0, 107, 2, 0, 54, 5]
abbrev dktJ24_put_2_5 : List UInt8 := dkwJ24_put_2_5 ++ dktJ24_put_2_6
def dkwJ24_put_2_4 : List UInt8 := [25, 4, 44, 181, 0, 58, 25, 8, 176, 25, 4, 199, 255, 180, 167, 0, 92, 43, 184, 0, 95, 87, 43]
abbrev dktJ24_put_2_4 : List UInt8 := dkwJ24_put_2_4 ++ dktJ24_put_2_5
def dkwJ24_put_2_3 : List UInt8 := [180, 0, 114, 58, 4, 167, 0, 28, 25, 4, 180, 0, 58, 58, 8, 29, 154, 0, 8, 25, 8, 199, 0, 9]
abbrev dktJ24_put_2_3 : List UInt8 := dkwJ24_put_2_3 ++ dktJ24_put_2_4
def dkwJ24_put_2_2 : List UInt8 := [54, 5, 21, 5, 156, 0, 13, 25, 4, 180, 0, 111, 58, 4, 167, 0, 43, 21, 5, 158, 0, 13, 25, 4]
abbrev dktJ24_put_2_2 : List UInt8 := dkwJ24_put_2_2 ++ dktJ24_put_2_3
def dkwJ24_put_2_1 : List UInt8 := [58, 7, 25, 7, 198, 0, 85, 25, 4, 58, 6, 25, 7, 43, 25, 4, 180, 0, 105, 185, 0, 117, 3, 0]
abbrev dktJ24_put_2_1 : List UInt8 := dkwJ24_put_2_1 ++ dktJ24_put_2_2
def dkwJ24_put_2_0 : List UInt8 := [42, 180, 0, 101, 58, 4, 25, 4, 199, 0, 11, 42, 43, 44, 182, 0, 135, 1, 176, 42, 180, 0, 16]
abbrev dktJ24_put_2_0 : List UInt8 := dkwJ24_put_2_0 ++ dktJ24_put_2_1
theorem dksJ24_put_2_0 : cJ24_put_2.data.toList.drop 0 = dktJ24_put_2_0 := by decide +kernel
theorem dksJ24_put_2_1 : cJ24_put_2.data.toList.drop 23 = dktJ24_put_2_1 := dk_seg dksJ24_put_2_0 23 rfl rfl
theorem dksJ24_put_2_2 : cJ24_put_2.data.toList.drop 47 = dktJ24_put_2_2 := dk_seg dksJ24_put_2_1 24 rfl rfl
theorem dksJ24_put_2_3 : cJ24_put_2.data.toList.drop 71 = dktJ24_put_2_3 := dk_seg dksJ24_put_2_2 24 rfl rfl
theorem dksJ24_put_2_4 : cJ24_put_2.data.toList.drop 95 = dktJ24_put_2_4 := dk_seg dksJ24_put_2_3 24 rfl rfl
theorem dksJ24_put_2_5 : cJ24_put_2.data.toList.drop 118 = dktJ24_put_2_5 := dk_seg dksJ24_put_2_4 23 rfl rfl
theorem dksJ24_put_2_6 : cJ24_put_2.data.toList.drop 141 = dktJ24_put_2_6 := dk_seg dksJ24_put_2_5 23 rfl rfl
theorem dksJ24_put_2_7 : cJ24_put_2.data.toList.drop 163 = dktJ24_put_2_7 := dk_seg dksJ24_put_2_6 22 rfl rfl
theorem dksJ24_put_2_8 : cJ24_put_2.data.toList.drop 187 = dktJ24_put_2_8 := dk_seg dksJ24_put_2_7 24 rfl rfl
theorem dksJ24_put_2_9 : cJ24_put_2.data.toList.drop 211 = dktJ24_put_2_9 := dk_seg dksJ24_put_2_8 24 rfl rfl
theorem dJ24_put_2_0 : decode cJ24_put_2 0 = .ok (.aload_n 0, 1) := dk_42 (dk_at dksJ24_put_2_0 0 rfl rfl)
theorem dJ24_put_2_1 : decode cJ24_put_2 1 = .ok (.getfield 101, 3) := dk_180 0 101 (dk_at dksJ24_put_2_0 1 rfl rfl)
theorem dJ24_put_2_4 : decode cJ24_put_2 4 = .ok (.astore 4, 2) := dk_58 4 (dk_at dksJ24_put_2_0 4 rfl rfl)
theorem dJ24_put_2_6 : decode cJ24_put_2 6 = .ok (.aload 4, 2) := dk_25 4 (dk_at dksJ24_put_2_0 6 rfl rfl)
theorem dJ24_put_2_8 : decode cJ24_put_2 8 = .ok (.ifnonnull 11, 3) := dk_199 0 11 (dk_at dksJ24_put_2_0 8 rfl rfl)
theorem dJ24_put_2_11 : decode cJ24_put_2 11 = .ok (.aload_n 0, 1) := dk_42 (dk_at dksJ24_put_2_0 11 rfl rfl)
theorem dJ24_put_2_12 : decode cJ24_put_2 12 = .ok (.aload_n 1, 1) := dk_43 (dk_at dksJ24_put_2_0 12 rfl rfl)
theorem dJ24_put_2_13 : decode cJ24_put_2 13 = .ok (.aload_n 2, 1) := dk_44 (dk_at dksJ24_put_2_0 13 rfl rfl)
theorem dJ24_put_2_14 : decode cJ24_put_2 14 = .ok (.invokevirtual 135, 3) := dk_182 0 135 (dk_at dksJ24_put_2_0 14 rfl rfl)
theorem dJ24_put_2_17 : decode cJ24_put_2 17 = .ok (.aconst_null, 1) := dk_1 (dk_at dksJ24_put_2_0 17 rfl rfl)
theorem dJ24_put_2_18 : decode cJ24_put_2 18 = .ok (.areturn, 1) := dk_176 (dk_at dksJ24_put_2_0 18 rfl rfl)
theorem dJ24_put_2_19 : decode cJ24_put_2 19 = .ok (.aload_n 0, 1) := dk_42 (dk_at dksJ24_put_2_0 19 rfl rfl)
theorem dJ24_put_2_20 : decode cJ24_put_2 20 = .ok (.getfield 16, 3) := dk_180 0 16 (dk_at dksJ24_put_2_0 20 rfl rfl)
theorem dJ24_put_2_23 : decode cJ24_put_2 23 = .ok (.astore 7, 2) := dk_58 7 (dk_at dksJ24_put_2_1 0 rfl rfl)
theorem dJ24_put_2_25 : decode cJ24_put_2 25 = .ok (.aload 7, 2) := dk_25 7 (dk_at dksJ24_put_2_1 2 rfl rfl)
theorem dJ24_put_2_27 : decode cJ24_put_2 27 = .ok (.ifnull 85, 3) := dk_198 0 85 (dk_at dksJ24_put_2_1 4 rfl rfl)
theorem dJ24_put_2_30 : decode cJ24_put_2 30 = .ok (.aload 4, 2) := dk_25 4 (dk_at dksJ24_put_2_1 7 rfl rfl)
theorem dJ24_put_2_32 : decode cJ24_put_2 32 = .ok (.astore 6, 2) := dk_58 6 (dk_at dksJ24_put_2_1 9 rfl rfl)
theorem dJ24_put_2_34 : decode cJ24_put_2 34 = .ok (.aload 7, 2) := dk_25 7 (dk_at dksJ24_put_2_1 11 rfl rfl)
theorem dJ24_put_2_36 : decode cJ24_put_2 36 = .ok (.aload_n 1, 1) := dk_43 (dk_at dksJ24_put_2_1 13 rfl rfl)
theorem dJ24_put_2_37 : decode cJ24_put_2 37 = .ok (.aload 4, 2) := dk_25 4 (dk_at dksJ24_put_2_1 14 rfl rfl)
theorem dJ24_put_2_39 : decode cJ24_put_2 39 = .ok (.getfield 105, 3) := dk_180 0 105 (dk_at dksJ24_put_2_1 16 rfl rfl)
theorem dJ24_put_2_42 : decode cJ24_put_2 42 = .ok (.invokeinterface 117 3, 5) := by decide +kernel
theorem dJ24_put_2_47 : decode cJ24_put_2 47 = .ok (.istore 5, 2) := dk_54 5 (dk_at dksJ24_put_2_2 0 rfl rfl)
theorem dJ24_put_2_49 : decode cJ24_put_2 49 = .ok (.iload 5, 2) := dk_21 5 (dk_at dksJ24_put_2_2 2 rfl rfl)
theorem dJ24_put_2_51 : decode cJ24_put_2 51 = .ok (.ifCond .ge 13, 3) := dk_156 0 13 (dk_at dksJ24_put_2_2 4 rfl rfl)
theorem dJ24_put_2_54 : decode cJ24_put_2 54 = .ok (.aload 4, 2) := dk_25 4 (dk_at dksJ24_put_2_2 7 rfl rfl)
theorem dJ24_put_2_56 : decode cJ24_put_2 56 = .ok (.getfield 111, 3) := dk_180 0 111 (dk_at dksJ24_put_2_2 9 rfl rfl)
theorem dJ24_put_2_59 : decode cJ24_put_2 59 = .ok (.astore 4, 2) := dk_58 4 (dk_at dksJ24_put_2_2 12 rfl rfl)
theorem dJ24_put_2_61 : decode cJ24_put_2 61 = .ok (.goto 43, 3) := dk_167 0 43 (dk_at dksJ24_put_2_2 14 rfl rfl)
theorem dJ24_put_2_64 : decode cJ24_put_2 64 = .ok (.iload 5, 2) := dk_21 5 (dk_at dksJ24_put_2_2 17 rfl rfl)
theorem dJ24_put_2_66 : decode cJ24_put_2 66 = .ok (.ifCond .le 13, 3) := dk_158 0 13 (dk_at dksJ24_put_2_2 19 rfl rfl)
theorem dJ24_put_2_69 : decode cJ24_put_2 69 = .ok (.aload 4, 2) := dk_25 4 (dk_at dksJ24_put_2_2 22 rfl rfl)
theorem dJ24_put_2_71 : decode cJ24_put_2 71 = .ok (.getfield 114, 3) := dk_180 0 114 (dk_at dksJ24_put_2_3 0 rfl rfl)
theorem dJ24_put_2_74 : decode cJ24_put_2 74 = .ok (.astore 4, 2) := dk_58 4 (dk_at dksJ24_put_2_3 3 rfl rfl)
theorem dJ24_put_2_76 : decode cJ24_put_2 76 = .ok (.goto 28, 3) := dk_167 0 28 (dk_at dksJ24_put_2_3 5 rfl rfl)
theorem dJ24_put_2_79 : decode cJ24_put_2 79 = .ok (.aload 4, 2) := dk_25 4 (dk_at dksJ24_put_2_3 8 rfl rfl)
theorem dJ24_put_2_81 : decode cJ24_put_2 81 = .ok (.getfield 58, 3) := dk_180 0 58 (dk_at dksJ24_put_2_3 10 rfl rfl)
theorem dJ24_put_2_84 : decode cJ24_put_2 84 = .ok (.astore 8, 2) := dk_58 8 (dk_at dksJ24_put_2_3 13 rfl rfl)
theorem dJ24_put_2_86 : decode cJ24_put_2 86 = .ok (.iload_n 3, 1) := dk_29 (dk_at dksJ24_put_2_3 15 rfl rfl)
theorem dJ24_put_2_87 : decode cJ24_put_2 87 = .ok (.ifCond .ne 8, 3) := dk_154 0 8 (dk_at dksJ24_put_2_3 16 rfl rfl)
theorem dJ24_put_2_90 : decode cJ24_put_2 90 = .ok (.aload 8, 2) := dk_25 8 (dk_at dksJ24_put_2_3 19 rfl rfl)
theorem dJ24_put_2_92 : decode cJ24_put_2 92 = .ok (.ifnonnull 9, 3) := dk_199 0 9 (dk_at dksJ24_put_2_3 21 rfl rfl)
theorem dJ24_put_2_95 : decode cJ24_put_2 95 = .ok (.aload 4, 2) := dk_25 4 (dk_at dksJ24_put_2_4 0 rfl rfl)
theorem dJ24_put_2_97 : decode cJ24_put_2 97 = .ok (.aload_n 2, 1) := dk_44 (dk_at dksJ24_put_2_4 2 rfl rfl)
theorem dJ24_put_2_98 : decode cJ24_put_2 98 = .ok (.putfield 58, 3) := dk_181 0 58 (dk_at dksJ24_put_2_4 3 rfl rfl)
theorem dJ24_put_2_101 : decode cJ24_put_2 101 = .ok (.aload 8, 2) := dk_25 8 (dk_at dksJ24_put_2_4 6 rfl rfl)
theorem dJ24_put_2_103 : decode cJ24_put_2 103 = .ok (.areturn, 1) := dk_176 (dk_at dksJ24_put_2_4 8 rfl rfl)
theorem dJ24_put_2_104 : decode cJ24_put_2 104 = .ok (.aload 4, 2) := dk_25 4 (dk_at dksJ24_put_2_4 9 rfl rfl)
theorem dJ24_put_2_106 : decode cJ24_put_2 106 = .ok (.ifnonnull (-76), 3) := dk_199 255 180 (dk_at dksJ24_put_2_4 11 rfl rfl)
theorem dJ24_put_2_109 : decode cJ24_put_2 109 = .ok (.goto 92, 3) := dk_167 0 92 (dk_at dksJ24_put_2_4 14 rfl rfl)
theorem dJ24_put_2_112 : decode cJ24_put_2 112 = .ok (.aload_n 1, 1) := dk_43 (dk_at dksJ24_put_2_4 17 rfl rfl)
theorem dJ24_put_2_113 : decode cJ24_put_2 113 = .ok (.invokestatic 95, 3) := dk_184 0 95 (dk_at dksJ24_put_2_4 18 rfl rfl)
theorem dJ24_put_2_116 : decode cJ24_put_2 116 = .ok (.pop, 1) := dk_87 (dk_at dksJ24_put_2_4 21 rfl rfl)
theorem dJ24_put_2_117 : decode cJ24_put_2 117 = .ok (.aload_n 1, 1) := dk_43 (dk_at dksJ24_put_2_4 22 rfl rfl)
theorem dJ24_put_2_118 : decode cJ24_put_2 118 = .ok (.checkcast 99, 3) := dk_192 0 99 (dk_at dksJ24_put_2_5 0 rfl rfl)
theorem dJ24_put_2_121 : decode cJ24_put_2 121 = .ok (.astore 8, 2) := dk_58 8 (dk_at dksJ24_put_2_5 3 rfl rfl)
theorem dJ24_put_2_123 : decode cJ24_put_2 123 = .ok (.aload 4, 2) := dk_25 4 (dk_at dksJ24_put_2_5 5 rfl rfl)
theorem dJ24_put_2_125 : decode cJ24_put_2 125 = .ok (.astore 6, 2) := dk_58 6 (dk_at dksJ24_put_2_5 7 rfl rfl)
theorem dJ24_put_2_127 : decode cJ24_put_2 127 = .ok (.aload 8, 2) := dk_25 8 (dk_at dksJ24_put_2_5 9 rfl rfl)
theorem dJ24_put_2_129 : decode cJ24_put_2 129 = .ok (.aload 4, 2) := dk_25 4 (dk_at dksJ24_put_2_5 11 rfl rfl)
theorem dJ24_put_2_131 : decode cJ24_put_2 131 = .ok (.getfield 105, 3) := dk_180 0 105 (dk_at dksJ24_put_2_5 13 rfl rfl)
theorem dJ24_put_2_134 : decode cJ24_put_2 134 = .ok (.invokeinterface 107 2, 5) := by decide +kernel
theorem dJ24_put_2_139 : decode cJ24_put_2 139 = .ok (.istore 5, 2) := dk_54 5 (dk_at dksJ24_put_2_5 21 rfl rfl)
theorem dJ24_put_2_141 : decode cJ24_put_2 141 = .ok (.iload 5, 2) := dk_21 5 (dk_at dksJ24_put_2_6 0 rfl rfl)
theorem dJ24_put_2_143 : decode cJ24_put_2 143 = .ok (.ifCond .ge 13, 3) := dk_156 0 13 (dk_at dksJ24_put_2_6 2 rfl rfl)
theorem dJ24_put_2_146 : decode cJ24_put_2 146 = .ok (.aload 4, 2) := dk_25 4 (dk_at dksJ24_put_2_6 5 rfl rfl)
theorem dJ24_put_2_148 : decode cJ24_put_2 148 = .ok (.getfield 111, 3) := dk_180 0 111 (dk_at dksJ24_put_2_6 7 rfl rfl)
theorem dJ24_put_2_151 : decode cJ24_put_2 151 = .ok (.astore 4, 2) := dk_58 4 (dk_at dksJ24_put_2_6 10 rfl rfl)
theorem dJ24_put_2_153 : decode cJ24_put_2 153 = .ok (.goto 43, 3) := dk_167 0 43 (dk_at dksJ24_put_2_6 12 rfl rfl)
theorem dJ24_put_2_156 : decode cJ24_put_2 156 = .ok (.iload 5, 2) := dk_21 5 (dk_at dksJ24_put_2_6 15 rfl rfl)
theorem dJ24_put_2_158 : decode cJ24_put_2 158 = .ok (.ifCond .le 13, 3) := dk_158 0 13 (dk_at dksJ24_put_2_6 17 rfl rfl)
theorem dJ24_put_2_161 : decode cJ24_put_2 161 = .ok (.aload 4, 2) := dk_25 4 (dk_at dksJ24_put_2_6 20 rfl rfl)
theorem dJ24_put_2_163 : decode cJ24_put_2 163 = .ok (.getfield 114, 3) := dk_180 0 114 (dk_at dksJ24_put_2_7 0 rfl rfl)
theorem dJ24_put_2_166 : decode cJ24_put_2 166 = .ok (.astore 4, 2) := dk_58 4 (dk_at dksJ24_put_2_7 3 rfl rfl)
theorem dJ24_put_2_168 : decode cJ24_put_2 168 = .ok (.goto 28, 3) := dk_167 0 28 (dk_at dksJ24_put_2_7 5 rfl rfl)
theorem dJ24_put_2_171 : decode cJ24_put_2 171 = .ok (.aload 4, 2) := dk_25 4 (dk_at dksJ24_put_2_7 8 rfl rfl)
theorem dJ24_put_2_173 : decode cJ24_put_2 173 = .ok (.getfield 58, 3) := dk_180 0 58 (dk_at dksJ24_put_2_7 10 rfl rfl)
theorem dJ24_put_2_176 : decode cJ24_put_2 176 = .ok (.astore 9, 2) := dk_58 9 (dk_at dksJ24_put_2_7 13 rfl rfl)
theorem dJ24_put_2_178 : decode cJ24_put_2 178 = .ok (.iload_n 3, 1) := dk_29 (dk_at dksJ24_put_2_7 15 rfl rfl)
theorem dJ24_put_2_179 : decode cJ24_put_2 179 = .ok (.ifCond .ne 8, 3) := dk_154 0 8 (dk_at dksJ24_put_2_7 16 rfl rfl)
theorem dJ24_put_2_182 : decode cJ24_put_2 182 = .ok (.aload 9, 2) := dk_25 9 (dk_at dksJ24_put_2_7 19 rfl rfl)
theorem dJ24_put_2_184 : decode cJ24_put_2 184 = .ok (.ifnonnull 9, 3) := dk_199 0 9 (dk_at dksJ24_put_2_7 21 rfl rfl)
theorem dJ24_put_2_187 : decode cJ24_put_2 187 = .ok (.aload 4, 2) := dk_25 4 (dk_at dksJ24_put_2_8 0 rfl rfl)
theorem dJ24_put_2_189 : decode cJ24_put_2 189 = .ok (.aload_n 2, 1) := dk_44 (dk_at dksJ24_put_2_8 2 rfl rfl)
theorem dJ24_put_2_190 : decode cJ24_put_2 190 = .ok (.putfield 58, 3) := dk_181 0 58 (dk_at dksJ24_put_2_8 3 rfl rfl)
theorem dJ24_put_2_193 : decode cJ24_put_2 193 = .ok (.aload 9, 2) := dk_25 9 (dk_at dksJ24_put_2_8 6 rfl rfl)
theorem dJ24_put_2_195 : decode cJ24_put_2 195 = .ok (.areturn, 1) := dk_176 (dk_at dksJ24_put_2_8 8 rfl rfl)
theorem dJ24_put_2_196 : decode cJ24_put_2 196 = .ok (.aload 4, 2) := dk_25 4 (dk_at dksJ24_put_2_8 9 rfl rfl)
theorem dJ24_put_2_198 : decode cJ24_put_2 198 = .ok (.ifnonnull (-75), 3) := dk_199 255 181 (dk_at dksJ24_put_2_8 11 rfl rfl)
theorem dJ24_put_2_201 : decode cJ24_put_2 201 = .ok (.aload_n 0, 1) := dk_42 (dk_at dksJ24_put_2_8 14 rfl rfl)
theorem dJ24_put_2_202 : decode cJ24_put_2 202 = .ok (.aload_n 1, 1) := dk_43 (dk_at dksJ24_put_2_8 15 rfl rfl)
theorem dJ24_put_2_203 : decode cJ24_put_2 203 = .ok (.aload_n 2, 1) := dk_44 (dk_at dksJ24_put_2_8 16 rfl rfl)
theorem dJ24_put_2_204 : decode cJ24_put_2 204 = .ok (.aload 6, 2) := dk_25 6 (dk_at dksJ24_put_2_8 17 rfl rfl)
theorem dJ24_put_2_206 : decode cJ24_put_2 206 = .ok (.iload 5, 2) := dk_21 5 (dk_at dksJ24_put_2_8 19 rfl rfl)
theorem dJ24_put_2_208 : decode cJ24_put_2 208 = .ok (.ifCond .ge 7, 3) := dk_156 0 7 (dk_at dksJ24_put_2_8 21 rfl rfl)
theorem dJ24_put_2_211 : decode cJ24_put_2 211 = .ok (.iconst 1, 1) := dk_4 (dk_at dksJ24_put_2_9 0 rfl rfl)
theorem dJ24_put_2_212 : decode cJ24_put_2 212 = .ok (.goto 4, 3) := dk_167 0 4 (dk_at dksJ24_put_2_9 1 rfl rfl)
theorem dJ24_put_2_215 : decode cJ24_put_2 215 = .ok (.iconst 0, 1) := dk_3 (dk_at dksJ24_put_2_9 4 rfl rfl)
theorem dJ24_put_2_216 : decode cJ24_put_2 216 = .ok (.invokevirtual 139, 3) := dk_182 0 139 (dk_at dksJ24_put_2_9 5 rfl rfl)
theorem dJ24_put_2_219 : decode cJ24_put_2 219 = .ok (.aconst_null, 1) := dk_1 (dk_at dksJ24_put_2_9 8 rfl rfl)
theorem dJ24_put_2_220 : decode cJ24_put_2 220 = .ok (.areturn, 1) := dk_176 (dk_at dksJ24_put_2_9 9 rfl rfl)
abbrev cJ24_addEntryToEmptyMap : ByteArray := prog_87_method_30_code
def yJ24_addEntryToEmptyMap : MethodName := ⟨RJ24, "addEntryToEmptyMap", "(Ljava/lang/Object;Ljava/lang/Object;)V"⟩
def dkwJ24_addEntryToEmptyMap_1 : List UInt8 := [181, 0, 7, 42, 89, 180, 0, 13, 4, 96, 181, 0, 13, 177]
abbrev dktJ24_addEntryToEmptyMap_1 : List UInt8 := dkwJ24_addEntryToEmptyMap_1 ++ []
def dkwJ24_addEntryToEmptyMap_0 : List UInt8 := [42, 43, 43, 182, 0, 123, 87, 42, 187, 0, 59, 89, 43, 44, 1, 183, 0, 167, 181, 0, 101, 42, 4]
abbrev dktJ24_addEntryToEmptyMap_0 : List UInt8 := dkwJ24_addEntryToEmptyMap_0 ++ dktJ24_addEntryToEmptyMap_1
theorem dksJ24_addEntryToEmptyMap_0 : cJ24_addEntryToEmptyMap.data.toList.drop 0 = dktJ24_addEntryToEmptyMap_0 := by decide +kernel
theorem dksJ24_addEntryToEmptyMap_1 : cJ24_addEntryToEmptyMap.data.toList.drop 23 = dktJ24_addEntryToEmptyMap_1 := dk_seg dksJ24_addEntryToEmptyMap_0 23 rfl rfl
theorem dJ24_addEntryToEmptyMap_0 : decode cJ24_addEntryToEmptyMap 0 = .ok (.aload_n 0, 1) := dk_42 (dk_at dksJ24_addEntryToEmptyMap_0 0 rfl rfl)
theorem dJ24_addEntryToEmptyMap_1 : decode cJ24_addEntryToEmptyMap 1 = .ok (.aload_n 1, 1) := dk_43 (dk_at dksJ24_addEntryToEmptyMap_0 1 rfl rfl)
theorem dJ24_addEntryToEmptyMap_2 : decode cJ24_addEntryToEmptyMap 2 = .ok (.aload_n 1, 1) := dk_43 (dk_at dksJ24_addEntryToEmptyMap_0 2 rfl rfl)
theorem dJ24_addEntryToEmptyMap_3 : decode cJ24_addEntryToEmptyMap 3 = .ok (.invokevirtual 123, 3) := dk_182 0 123 (dk_at dksJ24_addEntryToEmptyMap_0 3 rfl rfl)
theorem dJ24_addEntryToEmptyMap_6 : decode cJ24_addEntryToEmptyMap 6 = .ok (.pop, 1) := dk_87 (dk_at dksJ24_addEntryToEmptyMap_0 6 rfl rfl)
theorem dJ24_addEntryToEmptyMap_7 : decode cJ24_addEntryToEmptyMap 7 = .ok (.aload_n 0, 1) := dk_42 (dk_at dksJ24_addEntryToEmptyMap_0 7 rfl rfl)
theorem dJ24_addEntryToEmptyMap_8 : decode cJ24_addEntryToEmptyMap 8 = .ok (.new 59, 3) := dk_187 0 59 (dk_at dksJ24_addEntryToEmptyMap_0 8 rfl rfl)
theorem dJ24_addEntryToEmptyMap_11 : decode cJ24_addEntryToEmptyMap 11 = .ok (.dup, 1) := dk_89 (dk_at dksJ24_addEntryToEmptyMap_0 11 rfl rfl)
theorem dJ24_addEntryToEmptyMap_12 : decode cJ24_addEntryToEmptyMap 12 = .ok (.aload_n 1, 1) := dk_43 (dk_at dksJ24_addEntryToEmptyMap_0 12 rfl rfl)
theorem dJ24_addEntryToEmptyMap_13 : decode cJ24_addEntryToEmptyMap 13 = .ok (.aload_n 2, 1) := dk_44 (dk_at dksJ24_addEntryToEmptyMap_0 13 rfl rfl)
theorem dJ24_addEntryToEmptyMap_14 : decode cJ24_addEntryToEmptyMap 14 = .ok (.aconst_null, 1) := dk_1 (dk_at dksJ24_addEntryToEmptyMap_0 14 rfl rfl)
theorem dJ24_addEntryToEmptyMap_15 : decode cJ24_addEntryToEmptyMap 15 = .ok (.invokespecial 167, 3) := dk_183 0 167 (dk_at dksJ24_addEntryToEmptyMap_0 15 rfl rfl)
theorem dJ24_addEntryToEmptyMap_18 : decode cJ24_addEntryToEmptyMap 18 = .ok (.putfield 101, 3) := dk_181 0 101 (dk_at dksJ24_addEntryToEmptyMap_0 18 rfl rfl)
theorem dJ24_addEntryToEmptyMap_21 : decode cJ24_addEntryToEmptyMap 21 = .ok (.aload_n 0, 1) := dk_42 (dk_at dksJ24_addEntryToEmptyMap_0 21 rfl rfl)
theorem dJ24_addEntryToEmptyMap_22 : decode cJ24_addEntryToEmptyMap 22 = .ok (.iconst 1, 1) := dk_4 (dk_at dksJ24_addEntryToEmptyMap_0 22 rfl rfl)
theorem dJ24_addEntryToEmptyMap_23 : decode cJ24_addEntryToEmptyMap 23 = .ok (.putfield 7, 3) := dk_181 0 7 (dk_at dksJ24_addEntryToEmptyMap_1 0 rfl rfl)
theorem dJ24_addEntryToEmptyMap_26 : decode cJ24_addEntryToEmptyMap 26 = .ok (.aload_n 0, 1) := dk_42 (dk_at dksJ24_addEntryToEmptyMap_1 3 rfl rfl)
theorem dJ24_addEntryToEmptyMap_27 : decode cJ24_addEntryToEmptyMap 27 = .ok (.dup, 1) := dk_89 (dk_at dksJ24_addEntryToEmptyMap_1 4 rfl rfl)
theorem dJ24_addEntryToEmptyMap_28 : decode cJ24_addEntryToEmptyMap 28 = .ok (.getfield 13, 3) := dk_180 0 13 (dk_at dksJ24_addEntryToEmptyMap_1 5 rfl rfl)
theorem dJ24_addEntryToEmptyMap_31 : decode cJ24_addEntryToEmptyMap 31 = .ok (.iconst 1, 1) := dk_4 (dk_at dksJ24_addEntryToEmptyMap_1 8 rfl rfl)
theorem dJ24_addEntryToEmptyMap_32 : decode cJ24_addEntryToEmptyMap 32 = .ok (.iadd, 1) := dk_96 (dk_at dksJ24_addEntryToEmptyMap_1 9 rfl rfl)
theorem dJ24_addEntryToEmptyMap_33 : decode cJ24_addEntryToEmptyMap 33 = .ok (.putfield 13, 3) := dk_181 0 13 (dk_at dksJ24_addEntryToEmptyMap_1 10 rfl rfl)
theorem dJ24_addEntryToEmptyMap_36 : decode cJ24_addEntryToEmptyMap 36 = .ok (.return_, 1) := dk_177 (dk_at dksJ24_addEntryToEmptyMap_1 13 rfl rfl)
abbrev cJ24_compare : ByteArray := prog_87_method_67_code
def yJ24_compare : MethodName := ⟨RJ24, "compare", "(Ljava/lang/Object;Ljava/lang/Object;)I"⟩
def dkwJ24_compare_1 : List UInt8 := [43, 44, 185, 0, 117, 3, 0, 172]
abbrev dktJ24_compare_1 : List UInt8 := dkwJ24_compare_1 ++ []
def dkwJ24_compare_0 : List UInt8 := [42, 180, 0, 16, 199, 0, 16, 43, 192, 0, 99, 44, 185, 0, 107, 2, 0, 167, 0, 14, 42, 180, 0, 16]
abbrev dktJ24_compare_0 : List UInt8 := dkwJ24_compare_0 ++ dktJ24_compare_1
theorem dksJ24_compare_0 : cJ24_compare.data.toList.drop 0 = dktJ24_compare_0 := by decide +kernel
theorem dksJ24_compare_1 : cJ24_compare.data.toList.drop 24 = dktJ24_compare_1 := dk_seg dksJ24_compare_0 24 rfl rfl
theorem dJ24_compare_0 : decode cJ24_compare 0 = .ok (.aload_n 0, 1) := dk_42 (dk_at dksJ24_compare_0 0 rfl rfl)
theorem dJ24_compare_1 : decode cJ24_compare 1 = .ok (.getfield 16, 3) := dk_180 0 16 (dk_at dksJ24_compare_0 1 rfl rfl)
theorem dJ24_compare_4 : decode cJ24_compare 4 = .ok (.ifnonnull 16, 3) := dk_199 0 16 (dk_at dksJ24_compare_0 4 rfl rfl)
theorem dJ24_compare_7 : decode cJ24_compare 7 = .ok (.aload_n 1, 1) := dk_43 (dk_at dksJ24_compare_0 7 rfl rfl)
theorem dJ24_compare_8 : decode cJ24_compare 8 = .ok (.checkcast 99, 3) := dk_192 0 99 (dk_at dksJ24_compare_0 8 rfl rfl)
theorem dJ24_compare_11 : decode cJ24_compare 11 = .ok (.aload_n 2, 1) := dk_44 (dk_at dksJ24_compare_0 11 rfl rfl)
theorem dJ24_compare_12 : decode cJ24_compare 12 = .ok (.invokeinterface 107 2, 5) := by decide +kernel
theorem dJ24_compare_17 : decode cJ24_compare 17 = .ok (.goto 14, 3) := dk_167 0 14 (dk_at dksJ24_compare_0 17 rfl rfl)
theorem dJ24_compare_20 : decode cJ24_compare 20 = .ok (.aload_n 0, 1) := dk_42 (dk_at dksJ24_compare_0 20 rfl rfl)
theorem dJ24_compare_21 : decode cJ24_compare 21 = .ok (.getfield 16, 3) := dk_180 0 16 (dk_at dksJ24_compare_0 21 rfl rfl)
theorem dJ24_compare_24 : decode cJ24_compare 24 = .ok (.aload_n 1, 1) := dk_43 (dk_at dksJ24_compare_1 0 rfl rfl)
theorem dJ24_compare_25 : decode cJ24_compare 25 = .ok (.aload_n 2, 1) := dk_44 (dk_at dksJ24_compare_1 1 rfl rfl)
theorem dJ24_compare_26 : decode cJ24_compare 26 = .ok (.invokeinterface 117 3, 5) := by decide +kernel
theorem dJ24_compare_31 : decode cJ24_compare 31 = .ok (.ireturn, 1) := dk_172 (dk_at dksJ24_compare_1 7 rfl rfl)
abbrev cJ24_addEntry : ByteArray := prog_87_method_29_code
def yJ24_addEntry : MethodName := ⟨RJ24, "addEntry", "(Ljava/lang/Object;Ljava/lang/Object;Ljava/util/TreeMap$Entry;Z)V"⟩
def dkwJ24_addEntry_2 : List UInt8 := [181, 0, 7, 42, 89, 180, 0, 13, 4, 96, 181, 0, 13, 177]
abbrev dktJ24_addEntry_2 : List UInt8 := dkwJ24_addEntry_2 ++ []
def dkwJ24_addEntry_1 : List UInt8 := [167, 0, 9, 45, 25, 5, 181, 0, 114, 42, 25, 5, 182, 0, 170, 42, 89, 180, 0, 7, 4, 96]
abbrev dktJ24_addEntry_1 : List UInt8 := dkwJ24_addEntry_1 ++ dktJ24_addEntry_2
def dkwJ24_addEntry_0 : List UInt8 := [187, 0, 59, 89, 43, 44, 45, 183, 0, 167, 58, 5, 21, 4, 153, 0, 12, 45, 25, 5, 181, 0, 111]
abbrev dktJ24_addEntry_0 : List UInt8 := dkwJ24_addEntry_0 ++ dktJ24_addEntry_1
theorem dksJ24_addEntry_0 : cJ24_addEntry.data.toList.drop 0 = dktJ24_addEntry_0 := by decide +kernel
theorem dksJ24_addEntry_1 : cJ24_addEntry.data.toList.drop 23 = dktJ24_addEntry_1 := dk_seg dksJ24_addEntry_0 23 rfl rfl
theorem dksJ24_addEntry_2 : cJ24_addEntry.data.toList.drop 45 = dktJ24_addEntry_2 := dk_seg dksJ24_addEntry_1 22 rfl rfl
theorem dJ24_addEntry_0 : decode cJ24_addEntry 0 = .ok (.new 59, 3) := dk_187 0 59 (dk_at dksJ24_addEntry_0 0 rfl rfl)
theorem dJ24_addEntry_3 : decode cJ24_addEntry 3 = .ok (.dup, 1) := dk_89 (dk_at dksJ24_addEntry_0 3 rfl rfl)
theorem dJ24_addEntry_4 : decode cJ24_addEntry 4 = .ok (.aload_n 1, 1) := dk_43 (dk_at dksJ24_addEntry_0 4 rfl rfl)
theorem dJ24_addEntry_5 : decode cJ24_addEntry 5 = .ok (.aload_n 2, 1) := dk_44 (dk_at dksJ24_addEntry_0 5 rfl rfl)
theorem dJ24_addEntry_6 : decode cJ24_addEntry 6 = .ok (.aload_n 3, 1) := dk_45 (dk_at dksJ24_addEntry_0 6 rfl rfl)
theorem dJ24_addEntry_7 : decode cJ24_addEntry 7 = .ok (.invokespecial 167, 3) := dk_183 0 167 (dk_at dksJ24_addEntry_0 7 rfl rfl)
theorem dJ24_addEntry_10 : decode cJ24_addEntry 10 = .ok (.astore 5, 2) := dk_58 5 (dk_at dksJ24_addEntry_0 10 rfl rfl)
theorem dJ24_addEntry_12 : decode cJ24_addEntry 12 = .ok (.iload 4, 2) := dk_21 4 (dk_at dksJ24_addEntry_0 12 rfl rfl)
theorem dJ24_addEntry_14 : decode cJ24_addEntry 14 = .ok (.ifCond .eq 12, 3) := dk_153 0 12 (dk_at dksJ24_addEntry_0 14 rfl rfl)
theorem dJ24_addEntry_17 : decode cJ24_addEntry 17 = .ok (.aload_n 3, 1) := dk_45 (dk_at dksJ24_addEntry_0 17 rfl rfl)
theorem dJ24_addEntry_18 : decode cJ24_addEntry 18 = .ok (.aload 5, 2) := dk_25 5 (dk_at dksJ24_addEntry_0 18 rfl rfl)
theorem dJ24_addEntry_20 : decode cJ24_addEntry 20 = .ok (.putfield 111, 3) := dk_181 0 111 (dk_at dksJ24_addEntry_0 20 rfl rfl)
theorem dJ24_addEntry_23 : decode cJ24_addEntry 23 = .ok (.goto 9, 3) := dk_167 0 9 (dk_at dksJ24_addEntry_1 0 rfl rfl)
theorem dJ24_addEntry_26 : decode cJ24_addEntry 26 = .ok (.aload_n 3, 1) := dk_45 (dk_at dksJ24_addEntry_1 3 rfl rfl)
theorem dJ24_addEntry_27 : decode cJ24_addEntry 27 = .ok (.aload 5, 2) := dk_25 5 (dk_at dksJ24_addEntry_1 4 rfl rfl)
theorem dJ24_addEntry_29 : decode cJ24_addEntry 29 = .ok (.putfield 114, 3) := dk_181 0 114 (dk_at dksJ24_addEntry_1 6 rfl rfl)
theorem dJ24_addEntry_32 : decode cJ24_addEntry 32 = .ok (.aload_n 0, 1) := dk_42 (dk_at dksJ24_addEntry_1 9 rfl rfl)
theorem dJ24_addEntry_33 : decode cJ24_addEntry 33 = .ok (.aload 5, 2) := dk_25 5 (dk_at dksJ24_addEntry_1 10 rfl rfl)
theorem dJ24_addEntry_35 : decode cJ24_addEntry 35 = .ok (.invokevirtual 170, 3) := dk_182 0 170 (dk_at dksJ24_addEntry_1 12 rfl rfl)
theorem dJ24_addEntry_38 : decode cJ24_addEntry 38 = .ok (.aload_n 0, 1) := dk_42 (dk_at dksJ24_addEntry_1 15 rfl rfl)
theorem dJ24_addEntry_39 : decode cJ24_addEntry 39 = .ok (.dup, 1) := dk_89 (dk_at dksJ24_addEntry_1 16 rfl rfl)
theorem dJ24_addEntry_40 : decode cJ24_addEntry 40 = .ok (.getfield 7, 3) := dk_180 0 7 (dk_at dksJ24_addEntry_1 17 rfl rfl)
theorem dJ24_addEntry_43 : decode cJ24_addEntry 43 = .ok (.iconst 1, 1) := dk_4 (dk_at dksJ24_addEntry_1 20 rfl rfl)
theorem dJ24_addEntry_44 : decode cJ24_addEntry 44 = .ok (.iadd, 1) := dk_96 (dk_at dksJ24_addEntry_1 21 rfl rfl)
theorem dJ24_addEntry_45 : decode cJ24_addEntry 45 = .ok (.putfield 7, 3) := dk_181 0 7 (dk_at dksJ24_addEntry_2 0 rfl rfl)
theorem dJ24_addEntry_48 : decode cJ24_addEntry 48 = .ok (.aload_n 0, 1) := dk_42 (dk_at dksJ24_addEntry_2 3 rfl rfl)
theorem dJ24_addEntry_49 : decode cJ24_addEntry 49 = .ok (.dup, 1) := dk_89 (dk_at dksJ24_addEntry_2 4 rfl rfl)
theorem dJ24_addEntry_50 : decode cJ24_addEntry 50 = .ok (.getfield 13, 3) := dk_180 0 13 (dk_at dksJ24_addEntry_2 5 rfl rfl)
theorem dJ24_addEntry_53 : decode cJ24_addEntry 53 = .ok (.iconst 1, 1) := dk_4 (dk_at dksJ24_addEntry_2 8 rfl rfl)
theorem dJ24_addEntry_54 : decode cJ24_addEntry 54 = .ok (.iadd, 1) := dk_96 (dk_at dksJ24_addEntry_2 9 rfl rfl)
theorem dJ24_addEntry_55 : decode cJ24_addEntry 55 = .ok (.putfield 13, 3) := dk_181 0 13 (dk_at dksJ24_addEntry_2 10 rfl rfl)
theorem dJ24_addEntry_58 : decode cJ24_addEntry 58 = .ok (.return_, 1) := dk_177 (dk_at dksJ24_addEntry_2 13 rfl rfl)
abbrev cJ24_fixAfterInsertion : ByteArray := prog_87_method_83_code
def yJ24_fixAfterInsertion : MethodName := ⟨RJ24, "fixAfterInsertion", "(Ljava/util/TreeMap$Entry;)V"⟩
def dkwJ24_fixAfterInsertion_11 : List UInt8 := [42, 180, 0, 101, 4, 181, 1, 34, 177]
abbrev dktJ24_fixAfterInsertion_11 : List UInt8 := dkwJ24_fixAfterInsertion_11 ++ []
def dkwJ24_fixAfterInsertion_10 : List UInt8 := [184, 1, 38, 184, 1, 38, 3, 184, 1, 51, 42, 43, 184, 1, 38, 184, 1, 38, 182, 1, 55, 167, 255, 6]
abbrev dktJ24_fixAfterInsertion_10 : List UInt8 := dkwJ24_fixAfterInsertion_10 ++ dktJ24_fixAfterInsertion_11
def dkwJ24_fixAfterInsertion_9 : List UInt8 := [166, 0, 13, 43, 184, 1, 38, 76, 42, 43, 182, 1, 58, 43, 184, 1, 38, 4, 184, 1, 51, 43]
abbrev dktJ24_fixAfterInsertion_9 : List UInt8 := dkwJ24_fixAfterInsertion_9 ++ dktJ24_fixAfterInsertion_10
def dkwJ24_fixAfterInsertion_8 : List UInt8 := [184, 1, 51, 43, 184, 1, 38, 184, 1, 38, 76, 167, 0, 54, 43, 43, 184, 1, 38, 184, 1, 41]
abbrev dktJ24_fixAfterInsertion_8 : List UInt8 := dkwJ24_fixAfterInsertion_8 ++ dktJ24_fixAfterInsertion_9
def dkwJ24_fixAfterInsertion_7 : List UInt8 := [154, 0, 38, 43, 184, 1, 38, 4, 184, 1, 51, 44, 4, 184, 1, 51, 43, 184, 1, 38, 184, 1, 38, 3]
abbrev dktJ24_fixAfterInsertion_7 : List UInt8 := dkwJ24_fixAfterInsertion_7 ++ dktJ24_fixAfterInsertion_8
def dkwJ24_fixAfterInsertion_6 : List UInt8 := [184, 1, 38, 182, 1, 58, 167, 255, 113, 43, 184, 1, 38, 184, 1, 38, 184, 1, 41, 77, 44, 184, 1, 47]
abbrev dktJ24_fixAfterInsertion_6 : List UInt8 := dkwJ24_fixAfterInsertion_6 ++ dktJ24_fixAfterInsertion_7
def dkwJ24_fixAfterInsertion_5 : List UInt8 := [43, 184, 1, 38, 4, 184, 1, 51, 43, 184, 1, 38, 184, 1, 38, 3, 184, 1, 51, 42, 43, 184, 1, 38]
abbrev dktJ24_fixAfterInsertion_5 : List UInt8 := dkwJ24_fixAfterInsertion_5 ++ dktJ24_fixAfterInsertion_6
def dkwJ24_fixAfterInsertion_4 : List UInt8 := [167, 0, 54, 43, 43, 184, 1, 38, 184, 1, 44, 166, 0, 13, 43, 184, 1, 38, 76, 42, 43, 182, 1, 55]
abbrev dktJ24_fixAfterInsertion_4 : List UInt8 := dkwJ24_fixAfterInsertion_4 ++ dktJ24_fixAfterInsertion_5
def dkwJ24_fixAfterInsertion_3 : List UInt8 := [184, 1, 51, 43, 184, 1, 38, 184, 1, 38, 3, 184, 1, 51, 43, 184, 1, 38, 184, 1, 38, 76]
abbrev dktJ24_fixAfterInsertion_3 : List UInt8 := dkwJ24_fixAfterInsertion_3 ++ dktJ24_fixAfterInsertion_4
def dkwJ24_fixAfterInsertion_2 : List UInt8 := [184, 1, 38, 184, 1, 44, 77, 44, 184, 1, 47, 154, 0, 38, 43, 184, 1, 38, 4, 184, 1, 51, 44, 4]
abbrev dktJ24_fixAfterInsertion_2 : List UInt8 := dkwJ24_fixAfterInsertion_2 ++ dktJ24_fixAfterInsertion_3
def dkwJ24_fixAfterInsertion_1 : List UInt8 := [154, 0, 234, 43, 184, 1, 38, 43, 184, 1, 38, 184, 1, 38, 184, 1, 41, 166, 0, 110, 43, 184, 1, 38]
abbrev dktJ24_fixAfterInsertion_1 : List UInt8 := dkwJ24_fixAfterInsertion_1 ++ dktJ24_fixAfterInsertion_2
def dkwJ24_fixAfterInsertion_0 : List UInt8 := [43, 3, 181, 1, 34, 43, 198, 0, 252, 43, 42, 180, 0, 101, 165, 0, 244, 43, 180, 0, 124, 180, 1, 34]
abbrev dktJ24_fixAfterInsertion_0 : List UInt8 := dkwJ24_fixAfterInsertion_0 ++ dktJ24_fixAfterInsertion_1
theorem dksJ24_fixAfterInsertion_0 : cJ24_fixAfterInsertion.data.toList.drop 0 = dktJ24_fixAfterInsertion_0 := by decide +kernel
theorem dksJ24_fixAfterInsertion_1 : cJ24_fixAfterInsertion.data.toList.drop 24 = dktJ24_fixAfterInsertion_1 := dk_seg dksJ24_fixAfterInsertion_0 24 rfl rfl
theorem dksJ24_fixAfterInsertion_2 : cJ24_fixAfterInsertion.data.toList.drop 48 = dktJ24_fixAfterInsertion_2 := dk_seg dksJ24_fixAfterInsertion_1 24 rfl rfl
theorem dksJ24_fixAfterInsertion_3 : cJ24_fixAfterInsertion.data.toList.drop 72 = dktJ24_fixAfterInsertion_3 := dk_seg dksJ24_fixAfterInsertion_2 24 rfl rfl
theorem dksJ24_fixAfterInsertion_4 : cJ24_fixAfterInsertion.data.toList.drop 94 = dktJ24_fixAfterInsertion_4 := dk_seg dksJ24_fixAfterInsertion_3 22 rfl rfl
theorem dksJ24_fixAfterInsertion_5 : cJ24_fixAfterInsertion.data.toList.drop 118 = dktJ24_fixAfterInsertion_5 := dk_seg dksJ24_fixAfterInsertion_4 24 rfl rfl
theorem dksJ24_fixAfterInsertion_6 : cJ24_fixAfterInsertion.data.toList.drop 142 = dktJ24_fixAfterInsertion_6 := dk_seg dksJ24_fixAfterInsertion_5 24 rfl rfl
theorem dksJ24_fixAfterInsertion_7 : cJ24_fixAfterInsertion.data.toList.drop 166 = dktJ24_fixAfterInsertion_7 := dk_seg dksJ24_fixAfterInsertion_6 24 rfl rfl
theorem dksJ24_fixAfterInsertion_8 : cJ24_fixAfterInsertion.data.toList.drop 190 = dktJ24_fixAfterInsertion_8 := dk_seg dksJ24_fixAfterInsertion_7 24 rfl rfl
theorem dksJ24_fixAfterInsertion_9 : cJ24_fixAfterInsertion.data.toList.drop 212 = dktJ24_fixAfterInsertion_9 := dk_seg dksJ24_fixAfterInsertion_8 22 rfl rfl
theorem dksJ24_fixAfterInsertion_10 : cJ24_fixAfterInsertion.data.toList.drop 234 = dktJ24_fixAfterInsertion_10 := dk_seg dksJ24_fixAfterInsertion_9 22 rfl rfl
theorem dksJ24_fixAfterInsertion_11 : cJ24_fixAfterInsertion.data.toList.drop 258 = dktJ24_fixAfterInsertion_11 := dk_seg dksJ24_fixAfterInsertion_10 24 rfl rfl
theorem dJ24_fixAfterInsertion_0 : decode cJ24_fixAfterInsertion 0 = .ok (.aload_n 1, 1) := dk_43 (dk_at dksJ24_fixAfterInsertion_0 0 rfl rfl)
theorem dJ24_fixAfterInsertion_1 : decode cJ24_fixAfterInsertion 1 = .ok (.iconst 0, 1) := dk_3 (dk_at dksJ24_fixAfterInsertion_0 1 rfl rfl)
theorem dJ24_fixAfterInsertion_2 : decode cJ24_fixAfterInsertion 2 = .ok (.putfield 290, 3) := dk_181 1 34 (dk_at dksJ24_fixAfterInsertion_0 2 rfl rfl)
theorem dJ24_fixAfterInsertion_5 : decode cJ24_fixAfterInsertion 5 = .ok (.aload_n 1, 1) := dk_43 (dk_at dksJ24_fixAfterInsertion_0 5 rfl rfl)
theorem dJ24_fixAfterInsertion_6 : decode cJ24_fixAfterInsertion 6 = .ok (.ifnull 252, 3) := dk_198 0 252 (dk_at dksJ24_fixAfterInsertion_0 6 rfl rfl)
theorem dJ24_fixAfterInsertion_9 : decode cJ24_fixAfterInsertion 9 = .ok (.aload_n 1, 1) := dk_43 (dk_at dksJ24_fixAfterInsertion_0 9 rfl rfl)
theorem dJ24_fixAfterInsertion_10 : decode cJ24_fixAfterInsertion 10 = .ok (.aload_n 0, 1) := dk_42 (dk_at dksJ24_fixAfterInsertion_0 10 rfl rfl)
theorem dJ24_fixAfterInsertion_11 : decode cJ24_fixAfterInsertion 11 = .ok (.getfield 101, 3) := dk_180 0 101 (dk_at dksJ24_fixAfterInsertion_0 11 rfl rfl)
theorem dJ24_fixAfterInsertion_14 : decode cJ24_fixAfterInsertion 14 = .ok (.if_acmp .eq 244, 3) := dk_165 0 244 (dk_at dksJ24_fixAfterInsertion_0 14 rfl rfl)
theorem dJ24_fixAfterInsertion_17 : decode cJ24_fixAfterInsertion 17 = .ok (.aload_n 1, 1) := dk_43 (dk_at dksJ24_fixAfterInsertion_0 17 rfl rfl)
theorem dJ24_fixAfterInsertion_18 : decode cJ24_fixAfterInsertion 18 = .ok (.getfield 124, 3) := dk_180 0 124 (dk_at dksJ24_fixAfterInsertion_0 18 rfl rfl)
theorem dJ24_fixAfterInsertion_21 : decode cJ24_fixAfterInsertion 21 = .ok (.getfield 290, 3) := dk_180 1 34 (dk_at dksJ24_fixAfterInsertion_0 21 rfl rfl)
theorem dJ24_fixAfterInsertion_24 : decode cJ24_fixAfterInsertion 24 = .ok (.ifCond .ne 234, 3) := dk_154 0 234 (dk_at dksJ24_fixAfterInsertion_1 0 rfl rfl)
theorem dJ24_fixAfterInsertion_27 : decode cJ24_fixAfterInsertion 27 = .ok (.aload_n 1, 1) := dk_43 (dk_at dksJ24_fixAfterInsertion_1 3 rfl rfl)
theorem dJ24_fixAfterInsertion_28 : decode cJ24_fixAfterInsertion 28 = .ok (.invokestatic 294, 3) := dk_184 1 38 (dk_at dksJ24_fixAfterInsertion_1 4 rfl rfl)
theorem dJ24_fixAfterInsertion_31 : decode cJ24_fixAfterInsertion 31 = .ok (.aload_n 1, 1) := dk_43 (dk_at dksJ24_fixAfterInsertion_1 7 rfl rfl)
theorem dJ24_fixAfterInsertion_32 : decode cJ24_fixAfterInsertion 32 = .ok (.invokestatic 294, 3) := dk_184 1 38 (dk_at dksJ24_fixAfterInsertion_1 8 rfl rfl)
theorem dJ24_fixAfterInsertion_35 : decode cJ24_fixAfterInsertion 35 = .ok (.invokestatic 294, 3) := dk_184 1 38 (dk_at dksJ24_fixAfterInsertion_1 11 rfl rfl)
theorem dJ24_fixAfterInsertion_38 : decode cJ24_fixAfterInsertion 38 = .ok (.invokestatic 297, 3) := dk_184 1 41 (dk_at dksJ24_fixAfterInsertion_1 14 rfl rfl)
theorem dJ24_fixAfterInsertion_41 : decode cJ24_fixAfterInsertion 41 = .ok (.if_acmp .ne 110, 3) := dk_166 0 110 (dk_at dksJ24_fixAfterInsertion_1 17 rfl rfl)
theorem dJ24_fixAfterInsertion_44 : decode cJ24_fixAfterInsertion 44 = .ok (.aload_n 1, 1) := dk_43 (dk_at dksJ24_fixAfterInsertion_1 20 rfl rfl)
theorem dJ24_fixAfterInsertion_45 : decode cJ24_fixAfterInsertion 45 = .ok (.invokestatic 294, 3) := dk_184 1 38 (dk_at dksJ24_fixAfterInsertion_1 21 rfl rfl)
theorem dJ24_fixAfterInsertion_48 : decode cJ24_fixAfterInsertion 48 = .ok (.invokestatic 294, 3) := dk_184 1 38 (dk_at dksJ24_fixAfterInsertion_2 0 rfl rfl)
theorem dJ24_fixAfterInsertion_51 : decode cJ24_fixAfterInsertion 51 = .ok (.invokestatic 300, 3) := dk_184 1 44 (dk_at dksJ24_fixAfterInsertion_2 3 rfl rfl)
theorem dJ24_fixAfterInsertion_54 : decode cJ24_fixAfterInsertion 54 = .ok (.astore_n 2, 1) := dk_77 (dk_at dksJ24_fixAfterInsertion_2 6 rfl rfl)
theorem dJ24_fixAfterInsertion_55 : decode cJ24_fixAfterInsertion 55 = .ok (.aload_n 2, 1) := dk_44 (dk_at dksJ24_fixAfterInsertion_2 7 rfl rfl)
theorem dJ24_fixAfterInsertion_56 : decode cJ24_fixAfterInsertion 56 = .ok (.invokestatic 303, 3) := dk_184 1 47 (dk_at dksJ24_fixAfterInsertion_2 8 rfl rfl)
theorem dJ24_fixAfterInsertion_59 : decode cJ24_fixAfterInsertion 59 = .ok (.ifCond .ne 38, 3) := dk_154 0 38 (dk_at dksJ24_fixAfterInsertion_2 11 rfl rfl)
theorem dJ24_fixAfterInsertion_62 : decode cJ24_fixAfterInsertion 62 = .ok (.aload_n 1, 1) := dk_43 (dk_at dksJ24_fixAfterInsertion_2 14 rfl rfl)
theorem dJ24_fixAfterInsertion_63 : decode cJ24_fixAfterInsertion 63 = .ok (.invokestatic 294, 3) := dk_184 1 38 (dk_at dksJ24_fixAfterInsertion_2 15 rfl rfl)
theorem dJ24_fixAfterInsertion_66 : decode cJ24_fixAfterInsertion 66 = .ok (.iconst 1, 1) := dk_4 (dk_at dksJ24_fixAfterInsertion_2 18 rfl rfl)
theorem dJ24_fixAfterInsertion_67 : decode cJ24_fixAfterInsertion 67 = .ok (.invokestatic 307, 3) := dk_184 1 51 (dk_at dksJ24_fixAfterInsertion_2 19 rfl rfl)
theorem dJ24_fixAfterInsertion_70 : decode cJ24_fixAfterInsertion 70 = .ok (.aload_n 2, 1) := dk_44 (dk_at dksJ24_fixAfterInsertion_2 22 rfl rfl)
theorem dJ24_fixAfterInsertion_71 : decode cJ24_fixAfterInsertion 71 = .ok (.iconst 1, 1) := dk_4 (dk_at dksJ24_fixAfterInsertion_2 23 rfl rfl)
theorem dJ24_fixAfterInsertion_72 : decode cJ24_fixAfterInsertion 72 = .ok (.invokestatic 307, 3) := dk_184 1 51 (dk_at dksJ24_fixAfterInsertion_3 0 rfl rfl)
theorem dJ24_fixAfterInsertion_75 : decode cJ24_fixAfterInsertion 75 = .ok (.aload_n 1, 1) := dk_43 (dk_at dksJ24_fixAfterInsertion_3 3 rfl rfl)
theorem dJ24_fixAfterInsertion_76 : decode cJ24_fixAfterInsertion 76 = .ok (.invokestatic 294, 3) := dk_184 1 38 (dk_at dksJ24_fixAfterInsertion_3 4 rfl rfl)
theorem dJ24_fixAfterInsertion_79 : decode cJ24_fixAfterInsertion 79 = .ok (.invokestatic 294, 3) := dk_184 1 38 (dk_at dksJ24_fixAfterInsertion_3 7 rfl rfl)
theorem dJ24_fixAfterInsertion_82 : decode cJ24_fixAfterInsertion 82 = .ok (.iconst 0, 1) := dk_3 (dk_at dksJ24_fixAfterInsertion_3 10 rfl rfl)
theorem dJ24_fixAfterInsertion_83 : decode cJ24_fixAfterInsertion 83 = .ok (.invokestatic 307, 3) := dk_184 1 51 (dk_at dksJ24_fixAfterInsertion_3 11 rfl rfl)
theorem dJ24_fixAfterInsertion_86 : decode cJ24_fixAfterInsertion 86 = .ok (.aload_n 1, 1) := dk_43 (dk_at dksJ24_fixAfterInsertion_3 14 rfl rfl)
theorem dJ24_fixAfterInsertion_87 : decode cJ24_fixAfterInsertion 87 = .ok (.invokestatic 294, 3) := dk_184 1 38 (dk_at dksJ24_fixAfterInsertion_3 15 rfl rfl)
theorem dJ24_fixAfterInsertion_90 : decode cJ24_fixAfterInsertion 90 = .ok (.invokestatic 294, 3) := dk_184 1 38 (dk_at dksJ24_fixAfterInsertion_3 18 rfl rfl)
theorem dJ24_fixAfterInsertion_93 : decode cJ24_fixAfterInsertion 93 = .ok (.astore_n 1, 1) := dk_76 (dk_at dksJ24_fixAfterInsertion_3 21 rfl rfl)
theorem dJ24_fixAfterInsertion_94 : decode cJ24_fixAfterInsertion 94 = .ok (.goto 54, 3) := dk_167 0 54 (dk_at dksJ24_fixAfterInsertion_4 0 rfl rfl)
theorem dJ24_fixAfterInsertion_97 : decode cJ24_fixAfterInsertion 97 = .ok (.aload_n 1, 1) := dk_43 (dk_at dksJ24_fixAfterInsertion_4 3 rfl rfl)
theorem dJ24_fixAfterInsertion_98 : decode cJ24_fixAfterInsertion 98 = .ok (.aload_n 1, 1) := dk_43 (dk_at dksJ24_fixAfterInsertion_4 4 rfl rfl)
theorem dJ24_fixAfterInsertion_99 : decode cJ24_fixAfterInsertion 99 = .ok (.invokestatic 294, 3) := dk_184 1 38 (dk_at dksJ24_fixAfterInsertion_4 5 rfl rfl)
theorem dJ24_fixAfterInsertion_102 : decode cJ24_fixAfterInsertion 102 = .ok (.invokestatic 300, 3) := dk_184 1 44 (dk_at dksJ24_fixAfterInsertion_4 8 rfl rfl)
theorem dJ24_fixAfterInsertion_105 : decode cJ24_fixAfterInsertion 105 = .ok (.if_acmp .ne 13, 3) := dk_166 0 13 (dk_at dksJ24_fixAfterInsertion_4 11 rfl rfl)
theorem dJ24_fixAfterInsertion_108 : decode cJ24_fixAfterInsertion 108 = .ok (.aload_n 1, 1) := dk_43 (dk_at dksJ24_fixAfterInsertion_4 14 rfl rfl)
theorem dJ24_fixAfterInsertion_109 : decode cJ24_fixAfterInsertion 109 = .ok (.invokestatic 294, 3) := dk_184 1 38 (dk_at dksJ24_fixAfterInsertion_4 15 rfl rfl)
theorem dJ24_fixAfterInsertion_112 : decode cJ24_fixAfterInsertion 112 = .ok (.astore_n 1, 1) := dk_76 (dk_at dksJ24_fixAfterInsertion_4 18 rfl rfl)
theorem dJ24_fixAfterInsertion_113 : decode cJ24_fixAfterInsertion 113 = .ok (.aload_n 0, 1) := dk_42 (dk_at dksJ24_fixAfterInsertion_4 19 rfl rfl)
theorem dJ24_fixAfterInsertion_114 : decode cJ24_fixAfterInsertion 114 = .ok (.aload_n 1, 1) := dk_43 (dk_at dksJ24_fixAfterInsertion_4 20 rfl rfl)
theorem dJ24_fixAfterInsertion_115 : decode cJ24_fixAfterInsertion 115 = .ok (.invokevirtual 311, 3) := dk_182 1 55 (dk_at dksJ24_fixAfterInsertion_4 21 rfl rfl)
theorem dJ24_fixAfterInsertion_118 : decode cJ24_fixAfterInsertion 118 = .ok (.aload_n 1, 1) := dk_43 (dk_at dksJ24_fixAfterInsertion_5 0 rfl rfl)
theorem dJ24_fixAfterInsertion_119 : decode cJ24_fixAfterInsertion 119 = .ok (.invokestatic 294, 3) := dk_184 1 38 (dk_at dksJ24_fixAfterInsertion_5 1 rfl rfl)
theorem dJ24_fixAfterInsertion_122 : decode cJ24_fixAfterInsertion 122 = .ok (.iconst 1, 1) := dk_4 (dk_at dksJ24_fixAfterInsertion_5 4 rfl rfl)
theorem dJ24_fixAfterInsertion_123 : decode cJ24_fixAfterInsertion 123 = .ok (.invokestatic 307, 3) := dk_184 1 51 (dk_at dksJ24_fixAfterInsertion_5 5 rfl rfl)
theorem dJ24_fixAfterInsertion_126 : decode cJ24_fixAfterInsertion 126 = .ok (.aload_n 1, 1) := dk_43 (dk_at dksJ24_fixAfterInsertion_5 8 rfl rfl)
theorem dJ24_fixAfterInsertion_127 : decode cJ24_fixAfterInsertion 127 = .ok (.invokestatic 294, 3) := dk_184 1 38 (dk_at dksJ24_fixAfterInsertion_5 9 rfl rfl)
theorem dJ24_fixAfterInsertion_130 : decode cJ24_fixAfterInsertion 130 = .ok (.invokestatic 294, 3) := dk_184 1 38 (dk_at dksJ24_fixAfterInsertion_5 12 rfl rfl)
theorem dJ24_fixAfterInsertion_133 : decode cJ24_fixAfterInsertion 133 = .ok (.iconst 0, 1) := dk_3 (dk_at dksJ24_fixAfterInsertion_5 15 rfl rfl)
theorem dJ24_fixAfterInsertion_134 : decode cJ24_fixAfterInsertion 134 = .ok (.invokestatic 307, 3) := dk_184 1 51 (dk_at dksJ24_fixAfterInsertion_5 16 rfl rfl)
theorem dJ24_fixAfterInsertion_137 : decode cJ24_fixAfterInsertion 137 = .ok (.aload_n 0, 1) := dk_42 (dk_at dksJ24_fixAfterInsertion_5 19 rfl rfl)
theorem dJ24_fixAfterInsertion_138 : decode cJ24_fixAfterInsertion 138 = .ok (.aload_n 1, 1) := dk_43 (dk_at dksJ24_fixAfterInsertion_5 20 rfl rfl)
theorem dJ24_fixAfterInsertion_139 : decode cJ24_fixAfterInsertion 139 = .ok (.invokestatic 294, 3) := dk_184 1 38 (dk_at dksJ24_fixAfterInsertion_5 21 rfl rfl)
theorem dJ24_fixAfterInsertion_142 : decode cJ24_fixAfterInsertion 142 = .ok (.invokestatic 294, 3) := dk_184 1 38 (dk_at dksJ24_fixAfterInsertion_6 0 rfl rfl)
theorem dJ24_fixAfterInsertion_145 : decode cJ24_fixAfterInsertion 145 = .ok (.invokevirtual 314, 3) := dk_182 1 58 (dk_at dksJ24_fixAfterInsertion_6 3 rfl rfl)
theorem dJ24_fixAfterInsertion_148 : decode cJ24_fixAfterInsertion 148 = .ok (.goto (-143), 3) := dk_167 255 113 (dk_at dksJ24_fixAfterInsertion_6 6 rfl rfl)
theorem dJ24_fixAfterInsertion_151 : decode cJ24_fixAfterInsertion 151 = .ok (.aload_n 1, 1) := dk_43 (dk_at dksJ24_fixAfterInsertion_6 9 rfl rfl)
theorem dJ24_fixAfterInsertion_152 : decode cJ24_fixAfterInsertion 152 = .ok (.invokestatic 294, 3) := dk_184 1 38 (dk_at dksJ24_fixAfterInsertion_6 10 rfl rfl)
theorem dJ24_fixAfterInsertion_155 : decode cJ24_fixAfterInsertion 155 = .ok (.invokestatic 294, 3) := dk_184 1 38 (dk_at dksJ24_fixAfterInsertion_6 13 rfl rfl)
theorem dJ24_fixAfterInsertion_158 : decode cJ24_fixAfterInsertion 158 = .ok (.invokestatic 297, 3) := dk_184 1 41 (dk_at dksJ24_fixAfterInsertion_6 16 rfl rfl)
theorem dJ24_fixAfterInsertion_161 : decode cJ24_fixAfterInsertion 161 = .ok (.astore_n 2, 1) := dk_77 (dk_at dksJ24_fixAfterInsertion_6 19 rfl rfl)
theorem dJ24_fixAfterInsertion_162 : decode cJ24_fixAfterInsertion 162 = .ok (.aload_n 2, 1) := dk_44 (dk_at dksJ24_fixAfterInsertion_6 20 rfl rfl)
theorem dJ24_fixAfterInsertion_163 : decode cJ24_fixAfterInsertion 163 = .ok (.invokestatic 303, 3) := dk_184 1 47 (dk_at dksJ24_fixAfterInsertion_6 21 rfl rfl)
theorem dJ24_fixAfterInsertion_166 : decode cJ24_fixAfterInsertion 166 = .ok (.ifCond .ne 38, 3) := dk_154 0 38 (dk_at dksJ24_fixAfterInsertion_7 0 rfl rfl)
theorem dJ24_fixAfterInsertion_169 : decode cJ24_fixAfterInsertion 169 = .ok (.aload_n 1, 1) := dk_43 (dk_at dksJ24_fixAfterInsertion_7 3 rfl rfl)
theorem dJ24_fixAfterInsertion_170 : decode cJ24_fixAfterInsertion 170 = .ok (.invokestatic 294, 3) := dk_184 1 38 (dk_at dksJ24_fixAfterInsertion_7 4 rfl rfl)
theorem dJ24_fixAfterInsertion_173 : decode cJ24_fixAfterInsertion 173 = .ok (.iconst 1, 1) := dk_4 (dk_at dksJ24_fixAfterInsertion_7 7 rfl rfl)
theorem dJ24_fixAfterInsertion_174 : decode cJ24_fixAfterInsertion 174 = .ok (.invokestatic 307, 3) := dk_184 1 51 (dk_at dksJ24_fixAfterInsertion_7 8 rfl rfl)
theorem dJ24_fixAfterInsertion_177 : decode cJ24_fixAfterInsertion 177 = .ok (.aload_n 2, 1) := dk_44 (dk_at dksJ24_fixAfterInsertion_7 11 rfl rfl)
theorem dJ24_fixAfterInsertion_178 : decode cJ24_fixAfterInsertion 178 = .ok (.iconst 1, 1) := dk_4 (dk_at dksJ24_fixAfterInsertion_7 12 rfl rfl)
theorem dJ24_fixAfterInsertion_179 : decode cJ24_fixAfterInsertion 179 = .ok (.invokestatic 307, 3) := dk_184 1 51 (dk_at dksJ24_fixAfterInsertion_7 13 rfl rfl)
theorem dJ24_fixAfterInsertion_182 : decode cJ24_fixAfterInsertion 182 = .ok (.aload_n 1, 1) := dk_43 (dk_at dksJ24_fixAfterInsertion_7 16 rfl rfl)
theorem dJ24_fixAfterInsertion_183 : decode cJ24_fixAfterInsertion 183 = .ok (.invokestatic 294, 3) := dk_184 1 38 (dk_at dksJ24_fixAfterInsertion_7 17 rfl rfl)
theorem dJ24_fixAfterInsertion_186 : decode cJ24_fixAfterInsertion 186 = .ok (.invokestatic 294, 3) := dk_184 1 38 (dk_at dksJ24_fixAfterInsertion_7 20 rfl rfl)
theorem dJ24_fixAfterInsertion_189 : decode cJ24_fixAfterInsertion 189 = .ok (.iconst 0, 1) := dk_3 (dk_at dksJ24_fixAfterInsertion_7 23 rfl rfl)
theorem dJ24_fixAfterInsertion_190 : decode cJ24_fixAfterInsertion 190 = .ok (.invokestatic 307, 3) := dk_184 1 51 (dk_at dksJ24_fixAfterInsertion_8 0 rfl rfl)
theorem dJ24_fixAfterInsertion_193 : decode cJ24_fixAfterInsertion 193 = .ok (.aload_n 1, 1) := dk_43 (dk_at dksJ24_fixAfterInsertion_8 3 rfl rfl)
theorem dJ24_fixAfterInsertion_194 : decode cJ24_fixAfterInsertion 194 = .ok (.invokestatic 294, 3) := dk_184 1 38 (dk_at dksJ24_fixAfterInsertion_8 4 rfl rfl)
theorem dJ24_fixAfterInsertion_197 : decode cJ24_fixAfterInsertion 197 = .ok (.invokestatic 294, 3) := dk_184 1 38 (dk_at dksJ24_fixAfterInsertion_8 7 rfl rfl)
theorem dJ24_fixAfterInsertion_200 : decode cJ24_fixAfterInsertion 200 = .ok (.astore_n 1, 1) := dk_76 (dk_at dksJ24_fixAfterInsertion_8 10 rfl rfl)
theorem dJ24_fixAfterInsertion_201 : decode cJ24_fixAfterInsertion 201 = .ok (.goto 54, 3) := dk_167 0 54 (dk_at dksJ24_fixAfterInsertion_8 11 rfl rfl)
theorem dJ24_fixAfterInsertion_204 : decode cJ24_fixAfterInsertion 204 = .ok (.aload_n 1, 1) := dk_43 (dk_at dksJ24_fixAfterInsertion_8 14 rfl rfl)
theorem dJ24_fixAfterInsertion_205 : decode cJ24_fixAfterInsertion 205 = .ok (.aload_n 1, 1) := dk_43 (dk_at dksJ24_fixAfterInsertion_8 15 rfl rfl)
theorem dJ24_fixAfterInsertion_206 : decode cJ24_fixAfterInsertion 206 = .ok (.invokestatic 294, 3) := dk_184 1 38 (dk_at dksJ24_fixAfterInsertion_8 16 rfl rfl)
theorem dJ24_fixAfterInsertion_209 : decode cJ24_fixAfterInsertion 209 = .ok (.invokestatic 297, 3) := dk_184 1 41 (dk_at dksJ24_fixAfterInsertion_8 19 rfl rfl)
theorem dJ24_fixAfterInsertion_212 : decode cJ24_fixAfterInsertion 212 = .ok (.if_acmp .ne 13, 3) := dk_166 0 13 (dk_at dksJ24_fixAfterInsertion_9 0 rfl rfl)
theorem dJ24_fixAfterInsertion_215 : decode cJ24_fixAfterInsertion 215 = .ok (.aload_n 1, 1) := dk_43 (dk_at dksJ24_fixAfterInsertion_9 3 rfl rfl)
theorem dJ24_fixAfterInsertion_216 : decode cJ24_fixAfterInsertion 216 = .ok (.invokestatic 294, 3) := dk_184 1 38 (dk_at dksJ24_fixAfterInsertion_9 4 rfl rfl)
theorem dJ24_fixAfterInsertion_219 : decode cJ24_fixAfterInsertion 219 = .ok (.astore_n 1, 1) := dk_76 (dk_at dksJ24_fixAfterInsertion_9 7 rfl rfl)
theorem dJ24_fixAfterInsertion_220 : decode cJ24_fixAfterInsertion 220 = .ok (.aload_n 0, 1) := dk_42 (dk_at dksJ24_fixAfterInsertion_9 8 rfl rfl)
theorem dJ24_fixAfterInsertion_221 : decode cJ24_fixAfterInsertion 221 = .ok (.aload_n 1, 1) := dk_43 (dk_at dksJ24_fixAfterInsertion_9 9 rfl rfl)
theorem dJ24_fixAfterInsertion_222 : decode cJ24_fixAfterInsertion 222 = .ok (.invokevirtual 314, 3) := dk_182 1 58 (dk_at dksJ24_fixAfterInsertion_9 10 rfl rfl)
theorem dJ24_fixAfterInsertion_225 : decode cJ24_fixAfterInsertion 225 = .ok (.aload_n 1, 1) := dk_43 (dk_at dksJ24_fixAfterInsertion_9 13 rfl rfl)
theorem dJ24_fixAfterInsertion_226 : decode cJ24_fixAfterInsertion 226 = .ok (.invokestatic 294, 3) := dk_184 1 38 (dk_at dksJ24_fixAfterInsertion_9 14 rfl rfl)
theorem dJ24_fixAfterInsertion_229 : decode cJ24_fixAfterInsertion 229 = .ok (.iconst 1, 1) := dk_4 (dk_at dksJ24_fixAfterInsertion_9 17 rfl rfl)
theorem dJ24_fixAfterInsertion_230 : decode cJ24_fixAfterInsertion 230 = .ok (.invokestatic 307, 3) := dk_184 1 51 (dk_at dksJ24_fixAfterInsertion_9 18 rfl rfl)
theorem dJ24_fixAfterInsertion_233 : decode cJ24_fixAfterInsertion 233 = .ok (.aload_n 1, 1) := dk_43 (dk_at dksJ24_fixAfterInsertion_9 21 rfl rfl)
theorem dJ24_fixAfterInsertion_234 : decode cJ24_fixAfterInsertion 234 = .ok (.invokestatic 294, 3) := dk_184 1 38 (dk_at dksJ24_fixAfterInsertion_10 0 rfl rfl)
theorem dJ24_fixAfterInsertion_237 : decode cJ24_fixAfterInsertion 237 = .ok (.invokestatic 294, 3) := dk_184 1 38 (dk_at dksJ24_fixAfterInsertion_10 3 rfl rfl)
theorem dJ24_fixAfterInsertion_240 : decode cJ24_fixAfterInsertion 240 = .ok (.iconst 0, 1) := dk_3 (dk_at dksJ24_fixAfterInsertion_10 6 rfl rfl)
theorem dJ24_fixAfterInsertion_241 : decode cJ24_fixAfterInsertion 241 = .ok (.invokestatic 307, 3) := dk_184 1 51 (dk_at dksJ24_fixAfterInsertion_10 7 rfl rfl)
theorem dJ24_fixAfterInsertion_244 : decode cJ24_fixAfterInsertion 244 = .ok (.aload_n 0, 1) := dk_42 (dk_at dksJ24_fixAfterInsertion_10 10 rfl rfl)
theorem dJ24_fixAfterInsertion_245 : decode cJ24_fixAfterInsertion 245 = .ok (.aload_n 1, 1) := dk_43 (dk_at dksJ24_fixAfterInsertion_10 11 rfl rfl)
theorem dJ24_fixAfterInsertion_246 : decode cJ24_fixAfterInsertion 246 = .ok (.invokestatic 294, 3) := dk_184 1 38 (dk_at dksJ24_fixAfterInsertion_10 12 rfl rfl)
theorem dJ24_fixAfterInsertion_249 : decode cJ24_fixAfterInsertion 249 = .ok (.invokestatic 294, 3) := dk_184 1 38 (dk_at dksJ24_fixAfterInsertion_10 15 rfl rfl)
theorem dJ24_fixAfterInsertion_252 : decode cJ24_fixAfterInsertion 252 = .ok (.invokevirtual 311, 3) := dk_182 1 55 (dk_at dksJ24_fixAfterInsertion_10 18 rfl rfl)
theorem dJ24_fixAfterInsertion_255 : decode cJ24_fixAfterInsertion 255 = .ok (.goto (-250), 3) := dk_167 255 6 (dk_at dksJ24_fixAfterInsertion_10 21 rfl rfl)
theorem dJ24_fixAfterInsertion_258 : decode cJ24_fixAfterInsertion 258 = .ok (.aload_n 0, 1) := dk_42 (dk_at dksJ24_fixAfterInsertion_11 0 rfl rfl)
theorem dJ24_fixAfterInsertion_259 : decode cJ24_fixAfterInsertion 259 = .ok (.getfield 101, 3) := dk_180 0 101 (dk_at dksJ24_fixAfterInsertion_11 1 rfl rfl)
theorem dJ24_fixAfterInsertion_262 : decode cJ24_fixAfterInsertion 262 = .ok (.iconst 1, 1) := dk_4 (dk_at dksJ24_fixAfterInsertion_11 4 rfl rfl)
theorem dJ24_fixAfterInsertion_263 : decode cJ24_fixAfterInsertion 263 = .ok (.putfield 290, 3) := dk_181 1 34 (dk_at dksJ24_fixAfterInsertion_11 5 rfl rfl)
theorem dJ24_fixAfterInsertion_266 : decode cJ24_fixAfterInsertion 266 = .ok (.return_, 1) := dk_177 (dk_at dksJ24_fixAfterInsertion_11 8 rfl rfl)
abbrev cJ24_parentOf : ByteArray := prog_87_method_77_code
def yJ24_parentOf : MethodName := ⟨RJ24, "parentOf", "(Ljava/util/TreeMap$Entry;)Ljava/util/TreeMap$Entry;"⟩
def dkwJ24_parentOf_0 : List UInt8 := [42, 199, 0, 7, 1, 167, 0, 7, 42, 180, 0, 124, 176]
abbrev dktJ24_parentOf_0 : List UInt8 := dkwJ24_parentOf_0 ++ []
theorem dksJ24_parentOf_0 : cJ24_parentOf.data.toList.drop 0 = dktJ24_parentOf_0 := by decide +kernel
theorem dJ24_parentOf_0 : decode cJ24_parentOf 0 = .ok (.aload_n 0, 1) := dk_42 (dk_at dksJ24_parentOf_0 0 rfl rfl)
theorem dJ24_parentOf_1 : decode cJ24_parentOf 1 = .ok (.ifnonnull 7, 3) := dk_199 0 7 (dk_at dksJ24_parentOf_0 1 rfl rfl)
theorem dJ24_parentOf_4 : decode cJ24_parentOf 4 = .ok (.aconst_null, 1) := dk_1 (dk_at dksJ24_parentOf_0 4 rfl rfl)
theorem dJ24_parentOf_5 : decode cJ24_parentOf 5 = .ok (.goto 7, 3) := dk_167 0 7 (dk_at dksJ24_parentOf_0 5 rfl rfl)
theorem dJ24_parentOf_8 : decode cJ24_parentOf 8 = .ok (.aload_n 0, 1) := dk_42 (dk_at dksJ24_parentOf_0 8 rfl rfl)
theorem dJ24_parentOf_9 : decode cJ24_parentOf 9 = .ok (.getfield 124, 3) := dk_180 0 124 (dk_at dksJ24_parentOf_0 9 rfl rfl)
theorem dJ24_parentOf_12 : decode cJ24_parentOf 12 = .ok (.areturn, 1) := dk_176 (dk_at dksJ24_parentOf_0 12 rfl rfl)
abbrev cJ24_leftOf : ByteArray := prog_87_method_79_code
def yJ24_leftOf : MethodName := ⟨RJ24, "leftOf", "(Ljava/util/TreeMap$Entry;)Ljava/util/TreeMap$Entry;"⟩
def dkwJ24_leftOf_0 : List UInt8 := [42, 199, 0, 7, 1, 167, 0, 7, 42, 180, 0, 111, 176]
abbrev dktJ24_leftOf_0 : List UInt8 := dkwJ24_leftOf_0 ++ []
theorem dksJ24_leftOf_0 : cJ24_leftOf.data.toList.drop 0 = dktJ24_leftOf_0 := by decide +kernel
theorem dJ24_leftOf_0 : decode cJ24_leftOf 0 = .ok (.aload_n 0, 1) := dk_42 (dk_at dksJ24_leftOf_0 0 rfl rfl)
theorem dJ24_leftOf_1 : decode cJ24_leftOf 1 = .ok (.ifnonnull 7, 3) := dk_199 0 7 (dk_at dksJ24_leftOf_0 1 rfl rfl)
theorem dJ24_leftOf_4 : decode cJ24_leftOf 4 = .ok (.aconst_null, 1) := dk_1 (dk_at dksJ24_leftOf_0 4 rfl rfl)
theorem dJ24_leftOf_5 : decode cJ24_leftOf 5 = .ok (.goto 7, 3) := dk_167 0 7 (dk_at dksJ24_leftOf_0 5 rfl rfl)
theorem dJ24_leftOf_8 : decode cJ24_leftOf 8 = .ok (.aload_n 0, 1) := dk_42 (dk_at dksJ24_leftOf_0 8 rfl rfl)
theorem dJ24_leftOf_9 : decode cJ24_leftOf 9 = .ok (.getfield 111, 3) := dk_180 0 111 (dk_at dksJ24_leftOf_0 9 rfl rfl)
theorem dJ24_leftOf_12 : decode cJ24_leftOf 12 = .ok (.areturn, 1) := dk_176 (dk_at dksJ24_leftOf_0 12 rfl rfl)
abbrev cJ24_rightOf : ByteArray := prog_87_method_80_code
def yJ24_rightOf : MethodName := ⟨RJ24, "rightOf", "(Ljava/util/TreeMap$Entry;)Ljava/util/TreeMap$Entry;"⟩
def dkwJ24_rightOf_0 : List UInt8 := [42, 199, 0, 7, 1, 167, 0, 7, 42, 180, 0, 114, 176]
abbrev dktJ24_rightOf_0 : List UInt8 := dkwJ24_rightOf_0 ++ []
theorem dksJ24_rightOf_0 : cJ24_rightOf.data.toList.drop 0 = dktJ24_rightOf_0 := by decide +kernel
theorem dJ24_rightOf_0 : decode cJ24_rightOf 0 = .ok (.aload_n 0, 1) := dk_42 (dk_at dksJ24_rightOf_0 0 rfl rfl)
theorem dJ24_rightOf_1 : decode cJ24_rightOf 1 = .ok (.ifnonnull 7, 3) := dk_199 0 7 (dk_at dksJ24_rightOf_0 1 rfl rfl)
theorem dJ24_rightOf_4 : decode cJ24_rightOf 4 = .ok (.aconst_null, 1) := dk_1 (dk_at dksJ24_rightOf_0 4 rfl rfl)
theorem dJ24_rightOf_5 : decode cJ24_rightOf 5 = .ok (.goto 7, 3) := dk_167 0 7 (dk_at dksJ24_rightOf_0 5 rfl rfl)
theorem dJ24_rightOf_8 : decode cJ24_rightOf 8 = .ok (.aload_n 0, 1) := dk_42 (dk_at dksJ24_rightOf_0 8 rfl rfl)
theorem dJ24_rightOf_9 : decode cJ24_rightOf 9 = .ok (.getfield 114, 3) := dk_180 0 114 (dk_at dksJ24_rightOf_0 9 rfl rfl)
theorem dJ24_rightOf_12 : decode cJ24_rightOf 12 = .ok (.areturn, 1) := dk_176 (dk_at dksJ24_rightOf_0 12 rfl rfl)
abbrev cJ24_colorOf : ByteArray := prog_87_method_76_code
def yJ24_colorOf : MethodName := ⟨RJ24, "colorOf", "(Ljava/util/TreeMap$Entry;)Z"⟩
def dkwJ24_colorOf_0 : List UInt8 := [42, 199, 0, 7, 4, 167, 0, 7, 42, 180, 1, 34, 172]
abbrev dktJ24_colorOf_0 : List UInt8 := dkwJ24_colorOf_0 ++ []
theorem dksJ24_colorOf_0 : cJ24_colorOf.data.toList.drop 0 = dktJ24_colorOf_0 := by decide +kernel
theorem dJ24_colorOf_0 : decode cJ24_colorOf 0 = .ok (.aload_n 0, 1) := dk_42 (dk_at dksJ24_colorOf_0 0 rfl rfl)
theorem dJ24_colorOf_1 : decode cJ24_colorOf 1 = .ok (.ifnonnull 7, 3) := dk_199 0 7 (dk_at dksJ24_colorOf_0 1 rfl rfl)
theorem dJ24_colorOf_4 : decode cJ24_colorOf 4 = .ok (.iconst 1, 1) := dk_4 (dk_at dksJ24_colorOf_0 4 rfl rfl)
theorem dJ24_colorOf_5 : decode cJ24_colorOf 5 = .ok (.goto 7, 3) := dk_167 0 7 (dk_at dksJ24_colorOf_0 5 rfl rfl)
theorem dJ24_colorOf_8 : decode cJ24_colorOf 8 = .ok (.aload_n 0, 1) := dk_42 (dk_at dksJ24_colorOf_0 8 rfl rfl)
theorem dJ24_colorOf_9 : decode cJ24_colorOf 9 = .ok (.getfield 290, 3) := dk_180 1 34 (dk_at dksJ24_colorOf_0 9 rfl rfl)
theorem dJ24_colorOf_12 : decode cJ24_colorOf 12 = .ok (.ireturn, 1) := dk_172 (dk_at dksJ24_colorOf_0 12 rfl rfl)
abbrev cJ24_setColor : ByteArray := prog_87_method_78_code
def yJ24_setColor : MethodName := ⟨RJ24, "setColor", "(Ljava/util/TreeMap$Entry;Z)V"⟩
def dkwJ24_setColor_0 : List UInt8 := [42, 198, 0, 8, 42, 27, 181, 1, 34, 177]
abbrev dktJ24_setColor_0 : List UInt8 := dkwJ24_setColor_0 ++ []
theorem dksJ24_setColor_0 : cJ24_setColor.data.toList.drop 0 = dktJ24_setColor_0 := by decide +kernel
theorem dJ24_setColor_0 : decode cJ24_setColor 0 = .ok (.aload_n 0, 1) := dk_42 (dk_at dksJ24_setColor_0 0 rfl rfl)
theorem dJ24_setColor_1 : decode cJ24_setColor 1 = .ok (.ifnull 8, 3) := dk_198 0 8 (dk_at dksJ24_setColor_0 1 rfl rfl)
theorem dJ24_setColor_4 : decode cJ24_setColor 4 = .ok (.aload_n 0, 1) := dk_42 (dk_at dksJ24_setColor_0 4 rfl rfl)
theorem dJ24_setColor_5 : decode cJ24_setColor 5 = .ok (.iload_n 1, 1) := dk_27 (dk_at dksJ24_setColor_0 5 rfl rfl)
theorem dJ24_setColor_6 : decode cJ24_setColor 6 = .ok (.putfield 290, 3) := dk_181 1 34 (dk_at dksJ24_setColor_0 6 rfl rfl)
theorem dJ24_setColor_9 : decode cJ24_setColor 9 = .ok (.return_, 1) := dk_177 (dk_at dksJ24_setColor_0 9 rfl rfl)
abbrev cJ24_rotateLeft : ByteArray := prog_87_method_81_code
def yJ24_rotateLeft : MethodName := ⟨RJ24, "rotateLeft", "(Ljava/util/TreeMap$Entry;)V"⟩
def dkwJ24_rotateLeft_4 : List UInt8 := [177]
abbrev dktJ24_rotateLeft_4 : List UInt8 := dkwJ24_rotateLeft_4 ++ []
def dkwJ24_rotateLeft_3 : List UInt8 := [181, 0, 111, 167, 0, 11, 43, 180, 0, 124, 44, 181, 0, 114, 44, 43, 181, 0, 111, 43, 44, 181, 0, 124]
abbrev dktJ24_rotateLeft_3 : List UInt8 := dkwJ24_rotateLeft_3 ++ dktJ24_rotateLeft_4
def dkwJ24_rotateLeft_2 : List UInt8 := [44, 181, 0, 101, 167, 0, 33, 43, 180, 0, 124, 180, 0, 111, 43, 166, 0, 14, 43, 180, 0, 124, 44]
abbrev dktJ24_rotateLeft_2 : List UInt8 := dkwJ24_rotateLeft_2 ++ dktJ24_rotateLeft_3
def dkwJ24_rotateLeft_1 : List UInt8 := [44, 180, 0, 111, 43, 181, 0, 124, 44, 43, 180, 0, 124, 181, 0, 124, 43, 180, 0, 124, 199, 0, 11, 42]
abbrev dktJ24_rotateLeft_1 : List UInt8 := dkwJ24_rotateLeft_1 ++ dktJ24_rotateLeft_2
def dkwJ24_rotateLeft_0 : List UInt8 := [43, 198, 0, 94, 43, 180, 0, 114, 77, 43, 44, 180, 0, 111, 181, 0, 114, 44, 180, 0, 111, 198, 0, 11]
abbrev dktJ24_rotateLeft_0 : List UInt8 := dkwJ24_rotateLeft_0 ++ dktJ24_rotateLeft_1
theorem dksJ24_rotateLeft_0 : cJ24_rotateLeft.data.toList.drop 0 = dktJ24_rotateLeft_0 := by decide +kernel
theorem dksJ24_rotateLeft_1 : cJ24_rotateLeft.data.toList.drop 24 = dktJ24_rotateLeft_1 := dk_seg dksJ24_rotateLeft_0 24 rfl rfl
theorem dksJ24_rotateLeft_2 : cJ24_rotateLeft.data.toList.drop 48 = dktJ24_rotateLeft_2 := dk_seg dksJ24_rotateLeft_1 24 rfl rfl
theorem dksJ24_rotateLeft_3 : cJ24_rotateLeft.data.toList.drop 71 = dktJ24_rotateLeft_3 := dk_seg dksJ24_rotateLeft_2 23 rfl rfl
theorem dksJ24_rotateLeft_4 : cJ24_rotateLeft.data.toList.drop 95 = dktJ24_rotateLeft_4 := dk_seg dksJ24_rotateLeft_3 24 rfl rfl
theorem dJ24_rotateLeft_0 : decode cJ24_rotateLeft 0 = .ok (.aload_n 1, 1) := dk_43 (dk_at dksJ24_rotateLeft_0 0 rfl rfl)
theorem dJ24_rotateLeft_1 : decode cJ24_rotateLeft 1 = .ok (.ifnull 94, 3) := dk_198 0 94 (dk_at dksJ24_rotateLeft_0 1 rfl rfl)
theorem dJ24_rotateLeft_4 : decode cJ24_rotateLeft 4 = .ok (.aload_n 1, 1) := dk_43 (dk_at dksJ24_rotateLeft_0 4 rfl rfl)
theorem dJ24_rotateLeft_5 : decode cJ24_rotateLeft 5 = .ok (.getfield 114, 3) := dk_180 0 114 (dk_at dksJ24_rotateLeft_0 5 rfl rfl)
theorem dJ24_rotateLeft_8 : decode cJ24_rotateLeft 8 = .ok (.astore_n 2, 1) := dk_77 (dk_at dksJ24_rotateLeft_0 8 rfl rfl)
theorem dJ24_rotateLeft_9 : decode cJ24_rotateLeft 9 = .ok (.aload_n 1, 1) := dk_43 (dk_at dksJ24_rotateLeft_0 9 rfl rfl)
theorem dJ24_rotateLeft_10 : decode cJ24_rotateLeft 10 = .ok (.aload_n 2, 1) := dk_44 (dk_at dksJ24_rotateLeft_0 10 rfl rfl)
theorem dJ24_rotateLeft_11 : decode cJ24_rotateLeft 11 = .ok (.getfield 111, 3) := dk_180 0 111 (dk_at dksJ24_rotateLeft_0 11 rfl rfl)
theorem dJ24_rotateLeft_14 : decode cJ24_rotateLeft 14 = .ok (.putfield 114, 3) := dk_181 0 114 (dk_at dksJ24_rotateLeft_0 14 rfl rfl)
theorem dJ24_rotateLeft_17 : decode cJ24_rotateLeft 17 = .ok (.aload_n 2, 1) := dk_44 (dk_at dksJ24_rotateLeft_0 17 rfl rfl)
theorem dJ24_rotateLeft_18 : decode cJ24_rotateLeft 18 = .ok (.getfield 111, 3) := dk_180 0 111 (dk_at dksJ24_rotateLeft_0 18 rfl rfl)
theorem dJ24_rotateLeft_21 : decode cJ24_rotateLeft 21 = .ok (.ifnull 11, 3) := dk_198 0 11 (dk_at dksJ24_rotateLeft_0 21 rfl rfl)
theorem dJ24_rotateLeft_24 : decode cJ24_rotateLeft 24 = .ok (.aload_n 2, 1) := dk_44 (dk_at dksJ24_rotateLeft_1 0 rfl rfl)
theorem dJ24_rotateLeft_25 : decode cJ24_rotateLeft 25 = .ok (.getfield 111, 3) := dk_180 0 111 (dk_at dksJ24_rotateLeft_1 1 rfl rfl)
theorem dJ24_rotateLeft_28 : decode cJ24_rotateLeft 28 = .ok (.aload_n 1, 1) := dk_43 (dk_at dksJ24_rotateLeft_1 4 rfl rfl)
theorem dJ24_rotateLeft_29 : decode cJ24_rotateLeft 29 = .ok (.putfield 124, 3) := dk_181 0 124 (dk_at dksJ24_rotateLeft_1 5 rfl rfl)
theorem dJ24_rotateLeft_32 : decode cJ24_rotateLeft 32 = .ok (.aload_n 2, 1) := dk_44 (dk_at dksJ24_rotateLeft_1 8 rfl rfl)
theorem dJ24_rotateLeft_33 : decode cJ24_rotateLeft 33 = .ok (.aload_n 1, 1) := dk_43 (dk_at dksJ24_rotateLeft_1 9 rfl rfl)
theorem dJ24_rotateLeft_34 : decode cJ24_rotateLeft 34 = .ok (.getfield 124, 3) := dk_180 0 124 (dk_at dksJ24_rotateLeft_1 10 rfl rfl)
theorem dJ24_rotateLeft_37 : decode cJ24_rotateLeft 37 = .ok (.putfield 124, 3) := dk_181 0 124 (dk_at dksJ24_rotateLeft_1 13 rfl rfl)
theorem dJ24_rotateLeft_40 : decode cJ24_rotateLeft 40 = .ok (.aload_n 1, 1) := dk_43 (dk_at dksJ24_rotateLeft_1 16 rfl rfl)
theorem dJ24_rotateLeft_41 : decode cJ24_rotateLeft 41 = .ok (.getfield 124, 3) := dk_180 0 124 (dk_at dksJ24_rotateLeft_1 17 rfl rfl)
theorem dJ24_rotateLeft_44 : decode cJ24_rotateLeft 44 = .ok (.ifnonnull 11, 3) := dk_199 0 11 (dk_at dksJ24_rotateLeft_1 20 rfl rfl)
theorem dJ24_rotateLeft_47 : decode cJ24_rotateLeft 47 = .ok (.aload_n 0, 1) := dk_42 (dk_at dksJ24_rotateLeft_1 23 rfl rfl)
theorem dJ24_rotateLeft_48 : decode cJ24_rotateLeft 48 = .ok (.aload_n 2, 1) := dk_44 (dk_at dksJ24_rotateLeft_2 0 rfl rfl)
theorem dJ24_rotateLeft_49 : decode cJ24_rotateLeft 49 = .ok (.putfield 101, 3) := dk_181 0 101 (dk_at dksJ24_rotateLeft_2 1 rfl rfl)
theorem dJ24_rotateLeft_52 : decode cJ24_rotateLeft 52 = .ok (.goto 33, 3) := dk_167 0 33 (dk_at dksJ24_rotateLeft_2 4 rfl rfl)
theorem dJ24_rotateLeft_55 : decode cJ24_rotateLeft 55 = .ok (.aload_n 1, 1) := dk_43 (dk_at dksJ24_rotateLeft_2 7 rfl rfl)
theorem dJ24_rotateLeft_56 : decode cJ24_rotateLeft 56 = .ok (.getfield 124, 3) := dk_180 0 124 (dk_at dksJ24_rotateLeft_2 8 rfl rfl)
theorem dJ24_rotateLeft_59 : decode cJ24_rotateLeft 59 = .ok (.getfield 111, 3) := dk_180 0 111 (dk_at dksJ24_rotateLeft_2 11 rfl rfl)
theorem dJ24_rotateLeft_62 : decode cJ24_rotateLeft 62 = .ok (.aload_n 1, 1) := dk_43 (dk_at dksJ24_rotateLeft_2 14 rfl rfl)
theorem dJ24_rotateLeft_63 : decode cJ24_rotateLeft 63 = .ok (.if_acmp .ne 14, 3) := dk_166 0 14 (dk_at dksJ24_rotateLeft_2 15 rfl rfl)
theorem dJ24_rotateLeft_66 : decode cJ24_rotateLeft 66 = .ok (.aload_n 1, 1) := dk_43 (dk_at dksJ24_rotateLeft_2 18 rfl rfl)
theorem dJ24_rotateLeft_67 : decode cJ24_rotateLeft 67 = .ok (.getfield 124, 3) := dk_180 0 124 (dk_at dksJ24_rotateLeft_2 19 rfl rfl)
theorem dJ24_rotateLeft_70 : decode cJ24_rotateLeft 70 = .ok (.aload_n 2, 1) := dk_44 (dk_at dksJ24_rotateLeft_2 22 rfl rfl)
theorem dJ24_rotateLeft_71 : decode cJ24_rotateLeft 71 = .ok (.putfield 111, 3) := dk_181 0 111 (dk_at dksJ24_rotateLeft_3 0 rfl rfl)
theorem dJ24_rotateLeft_74 : decode cJ24_rotateLeft 74 = .ok (.goto 11, 3) := dk_167 0 11 (dk_at dksJ24_rotateLeft_3 3 rfl rfl)
theorem dJ24_rotateLeft_77 : decode cJ24_rotateLeft 77 = .ok (.aload_n 1, 1) := dk_43 (dk_at dksJ24_rotateLeft_3 6 rfl rfl)
theorem dJ24_rotateLeft_78 : decode cJ24_rotateLeft 78 = .ok (.getfield 124, 3) := dk_180 0 124 (dk_at dksJ24_rotateLeft_3 7 rfl rfl)
theorem dJ24_rotateLeft_81 : decode cJ24_rotateLeft 81 = .ok (.aload_n 2, 1) := dk_44 (dk_at dksJ24_rotateLeft_3 10 rfl rfl)
theorem dJ24_rotateLeft_82 : decode cJ24_rotateLeft 82 = .ok (.putfield 114, 3) := dk_181 0 114 (dk_at dksJ24_rotateLeft_3 11 rfl rfl)
theorem dJ24_rotateLeft_85 : decode cJ24_rotateLeft 85 = .ok (.aload_n 2, 1) := dk_44 (dk_at dksJ24_rotateLeft_3 14 rfl rfl)
theorem dJ24_rotateLeft_86 : decode cJ24_rotateLeft 86 = .ok (.aload_n 1, 1) := dk_43 (dk_at dksJ24_rotateLeft_3 15 rfl rfl)
theorem dJ24_rotateLeft_87 : decode cJ24_rotateLeft 87 = .ok (.putfield 111, 3) := dk_181 0 111 (dk_at dksJ24_rotateLeft_3 16 rfl rfl)
theorem dJ24_rotateLeft_90 : decode cJ24_rotateLeft 90 = .ok (.aload_n 1, 1) := dk_43 (dk_at dksJ24_rotateLeft_3 19 rfl rfl)
theorem dJ24_rotateLeft_91 : decode cJ24_rotateLeft 91 = .ok (.aload_n 2, 1) := dk_44 (dk_at dksJ24_rotateLeft_3 20 rfl rfl)
theorem dJ24_rotateLeft_92 : decode cJ24_rotateLeft 92 = .ok (.putfield 124, 3) := dk_181 0 124 (dk_at dksJ24_rotateLeft_3 21 rfl rfl)
theorem dJ24_rotateLeft_95 : decode cJ24_rotateLeft 95 = .ok (.return_, 1) := dk_177 (dk_at dksJ24_rotateLeft_4 0 rfl rfl)
abbrev cJ24_rotateRight : ByteArray := prog_87_method_82_code
def yJ24_rotateRight : MethodName := ⟨RJ24, "rotateRight", "(Ljava/util/TreeMap$Entry;)V"⟩
def dkwJ24_rotateRight_4 : List UInt8 := [177]
abbrev dktJ24_rotateRight_4 : List UInt8 := dkwJ24_rotateRight_4 ++ []
def dkwJ24_rotateRight_3 : List UInt8 := [181, 0, 114, 167, 0, 11, 43, 180, 0, 124, 44, 181, 0, 111, 44, 43, 181, 0, 114, 43, 44, 181, 0, 124]
abbrev dktJ24_rotateRight_3 : List UInt8 := dkwJ24_rotateRight_3 ++ dktJ24_rotateRight_4
def dkwJ24_rotateRight_2 : List UInt8 := [44, 181, 0, 101, 167, 0, 33, 43, 180, 0, 124, 180, 0, 114, 43, 166, 0, 14, 43, 180, 0, 124, 44]
abbrev dktJ24_rotateRight_2 : List UInt8 := dkwJ24_rotateRight_2 ++ dktJ24_rotateRight_3
def dkwJ24_rotateRight_1 : List UInt8 := [44, 180, 0, 114, 43, 181, 0, 124, 44, 43, 180, 0, 124, 181, 0, 124, 43, 180, 0, 124, 199, 0, 11, 42]
abbrev dktJ24_rotateRight_1 : List UInt8 := dkwJ24_rotateRight_1 ++ dktJ24_rotateRight_2
def dkwJ24_rotateRight_0 : List UInt8 := [43, 198, 0, 94, 43, 180, 0, 111, 77, 43, 44, 180, 0, 114, 181, 0, 111, 44, 180, 0, 114, 198, 0, 11]
abbrev dktJ24_rotateRight_0 : List UInt8 := dkwJ24_rotateRight_0 ++ dktJ24_rotateRight_1
theorem dksJ24_rotateRight_0 : cJ24_rotateRight.data.toList.drop 0 = dktJ24_rotateRight_0 := by decide +kernel
theorem dksJ24_rotateRight_1 : cJ24_rotateRight.data.toList.drop 24 = dktJ24_rotateRight_1 := dk_seg dksJ24_rotateRight_0 24 rfl rfl
theorem dksJ24_rotateRight_2 : cJ24_rotateRight.data.toList.drop 48 = dktJ24_rotateRight_2 := dk_seg dksJ24_rotateRight_1 24 rfl rfl
theorem dksJ24_rotateRight_3 : cJ24_rotateRight.data.toList.drop 71 = dktJ24_rotateRight_3 := dk_seg dksJ24_rotateRight_2 23 rfl rfl
theorem dksJ24_rotateRight_4 : cJ24_rotateRight.data.toList.drop 95 = dktJ24_rotateRight_4 := dk_seg dksJ24_rotateRight_3 24 rfl rfl
theorem dJ24_rotateRight_0 : decode cJ24_rotateRight 0 = .ok (.aload_n 1, 1) := dk_43 (dk_at dksJ24_rotateRight_0 0 rfl rfl)
theorem dJ24_rotateRight_1 : decode cJ24_rotateRight 1 = .ok (.ifnull 94, 3) := dk_198 0 94 (dk_at dksJ24_rotateRight_0 1 rfl rfl)
theorem dJ24_rotateRight_4 : decode cJ24_rotateRight 4 = .ok (.aload_n 1, 1) := dk_43 (dk_at dksJ24_rotateRight_0 4 rfl rfl)
theorem dJ24_rotateRight_5 : decode cJ24_rotateRight 5 = .ok (.getfield 111, 3) := dk_180 0 111 (dk_at dksJ24_rotateRight_0 5 rfl rfl)
theorem dJ24_rotateRight_8 : decode cJ24_rotateRight 8 = .ok (.astore_n 2, 1) := dk_77 (dk_at dksJ24_rotateRight_0 8 rfl rfl)
theorem dJ24_rotateRight_9 : decode cJ24_rotateRight 9 = .ok (.aload_n 1, 1) := dk_43 (dk_at dksJ24_rotateRight_0 9 rfl rfl)
theorem dJ24_rotateRight_10 : decode cJ24_rotateRight 10 = .ok (.aload_n 2, 1) := dk_44 (dk_at dksJ24_rotateRight_0 10 rfl rfl)
theorem dJ24_rotateRight_11 : decode cJ24_rotateRight 11 = .ok (.getfield 114, 3) := dk_180 0 114 (dk_at dksJ24_rotateRight_0 11 rfl rfl)
theorem dJ24_rotateRight_14 : decode cJ24_rotateRight 14 = .ok (.putfield 111, 3) := dk_181 0 111 (dk_at dksJ24_rotateRight_0 14 rfl rfl)
theorem dJ24_rotateRight_17 : decode cJ24_rotateRight 17 = .ok (.aload_n 2, 1) := dk_44 (dk_at dksJ24_rotateRight_0 17 rfl rfl)
theorem dJ24_rotateRight_18 : decode cJ24_rotateRight 18 = .ok (.getfield 114, 3) := dk_180 0 114 (dk_at dksJ24_rotateRight_0 18 rfl rfl)
theorem dJ24_rotateRight_21 : decode cJ24_rotateRight 21 = .ok (.ifnull 11, 3) := dk_198 0 11 (dk_at dksJ24_rotateRight_0 21 rfl rfl)
theorem dJ24_rotateRight_24 : decode cJ24_rotateRight 24 = .ok (.aload_n 2, 1) := dk_44 (dk_at dksJ24_rotateRight_1 0 rfl rfl)
theorem dJ24_rotateRight_25 : decode cJ24_rotateRight 25 = .ok (.getfield 114, 3) := dk_180 0 114 (dk_at dksJ24_rotateRight_1 1 rfl rfl)
theorem dJ24_rotateRight_28 : decode cJ24_rotateRight 28 = .ok (.aload_n 1, 1) := dk_43 (dk_at dksJ24_rotateRight_1 4 rfl rfl)
theorem dJ24_rotateRight_29 : decode cJ24_rotateRight 29 = .ok (.putfield 124, 3) := dk_181 0 124 (dk_at dksJ24_rotateRight_1 5 rfl rfl)
theorem dJ24_rotateRight_32 : decode cJ24_rotateRight 32 = .ok (.aload_n 2, 1) := dk_44 (dk_at dksJ24_rotateRight_1 8 rfl rfl)
theorem dJ24_rotateRight_33 : decode cJ24_rotateRight 33 = .ok (.aload_n 1, 1) := dk_43 (dk_at dksJ24_rotateRight_1 9 rfl rfl)
theorem dJ24_rotateRight_34 : decode cJ24_rotateRight 34 = .ok (.getfield 124, 3) := dk_180 0 124 (dk_at dksJ24_rotateRight_1 10 rfl rfl)
theorem dJ24_rotateRight_37 : decode cJ24_rotateRight 37 = .ok (.putfield 124, 3) := dk_181 0 124 (dk_at dksJ24_rotateRight_1 13 rfl rfl)
theorem dJ24_rotateRight_40 : decode cJ24_rotateRight 40 = .ok (.aload_n 1, 1) := dk_43 (dk_at dksJ24_rotateRight_1 16 rfl rfl)
theorem dJ24_rotateRight_41 : decode cJ24_rotateRight 41 = .ok (.getfield 124, 3) := dk_180 0 124 (dk_at dksJ24_rotateRight_1 17 rfl rfl)
theorem dJ24_rotateRight_44 : decode cJ24_rotateRight 44 = .ok (.ifnonnull 11, 3) := dk_199 0 11 (dk_at dksJ24_rotateRight_1 20 rfl rfl)
theorem dJ24_rotateRight_47 : decode cJ24_rotateRight 47 = .ok (.aload_n 0, 1) := dk_42 (dk_at dksJ24_rotateRight_1 23 rfl rfl)
theorem dJ24_rotateRight_48 : decode cJ24_rotateRight 48 = .ok (.aload_n 2, 1) := dk_44 (dk_at dksJ24_rotateRight_2 0 rfl rfl)
theorem dJ24_rotateRight_49 : decode cJ24_rotateRight 49 = .ok (.putfield 101, 3) := dk_181 0 101 (dk_at dksJ24_rotateRight_2 1 rfl rfl)
theorem dJ24_rotateRight_52 : decode cJ24_rotateRight 52 = .ok (.goto 33, 3) := dk_167 0 33 (dk_at dksJ24_rotateRight_2 4 rfl rfl)
theorem dJ24_rotateRight_55 : decode cJ24_rotateRight 55 = .ok (.aload_n 1, 1) := dk_43 (dk_at dksJ24_rotateRight_2 7 rfl rfl)
theorem dJ24_rotateRight_56 : decode cJ24_rotateRight 56 = .ok (.getfield 124, 3) := dk_180 0 124 (dk_at dksJ24_rotateRight_2 8 rfl rfl)
theorem dJ24_rotateRight_59 : decode cJ24_rotateRight 59 = .ok (.getfield 114, 3) := dk_180 0 114 (dk_at dksJ24_rotateRight_2 11 rfl rfl)
theorem dJ24_rotateRight_62 : decode cJ24_rotateRight 62 = .ok (.aload_n 1, 1) := dk_43 (dk_at dksJ24_rotateRight_2 14 rfl rfl)
theorem dJ24_rotateRight_63 : decode cJ24_rotateRight 63 = .ok (.if_acmp .ne 14, 3) := dk_166 0 14 (dk_at dksJ24_rotateRight_2 15 rfl rfl)
theorem dJ24_rotateRight_66 : decode cJ24_rotateRight 66 = .ok (.aload_n 1, 1) := dk_43 (dk_at dksJ24_rotateRight_2 18 rfl rfl)
theorem dJ24_rotateRight_67 : decode cJ24_rotateRight 67 = .ok (.getfield 124, 3) := dk_180 0 124 (dk_at dksJ24_rotateRight_2 19 rfl rfl)
theorem dJ24_rotateRight_70 : decode cJ24_rotateRight 70 = .ok (.aload_n 2, 1) := dk_44 (dk_at dksJ24_rotateRight_2 22 rfl rfl)
theorem dJ24_rotateRight_71 : decode cJ24_rotateRight 71 = .ok (.putfield 114, 3) := dk_181 0 114 (dk_at dksJ24_rotateRight_3 0 rfl rfl)
theorem dJ24_rotateRight_74 : decode cJ24_rotateRight 74 = .ok (.goto 11, 3) := dk_167 0 11 (dk_at dksJ24_rotateRight_3 3 rfl rfl)
theorem dJ24_rotateRight_77 : decode cJ24_rotateRight 77 = .ok (.aload_n 1, 1) := dk_43 (dk_at dksJ24_rotateRight_3 6 rfl rfl)
theorem dJ24_rotateRight_78 : decode cJ24_rotateRight 78 = .ok (.getfield 124, 3) := dk_180 0 124 (dk_at dksJ24_rotateRight_3 7 rfl rfl)
theorem dJ24_rotateRight_81 : decode cJ24_rotateRight 81 = .ok (.aload_n 2, 1) := dk_44 (dk_at dksJ24_rotateRight_3 10 rfl rfl)
theorem dJ24_rotateRight_82 : decode cJ24_rotateRight 82 = .ok (.putfield 111, 3) := dk_181 0 111 (dk_at dksJ24_rotateRight_3 11 rfl rfl)
theorem dJ24_rotateRight_85 : decode cJ24_rotateRight 85 = .ok (.aload_n 2, 1) := dk_44 (dk_at dksJ24_rotateRight_3 14 rfl rfl)
theorem dJ24_rotateRight_86 : decode cJ24_rotateRight 86 = .ok (.aload_n 1, 1) := dk_43 (dk_at dksJ24_rotateRight_3 15 rfl rfl)
theorem dJ24_rotateRight_87 : decode cJ24_rotateRight 87 = .ok (.putfield 114, 3) := dk_181 0 114 (dk_at dksJ24_rotateRight_3 16 rfl rfl)
theorem dJ24_rotateRight_90 : decode cJ24_rotateRight 90 = .ok (.aload_n 1, 1) := dk_43 (dk_at dksJ24_rotateRight_3 19 rfl rfl)
theorem dJ24_rotateRight_91 : decode cJ24_rotateRight 91 = .ok (.aload_n 2, 1) := dk_44 (dk_at dksJ24_rotateRight_3 20 rfl rfl)
theorem dJ24_rotateRight_92 : decode cJ24_rotateRight 92 = .ok (.putfield 124, 3) := dk_181 0 124 (dk_at dksJ24_rotateRight_3 21 rfl rfl)
theorem dJ24_rotateRight_95 : decode cJ24_rotateRight 95 = .ok (.return_, 1) := dk_177 (dk_at dksJ24_rotateRight_4 0 rfl rfl)
abbrev cJ24_size : ByteArray := prog_87_method_5_code
def yJ24_size : MethodName := ⟨RJ24, "size", "()I"⟩
theorem dJ24_size_0 : decode cJ24_size 0 = .ok (.aload_n 0, 1) := by decide +kernel
theorem dJ24_size_1 : decode cJ24_size 1 = .ok (.getfield 7, 3) := by decide +kernel
theorem dJ24_size_4 : decode cJ24_size 4 = .ok (.ireturn, 1) := by decide +kernel
abbrev cJ24_floorKey : ByteArray := prog_87_method_44_code
def yJ24_floorKey : MethodName := ⟨RJ24, "floorKey", "(Ljava/lang/Object;)Ljava/lang/Object;"⟩
def dkwJ24_floorKey_0 : List UInt8 := [42, 43, 182, 0, 210, 184, 0, 207, 176]
abbrev dktJ24_floorKey_0 : List UInt8 := dkwJ24_floorKey_0 ++ []
theorem dksJ24_floorKey_0 : cJ24_floorKey.data.toList.drop 0 = dktJ24_floorKey_0 := by decide +kernel
theorem dJ24_floorKey_0 : decode cJ24_floorKey 0 = .ok (.aload_n 0, 1) := dk_42 (dk_at dksJ24_floorKey_0 0 rfl rfl)
theorem dJ24_floorKey_1 : decode cJ24_floorKey 1 = .ok (.aload_n 1, 1) := dk_43 (dk_at dksJ24_floorKey_0 1 rfl rfl)
theorem dJ24_floorKey_2 : decode cJ24_floorKey 2 = .ok (.invokevirtual 210, 3) := dk_182 0 210 (dk_at dksJ24_floorKey_0 2 rfl rfl)
theorem dJ24_floorKey_5 : decode cJ24_floorKey 5 = .ok (.invokestatic 207, 3) := dk_184 0 207 (dk_at dksJ24_floorKey_0 5 rfl rfl)
theorem dJ24_floorKey_8 : decode cJ24_floorKey 8 = .ok (.areturn, 1) := dk_176 (dk_at dksJ24_floorKey_0 8 rfl rfl)
abbrev cJ24_getFloorEntry : ByteArray := prog_87_method_18_code
def yJ24_getFloorEntry : MethodName := ⟨RJ24, "getFloorEntry", "(Ljava/lang/Object;)Ljava/util/TreeMap$Entry;"⟩
def dkwJ24_getFloorEntry_4 : List UInt8 := [167, 255, 230, 25, 4, 176, 44, 176, 167, 255, 159, 1, 176]
abbrev dktJ24_getFloorEntry_4 : List UInt8 := dkwJ24_getFloorEntry_4 ++ []
def dkwJ24_getFloorEntry_3 : List UInt8 := [198, 0, 27, 25, 5, 25, 4, 180, 0, 111, 166, 0, 17, 25, 4, 58, 5, 25, 4, 180, 0, 124, 58, 4]
abbrev dktJ24_getFloorEntry_3 : List UInt8 := dkwJ24_getFloorEntry_3 ++ dktJ24_getFloorEntry_4
def dkwJ24_getFloorEntry_2 : List UInt8 := [198, 0, 11, 44, 180, 0, 111, 77, 167, 0, 46, 44, 180, 0, 124, 58, 4, 44, 58, 5, 25, 4]
abbrev dktJ24_getFloorEntry_2 : List UInt8 := dkwJ24_getFloorEntry_2 ++ dktJ24_getFloorEntry_3
def dkwJ24_getFloorEntry_1 : List UInt8 := [180, 0, 114, 198, 0, 11, 44, 180, 0, 114, 77, 167, 0, 67, 44, 176, 29, 156, 0, 59, 44, 180, 0, 111]
abbrev dktJ24_getFloorEntry_1 : List UInt8 := dkwJ24_getFloorEntry_1 ++ dktJ24_getFloorEntry_2
def dkwJ24_getFloorEntry_0 : List UInt8 := [42, 180, 0, 101, 77, 44, 198, 0, 99, 42, 43, 44, 180, 0, 105, 182, 0, 123, 62, 29, 158, 0, 20, 44]
abbrev dktJ24_getFloorEntry_0 : List UInt8 := dkwJ24_getFloorEntry_0 ++ dktJ24_getFloorEntry_1
theorem dksJ24_getFloorEntry_0 : cJ24_getFloorEntry.data.toList.drop 0 = dktJ24_getFloorEntry_0 := by decide +kernel
theorem dksJ24_getFloorEntry_1 : cJ24_getFloorEntry.data.toList.drop 24 = dktJ24_getFloorEntry_1 := dk_seg dksJ24_getFloorEntry_0 24 rfl rfl
theorem dksJ24_getFloorEntry_2 : cJ24_getFloorEntry.data.toList.drop 48 = dktJ24_getFloorEntry_2 := dk_seg dksJ24_getFloorEntry_1 24 rfl rfl
theorem dksJ24_getFloorEntry_3 : cJ24_getFloorEntry.data.toList.drop 70 = dktJ24_getFloorEntry_3 := dk_seg dksJ24_getFloorEntry_2 22 rfl rfl
theorem dksJ24_getFloorEntry_4 : cJ24_getFloorEntry.data.toList.drop 94 = dktJ24_getFloorEntry_4 := dk_seg dksJ24_getFloorEntry_3 24 rfl rfl
theorem dJ24_getFloorEntry_0 : decode cJ24_getFloorEntry 0 = .ok (.aload_n 0, 1) := dk_42 (dk_at dksJ24_getFloorEntry_0 0 rfl rfl)
theorem dJ24_getFloorEntry_1 : decode cJ24_getFloorEntry 1 = .ok (.getfield 101, 3) := dk_180 0 101 (dk_at dksJ24_getFloorEntry_0 1 rfl rfl)
theorem dJ24_getFloorEntry_4 : decode cJ24_getFloorEntry 4 = .ok (.astore_n 2, 1) := dk_77 (dk_at dksJ24_getFloorEntry_0 4 rfl rfl)
theorem dJ24_getFloorEntry_5 : decode cJ24_getFloorEntry 5 = .ok (.aload_n 2, 1) := dk_44 (dk_at dksJ24_getFloorEntry_0 5 rfl rfl)
theorem dJ24_getFloorEntry_6 : decode cJ24_getFloorEntry 6 = .ok (.ifnull 99, 3) := dk_198 0 99 (dk_at dksJ24_getFloorEntry_0 6 rfl rfl)
theorem dJ24_getFloorEntry_9 : decode cJ24_getFloorEntry 9 = .ok (.aload_n 0, 1) := dk_42 (dk_at dksJ24_getFloorEntry_0 9 rfl rfl)
theorem dJ24_getFloorEntry_10 : decode cJ24_getFloorEntry 10 = .ok (.aload_n 1, 1) := dk_43 (dk_at dksJ24_getFloorEntry_0 10 rfl rfl)
theorem dJ24_getFloorEntry_11 : decode cJ24_getFloorEntry 11 = .ok (.aload_n 2, 1) := dk_44 (dk_at dksJ24_getFloorEntry_0 11 rfl rfl)
theorem dJ24_getFloorEntry_12 : decode cJ24_getFloorEntry 12 = .ok (.getfield 105, 3) := dk_180 0 105 (dk_at dksJ24_getFloorEntry_0 12 rfl rfl)
theorem dJ24_getFloorEntry_15 : decode cJ24_getFloorEntry 15 = .ok (.invokevirtual 123, 3) := dk_182 0 123 (dk_at dksJ24_getFloorEntry_0 15 rfl rfl)
theorem dJ24_getFloorEntry_18 : decode cJ24_getFloorEntry 18 = .ok (.istore_n 3, 1) := dk_62 (dk_at dksJ24_getFloorEntry_0 18 rfl rfl)
theorem dJ24_getFloorEntry_19 : decode cJ24_getFloorEntry 19 = .ok (.iload_n 3, 1) := dk_29 (dk_at dksJ24_getFloorEntry_0 19 rfl rfl)
theorem dJ24_getFloorEntry_20 : decode cJ24_getFloorEntry 20 = .ok (.ifCond .le 20, 3) := dk_158 0 20 (dk_at dksJ24_getFloorEntry_0 20 rfl rfl)
theorem dJ24_getFloorEntry_23 : decode cJ24_getFloorEntry 23 = .ok (.aload_n 2, 1) := dk_44 (dk_at dksJ24_getFloorEntry_0 23 rfl rfl)
theorem dJ24_getFloorEntry_24 : decode cJ24_getFloorEntry 24 = .ok (.getfield 114, 3) := dk_180 0 114 (dk_at dksJ24_getFloorEntry_1 0 rfl rfl)
theorem dJ24_getFloorEntry_27 : decode cJ24_getFloorEntry 27 = .ok (.ifnull 11, 3) := dk_198 0 11 (dk_at dksJ24_getFloorEntry_1 3 rfl rfl)
theorem dJ24_getFloorEntry_30 : decode cJ24_getFloorEntry 30 = .ok (.aload_n 2, 1) := dk_44 (dk_at dksJ24_getFloorEntry_1 6 rfl rfl)
theorem dJ24_getFloorEntry_31 : decode cJ24_getFloorEntry 31 = .ok (.getfield 114, 3) := dk_180 0 114 (dk_at dksJ24_getFloorEntry_1 7 rfl rfl)
theorem dJ24_getFloorEntry_34 : decode cJ24_getFloorEntry 34 = .ok (.astore_n 2, 1) := dk_77 (dk_at dksJ24_getFloorEntry_1 10 rfl rfl)
theorem dJ24_getFloorEntry_35 : decode cJ24_getFloorEntry 35 = .ok (.goto 67, 3) := dk_167 0 67 (dk_at dksJ24_getFloorEntry_1 11 rfl rfl)
theorem dJ24_getFloorEntry_38 : decode cJ24_getFloorEntry 38 = .ok (.aload_n 2, 1) := dk_44 (dk_at dksJ24_getFloorEntry_1 14 rfl rfl)
theorem dJ24_getFloorEntry_39 : decode cJ24_getFloorEntry 39 = .ok (.areturn, 1) := dk_176 (dk_at dksJ24_getFloorEntry_1 15 rfl rfl)
theorem dJ24_getFloorEntry_40 : decode cJ24_getFloorEntry 40 = .ok (.iload_n 3, 1) := dk_29 (dk_at dksJ24_getFloorEntry_1 16 rfl rfl)
theorem dJ24_getFloorEntry_41 : decode cJ24_getFloorEntry 41 = .ok (.ifCond .ge 59, 3) := dk_156 0 59 (dk_at dksJ24_getFloorEntry_1 17 rfl rfl)
theorem dJ24_getFloorEntry_44 : decode cJ24_getFloorEntry 44 = .ok (.aload_n 2, 1) := dk_44 (dk_at dksJ24_getFloorEntry_1 20 rfl rfl)
theorem dJ24_getFloorEntry_45 : decode cJ24_getFloorEntry 45 = .ok (.getfield 111, 3) := dk_180 0 111 (dk_at dksJ24_getFloorEntry_1 21 rfl rfl)
theorem dJ24_getFloorEntry_48 : decode cJ24_getFloorEntry 48 = .ok (.ifnull 11, 3) := dk_198 0 11 (dk_at dksJ24_getFloorEntry_2 0 rfl rfl)
theorem dJ24_getFloorEntry_51 : decode cJ24_getFloorEntry 51 = .ok (.aload_n 2, 1) := dk_44 (dk_at dksJ24_getFloorEntry_2 3 rfl rfl)
theorem dJ24_getFloorEntry_52 : decode cJ24_getFloorEntry 52 = .ok (.getfield 111, 3) := dk_180 0 111 (dk_at dksJ24_getFloorEntry_2 4 rfl rfl)
theorem dJ24_getFloorEntry_55 : decode cJ24_getFloorEntry 55 = .ok (.astore_n 2, 1) := dk_77 (dk_at dksJ24_getFloorEntry_2 7 rfl rfl)
theorem dJ24_getFloorEntry_56 : decode cJ24_getFloorEntry 56 = .ok (.goto 46, 3) := dk_167 0 46 (dk_at dksJ24_getFloorEntry_2 8 rfl rfl)
theorem dJ24_getFloorEntry_59 : decode cJ24_getFloorEntry 59 = .ok (.aload_n 2, 1) := dk_44 (dk_at dksJ24_getFloorEntry_2 11 rfl rfl)
theorem dJ24_getFloorEntry_60 : decode cJ24_getFloorEntry 60 = .ok (.getfield 124, 3) := dk_180 0 124 (dk_at dksJ24_getFloorEntry_2 12 rfl rfl)
theorem dJ24_getFloorEntry_63 : decode cJ24_getFloorEntry 63 = .ok (.astore 4, 2) := dk_58 4 (dk_at dksJ24_getFloorEntry_2 15 rfl rfl)
theorem dJ24_getFloorEntry_65 : decode cJ24_getFloorEntry 65 = .ok (.aload_n 2, 1) := dk_44 (dk_at dksJ24_getFloorEntry_2 17 rfl rfl)
theorem dJ24_getFloorEntry_66 : decode cJ24_getFloorEntry 66 = .ok (.astore 5, 2) := dk_58 5 (dk_at dksJ24_getFloorEntry_2 18 rfl rfl)
theorem dJ24_getFloorEntry_68 : decode cJ24_getFloorEntry 68 = .ok (.aload 4, 2) := dk_25 4 (dk_at dksJ24_getFloorEntry_2 20 rfl rfl)
theorem dJ24_getFloorEntry_70 : decode cJ24_getFloorEntry 70 = .ok (.ifnull 27, 3) := dk_198 0 27 (dk_at dksJ24_getFloorEntry_3 0 rfl rfl)
theorem dJ24_getFloorEntry_73 : decode cJ24_getFloorEntry 73 = .ok (.aload 5, 2) := dk_25 5 (dk_at dksJ24_getFloorEntry_3 3 rfl rfl)
theorem dJ24_getFloorEntry_75 : decode cJ24_getFloorEntry 75 = .ok (.aload 4, 2) := dk_25 4 (dk_at dksJ24_getFloorEntry_3 5 rfl rfl)
theorem dJ24_getFloorEntry_77 : decode cJ24_getFloorEntry 77 = .ok (.getfield 111, 3) := dk_180 0 111 (dk_at dksJ24_getFloorEntry_3 7 rfl rfl)
theorem dJ24_getFloorEntry_80 : decode cJ24_getFloorEntry 80 = .ok (.if_acmp .ne 17, 3) := dk_166 0 17 (dk_at dksJ24_getFloorEntry_3 10 rfl rfl)
theorem dJ24_getFloorEntry_83 : decode cJ24_getFloorEntry 83 = .ok (.aload 4, 2) := dk_25 4 (dk_at dksJ24_getFloorEntry_3 13 rfl rfl)
theorem dJ24_getFloorEntry_85 : decode cJ24_getFloorEntry 85 = .ok (.astore 5, 2) := dk_58 5 (dk_at dksJ24_getFloorEntry_3 15 rfl rfl)
theorem dJ24_getFloorEntry_87 : decode cJ24_getFloorEntry 87 = .ok (.aload 4, 2) := dk_25 4 (dk_at dksJ24_getFloorEntry_3 17 rfl rfl)
theorem dJ24_getFloorEntry_89 : decode cJ24_getFloorEntry 89 = .ok (.getfield 124, 3) := dk_180 0 124 (dk_at dksJ24_getFloorEntry_3 19 rfl rfl)
theorem dJ24_getFloorEntry_92 : decode cJ24_getFloorEntry 92 = .ok (.astore 4, 2) := dk_58 4 (dk_at dksJ24_getFloorEntry_3 22 rfl rfl)
theorem dJ24_getFloorEntry_94 : decode cJ24_getFloorEntry 94 = .ok (.goto (-26), 3) := dk_167 255 230 (dk_at dksJ24_getFloorEntry_4 0 rfl rfl)
theorem dJ24_getFloorEntry_97 : decode cJ24_getFloorEntry 97 = .ok (.aload 4, 2) := dk_25 4 (dk_at dksJ24_getFloorEntry_4 3 rfl rfl)
theorem dJ24_getFloorEntry_99 : decode cJ24_getFloorEntry 99 = .ok (.areturn, 1) := dk_176 (dk_at dksJ24_getFloorEntry_4 5 rfl rfl)
theorem dJ24_getFloorEntry_100 : decode cJ24_getFloorEntry 100 = .ok (.aload_n 2, 1) := dk_44 (dk_at dksJ24_getFloorEntry_4 6 rfl rfl)
theorem dJ24_getFloorEntry_101 : decode cJ24_getFloorEntry 101 = .ok (.areturn, 1) := dk_176 (dk_at dksJ24_getFloorEntry_4 7 rfl rfl)
theorem dJ24_getFloorEntry_102 : decode cJ24_getFloorEntry 102 = .ok (.goto (-97), 3) := dk_167 255 159 (dk_at dksJ24_getFloorEntry_4 8 rfl rfl)
theorem dJ24_getFloorEntry_105 : decode cJ24_getFloorEntry 105 = .ok (.aconst_null, 1) := dk_1 (dk_at dksJ24_getFloorEntry_4 11 rfl rfl)
theorem dJ24_getFloorEntry_106 : decode cJ24_getFloorEntry 106 = .ok (.areturn, 1) := dk_176 (dk_at dksJ24_getFloorEntry_4 12 rfl rfl)
abbrev cJ24_keyOrNull : ByteArray := prog_87_method_70_code
def yJ24_keyOrNull : MethodName := ⟨RJ24, "keyOrNull", "(Ljava/util/TreeMap$Entry;)Ljava/lang/Object;"⟩
def dkwJ24_keyOrNull_0 : List UInt8 := [42, 199, 0, 7, 1, 167, 0, 7, 42, 180, 0, 105, 176]
abbrev dktJ24_keyOrNull_0 : List UInt8 := dkwJ24_keyOrNull_0 ++ []
theorem dksJ24_keyOrNull_0 : cJ24_keyOrNull.data.toList.drop 0 = dktJ24_keyOrNull_0 := by decide +kernel
theorem dJ24_keyOrNull_0 : decode cJ24_keyOrNull 0 = .ok (.aload_n 0, 1) := dk_42 (dk_at dksJ24_keyOrNull_0 0 rfl rfl)
theorem dJ24_keyOrNull_1 : decode cJ24_keyOrNull 1 = .ok (.ifnonnull 7, 3) := dk_199 0 7 (dk_at dksJ24_keyOrNull_0 1 rfl rfl)
theorem dJ24_keyOrNull_4 : decode cJ24_keyOrNull 4 = .ok (.aconst_null, 1) := dk_1 (dk_at dksJ24_keyOrNull_0 4 rfl rfl)
theorem dJ24_keyOrNull_5 : decode cJ24_keyOrNull 5 = .ok (.goto 7, 3) := dk_167 0 7 (dk_at dksJ24_keyOrNull_0 5 rfl rfl)
theorem dJ24_keyOrNull_8 : decode cJ24_keyOrNull 8 = .ok (.aload_n 0, 1) := dk_42 (dk_at dksJ24_keyOrNull_0 8 rfl rfl)
theorem dJ24_keyOrNull_9 : decode cJ24_keyOrNull 9 = .ok (.getfield 105, 3) := dk_180 0 105 (dk_at dksJ24_keyOrNull_0 9 rfl rfl)
theorem dJ24_keyOrNull_12 : decode cJ24_keyOrNull 12 = .ok (.areturn, 1) := dk_176 (dk_at dksJ24_keyOrNull_0 12 rfl rfl)
abbrev cJ24_get : ByteArray := prog_87_method_8_code
def yJ24_get : MethodName := ⟨RJ24, "get", "(Ljava/lang/Object;)Ljava/lang/Object;"⟩
def dkwJ24_get_0 : List UInt8 := [42, 43, 182, 0, 50, 77, 44, 199, 0, 7, 1, 167, 0, 7, 44, 180, 0, 58, 176]
abbrev dktJ24_get_0 : List UInt8 := dkwJ24_get_0 ++ []
theorem dksJ24_get_0 : cJ24_get.data.toList.drop 0 = dktJ24_get_0 := by decide +kernel
theorem dJ24_get_0 : decode cJ24_get 0 = .ok (.aload_n 0, 1) := dk_42 (dk_at dksJ24_get_0 0 rfl rfl)
theorem dJ24_get_1 : decode cJ24_get 1 = .ok (.aload_n 1, 1) := dk_43 (dk_at dksJ24_get_0 1 rfl rfl)
theorem dJ24_get_2 : decode cJ24_get 2 = .ok (.invokevirtual 50, 3) := dk_182 0 50 (dk_at dksJ24_get_0 2 rfl rfl)
theorem dJ24_get_5 : decode cJ24_get 5 = .ok (.astore_n 2, 1) := dk_77 (dk_at dksJ24_get_0 5 rfl rfl)
theorem dJ24_get_6 : decode cJ24_get 6 = .ok (.aload_n 2, 1) := dk_44 (dk_at dksJ24_get_0 6 rfl rfl)
theorem dJ24_get_7 : decode cJ24_get 7 = .ok (.ifnonnull 7, 3) := dk_199 0 7 (dk_at dksJ24_get_0 7 rfl rfl)
theorem dJ24_get_10 : decode cJ24_get 10 = .ok (.aconst_null, 1) := dk_1 (dk_at dksJ24_get_0 10 rfl rfl)
theorem dJ24_get_11 : decode cJ24_get 11 = .ok (.goto 7, 3) := dk_167 0 7 (dk_at dksJ24_get_0 11 rfl rfl)
theorem dJ24_get_14 : decode cJ24_get 14 = .ok (.aload_n 2, 1) := dk_44 (dk_at dksJ24_get_0 14 rfl rfl)
theorem dJ24_get_15 : decode cJ24_get 15 = .ok (.getfield 58, 3) := dk_180 0 58 (dk_at dksJ24_get_0 15 rfl rfl)
theorem dJ24_get_18 : decode cJ24_get 18 = .ok (.areturn, 1) := dk_176 (dk_at dksJ24_get_0 18 rfl rfl)
abbrev cJ24_getEntry : ByteArray := prog_87_method_15_code
def yJ24_getEntry : MethodName := ⟨RJ24, "getEntry", "(Ljava/lang/Object;)Ljava/util/TreeMap$Entry;"⟩
def dkwJ24_getEntry_3 : List UInt8 := [45, 176, 167, 255, 212, 1, 176]
abbrev dktJ24_getEntry_3 : List UInt8 := dkwJ24_getEntry_3 ++ []
def dkwJ24_getEntry_2 : List UInt8 := [156, 0, 11, 45, 180, 0, 111, 78, 167, 0, 18, 21, 4, 158, 0, 11, 45, 180, 0, 114, 78, 167, 0, 5]
abbrev dktJ24_getEntry_2 : List UInt8 := dkwJ24_getEntry_2 ++ dktJ24_getEntry_3
def dkwJ24_getEntry_1 : List UInt8 := [180, 0, 101, 78, 45, 198, 0, 46, 44, 45, 180, 0, 105, 185, 0, 107, 2, 0, 54, 4, 21, 4]
abbrev dktJ24_getEntry_1 : List UInt8 := dkwJ24_getEntry_1 ++ dktJ24_getEntry_2
def dkwJ24_getEntry_0 : List UInt8 := [42, 180, 0, 16, 198, 0, 9, 42, 43, 182, 0, 92, 176, 43, 184, 0, 95, 87, 43, 192, 0, 99, 77, 42]
abbrev dktJ24_getEntry_0 : List UInt8 := dkwJ24_getEntry_0 ++ dktJ24_getEntry_1
theorem dksJ24_getEntry_0 : cJ24_getEntry.data.toList.drop 0 = dktJ24_getEntry_0 := by decide +kernel
theorem dksJ24_getEntry_1 : cJ24_getEntry.data.toList.drop 24 = dktJ24_getEntry_1 := dk_seg dksJ24_getEntry_0 24 rfl rfl
theorem dksJ24_getEntry_2 : cJ24_getEntry.data.toList.drop 46 = dktJ24_getEntry_2 := dk_seg dksJ24_getEntry_1 22 rfl rfl
theorem dksJ24_getEntry_3 : cJ24_getEntry.data.toList.drop 70 = dktJ24_getEntry_3 := dk_seg dksJ24_getEntry_2 24 rfl rfl
theorem dJ24_getEntry_0 : decode cJ24_getEntry 0 = .ok (.aload_n 0, 1) := dk_42 (dk_at dksJ24_getEntry_0 0 rfl rfl)
theorem dJ24_getEntry_1 : decode cJ24_getEntry 1 = .ok (.getfield 16, 3) := dk_180 0 16 (dk_at dksJ24_getEntry_0 1 rfl rfl)
theorem dJ24_getEntry_4 : decode cJ24_getEntry 4 = .ok (.ifnull 9, 3) := dk_198 0 9 (dk_at dksJ24_getEntry_0 4 rfl rfl)
theorem dJ24_getEntry_7 : decode cJ24_getEntry 7 = .ok (.aload_n 0, 1) := dk_42 (dk_at dksJ24_getEntry_0 7 rfl rfl)
theorem dJ24_getEntry_8 : decode cJ24_getEntry 8 = .ok (.aload_n 1, 1) := dk_43 (dk_at dksJ24_getEntry_0 8 rfl rfl)
theorem dJ24_getEntry_9 : decode cJ24_getEntry 9 = .ok (.invokevirtual 92, 3) := dk_182 0 92 (dk_at dksJ24_getEntry_0 9 rfl rfl)
theorem dJ24_getEntry_12 : decode cJ24_getEntry 12 = .ok (.areturn, 1) := dk_176 (dk_at dksJ24_getEntry_0 12 rfl rfl)
theorem dJ24_getEntry_13 : decode cJ24_getEntry 13 = .ok (.aload_n 1, 1) := dk_43 (dk_at dksJ24_getEntry_0 13 rfl rfl)
theorem dJ24_getEntry_14 : decode cJ24_getEntry 14 = .ok (.invokestatic 95, 3) := dk_184 0 95 (dk_at dksJ24_getEntry_0 14 rfl rfl)
theorem dJ24_getEntry_17 : decode cJ24_getEntry 17 = .ok (.pop, 1) := dk_87 (dk_at dksJ24_getEntry_0 17 rfl rfl)
theorem dJ24_getEntry_18 : decode cJ24_getEntry 18 = .ok (.aload_n 1, 1) := dk_43 (dk_at dksJ24_getEntry_0 18 rfl rfl)
theorem dJ24_getEntry_19 : decode cJ24_getEntry 19 = .ok (.checkcast 99, 3) := dk_192 0 99 (dk_at dksJ24_getEntry_0 19 rfl rfl)
theorem dJ24_getEntry_22 : decode cJ24_getEntry 22 = .ok (.astore_n 2, 1) := dk_77 (dk_at dksJ24_getEntry_0 22 rfl rfl)
theorem dJ24_getEntry_23 : decode cJ24_getEntry 23 = .ok (.aload_n 0, 1) := dk_42 (dk_at dksJ24_getEntry_0 23 rfl rfl)
theorem dJ24_getEntry_24 : decode cJ24_getEntry 24 = .ok (.getfield 101, 3) := dk_180 0 101 (dk_at dksJ24_getEntry_1 0 rfl rfl)
theorem dJ24_getEntry_27 : decode cJ24_getEntry 27 = .ok (.astore_n 3, 1) := dk_78 (dk_at dksJ24_getEntry_1 3 rfl rfl)
theorem dJ24_getEntry_28 : decode cJ24_getEntry 28 = .ok (.aload_n 3, 1) := dk_45 (dk_at dksJ24_getEntry_1 4 rfl rfl)
theorem dJ24_getEntry_29 : decode cJ24_getEntry 29 = .ok (.ifnull 46, 3) := dk_198 0 46 (dk_at dksJ24_getEntry_1 5 rfl rfl)
theorem dJ24_getEntry_32 : decode cJ24_getEntry 32 = .ok (.aload_n 2, 1) := dk_44 (dk_at dksJ24_getEntry_1 8 rfl rfl)
theorem dJ24_getEntry_33 : decode cJ24_getEntry 33 = .ok (.aload_n 3, 1) := dk_45 (dk_at dksJ24_getEntry_1 9 rfl rfl)
theorem dJ24_getEntry_34 : decode cJ24_getEntry 34 = .ok (.getfield 105, 3) := dk_180 0 105 (dk_at dksJ24_getEntry_1 10 rfl rfl)
theorem dJ24_getEntry_37 : decode cJ24_getEntry 37 = .ok (.invokeinterface 107 2, 5) := by decide +kernel
theorem dJ24_getEntry_42 : decode cJ24_getEntry 42 = .ok (.istore 4, 2) := dk_54 4 (dk_at dksJ24_getEntry_1 18 rfl rfl)
theorem dJ24_getEntry_44 : decode cJ24_getEntry 44 = .ok (.iload 4, 2) := dk_21 4 (dk_at dksJ24_getEntry_1 20 rfl rfl)
theorem dJ24_getEntry_46 : decode cJ24_getEntry 46 = .ok (.ifCond .ge 11, 3) := dk_156 0 11 (dk_at dksJ24_getEntry_2 0 rfl rfl)
theorem dJ24_getEntry_49 : decode cJ24_getEntry 49 = .ok (.aload_n 3, 1) := dk_45 (dk_at dksJ24_getEntry_2 3 rfl rfl)
theorem dJ24_getEntry_50 : decode cJ24_getEntry 50 = .ok (.getfield 111, 3) := dk_180 0 111 (dk_at dksJ24_getEntry_2 4 rfl rfl)
theorem dJ24_getEntry_53 : decode cJ24_getEntry 53 = .ok (.astore_n 3, 1) := dk_78 (dk_at dksJ24_getEntry_2 7 rfl rfl)
theorem dJ24_getEntry_54 : decode cJ24_getEntry 54 = .ok (.goto 18, 3) := dk_167 0 18 (dk_at dksJ24_getEntry_2 8 rfl rfl)
theorem dJ24_getEntry_57 : decode cJ24_getEntry 57 = .ok (.iload 4, 2) := dk_21 4 (dk_at dksJ24_getEntry_2 11 rfl rfl)
theorem dJ24_getEntry_59 : decode cJ24_getEntry 59 = .ok (.ifCond .le 11, 3) := dk_158 0 11 (dk_at dksJ24_getEntry_2 13 rfl rfl)
theorem dJ24_getEntry_62 : decode cJ24_getEntry 62 = .ok (.aload_n 3, 1) := dk_45 (dk_at dksJ24_getEntry_2 16 rfl rfl)
theorem dJ24_getEntry_63 : decode cJ24_getEntry 63 = .ok (.getfield 114, 3) := dk_180 0 114 (dk_at dksJ24_getEntry_2 17 rfl rfl)
theorem dJ24_getEntry_66 : decode cJ24_getEntry 66 = .ok (.astore_n 3, 1) := dk_78 (dk_at dksJ24_getEntry_2 20 rfl rfl)
theorem dJ24_getEntry_67 : decode cJ24_getEntry 67 = .ok (.goto 5, 3) := dk_167 0 5 (dk_at dksJ24_getEntry_2 21 rfl rfl)
theorem dJ24_getEntry_70 : decode cJ24_getEntry 70 = .ok (.aload_n 3, 1) := dk_45 (dk_at dksJ24_getEntry_3 0 rfl rfl)
theorem dJ24_getEntry_71 : decode cJ24_getEntry 71 = .ok (.areturn, 1) := dk_176 (dk_at dksJ24_getEntry_3 1 rfl rfl)
theorem dJ24_getEntry_72 : decode cJ24_getEntry 72 = .ok (.goto (-44), 3) := dk_167 255 212 (dk_at dksJ24_getEntry_3 2 rfl rfl)
theorem dJ24_getEntry_75 : decode cJ24_getEntry 75 = .ok (.aconst_null, 1) := dk_1 (dk_at dksJ24_getEntry_3 5 rfl rfl)
theorem dJ24_getEntry_76 : decode cJ24_getEntry 76 = .ok (.areturn, 1) := dk_176 (dk_at dksJ24_getEntry_3 6 rfl rfl)
abbrev cJ24_getEntryUsingComparator : ByteArray := prog_87_method_16_code
def yJ24_getEntryUsingComparator : MethodName := ⟨RJ24, "getEntryUsingComparator", "(Ljava/lang/Object;)Ljava/util/TreeMap$Entry;"⟩
def dkwJ24_getEntryUsingComparator_3 : List UInt8 := [1, 176]
abbrev dktJ24_getEntryUsingComparator_3 : List UInt8 := dkwJ24_getEntryUsingComparator_3 ++ []
def dkwJ24_getEntryUsingComparator_2 : List UInt8 := [167, 0, 21, 21, 5, 158, 0, 13, 25, 4, 180, 0, 114, 58, 4, 167, 0, 6, 25, 4, 176, 167, 255, 204]
abbrev dktJ24_getEntryUsingComparator_2 : List UInt8 := dkwJ24_getEntryUsingComparator_2 ++ dktJ24_getEntryUsingComparator_3
def dkwJ24_getEntryUsingComparator_1 : List UInt8 := [25, 4, 180, 0, 105, 185, 0, 117, 3, 0, 54, 5, 21, 5, 156, 0, 13, 25, 4, 180, 0, 111, 58, 4]
abbrev dktJ24_getEntryUsingComparator_1 : List UInt8 := dkwJ24_getEntryUsingComparator_1 ++ dktJ24_getEntryUsingComparator_2
def dkwJ24_getEntryUsingComparator_0 : List UInt8 := [43, 77, 42, 180, 0, 16, 78, 45, 198, 0, 64, 42, 180, 0, 101, 58, 4, 25, 4, 198, 0, 53, 45, 44]
abbrev dktJ24_getEntryUsingComparator_0 : List UInt8 := dkwJ24_getEntryUsingComparator_0 ++ dktJ24_getEntryUsingComparator_1
theorem dksJ24_getEntryUsingComparator_0 : cJ24_getEntryUsingComparator.data.toList.drop 0 = dktJ24_getEntryUsingComparator_0 := by decide +kernel
theorem dksJ24_getEntryUsingComparator_1 : cJ24_getEntryUsingComparator.data.toList.drop 24 = dktJ24_getEntryUsingComparator_1 := dk_seg dksJ24_getEntryUsingComparator_0 24 rfl rfl
theorem dksJ24_getEntryUsingComparator_2 : cJ24_getEntryUsingComparator.data.toList.drop 48 = dktJ24_getEntryUsingComparator_2 := dk_seg dksJ24_getEntryUsingComparator_1 24 rfl rfl
theorem dksJ24_getEntryUsingComparator_3 : cJ24_getEntryUsingComparator.data.toList.drop 72 = dktJ24_getEntryUsingComparator_3 := dk_seg dksJ24_getEntryUsingComparator_2 24 rfl rfl
theorem dJ24_getEntryUsingComparator_0 : decode cJ24_getEntryUsingComparator 0 = .ok (.aload_n 1, 1) := dk_43 (dk_at dksJ24_getEntryUsingComparator_0 0 rfl rfl)
theorem dJ24_getEntryUsingComparator_1 : decode cJ24_getEntryUsingComparator 1 = .ok (.astore_n 2, 1) := dk_77 (dk_at dksJ24_getEntryUsingComparator_0 1 rfl rfl)
theorem dJ24_getEntryUsingComparator_2 : decode cJ24_getEntryUsingComparator 2 = .ok (.aload_n 0, 1) := dk_42 (dk_at dksJ24_getEntryUsingComparator_0 2 rfl rfl)
theorem dJ24_getEntryUsingComparator_3 : decode cJ24_getEntryUsingComparator 3 = .ok (.getfield 16, 3) := dk_180 0 16 (dk_at dksJ24_getEntryUsingComparator_0 3 rfl rfl)
theorem dJ24_getEntryUsingComparator_6 : decode cJ24_getEntryUsingComparator 6 = .ok (.astore_n 3, 1) := dk_78 (dk_at dksJ24_getEntryUsingComparator_0 6 rfl rfl)
theorem dJ24_getEntryUsingComparator_7 : decode cJ24_getEntryUsingComparator 7 = .ok (.aload_n 3, 1) := dk_45 (dk_at dksJ24_getEntryUsingComparator_0 7 rfl rfl)
theorem dJ24_getEntryUsingComparator_8 : decode cJ24_getEntryUsingComparator 8 = .ok (.ifnull 64, 3) := dk_198 0 64 (dk_at dksJ24_getEntryUsingComparator_0 8 rfl rfl)
theorem dJ24_getEntryUsingComparator_11 : decode cJ24_getEntryUsingComparator 11 = .ok (.aload_n 0, 1) := dk_42 (dk_at dksJ24_getEntryUsingComparator_0 11 rfl rfl)
theorem dJ24_getEntryUsingComparator_12 : decode cJ24_getEntryUsingComparator 12 = .ok (.getfield 101, 3) := dk_180 0 101 (dk_at dksJ24_getEntryUsingComparator_0 12 rfl rfl)
theorem dJ24_getEntryUsingComparator_15 : decode cJ24_getEntryUsingComparator 15 = .ok (.astore 4, 2) := dk_58 4 (dk_at dksJ24_getEntryUsingComparator_0 15 rfl rfl)
theorem dJ24_getEntryUsingComparator_17 : decode cJ24_getEntryUsingComparator 17 = .ok (.aload 4, 2) := dk_25 4 (dk_at dksJ24_getEntryUsingComparator_0 17 rfl rfl)
theorem dJ24_getEntryUsingComparator_19 : decode cJ24_getEntryUsingComparator 19 = .ok (.ifnull 53, 3) := dk_198 0 53 (dk_at dksJ24_getEntryUsingComparator_0 19 rfl rfl)
theorem dJ24_getEntryUsingComparator_22 : decode cJ24_getEntryUsingComparator 22 = .ok (.aload_n 3, 1) := dk_45 (dk_at dksJ24_getEntryUsingComparator_0 22 rfl rfl)
theorem dJ24_getEntryUsingComparator_23 : decode cJ24_getEntryUsingComparator 23 = .ok (.aload_n 2, 1) := dk_44 (dk_at dksJ24_getEntryUsingComparator_0 23 rfl rfl)
theorem dJ24_getEntryUsingComparator_24 : decode cJ24_getEntryUsingComparator 24 = .ok (.aload 4, 2) := dk_25 4 (dk_at dksJ24_getEntryUsingComparator_1 0 rfl rfl)
theorem dJ24_getEntryUsingComparator_26 : decode cJ24_getEntryUsingComparator 26 = .ok (.getfield 105, 3) := dk_180 0 105 (dk_at dksJ24_getEntryUsingComparator_1 2 rfl rfl)
theorem dJ24_getEntryUsingComparator_29 : decode cJ24_getEntryUsingComparator 29 = .ok (.invokeinterface 117 3, 5) := by decide +kernel
theorem dJ24_getEntryUsingComparator_34 : decode cJ24_getEntryUsingComparator 34 = .ok (.istore 5, 2) := dk_54 5 (dk_at dksJ24_getEntryUsingComparator_1 10 rfl rfl)
theorem dJ24_getEntryUsingComparator_36 : decode cJ24_getEntryUsingComparator 36 = .ok (.iload 5, 2) := dk_21 5 (dk_at dksJ24_getEntryUsingComparator_1 12 rfl rfl)
theorem dJ24_getEntryUsingComparator_38 : decode cJ24_getEntryUsingComparator 38 = .ok (.ifCond .ge 13, 3) := dk_156 0 13 (dk_at dksJ24_getEntryUsingComparator_1 14 rfl rfl)
theorem dJ24_getEntryUsingComparator_41 : decode cJ24_getEntryUsingComparator 41 = .ok (.aload 4, 2) := dk_25 4 (dk_at dksJ24_getEntryUsingComparator_1 17 rfl rfl)
theorem dJ24_getEntryUsingComparator_43 : decode cJ24_getEntryUsingComparator 43 = .ok (.getfield 111, 3) := dk_180 0 111 (dk_at dksJ24_getEntryUsingComparator_1 19 rfl rfl)
theorem dJ24_getEntryUsingComparator_46 : decode cJ24_getEntryUsingComparator 46 = .ok (.astore 4, 2) := dk_58 4 (dk_at dksJ24_getEntryUsingComparator_1 22 rfl rfl)
theorem dJ24_getEntryUsingComparator_48 : decode cJ24_getEntryUsingComparator 48 = .ok (.goto 21, 3) := dk_167 0 21 (dk_at dksJ24_getEntryUsingComparator_2 0 rfl rfl)
theorem dJ24_getEntryUsingComparator_51 : decode cJ24_getEntryUsingComparator 51 = .ok (.iload 5, 2) := dk_21 5 (dk_at dksJ24_getEntryUsingComparator_2 3 rfl rfl)
theorem dJ24_getEntryUsingComparator_53 : decode cJ24_getEntryUsingComparator 53 = .ok (.ifCond .le 13, 3) := dk_158 0 13 (dk_at dksJ24_getEntryUsingComparator_2 5 rfl rfl)
theorem dJ24_getEntryUsingComparator_56 : decode cJ24_getEntryUsingComparator 56 = .ok (.aload 4, 2) := dk_25 4 (dk_at dksJ24_getEntryUsingComparator_2 8 rfl rfl)
theorem dJ24_getEntryUsingComparator_58 : decode cJ24_getEntryUsingComparator 58 = .ok (.getfield 114, 3) := dk_180 0 114 (dk_at dksJ24_getEntryUsingComparator_2 10 rfl rfl)
theorem dJ24_getEntryUsingComparator_61 : decode cJ24_getEntryUsingComparator 61 = .ok (.astore 4, 2) := dk_58 4 (dk_at dksJ24_getEntryUsingComparator_2 13 rfl rfl)
theorem dJ24_getEntryUsingComparator_63 : decode cJ24_getEntryUsingComparator 63 = .ok (.goto 6, 3) := dk_167 0 6 (dk_at dksJ24_getEntryUsingComparator_2 15 rfl rfl)
theorem dJ24_getEntryUsingComparator_66 : decode cJ24_getEntryUsingComparator 66 = .ok (.aload 4, 2) := dk_25 4 (dk_at dksJ24_getEntryUsingComparator_2 18 rfl rfl)
theorem dJ24_getEntryUsingComparator_68 : decode cJ24_getEntryUsingComparator 68 = .ok (.areturn, 1) := dk_176 (dk_at dksJ24_getEntryUsingComparator_2 20 rfl rfl)
theorem dJ24_getEntryUsingComparator_69 : decode cJ24_getEntryUsingComparator 69 = .ok (.goto (-52), 3) := dk_167 255 204 (dk_at dksJ24_getEntryUsingComparator_2 21 rfl rfl)
theorem dJ24_getEntryUsingComparator_72 : decode cJ24_getEntryUsingComparator 72 = .ok (.aconst_null, 1) := dk_1 (dk_at dksJ24_getEntryUsingComparator_3 0 rfl rfl)
theorem dJ24_getEntryUsingComparator_73 : decode cJ24_getEntryUsingComparator 73 = .ok (.areturn, 1) := dk_176 (dk_at dksJ24_getEntryUsingComparator_3 1 rfl rfl)
abbrev cJ24_higherKey : ByteArray := prog_87_method_48_code
def yJ24_higherKey : MethodName := ⟨RJ24, "higherKey", "(Ljava/lang/Object;)Ljava/lang/Object;"⟩
def dkwJ24_higherKey_0 : List UInt8 := [42, 43, 182, 0, 216, 184, 0, 207, 176]
abbrev dktJ24_higherKey_0 : List UInt8 := dkwJ24_higherKey_0 ++ []
theorem dksJ24_higherKey_0 : cJ24_higherKey.data.toList.drop 0 = dktJ24_higherKey_0 := by decide +kernel
theorem dJ24_higherKey_0 : decode cJ24_higherKey 0 = .ok (.aload_n 0, 1) := dk_42 (dk_at dksJ24_higherKey_0 0 rfl rfl)
theorem dJ24_higherKey_1 : decode cJ24_higherKey 1 = .ok (.aload_n 1, 1) := dk_43 (dk_at dksJ24_higherKey_0 1 rfl rfl)
theorem dJ24_higherKey_2 : decode cJ24_higherKey 2 = .ok (.invokevirtual 216, 3) := dk_182 0 216 (dk_at dksJ24_higherKey_0 2 rfl rfl)
theorem dJ24_higherKey_5 : decode cJ24_higherKey 5 = .ok (.invokestatic 207, 3) := dk_184 0 207 (dk_at dksJ24_higherKey_0 5 rfl rfl)
theorem dJ24_higherKey_8 : decode cJ24_higherKey 8 = .ok (.areturn, 1) := dk_176 (dk_at dksJ24_higherKey_0 8 rfl rfl)
abbrev cJ24_getHigherEntry : ByteArray := prog_87_method_19_code
def yJ24_getHigherEntry : MethodName := ⟨RJ24, "getHigherEntry", "(Ljava/lang/Object;)Ljava/util/TreeMap$Entry;"⟩
def dkwJ24_getHigherEntry_4 : List UInt8 := [176, 167, 255, 165, 1, 176]
abbrev dktJ24_getHigherEntry_4 : List UInt8 := dkwJ24_getHigherEntry_4 ++ []
def dkwJ24_getHigherEntry_3 : List UInt8 := [25, 4, 180, 0, 114, 166, 0, 17, 25, 4, 58, 5, 25, 4, 180, 0, 124, 58, 4, 167, 255, 230, 25, 4]
abbrev dktJ24_getHigherEntry_3 : List UInt8 := dkwJ24_getHigherEntry_3 ++ dktJ24_getHigherEntry_4
def dkwJ24_getHigherEntry_2 : List UInt8 := [180, 0, 114, 77, 167, 0, 44, 44, 180, 0, 124, 58, 4, 44, 58, 5, 25, 4, 198, 0, 27, 25, 5]
abbrev dktJ24_getHigherEntry_2 : List UInt8 := dkwJ24_getHigherEntry_2 ++ dktJ24_getHigherEntry_3
def dkwJ24_getHigherEntry_1 : List UInt8 := [180, 0, 111, 198, 0, 11, 44, 180, 0, 111, 77, 167, 0, 61, 44, 176, 44, 180, 0, 114, 198, 0, 11, 44]
abbrev dktJ24_getHigherEntry_1 : List UInt8 := dkwJ24_getHigherEntry_1 ++ dktJ24_getHigherEntry_2
def dkwJ24_getHigherEntry_0 : List UInt8 := [42, 180, 0, 101, 77, 44, 198, 0, 93, 42, 43, 44, 180, 0, 105, 182, 0, 123, 62, 29, 156, 0, 20, 44]
abbrev dktJ24_getHigherEntry_0 : List UInt8 := dkwJ24_getHigherEntry_0 ++ dktJ24_getHigherEntry_1
theorem dksJ24_getHigherEntry_0 : cJ24_getHigherEntry.data.toList.drop 0 = dktJ24_getHigherEntry_0 := by decide +kernel
theorem dksJ24_getHigherEntry_1 : cJ24_getHigherEntry.data.toList.drop 24 = dktJ24_getHigherEntry_1 := dk_seg dksJ24_getHigherEntry_0 24 rfl rfl
theorem dksJ24_getHigherEntry_2 : cJ24_getHigherEntry.data.toList.drop 48 = dktJ24_getHigherEntry_2 := dk_seg dksJ24_getHigherEntry_1 24 rfl rfl
theorem dksJ24_getHigherEntry_3 : cJ24_getHigherEntry.data.toList.drop 71 = dktJ24_getHigherEntry_3 := dk_seg dksJ24_getHigherEntry_2 23 rfl rfl
theorem dksJ24_getHigherEntry_4 : cJ24_getHigherEntry.data.toList.drop 95 = dktJ24_getHigherEntry_4 := dk_seg dksJ24_getHigherEntry_3 24 rfl rfl
theorem dJ24_getHigherEntry_0 : decode cJ24_getHigherEntry 0 = .ok (.aload_n 0, 1) := dk_42 (dk_at dksJ24_getHigherEntry_0 0 rfl rfl)
theorem dJ24_getHigherEntry_1 : decode cJ24_getHigherEntry 1 = .ok (.getfield 101, 3) := dk_180 0 101 (dk_at dksJ24_getHigherEntry_0 1 rfl rfl)
theorem dJ24_getHigherEntry_4 : decode cJ24_getHigherEntry 4 = .ok (.astore_n 2, 1) := dk_77 (dk_at dksJ24_getHigherEntry_0 4 rfl rfl)
theorem dJ24_getHigherEntry_5 : decode cJ24_getHigherEntry 5 = .ok (.aload_n 2, 1) := dk_44 (dk_at dksJ24_getHigherEntry_0 5 rfl rfl)
theorem dJ24_getHigherEntry_6 : decode cJ24_getHigherEntry 6 = .ok (.ifnull 93, 3) := dk_198 0 93 (dk_at dksJ24_getHigherEntry_0 6 rfl rfl)
theorem dJ24_getHigherEntry_9 : decode cJ24_getHigherEntry 9 = .ok (.aload_n 0, 1) := dk_42 (dk_at dksJ24_getHigherEntry_0 9 rfl rfl)
theorem dJ24_getHigherEntry_10 : decode cJ24_getHigherEntry 10 = .ok (.aload_n 1, 1) := dk_43 (dk_at dksJ24_getHigherEntry_0 10 rfl rfl)
theorem dJ24_getHigherEntry_11 : decode cJ24_getHigherEntry 11 = .ok (.aload_n 2, 1) := dk_44 (dk_at dksJ24_getHigherEntry_0 11 rfl rfl)
theorem dJ24_getHigherEntry_12 : decode cJ24_getHigherEntry 12 = .ok (.getfield 105, 3) := dk_180 0 105 (dk_at dksJ24_getHigherEntry_0 12 rfl rfl)
theorem dJ24_getHigherEntry_15 : decode cJ24_getHigherEntry 15 = .ok (.invokevirtual 123, 3) := dk_182 0 123 (dk_at dksJ24_getHigherEntry_0 15 rfl rfl)
theorem dJ24_getHigherEntry_18 : decode cJ24_getHigherEntry 18 = .ok (.istore_n 3, 1) := dk_62 (dk_at dksJ24_getHigherEntry_0 18 rfl rfl)
theorem dJ24_getHigherEntry_19 : decode cJ24_getHigherEntry 19 = .ok (.iload_n 3, 1) := dk_29 (dk_at dksJ24_getHigherEntry_0 19 rfl rfl)
theorem dJ24_getHigherEntry_20 : decode cJ24_getHigherEntry 20 = .ok (.ifCond .ge 20, 3) := dk_156 0 20 (dk_at dksJ24_getHigherEntry_0 20 rfl rfl)
theorem dJ24_getHigherEntry_23 : decode cJ24_getHigherEntry 23 = .ok (.aload_n 2, 1) := dk_44 (dk_at dksJ24_getHigherEntry_0 23 rfl rfl)
theorem dJ24_getHigherEntry_24 : decode cJ24_getHigherEntry 24 = .ok (.getfield 111, 3) := dk_180 0 111 (dk_at dksJ24_getHigherEntry_1 0 rfl rfl)
theorem dJ24_getHigherEntry_27 : decode cJ24_getHigherEntry 27 = .ok (.ifnull 11, 3) := dk_198 0 11 (dk_at dksJ24_getHigherEntry_1 3 rfl rfl)
theorem dJ24_getHigherEntry_30 : decode cJ24_getHigherEntry 30 = .ok (.aload_n 2, 1) := dk_44 (dk_at dksJ24_getHigherEntry_1 6 rfl rfl)
theorem dJ24_getHigherEntry_31 : decode cJ24_getHigherEntry 31 = .ok (.getfield 111, 3) := dk_180 0 111 (dk_at dksJ24_getHigherEntry_1 7 rfl rfl)
theorem dJ24_getHigherEntry_34 : decode cJ24_getHigherEntry 34 = .ok (.astore_n 2, 1) := dk_77 (dk_at dksJ24_getHigherEntry_1 10 rfl rfl)
theorem dJ24_getHigherEntry_35 : decode cJ24_getHigherEntry 35 = .ok (.goto 61, 3) := dk_167 0 61 (dk_at dksJ24_getHigherEntry_1 11 rfl rfl)
theorem dJ24_getHigherEntry_38 : decode cJ24_getHigherEntry 38 = .ok (.aload_n 2, 1) := dk_44 (dk_at dksJ24_getHigherEntry_1 14 rfl rfl)
theorem dJ24_getHigherEntry_39 : decode cJ24_getHigherEntry 39 = .ok (.areturn, 1) := dk_176 (dk_at dksJ24_getHigherEntry_1 15 rfl rfl)
theorem dJ24_getHigherEntry_40 : decode cJ24_getHigherEntry 40 = .ok (.aload_n 2, 1) := dk_44 (dk_at dksJ24_getHigherEntry_1 16 rfl rfl)
theorem dJ24_getHigherEntry_41 : decode cJ24_getHigherEntry 41 = .ok (.getfield 114, 3) := dk_180 0 114 (dk_at dksJ24_getHigherEntry_1 17 rfl rfl)
theorem dJ24_getHigherEntry_44 : decode cJ24_getHigherEntry 44 = .ok (.ifnull 11, 3) := dk_198 0 11 (dk_at dksJ24_getHigherEntry_1 20 rfl rfl)
theorem dJ24_getHigherEntry_47 : decode cJ24_getHigherEntry 47 = .ok (.aload_n 2, 1) := dk_44 (dk_at dksJ24_getHigherEntry_1 23 rfl rfl)
theorem dJ24_getHigherEntry_48 : decode cJ24_getHigherEntry 48 = .ok (.getfield 114, 3) := dk_180 0 114 (dk_at dksJ24_getHigherEntry_2 0 rfl rfl)
theorem dJ24_getHigherEntry_51 : decode cJ24_getHigherEntry 51 = .ok (.astore_n 2, 1) := dk_77 (dk_at dksJ24_getHigherEntry_2 3 rfl rfl)
theorem dJ24_getHigherEntry_52 : decode cJ24_getHigherEntry 52 = .ok (.goto 44, 3) := dk_167 0 44 (dk_at dksJ24_getHigherEntry_2 4 rfl rfl)
theorem dJ24_getHigherEntry_55 : decode cJ24_getHigherEntry 55 = .ok (.aload_n 2, 1) := dk_44 (dk_at dksJ24_getHigherEntry_2 7 rfl rfl)
theorem dJ24_getHigherEntry_56 : decode cJ24_getHigherEntry 56 = .ok (.getfield 124, 3) := dk_180 0 124 (dk_at dksJ24_getHigherEntry_2 8 rfl rfl)
theorem dJ24_getHigherEntry_59 : decode cJ24_getHigherEntry 59 = .ok (.astore 4, 2) := dk_58 4 (dk_at dksJ24_getHigherEntry_2 11 rfl rfl)
theorem dJ24_getHigherEntry_61 : decode cJ24_getHigherEntry 61 = .ok (.aload_n 2, 1) := dk_44 (dk_at dksJ24_getHigherEntry_2 13 rfl rfl)
theorem dJ24_getHigherEntry_62 : decode cJ24_getHigherEntry 62 = .ok (.astore 5, 2) := dk_58 5 (dk_at dksJ24_getHigherEntry_2 14 rfl rfl)
theorem dJ24_getHigherEntry_64 : decode cJ24_getHigherEntry 64 = .ok (.aload 4, 2) := dk_25 4 (dk_at dksJ24_getHigherEntry_2 16 rfl rfl)
theorem dJ24_getHigherEntry_66 : decode cJ24_getHigherEntry 66 = .ok (.ifnull 27, 3) := dk_198 0 27 (dk_at dksJ24_getHigherEntry_2 18 rfl rfl)
theorem dJ24_getHigherEntry_69 : decode cJ24_getHigherEntry 69 = .ok (.aload 5, 2) := dk_25 5 (dk_at dksJ24_getHigherEntry_2 21 rfl rfl)
theorem dJ24_getHigherEntry_71 : decode cJ24_getHigherEntry 71 = .ok (.aload 4, 2) := dk_25 4 (dk_at dksJ24_getHigherEntry_3 0 rfl rfl)
theorem dJ24_getHigherEntry_73 : decode cJ24_getHigherEntry 73 = .ok (.getfield 114, 3) := dk_180 0 114 (dk_at dksJ24_getHigherEntry_3 2 rfl rfl)
theorem dJ24_getHigherEntry_76 : decode cJ24_getHigherEntry 76 = .ok (.if_acmp .ne 17, 3) := dk_166 0 17 (dk_at dksJ24_getHigherEntry_3 5 rfl rfl)
theorem dJ24_getHigherEntry_79 : decode cJ24_getHigherEntry 79 = .ok (.aload 4, 2) := dk_25 4 (dk_at dksJ24_getHigherEntry_3 8 rfl rfl)
theorem dJ24_getHigherEntry_81 : decode cJ24_getHigherEntry 81 = .ok (.astore 5, 2) := dk_58 5 (dk_at dksJ24_getHigherEntry_3 10 rfl rfl)
theorem dJ24_getHigherEntry_83 : decode cJ24_getHigherEntry 83 = .ok (.aload 4, 2) := dk_25 4 (dk_at dksJ24_getHigherEntry_3 12 rfl rfl)
theorem dJ24_getHigherEntry_85 : decode cJ24_getHigherEntry 85 = .ok (.getfield 124, 3) := dk_180 0 124 (dk_at dksJ24_getHigherEntry_3 14 rfl rfl)
theorem dJ24_getHigherEntry_88 : decode cJ24_getHigherEntry 88 = .ok (.astore 4, 2) := dk_58 4 (dk_at dksJ24_getHigherEntry_3 17 rfl rfl)
theorem dJ24_getHigherEntry_90 : decode cJ24_getHigherEntry 90 = .ok (.goto (-26), 3) := dk_167 255 230 (dk_at dksJ24_getHigherEntry_3 19 rfl rfl)
theorem dJ24_getHigherEntry_93 : decode cJ24_getHigherEntry 93 = .ok (.aload 4, 2) := dk_25 4 (dk_at dksJ24_getHigherEntry_3 22 rfl rfl)
theorem dJ24_getHigherEntry_95 : decode cJ24_getHigherEntry 95 = .ok (.areturn, 1) := dk_176 (dk_at dksJ24_getHigherEntry_4 0 rfl rfl)
theorem dJ24_getHigherEntry_96 : decode cJ24_getHigherEntry 96 = .ok (.goto (-91), 3) := dk_167 255 165 (dk_at dksJ24_getHigherEntry_4 1 rfl rfl)
theorem dJ24_getHigherEntry_99 : decode cJ24_getHigherEntry 99 = .ok (.aconst_null, 1) := dk_1 (dk_at dksJ24_getHigherEntry_4 4 rfl rfl)
theorem dJ24_getHigherEntry_100 : decode cJ24_getHigherEntry 100 = .ok (.areturn, 1) := dk_176 (dk_at dksJ24_getHigherEntry_4 5 rfl rfl)
abbrev cJ24_remove : ByteArray := prog_87_method_34_code
def yJ24_remove : MethodName := ⟨RJ24, "remove", "(Ljava/lang/Object;)Ljava/lang/Object;"⟩
def dkwJ24_remove_0 : List UInt8 := [42, 43, 182, 0, 50, 77, 44, 199, 0, 5, 1, 176, 44, 180, 0, 58, 78, 42, 44, 182, 0, 174, 45, 176]
abbrev dktJ24_remove_0 : List UInt8 := dkwJ24_remove_0 ++ []
theorem dksJ24_remove_0 : cJ24_remove.data.toList.drop 0 = dktJ24_remove_0 := by decide +kernel
theorem dJ24_remove_0 : decode cJ24_remove 0 = .ok (.aload_n 0, 1) := dk_42 (dk_at dksJ24_remove_0 0 rfl rfl)
theorem dJ24_remove_1 : decode cJ24_remove 1 = .ok (.aload_n 1, 1) := dk_43 (dk_at dksJ24_remove_0 1 rfl rfl)
theorem dJ24_remove_2 : decode cJ24_remove 2 = .ok (.invokevirtual 50, 3) := dk_182 0 50 (dk_at dksJ24_remove_0 2 rfl rfl)
theorem dJ24_remove_5 : decode cJ24_remove 5 = .ok (.astore_n 2, 1) := dk_77 (dk_at dksJ24_remove_0 5 rfl rfl)
theorem dJ24_remove_6 : decode cJ24_remove 6 = .ok (.aload_n 2, 1) := dk_44 (dk_at dksJ24_remove_0 6 rfl rfl)
theorem dJ24_remove_7 : decode cJ24_remove 7 = .ok (.ifnonnull 5, 3) := dk_199 0 5 (dk_at dksJ24_remove_0 7 rfl rfl)
theorem dJ24_remove_10 : decode cJ24_remove 10 = .ok (.aconst_null, 1) := dk_1 (dk_at dksJ24_remove_0 10 rfl rfl)
theorem dJ24_remove_11 : decode cJ24_remove 11 = .ok (.areturn, 1) := dk_176 (dk_at dksJ24_remove_0 11 rfl rfl)
theorem dJ24_remove_12 : decode cJ24_remove 12 = .ok (.aload_n 2, 1) := dk_44 (dk_at dksJ24_remove_0 12 rfl rfl)
theorem dJ24_remove_13 : decode cJ24_remove 13 = .ok (.getfield 58, 3) := dk_180 0 58 (dk_at dksJ24_remove_0 13 rfl rfl)
theorem dJ24_remove_16 : decode cJ24_remove 16 = .ok (.astore_n 3, 1) := dk_78 (dk_at dksJ24_remove_0 16 rfl rfl)
theorem dJ24_remove_17 : decode cJ24_remove 17 = .ok (.aload_n 0, 1) := dk_42 (dk_at dksJ24_remove_0 17 rfl rfl)
theorem dJ24_remove_18 : decode cJ24_remove 18 = .ok (.aload_n 2, 1) := dk_44 (dk_at dksJ24_remove_0 18 rfl rfl)
theorem dJ24_remove_19 : decode cJ24_remove 19 = .ok (.invokevirtual 174, 3) := dk_182 0 174 (dk_at dksJ24_remove_0 19 rfl rfl)
theorem dJ24_remove_22 : decode cJ24_remove 22 = .ok (.aload_n 3, 1) := dk_45 (dk_at dksJ24_remove_0 22 rfl rfl)
theorem dJ24_remove_23 : decode cJ24_remove 23 = .ok (.areturn, 1) := dk_176 (dk_at dksJ24_remove_0 23 rfl rfl)
abbrev cJ24_deleteEntry : ByteArray := prog_87_method_84_code
def yJ24_deleteEntry : MethodName := ⟨RJ24, "deleteEntry", "(Ljava/util/TreeMap$Entry;)V"⟩
def dkwJ24_deleteEntry_10 : List UInt8 := [180, 0, 124, 1, 181, 0, 114, 43, 1, 181, 0, 124, 177]
abbrev dktJ24_deleteEntry_10 : List UInt8 := dkwJ24_deleteEntry_10 ++ []
def dkwJ24_deleteEntry_9 : List UInt8 := [180, 0, 124, 1, 181, 0, 111, 167, 0, 22, 43, 43, 180, 0, 124, 180, 0, 114, 166, 0, 11, 43]
abbrev dktJ24_deleteEntry_9 : List UInt8 := dkwJ24_deleteEntry_9 ++ dktJ24_deleteEntry_10
def dkwJ24_deleteEntry_8 : List UInt8 := [182, 1, 61, 43, 180, 0, 124, 198, 0, 49, 43, 43, 180, 0, 124, 180, 0, 111, 166, 0, 14, 43]
abbrev dktJ24_deleteEntry_8 : List UInt8 := dkwJ24_deleteEntry_8 ++ dktJ24_deleteEntry_9
def dkwJ24_deleteEntry_7 : List UInt8 := [180, 0, 124, 199, 0, 11, 42, 1, 181, 0, 101, 167, 0, 69, 43, 180, 1, 34, 4, 160, 0, 8, 42, 43]
abbrev dktJ24_deleteEntry_7 : List UInt8 := dkwJ24_deleteEntry_7 ++ dktJ24_deleteEntry_8
def dkwJ24_deleteEntry_6 : List UInt8 := [181, 0, 114, 181, 0, 111, 43, 180, 1, 34, 4, 160, 0, 92, 42, 44, 182, 1, 61, 167, 0, 84, 43]
abbrev dktJ24_deleteEntry_6 : List UInt8 := dkwJ24_deleteEntry_6 ++ dktJ24_deleteEntry_7
def dkwJ24_deleteEntry_5 : List UInt8 := [181, 0, 111, 167, 0, 11, 43, 180, 0, 124, 44, 181, 0, 114, 43, 43, 43, 1, 90, 181, 0, 124, 90]
abbrev dktJ24_deleteEntry_5 : List UInt8 := dkwJ24_deleteEntry_5 ++ dktJ24_deleteEntry_6
def dkwJ24_deleteEntry_4 : List UInt8 := [44, 181, 0, 101, 167, 0, 33, 43, 43, 180, 0, 124, 180, 0, 111, 166, 0, 14, 43, 180, 0, 124, 44]
abbrev dktJ24_deleteEntry_4 : List UInt8 := dkwJ24_deleteEntry_4 ++ dktJ24_deleteEntry_5
def dkwJ24_deleteEntry_3 : List UInt8 := [180, 0, 114, 77, 44, 198, 0, 87, 44, 43, 180, 0, 124, 181, 0, 124, 43, 180, 0, 124, 199, 0, 11, 42]
abbrev dktJ24_deleteEntry_3 : List UInt8 := dkwJ24_deleteEntry_3 ++ dktJ24_deleteEntry_4
def dkwJ24_deleteEntry_2 : List UInt8 := [44, 180, 0, 58, 181, 0, 58, 44, 76, 43, 180, 0, 111, 198, 0, 10, 43, 180, 0, 111, 167, 0, 7, 43]
abbrev dktJ24_deleteEntry_2 : List UInt8 := dkwJ24_deleteEntry_2 ++ dktJ24_deleteEntry_3
def dkwJ24_deleteEntry_1 : List UInt8 := [198, 0, 33, 43, 180, 0, 114, 198, 0, 26, 43, 184, 0, 68, 77, 43, 44, 180, 0, 105, 181, 0, 105, 43]
abbrev dktJ24_deleteEntry_1 : List UInt8 := dkwJ24_deleteEntry_1 ++ dktJ24_deleteEntry_2
def dkwJ24_deleteEntry_0 : List UInt8 := [42, 89, 180, 0, 13, 4, 96, 181, 0, 13, 42, 89, 180, 0, 7, 4, 100, 181, 0, 7, 43, 180, 0, 111]
abbrev dktJ24_deleteEntry_0 : List UInt8 := dkwJ24_deleteEntry_0 ++ dktJ24_deleteEntry_1
theorem dksJ24_deleteEntry_0 : cJ24_deleteEntry.data.toList.drop 0 = dktJ24_deleteEntry_0 := by decide +kernel
theorem dksJ24_deleteEntry_1 : cJ24_deleteEntry.data.toList.drop 24 = dktJ24_deleteEntry_1 := dk_seg dksJ24_deleteEntry_0 24 rfl rfl
theorem dksJ24_deleteEntry_2 : cJ24_deleteEntry.data.toList.drop 48 = dktJ24_deleteEntry_2 := dk_seg dksJ24_deleteEntry_1 24 rfl rfl
theorem dksJ24_deleteEntry_3 : cJ24_deleteEntry.data.toList.drop 72 = dktJ24_deleteEntry_3 := dk_seg dksJ24_deleteEntry_2 24 rfl rfl
theorem dksJ24_deleteEntry_4 : cJ24_deleteEntry.data.toList.drop 96 = dktJ24_deleteEntry_4 := dk_seg dksJ24_deleteEntry_3 24 rfl rfl
theorem dksJ24_deleteEntry_5 : cJ24_deleteEntry.data.toList.drop 119 = dktJ24_deleteEntry_5 := dk_seg dksJ24_deleteEntry_4 23 rfl rfl
theorem dksJ24_deleteEntry_6 : cJ24_deleteEntry.data.toList.drop 142 = dktJ24_deleteEntry_6 := dk_seg dksJ24_deleteEntry_5 23 rfl rfl
theorem dksJ24_deleteEntry_7 : cJ24_deleteEntry.data.toList.drop 165 = dktJ24_deleteEntry_7 := dk_seg dksJ24_deleteEntry_6 23 rfl rfl
theorem dksJ24_deleteEntry_8 : cJ24_deleteEntry.data.toList.drop 189 = dktJ24_deleteEntry_8 := dk_seg dksJ24_deleteEntry_7 24 rfl rfl
theorem dksJ24_deleteEntry_9 : cJ24_deleteEntry.data.toList.drop 211 = dktJ24_deleteEntry_9 := dk_seg dksJ24_deleteEntry_8 22 rfl rfl
theorem dksJ24_deleteEntry_10 : cJ24_deleteEntry.data.toList.drop 233 = dktJ24_deleteEntry_10 := dk_seg dksJ24_deleteEntry_9 22 rfl rfl
theorem dJ24_deleteEntry_0 : decode cJ24_deleteEntry 0 = .ok (.aload_n 0, 1) := dk_42 (dk_at dksJ24_deleteEntry_0 0 rfl rfl)
theorem dJ24_deleteEntry_1 : decode cJ24_deleteEntry 1 = .ok (.dup, 1) := dk_89 (dk_at dksJ24_deleteEntry_0 1 rfl rfl)
theorem dJ24_deleteEntry_2 : decode cJ24_deleteEntry 2 = .ok (.getfield 13, 3) := dk_180 0 13 (dk_at dksJ24_deleteEntry_0 2 rfl rfl)
theorem dJ24_deleteEntry_5 : decode cJ24_deleteEntry 5 = .ok (.iconst 1, 1) := dk_4 (dk_at dksJ24_deleteEntry_0 5 rfl rfl)
theorem dJ24_deleteEntry_6 : decode cJ24_deleteEntry 6 = .ok (.iadd, 1) := dk_96 (dk_at dksJ24_deleteEntry_0 6 rfl rfl)
theorem dJ24_deleteEntry_7 : decode cJ24_deleteEntry 7 = .ok (.putfield 13, 3) := dk_181 0 13 (dk_at dksJ24_deleteEntry_0 7 rfl rfl)
theorem dJ24_deleteEntry_10 : decode cJ24_deleteEntry 10 = .ok (.aload_n 0, 1) := dk_42 (dk_at dksJ24_deleteEntry_0 10 rfl rfl)
theorem dJ24_deleteEntry_11 : decode cJ24_deleteEntry 11 = .ok (.dup, 1) := dk_89 (dk_at dksJ24_deleteEntry_0 11 rfl rfl)
theorem dJ24_deleteEntry_12 : decode cJ24_deleteEntry 12 = .ok (.getfield 7, 3) := dk_180 0 7 (dk_at dksJ24_deleteEntry_0 12 rfl rfl)
theorem dJ24_deleteEntry_15 : decode cJ24_deleteEntry 15 = .ok (.iconst 1, 1) := dk_4 (dk_at dksJ24_deleteEntry_0 15 rfl rfl)
theorem dJ24_deleteEntry_16 : decode cJ24_deleteEntry 16 = .ok (.isub, 1) := dk_100 (dk_at dksJ24_deleteEntry_0 16 rfl rfl)
theorem dJ24_deleteEntry_17 : decode cJ24_deleteEntry 17 = .ok (.putfield 7, 3) := dk_181 0 7 (dk_at dksJ24_deleteEntry_0 17 rfl rfl)
theorem dJ24_deleteEntry_20 : decode cJ24_deleteEntry 20 = .ok (.aload_n 1, 1) := dk_43 (dk_at dksJ24_deleteEntry_0 20 rfl rfl)
theorem dJ24_deleteEntry_21 : decode cJ24_deleteEntry 21 = .ok (.getfield 111, 3) := dk_180 0 111 (dk_at dksJ24_deleteEntry_0 21 rfl rfl)
theorem dJ24_deleteEntry_24 : decode cJ24_deleteEntry 24 = .ok (.ifnull 33, 3) := dk_198 0 33 (dk_at dksJ24_deleteEntry_1 0 rfl rfl)
theorem dJ24_deleteEntry_27 : decode cJ24_deleteEntry 27 = .ok (.aload_n 1, 1) := dk_43 (dk_at dksJ24_deleteEntry_1 3 rfl rfl)
theorem dJ24_deleteEntry_28 : decode cJ24_deleteEntry 28 = .ok (.getfield 114, 3) := dk_180 0 114 (dk_at dksJ24_deleteEntry_1 4 rfl rfl)
theorem dJ24_deleteEntry_31 : decode cJ24_deleteEntry 31 = .ok (.ifnull 26, 3) := dk_198 0 26 (dk_at dksJ24_deleteEntry_1 7 rfl rfl)
theorem dJ24_deleteEntry_34 : decode cJ24_deleteEntry 34 = .ok (.aload_n 1, 1) := dk_43 (dk_at dksJ24_deleteEntry_1 10 rfl rfl)
theorem dJ24_deleteEntry_35 : decode cJ24_deleteEntry 35 = .ok (.invokestatic 68, 3) := dk_184 0 68 (dk_at dksJ24_deleteEntry_1 11 rfl rfl)
theorem dJ24_deleteEntry_38 : decode cJ24_deleteEntry 38 = .ok (.astore_n 2, 1) := dk_77 (dk_at dksJ24_deleteEntry_1 14 rfl rfl)
theorem dJ24_deleteEntry_39 : decode cJ24_deleteEntry 39 = .ok (.aload_n 1, 1) := dk_43 (dk_at dksJ24_deleteEntry_1 15 rfl rfl)
theorem dJ24_deleteEntry_40 : decode cJ24_deleteEntry 40 = .ok (.aload_n 2, 1) := dk_44 (dk_at dksJ24_deleteEntry_1 16 rfl rfl)
theorem dJ24_deleteEntry_41 : decode cJ24_deleteEntry 41 = .ok (.getfield 105, 3) := dk_180 0 105 (dk_at dksJ24_deleteEntry_1 17 rfl rfl)
theorem dJ24_deleteEntry_44 : decode cJ24_deleteEntry 44 = .ok (.putfield 105, 3) := dk_181 0 105 (dk_at dksJ24_deleteEntry_1 20 rfl rfl)
theorem dJ24_deleteEntry_47 : decode cJ24_deleteEntry 47 = .ok (.aload_n 1, 1) := dk_43 (dk_at dksJ24_deleteEntry_1 23 rfl rfl)
theorem dJ24_deleteEntry_48 : decode cJ24_deleteEntry 48 = .ok (.aload_n 2, 1) := dk_44 (dk_at dksJ24_deleteEntry_2 0 rfl rfl)
theorem dJ24_deleteEntry_49 : decode cJ24_deleteEntry 49 = .ok (.getfield 58, 3) := dk_180 0 58 (dk_at dksJ24_deleteEntry_2 1 rfl rfl)
theorem dJ24_deleteEntry_52 : decode cJ24_deleteEntry 52 = .ok (.putfield 58, 3) := dk_181 0 58 (dk_at dksJ24_deleteEntry_2 4 rfl rfl)
theorem dJ24_deleteEntry_55 : decode cJ24_deleteEntry 55 = .ok (.aload_n 2, 1) := dk_44 (dk_at dksJ24_deleteEntry_2 7 rfl rfl)
theorem dJ24_deleteEntry_56 : decode cJ24_deleteEntry 56 = .ok (.astore_n 1, 1) := dk_76 (dk_at dksJ24_deleteEntry_2 8 rfl rfl)
theorem dJ24_deleteEntry_57 : decode cJ24_deleteEntry 57 = .ok (.aload_n 1, 1) := dk_43 (dk_at dksJ24_deleteEntry_2 9 rfl rfl)
theorem dJ24_deleteEntry_58 : decode cJ24_deleteEntry 58 = .ok (.getfield 111, 3) := dk_180 0 111 (dk_at dksJ24_deleteEntry_2 10 rfl rfl)
theorem dJ24_deleteEntry_61 : decode cJ24_deleteEntry 61 = .ok (.ifnull 10, 3) := dk_198 0 10 (dk_at dksJ24_deleteEntry_2 13 rfl rfl)
theorem dJ24_deleteEntry_64 : decode cJ24_deleteEntry 64 = .ok (.aload_n 1, 1) := dk_43 (dk_at dksJ24_deleteEntry_2 16 rfl rfl)
theorem dJ24_deleteEntry_65 : decode cJ24_deleteEntry 65 = .ok (.getfield 111, 3) := dk_180 0 111 (dk_at dksJ24_deleteEntry_2 17 rfl rfl)
theorem dJ24_deleteEntry_68 : decode cJ24_deleteEntry 68 = .ok (.goto 7, 3) := dk_167 0 7 (dk_at dksJ24_deleteEntry_2 20 rfl rfl)
theorem dJ24_deleteEntry_71 : decode cJ24_deleteEntry 71 = .ok (.aload_n 1, 1) := dk_43 (dk_at dksJ24_deleteEntry_2 23 rfl rfl)
theorem dJ24_deleteEntry_72 : decode cJ24_deleteEntry 72 = .ok (.getfield 114, 3) := dk_180 0 114 (dk_at dksJ24_deleteEntry_3 0 rfl rfl)
theorem dJ24_deleteEntry_75 : decode cJ24_deleteEntry 75 = .ok (.astore_n 2, 1) := dk_77 (dk_at dksJ24_deleteEntry_3 3 rfl rfl)
theorem dJ24_deleteEntry_76 : decode cJ24_deleteEntry 76 = .ok (.aload_n 2, 1) := dk_44 (dk_at dksJ24_deleteEntry_3 4 rfl rfl)
theorem dJ24_deleteEntry_77 : decode cJ24_deleteEntry 77 = .ok (.ifnull 87, 3) := dk_198 0 87 (dk_at dksJ24_deleteEntry_3 5 rfl rfl)
theorem dJ24_deleteEntry_80 : decode cJ24_deleteEntry 80 = .ok (.aload_n 2, 1) := dk_44 (dk_at dksJ24_deleteEntry_3 8 rfl rfl)
theorem dJ24_deleteEntry_81 : decode cJ24_deleteEntry 81 = .ok (.aload_n 1, 1) := dk_43 (dk_at dksJ24_deleteEntry_3 9 rfl rfl)
theorem dJ24_deleteEntry_82 : decode cJ24_deleteEntry 82 = .ok (.getfield 124, 3) := dk_180 0 124 (dk_at dksJ24_deleteEntry_3 10 rfl rfl)
theorem dJ24_deleteEntry_85 : decode cJ24_deleteEntry 85 = .ok (.putfield 124, 3) := dk_181 0 124 (dk_at dksJ24_deleteEntry_3 13 rfl rfl)
theorem dJ24_deleteEntry_88 : decode cJ24_deleteEntry 88 = .ok (.aload_n 1, 1) := dk_43 (dk_at dksJ24_deleteEntry_3 16 rfl rfl)
theorem dJ24_deleteEntry_89 : decode cJ24_deleteEntry 89 = .ok (.getfield 124, 3) := dk_180 0 124 (dk_at dksJ24_deleteEntry_3 17 rfl rfl)
theorem dJ24_deleteEntry_92 : decode cJ24_deleteEntry 92 = .ok (.ifnonnull 11, 3) := dk_199 0 11 (dk_at dksJ24_deleteEntry_3 20 rfl rfl)
theorem dJ24_deleteEntry_95 : decode cJ24_deleteEntry 95 = .ok (.aload_n 0, 1) := dk_42 (dk_at dksJ24_deleteEntry_3 23 rfl rfl)
theorem dJ24_deleteEntry_96 : decode cJ24_deleteEntry 96 = .ok (.aload_n 2, 1) := dk_44 (dk_at dksJ24_deleteEntry_4 0 rfl rfl)
theorem dJ24_deleteEntry_97 : decode cJ24_deleteEntry 97 = .ok (.putfield 101, 3) := dk_181 0 101 (dk_at dksJ24_deleteEntry_4 1 rfl rfl)
theorem dJ24_deleteEntry_100 : decode cJ24_deleteEntry 100 = .ok (.goto 33, 3) := dk_167 0 33 (dk_at dksJ24_deleteEntry_4 4 rfl rfl)
theorem dJ24_deleteEntry_103 : decode cJ24_deleteEntry 103 = .ok (.aload_n 1, 1) := dk_43 (dk_at dksJ24_deleteEntry_4 7 rfl rfl)
theorem dJ24_deleteEntry_104 : decode cJ24_deleteEntry 104 = .ok (.aload_n 1, 1) := dk_43 (dk_at dksJ24_deleteEntry_4 8 rfl rfl)
theorem dJ24_deleteEntry_105 : decode cJ24_deleteEntry 105 = .ok (.getfield 124, 3) := dk_180 0 124 (dk_at dksJ24_deleteEntry_4 9 rfl rfl)
theorem dJ24_deleteEntry_108 : decode cJ24_deleteEntry 108 = .ok (.getfield 111, 3) := dk_180 0 111 (dk_at dksJ24_deleteEntry_4 12 rfl rfl)
theorem dJ24_deleteEntry_111 : decode cJ24_deleteEntry 111 = .ok (.if_acmp .ne 14, 3) := dk_166 0 14 (dk_at dksJ24_deleteEntry_4 15 rfl rfl)
theorem dJ24_deleteEntry_114 : decode cJ24_deleteEntry 114 = .ok (.aload_n 1, 1) := dk_43 (dk_at dksJ24_deleteEntry_4 18 rfl rfl)
theorem dJ24_deleteEntry_115 : decode cJ24_deleteEntry 115 = .ok (.getfield 124, 3) := dk_180 0 124 (dk_at dksJ24_deleteEntry_4 19 rfl rfl)
theorem dJ24_deleteEntry_118 : decode cJ24_deleteEntry 118 = .ok (.aload_n 2, 1) := dk_44 (dk_at dksJ24_deleteEntry_4 22 rfl rfl)
theorem dJ24_deleteEntry_119 : decode cJ24_deleteEntry 119 = .ok (.putfield 111, 3) := dk_181 0 111 (dk_at dksJ24_deleteEntry_5 0 rfl rfl)
theorem dJ24_deleteEntry_122 : decode cJ24_deleteEntry 122 = .ok (.goto 11, 3) := dk_167 0 11 (dk_at dksJ24_deleteEntry_5 3 rfl rfl)
theorem dJ24_deleteEntry_125 : decode cJ24_deleteEntry 125 = .ok (.aload_n 1, 1) := dk_43 (dk_at dksJ24_deleteEntry_5 6 rfl rfl)
theorem dJ24_deleteEntry_126 : decode cJ24_deleteEntry 126 = .ok (.getfield 124, 3) := dk_180 0 124 (dk_at dksJ24_deleteEntry_5 7 rfl rfl)
theorem dJ24_deleteEntry_129 : decode cJ24_deleteEntry 129 = .ok (.aload_n 2, 1) := dk_44 (dk_at dksJ24_deleteEntry_5 10 rfl rfl)
theorem dJ24_deleteEntry_130 : decode cJ24_deleteEntry 130 = .ok (.putfield 114, 3) := dk_181 0 114 (dk_at dksJ24_deleteEntry_5 11 rfl rfl)
theorem dJ24_deleteEntry_133 : decode cJ24_deleteEntry 133 = .ok (.aload_n 1, 1) := dk_43 (dk_at dksJ24_deleteEntry_5 14 rfl rfl)
theorem dJ24_deleteEntry_134 : decode cJ24_deleteEntry 134 = .ok (.aload_n 1, 1) := dk_43 (dk_at dksJ24_deleteEntry_5 15 rfl rfl)
theorem dJ24_deleteEntry_135 : decode cJ24_deleteEntry 135 = .ok (.aload_n 1, 1) := dk_43 (dk_at dksJ24_deleteEntry_5 16 rfl rfl)
theorem dJ24_deleteEntry_136 : decode cJ24_deleteEntry 136 = .ok (.aconst_null, 1) := dk_1 (dk_at dksJ24_deleteEntry_5 17 rfl rfl)
theorem dJ24_deleteEntry_137 : decode cJ24_deleteEntry 137 = .ok (.dup_x1, 1) := dk_90 (dk_at dksJ24_deleteEntry_5 18 rfl rfl)
theorem dJ24_deleteEntry_138 : decode cJ24_deleteEntry 138 = .ok (.putfield 124, 3) := dk_181 0 124 (dk_at dksJ24_deleteEntry_5 19 rfl rfl)
theorem dJ24_deleteEntry_141 : decode cJ24_deleteEntry 141 = .ok (.dup_x1, 1) := dk_90 (dk_at dksJ24_deleteEntry_5 22 rfl rfl)
theorem dJ24_deleteEntry_142 : decode cJ24_deleteEntry 142 = .ok (.putfield 114, 3) := dk_181 0 114 (dk_at dksJ24_deleteEntry_6 0 rfl rfl)
theorem dJ24_deleteEntry_145 : decode cJ24_deleteEntry 145 = .ok (.putfield 111, 3) := dk_181 0 111 (dk_at dksJ24_deleteEntry_6 3 rfl rfl)
theorem dJ24_deleteEntry_148 : decode cJ24_deleteEntry 148 = .ok (.aload_n 1, 1) := dk_43 (dk_at dksJ24_deleteEntry_6 6 rfl rfl)
theorem dJ24_deleteEntry_149 : decode cJ24_deleteEntry 149 = .ok (.getfield 290, 3) := dk_180 1 34 (dk_at dksJ24_deleteEntry_6 7 rfl rfl)
theorem dJ24_deleteEntry_152 : decode cJ24_deleteEntry 152 = .ok (.iconst 1, 1) := dk_4 (dk_at dksJ24_deleteEntry_6 10 rfl rfl)
theorem dJ24_deleteEntry_153 : decode cJ24_deleteEntry 153 = .ok (.if_icmp .ne 92, 3) := dk_160 0 92 (dk_at dksJ24_deleteEntry_6 11 rfl rfl)
theorem dJ24_deleteEntry_156 : decode cJ24_deleteEntry 156 = .ok (.aload_n 0, 1) := dk_42 (dk_at dksJ24_deleteEntry_6 14 rfl rfl)
theorem dJ24_deleteEntry_157 : decode cJ24_deleteEntry 157 = .ok (.aload_n 2, 1) := dk_44 (dk_at dksJ24_deleteEntry_6 15 rfl rfl)
theorem dJ24_deleteEntry_158 : decode cJ24_deleteEntry 158 = .ok (.invokevirtual 317, 3) := dk_182 1 61 (dk_at dksJ24_deleteEntry_6 16 rfl rfl)
theorem dJ24_deleteEntry_161 : decode cJ24_deleteEntry 161 = .ok (.goto 84, 3) := dk_167 0 84 (dk_at dksJ24_deleteEntry_6 19 rfl rfl)
theorem dJ24_deleteEntry_164 : decode cJ24_deleteEntry 164 = .ok (.aload_n 1, 1) := dk_43 (dk_at dksJ24_deleteEntry_6 22 rfl rfl)
theorem dJ24_deleteEntry_165 : decode cJ24_deleteEntry 165 = .ok (.getfield 124, 3) := dk_180 0 124 (dk_at dksJ24_deleteEntry_7 0 rfl rfl)
theorem dJ24_deleteEntry_168 : decode cJ24_deleteEntry 168 = .ok (.ifnonnull 11, 3) := dk_199 0 11 (dk_at dksJ24_deleteEntry_7 3 rfl rfl)
theorem dJ24_deleteEntry_171 : decode cJ24_deleteEntry 171 = .ok (.aload_n 0, 1) := dk_42 (dk_at dksJ24_deleteEntry_7 6 rfl rfl)
theorem dJ24_deleteEntry_172 : decode cJ24_deleteEntry 172 = .ok (.aconst_null, 1) := dk_1 (dk_at dksJ24_deleteEntry_7 7 rfl rfl)
theorem dJ24_deleteEntry_173 : decode cJ24_deleteEntry 173 = .ok (.putfield 101, 3) := dk_181 0 101 (dk_at dksJ24_deleteEntry_7 8 rfl rfl)
theorem dJ24_deleteEntry_176 : decode cJ24_deleteEntry 176 = .ok (.goto 69, 3) := dk_167 0 69 (dk_at dksJ24_deleteEntry_7 11 rfl rfl)
theorem dJ24_deleteEntry_179 : decode cJ24_deleteEntry 179 = .ok (.aload_n 1, 1) := dk_43 (dk_at dksJ24_deleteEntry_7 14 rfl rfl)
theorem dJ24_deleteEntry_180 : decode cJ24_deleteEntry 180 = .ok (.getfield 290, 3) := dk_180 1 34 (dk_at dksJ24_deleteEntry_7 15 rfl rfl)
theorem dJ24_deleteEntry_183 : decode cJ24_deleteEntry 183 = .ok (.iconst 1, 1) := dk_4 (dk_at dksJ24_deleteEntry_7 18 rfl rfl)
theorem dJ24_deleteEntry_184 : decode cJ24_deleteEntry 184 = .ok (.if_icmp .ne 8, 3) := dk_160 0 8 (dk_at dksJ24_deleteEntry_7 19 rfl rfl)
theorem dJ24_deleteEntry_187 : decode cJ24_deleteEntry 187 = .ok (.aload_n 0, 1) := dk_42 (dk_at dksJ24_deleteEntry_7 22 rfl rfl)
theorem dJ24_deleteEntry_188 : decode cJ24_deleteEntry 188 = .ok (.aload_n 1, 1) := dk_43 (dk_at dksJ24_deleteEntry_7 23 rfl rfl)
theorem dJ24_deleteEntry_189 : decode cJ24_deleteEntry 189 = .ok (.invokevirtual 317, 3) := dk_182 1 61 (dk_at dksJ24_deleteEntry_8 0 rfl rfl)
theorem dJ24_deleteEntry_192 : decode cJ24_deleteEntry 192 = .ok (.aload_n 1, 1) := dk_43 (dk_at dksJ24_deleteEntry_8 3 rfl rfl)
theorem dJ24_deleteEntry_193 : decode cJ24_deleteEntry 193 = .ok (.getfield 124, 3) := dk_180 0 124 (dk_at dksJ24_deleteEntry_8 4 rfl rfl)
theorem dJ24_deleteEntry_196 : decode cJ24_deleteEntry 196 = .ok (.ifnull 49, 3) := dk_198 0 49 (dk_at dksJ24_deleteEntry_8 7 rfl rfl)
theorem dJ24_deleteEntry_199 : decode cJ24_deleteEntry 199 = .ok (.aload_n 1, 1) := dk_43 (dk_at dksJ24_deleteEntry_8 10 rfl rfl)
theorem dJ24_deleteEntry_200 : decode cJ24_deleteEntry 200 = .ok (.aload_n 1, 1) := dk_43 (dk_at dksJ24_deleteEntry_8 11 rfl rfl)
theorem dJ24_deleteEntry_201 : decode cJ24_deleteEntry 201 = .ok (.getfield 124, 3) := dk_180 0 124 (dk_at dksJ24_deleteEntry_8 12 rfl rfl)
theorem dJ24_deleteEntry_204 : decode cJ24_deleteEntry 204 = .ok (.getfield 111, 3) := dk_180 0 111 (dk_at dksJ24_deleteEntry_8 15 rfl rfl)
theorem dJ24_deleteEntry_207 : decode cJ24_deleteEntry 207 = .ok (.if_acmp .ne 14, 3) := dk_166 0 14 (dk_at dksJ24_deleteEntry_8 18 rfl rfl)
theorem dJ24_deleteEntry_210 : decode cJ24_deleteEntry 210 = .ok (.aload_n 1, 1) := dk_43 (dk_at dksJ24_deleteEntry_8 21 rfl rfl)
theorem dJ24_deleteEntry_211 : decode cJ24_deleteEntry 211 = .ok (.getfield 124, 3) := dk_180 0 124 (dk_at dksJ24_deleteEntry_9 0 rfl rfl)
theorem dJ24_deleteEntry_214 : decode cJ24_deleteEntry 214 = .ok (.aconst_null, 1) := dk_1 (dk_at dksJ24_deleteEntry_9 3 rfl rfl)
theorem dJ24_deleteEntry_215 : decode cJ24_deleteEntry 215 = .ok (.putfield 111, 3) := dk_181 0 111 (dk_at dksJ24_deleteEntry_9 4 rfl rfl)
theorem dJ24_deleteEntry_218 : decode cJ24_deleteEntry 218 = .ok (.goto 22, 3) := dk_167 0 22 (dk_at dksJ24_deleteEntry_9 7 rfl rfl)
theorem dJ24_deleteEntry_221 : decode cJ24_deleteEntry 221 = .ok (.aload_n 1, 1) := dk_43 (dk_at dksJ24_deleteEntry_9 10 rfl rfl)
theorem dJ24_deleteEntry_222 : decode cJ24_deleteEntry 222 = .ok (.aload_n 1, 1) := dk_43 (dk_at dksJ24_deleteEntry_9 11 rfl rfl)
theorem dJ24_deleteEntry_223 : decode cJ24_deleteEntry 223 = .ok (.getfield 124, 3) := dk_180 0 124 (dk_at dksJ24_deleteEntry_9 12 rfl rfl)
theorem dJ24_deleteEntry_226 : decode cJ24_deleteEntry 226 = .ok (.getfield 114, 3) := dk_180 0 114 (dk_at dksJ24_deleteEntry_9 15 rfl rfl)
theorem dJ24_deleteEntry_229 : decode cJ24_deleteEntry 229 = .ok (.if_acmp .ne 11, 3) := dk_166 0 11 (dk_at dksJ24_deleteEntry_9 18 rfl rfl)
theorem dJ24_deleteEntry_232 : decode cJ24_deleteEntry 232 = .ok (.aload_n 1, 1) := dk_43 (dk_at dksJ24_deleteEntry_9 21 rfl rfl)
theorem dJ24_deleteEntry_233 : decode cJ24_deleteEntry 233 = .ok (.getfield 124, 3) := dk_180 0 124 (dk_at dksJ24_deleteEntry_10 0 rfl rfl)
theorem dJ24_deleteEntry_236 : decode cJ24_deleteEntry 236 = .ok (.aconst_null, 1) := dk_1 (dk_at dksJ24_deleteEntry_10 3 rfl rfl)
theorem dJ24_deleteEntry_237 : decode cJ24_deleteEntry 237 = .ok (.putfield 114, 3) := dk_181 0 114 (dk_at dksJ24_deleteEntry_10 4 rfl rfl)
theorem dJ24_deleteEntry_240 : decode cJ24_deleteEntry 240 = .ok (.aload_n 1, 1) := dk_43 (dk_at dksJ24_deleteEntry_10 7 rfl rfl)
theorem dJ24_deleteEntry_241 : decode cJ24_deleteEntry 241 = .ok (.aconst_null, 1) := dk_1 (dk_at dksJ24_deleteEntry_10 8 rfl rfl)
theorem dJ24_deleteEntry_242 : decode cJ24_deleteEntry 242 = .ok (.putfield 124, 3) := dk_181 0 124 (dk_at dksJ24_deleteEntry_10 9 rfl rfl)
theorem dJ24_deleteEntry_245 : decode cJ24_deleteEntry 245 = .ok (.return_, 1) := dk_177 (dk_at dksJ24_deleteEntry_10 12 rfl rfl)
abbrev cJ24_successor : ByteArray := prog_87_method_74_code
def yJ24_successor : MethodName := ⟨RJ24, "successor", "(Ljava/util/TreeMap$Entry;)Ljava/util/TreeMap$Entry;"⟩
def dkwJ24_successor_2 : List UInt8 := [44, 43, 180, 0, 114, 166, 0, 13, 43, 77, 43, 180, 0, 124, 76, 167, 255, 237, 43, 176]
abbrev dktJ24_successor_2 : List UInt8 := dkwJ24_successor_2 ++ []
def dkwJ24_successor_1 : List UInt8 := [198, 0, 11, 43, 180, 0, 111, 76, 167, 255, 244, 43, 176, 42, 180, 0, 124, 76, 42, 77, 43, 198, 0, 21]
abbrev dktJ24_successor_1 : List UInt8 := dkwJ24_successor_1 ++ dktJ24_successor_2
def dkwJ24_successor_0 : List UInt8 := [42, 199, 0, 5, 1, 176, 42, 180, 0, 114, 198, 0, 25, 42, 180, 0, 114, 76, 43, 180, 0, 111]
abbrev dktJ24_successor_0 : List UInt8 := dkwJ24_successor_0 ++ dktJ24_successor_1
theorem dksJ24_successor_0 : cJ24_successor.data.toList.drop 0 = dktJ24_successor_0 := by decide +kernel
theorem dksJ24_successor_1 : cJ24_successor.data.toList.drop 22 = dktJ24_successor_1 := dk_seg dksJ24_successor_0 22 rfl rfl
theorem dksJ24_successor_2 : cJ24_successor.data.toList.drop 46 = dktJ24_successor_2 := dk_seg dksJ24_successor_1 24 rfl rfl
theorem dJ24_successor_0 : decode cJ24_successor 0 = .ok (.aload_n 0, 1) := dk_42 (dk_at dksJ24_successor_0 0 rfl rfl)
theorem dJ24_successor_1 : decode cJ24_successor 1 = .ok (.ifnonnull 5, 3) := dk_199 0 5 (dk_at dksJ24_successor_0 1 rfl rfl)
theorem dJ24_successor_4 : decode cJ24_successor 4 = .ok (.aconst_null, 1) := dk_1 (dk_at dksJ24_successor_0 4 rfl rfl)
theorem dJ24_successor_5 : decode cJ24_successor 5 = .ok (.areturn, 1) := dk_176 (dk_at dksJ24_successor_0 5 rfl rfl)
theorem dJ24_successor_6 : decode cJ24_successor 6 = .ok (.aload_n 0, 1) := dk_42 (dk_at dksJ24_successor_0 6 rfl rfl)
theorem dJ24_successor_7 : decode cJ24_successor 7 = .ok (.getfield 114, 3) := dk_180 0 114 (dk_at dksJ24_successor_0 7 rfl rfl)
theorem dJ24_successor_10 : decode cJ24_successor 10 = .ok (.ifnull 25, 3) := dk_198 0 25 (dk_at dksJ24_successor_0 10 rfl rfl)
theorem dJ24_successor_13 : decode cJ24_successor 13 = .ok (.aload_n 0, 1) := dk_42 (dk_at dksJ24_successor_0 13 rfl rfl)
theorem dJ24_successor_14 : decode cJ24_successor 14 = .ok (.getfield 114, 3) := dk_180 0 114 (dk_at dksJ24_successor_0 14 rfl rfl)
theorem dJ24_successor_17 : decode cJ24_successor 17 = .ok (.astore_n 1, 1) := dk_76 (dk_at dksJ24_successor_0 17 rfl rfl)
theorem dJ24_successor_18 : decode cJ24_successor 18 = .ok (.aload_n 1, 1) := dk_43 (dk_at dksJ24_successor_0 18 rfl rfl)
theorem dJ24_successor_19 : decode cJ24_successor 19 = .ok (.getfield 111, 3) := dk_180 0 111 (dk_at dksJ24_successor_0 19 rfl rfl)
theorem dJ24_successor_22 : decode cJ24_successor 22 = .ok (.ifnull 11, 3) := dk_198 0 11 (dk_at dksJ24_successor_1 0 rfl rfl)
theorem dJ24_successor_25 : decode cJ24_successor 25 = .ok (.aload_n 1, 1) := dk_43 (dk_at dksJ24_successor_1 3 rfl rfl)
theorem dJ24_successor_26 : decode cJ24_successor 26 = .ok (.getfield 111, 3) := dk_180 0 111 (dk_at dksJ24_successor_1 4 rfl rfl)
theorem dJ24_successor_29 : decode cJ24_successor 29 = .ok (.astore_n 1, 1) := dk_76 (dk_at dksJ24_successor_1 7 rfl rfl)
theorem dJ24_successor_30 : decode cJ24_successor 30 = .ok (.goto (-12), 3) := dk_167 255 244 (dk_at dksJ24_successor_1 8 rfl rfl)
theorem dJ24_successor_33 : decode cJ24_successor 33 = .ok (.aload_n 1, 1) := dk_43 (dk_at dksJ24_successor_1 11 rfl rfl)
theorem dJ24_successor_34 : decode cJ24_successor 34 = .ok (.areturn, 1) := dk_176 (dk_at dksJ24_successor_1 12 rfl rfl)
theorem dJ24_successor_35 : decode cJ24_successor 35 = .ok (.aload_n 0, 1) := dk_42 (dk_at dksJ24_successor_1 13 rfl rfl)
theorem dJ24_successor_36 : decode cJ24_successor 36 = .ok (.getfield 124, 3) := dk_180 0 124 (dk_at dksJ24_successor_1 14 rfl rfl)
theorem dJ24_successor_39 : decode cJ24_successor 39 = .ok (.astore_n 1, 1) := dk_76 (dk_at dksJ24_successor_1 17 rfl rfl)
theorem dJ24_successor_40 : decode cJ24_successor 40 = .ok (.aload_n 0, 1) := dk_42 (dk_at dksJ24_successor_1 18 rfl rfl)
theorem dJ24_successor_41 : decode cJ24_successor 41 = .ok (.astore_n 2, 1) := dk_77 (dk_at dksJ24_successor_1 19 rfl rfl)
theorem dJ24_successor_42 : decode cJ24_successor 42 = .ok (.aload_n 1, 1) := dk_43 (dk_at dksJ24_successor_1 20 rfl rfl)
theorem dJ24_successor_43 : decode cJ24_successor 43 = .ok (.ifnull 21, 3) := dk_198 0 21 (dk_at dksJ24_successor_1 21 rfl rfl)
theorem dJ24_successor_46 : decode cJ24_successor 46 = .ok (.aload_n 2, 1) := dk_44 (dk_at dksJ24_successor_2 0 rfl rfl)
theorem dJ24_successor_47 : decode cJ24_successor 47 = .ok (.aload_n 1, 1) := dk_43 (dk_at dksJ24_successor_2 1 rfl rfl)
theorem dJ24_successor_48 : decode cJ24_successor 48 = .ok (.getfield 114, 3) := dk_180 0 114 (dk_at dksJ24_successor_2 2 rfl rfl)
theorem dJ24_successor_51 : decode cJ24_successor 51 = .ok (.if_acmp .ne 13, 3) := dk_166 0 13 (dk_at dksJ24_successor_2 5 rfl rfl)
theorem dJ24_successor_54 : decode cJ24_successor 54 = .ok (.aload_n 1, 1) := dk_43 (dk_at dksJ24_successor_2 8 rfl rfl)
theorem dJ24_successor_55 : decode cJ24_successor 55 = .ok (.astore_n 2, 1) := dk_77 (dk_at dksJ24_successor_2 9 rfl rfl)
theorem dJ24_successor_56 : decode cJ24_successor 56 = .ok (.aload_n 1, 1) := dk_43 (dk_at dksJ24_successor_2 10 rfl rfl)
theorem dJ24_successor_57 : decode cJ24_successor 57 = .ok (.getfield 124, 3) := dk_180 0 124 (dk_at dksJ24_successor_2 11 rfl rfl)
theorem dJ24_successor_60 : decode cJ24_successor 60 = .ok (.astore_n 1, 1) := dk_76 (dk_at dksJ24_successor_2 14 rfl rfl)
theorem dJ24_successor_61 : decode cJ24_successor 61 = .ok (.goto (-19), 3) := dk_167 255 237 (dk_at dksJ24_successor_2 15 rfl rfl)
theorem dJ24_successor_64 : decode cJ24_successor 64 = .ok (.aload_n 1, 1) := dk_43 (dk_at dksJ24_successor_2 18 rfl rfl)
theorem dJ24_successor_65 : decode cJ24_successor 65 = .ok (.areturn, 1) := dk_176 (dk_at dksJ24_successor_2 19 rfl rfl)
abbrev cJ24_fixAfterDeletion : ByteArray := prog_87_method_85_code
def yJ24_fixAfterDeletion : MethodName := ⟨RJ24, "fixAfterDeletion", "(Ljava/util/TreeMap$Entry;)V"⟩
def dkwJ24_fixAfterDeletion_14 : List UInt8 := [182, 1, 58, 42, 180, 0, 101, 76, 167, 254, 170, 43, 4, 184, 1, 51, 177]
abbrev dktJ24_fixAfterDeletion_14 : List UInt8 := dkwJ24_fixAfterDeletion_14 ++ []
def dkwJ24_fixAfterDeletion_13 : List UInt8 := [184, 1, 51, 43, 184, 1, 38, 4, 184, 1, 51, 44, 184, 1, 41, 4, 184, 1, 51, 42, 43, 184, 1, 38]
abbrev dktJ24_fixAfterDeletion_13 : List UInt8 := dkwJ24_fixAfterDeletion_13 ++ dktJ24_fixAfterDeletion_14
def dkwJ24_fixAfterDeletion_12 : List UInt8 := [184, 1, 51, 42, 44, 182, 1, 55, 43, 184, 1, 38, 184, 1, 41, 77, 44, 43, 184, 1, 38, 184, 1, 47]
abbrev dktJ24_fixAfterDeletion_12 : List UInt8 := dkwJ24_fixAfterDeletion_12 ++ dktJ24_fixAfterDeletion_13
def dkwJ24_fixAfterDeletion_11 : List UInt8 := [167, 0, 80, 44, 184, 1, 41, 184, 1, 47, 4, 160, 0, 29, 44, 184, 1, 44, 4, 184, 1, 51, 44, 3]
abbrev dktJ24_fixAfterDeletion_11 : List UInt8 := dkwJ24_fixAfterDeletion_11 ++ dktJ24_fixAfterDeletion_12
def dkwJ24_fixAfterDeletion_10 : List UInt8 := [160, 0, 27, 44, 184, 1, 41, 184, 1, 47, 4, 160, 0, 16, 44, 3, 184, 1, 51, 43, 184, 1, 38, 76]
abbrev dktJ24_fixAfterDeletion_10 : List UInt8 := dkwJ24_fixAfterDeletion_10 ++ dktJ24_fixAfterDeletion_11
def dkwJ24_fixAfterDeletion_9 : List UInt8 := [42, 43, 184, 1, 38, 182, 1, 58, 43, 184, 1, 38, 184, 1, 41, 77, 44, 184, 1, 44, 184, 1, 47, 4]
abbrev dktJ24_fixAfterDeletion_9 : List UInt8 := dkwJ24_fixAfterDeletion_9 ++ dktJ24_fixAfterDeletion_10
def dkwJ24_fixAfterDeletion_8 : List UInt8 := [184, 1, 41, 77, 44, 184, 1, 47, 154, 0, 32, 44, 4, 184, 1, 51, 43, 184, 1, 38, 3, 184, 1, 51]
abbrev dktJ24_fixAfterDeletion_8 : List UInt8 := dkwJ24_fixAfterDeletion_8 ++ dktJ24_fixAfterDeletion_9
def dkwJ24_fixAfterDeletion_7 : List UInt8 := [4, 184, 1, 51, 42, 43, 184, 1, 38, 182, 1, 55, 42, 180, 0, 101, 76, 167, 255, 73, 43, 184, 1, 38]
abbrev dktJ24_fixAfterDeletion_7 : List UInt8 := dkwJ24_fixAfterDeletion_7 ++ dktJ24_fixAfterDeletion_8
def dkwJ24_fixAfterDeletion_6 : List UInt8 := [77, 44, 43, 184, 1, 38, 184, 1, 47, 184, 1, 51, 43, 184, 1, 38, 4, 184, 1, 51, 44, 184, 1, 44]
abbrev dktJ24_fixAfterDeletion_6 : List UInt8 := dkwJ24_fixAfterDeletion_6 ++ dktJ24_fixAfterDeletion_7
def dkwJ24_fixAfterDeletion_5 : List UInt8 := [184, 1, 41, 4, 184, 1, 51, 44, 3, 184, 1, 51, 42, 44, 182, 1, 58, 43, 184, 1, 38, 184, 1, 44]
abbrev dktJ24_fixAfterDeletion_5 : List UInt8 := dkwJ24_fixAfterDeletion_5 ++ dktJ24_fixAfterDeletion_6
def dkwJ24_fixAfterDeletion_4 : List UInt8 := [184, 1, 51, 43, 184, 1, 38, 76, 167, 0, 80, 44, 184, 1, 44, 184, 1, 47, 4, 160, 0, 29, 44]
abbrev dktJ24_fixAfterDeletion_4 : List UInt8 := dkwJ24_fixAfterDeletion_4 ++ dktJ24_fixAfterDeletion_5
def dkwJ24_fixAfterDeletion_3 : List UInt8 := [184, 1, 41, 184, 1, 47, 4, 160, 0, 27, 44, 184, 1, 44, 184, 1, 47, 4, 160, 0, 16, 44, 3]
abbrev dktJ24_fixAfterDeletion_3 : List UInt8 := dkwJ24_fixAfterDeletion_3 ++ dktJ24_fixAfterDeletion_4
def dkwJ24_fixAfterDeletion_2 : List UInt8 := [184, 1, 38, 3, 184, 1, 51, 42, 43, 184, 1, 38, 182, 1, 55, 43, 184, 1, 38, 184, 1, 44, 77, 44]
abbrev dktJ24_fixAfterDeletion_2 : List UInt8 := dkwJ24_fixAfterDeletion_2 ++ dktJ24_fixAfterDeletion_3
def dkwJ24_fixAfterDeletion_1 : List UInt8 := [166, 0, 162, 43, 184, 1, 38, 184, 1, 44, 77, 44, 184, 1, 47, 154, 0, 32, 44, 4, 184, 1, 51, 43]
abbrev dktJ24_fixAfterDeletion_1 : List UInt8 := dkwJ24_fixAfterDeletion_1 ++ dktJ24_fixAfterDeletion_2
def dkwJ24_fixAfterDeletion_0 : List UInt8 := [43, 42, 180, 0, 101, 165, 1, 84, 43, 184, 1, 47, 4, 160, 1, 76, 43, 43, 184, 1, 38, 184, 1, 41]
abbrev dktJ24_fixAfterDeletion_0 : List UInt8 := dkwJ24_fixAfterDeletion_0 ++ dktJ24_fixAfterDeletion_1
theorem dksJ24_fixAfterDeletion_0 : cJ24_fixAfterDeletion.data.toList.drop 0 = dktJ24_fixAfterDeletion_0 := by decide +kernel
theorem dksJ24_fixAfterDeletion_1 : cJ24_fixAfterDeletion.data.toList.drop 24 = dktJ24_fixAfterDeletion_1 := dk_seg dksJ24_fixAfterDeletion_0 24 rfl rfl
theorem dksJ24_fixAfterDeletion_2 : cJ24_fixAfterDeletion.data.toList.drop 48 = dktJ24_fixAfterDeletion_2 := dk_seg dksJ24_fixAfterDeletion_1 24 rfl rfl
theorem dksJ24_fixAfterDeletion_3 : cJ24_fixAfterDeletion.data.toList.drop 72 = dktJ24_fixAfterDeletion_3 := dk_seg dksJ24_fixAfterDeletion_2 24 rfl rfl
theorem dksJ24_fixAfterDeletion_4 : cJ24_fixAfterDeletion.data.toList.drop 95 = dktJ24_fixAfterDeletion_4 := dk_seg dksJ24_fixAfterDeletion_3 23 rfl rfl
theorem dksJ24_fixAfterDeletion_5 : cJ24_fixAfterDeletion.data.toList.drop 118 = dktJ24_fixAfterDeletion_5 := dk_seg dksJ24_fixAfterDeletion_4 23 rfl rfl
theorem dksJ24_fixAfterDeletion_6 : cJ24_fixAfterDeletion.data.toList.drop 142 = dktJ24_fixAfterDeletion_6 := dk_seg dksJ24_fixAfterDeletion_5 24 rfl rfl
theorem dksJ24_fixAfterDeletion_7 : cJ24_fixAfterDeletion.data.toList.drop 166 = dktJ24_fixAfterDeletion_7 := dk_seg dksJ24_fixAfterDeletion_6 24 rfl rfl
theorem dksJ24_fixAfterDeletion_8 : cJ24_fixAfterDeletion.data.toList.drop 190 = dktJ24_fixAfterDeletion_8 := dk_seg dksJ24_fixAfterDeletion_7 24 rfl rfl
theorem dksJ24_fixAfterDeletion_9 : cJ24_fixAfterDeletion.data.toList.drop 214 = dktJ24_fixAfterDeletion_9 := dk_seg dksJ24_fixAfterDeletion_8 24 rfl rfl
theorem dksJ24_fixAfterDeletion_10 : cJ24_fixAfterDeletion.data.toList.drop 238 = dktJ24_fixAfterDeletion_10 := dk_seg dksJ24_fixAfterDeletion_9 24 rfl rfl
theorem dksJ24_fixAfterDeletion_11 : cJ24_fixAfterDeletion.data.toList.drop 262 = dktJ24_fixAfterDeletion_11 := dk_seg dksJ24_fixAfterDeletion_10 24 rfl rfl
theorem dksJ24_fixAfterDeletion_12 : cJ24_fixAfterDeletion.data.toList.drop 286 = dktJ24_fixAfterDeletion_12 := dk_seg dksJ24_fixAfterDeletion_11 24 rfl rfl
theorem dksJ24_fixAfterDeletion_13 : cJ24_fixAfterDeletion.data.toList.drop 310 = dktJ24_fixAfterDeletion_13 := dk_seg dksJ24_fixAfterDeletion_12 24 rfl rfl
theorem dksJ24_fixAfterDeletion_14 : cJ24_fixAfterDeletion.data.toList.drop 334 = dktJ24_fixAfterDeletion_14 := dk_seg dksJ24_fixAfterDeletion_13 24 rfl rfl
theorem dJ24_fixAfterDeletion_0 : decode cJ24_fixAfterDeletion 0 = .ok (.aload_n 1, 1) := dk_43 (dk_at dksJ24_fixAfterDeletion_0 0 rfl rfl)
theorem dJ24_fixAfterDeletion_1 : decode cJ24_fixAfterDeletion 1 = .ok (.aload_n 0, 1) := dk_42 (dk_at dksJ24_fixAfterDeletion_0 1 rfl rfl)
theorem dJ24_fixAfterDeletion_2 : decode cJ24_fixAfterDeletion 2 = .ok (.getfield 101, 3) := dk_180 0 101 (dk_at dksJ24_fixAfterDeletion_0 2 rfl rfl)
theorem dJ24_fixAfterDeletion_5 : decode cJ24_fixAfterDeletion 5 = .ok (.if_acmp .eq 340, 3) := dk_165 1 84 (dk_at dksJ24_fixAfterDeletion_0 5 rfl rfl)
theorem dJ24_fixAfterDeletion_8 : decode cJ24_fixAfterDeletion 8 = .ok (.aload_n 1, 1) := dk_43 (dk_at dksJ24_fixAfterDeletion_0 8 rfl rfl)
theorem dJ24_fixAfterDeletion_9 : decode cJ24_fixAfterDeletion 9 = .ok (.invokestatic 303, 3) := dk_184 1 47 (dk_at dksJ24_fixAfterDeletion_0 9 rfl rfl)
theorem dJ24_fixAfterDeletion_12 : decode cJ24_fixAfterDeletion 12 = .ok (.iconst 1, 1) := dk_4 (dk_at dksJ24_fixAfterDeletion_0 12 rfl rfl)
theorem dJ24_fixAfterDeletion_13 : decode cJ24_fixAfterDeletion 13 = .ok (.if_icmp .ne 332, 3) := dk_160 1 76 (dk_at dksJ24_fixAfterDeletion_0 13 rfl rfl)
theorem dJ24_fixAfterDeletion_16 : decode cJ24_fixAfterDeletion 16 = .ok (.aload_n 1, 1) := dk_43 (dk_at dksJ24_fixAfterDeletion_0 16 rfl rfl)
theorem dJ24_fixAfterDeletion_17 : decode cJ24_fixAfterDeletion 17 = .ok (.aload_n 1, 1) := dk_43 (dk_at dksJ24_fixAfterDeletion_0 17 rfl rfl)
theorem dJ24_fixAfterDeletion_18 : decode cJ24_fixAfterDeletion 18 = .ok (.invokestatic 294, 3) := dk_184 1 38 (dk_at dksJ24_fixAfterDeletion_0 18 rfl rfl)
theorem dJ24_fixAfterDeletion_21 : decode cJ24_fixAfterDeletion 21 = .ok (.invokestatic 297, 3) := dk_184 1 41 (dk_at dksJ24_fixAfterDeletion_0 21 rfl rfl)
theorem dJ24_fixAfterDeletion_24 : decode cJ24_fixAfterDeletion 24 = .ok (.if_acmp .ne 162, 3) := dk_166 0 162 (dk_at dksJ24_fixAfterDeletion_1 0 rfl rfl)
theorem dJ24_fixAfterDeletion_27 : decode cJ24_fixAfterDeletion 27 = .ok (.aload_n 1, 1) := dk_43 (dk_at dksJ24_fixAfterDeletion_1 3 rfl rfl)
theorem dJ24_fixAfterDeletion_28 : decode cJ24_fixAfterDeletion 28 = .ok (.invokestatic 294, 3) := dk_184 1 38 (dk_at dksJ24_fixAfterDeletion_1 4 rfl rfl)
theorem dJ24_fixAfterDeletion_31 : decode cJ24_fixAfterDeletion 31 = .ok (.invokestatic 300, 3) := dk_184 1 44 (dk_at dksJ24_fixAfterDeletion_1 7 rfl rfl)
theorem dJ24_fixAfterDeletion_34 : decode cJ24_fixAfterDeletion 34 = .ok (.astore_n 2, 1) := dk_77 (dk_at dksJ24_fixAfterDeletion_1 10 rfl rfl)
theorem dJ24_fixAfterDeletion_35 : decode cJ24_fixAfterDeletion 35 = .ok (.aload_n 2, 1) := dk_44 (dk_at dksJ24_fixAfterDeletion_1 11 rfl rfl)
theorem dJ24_fixAfterDeletion_36 : decode cJ24_fixAfterDeletion 36 = .ok (.invokestatic 303, 3) := dk_184 1 47 (dk_at dksJ24_fixAfterDeletion_1 12 rfl rfl)
theorem dJ24_fixAfterDeletion_39 : decode cJ24_fixAfterDeletion 39 = .ok (.ifCond .ne 32, 3) := dk_154 0 32 (dk_at dksJ24_fixAfterDeletion_1 15 rfl rfl)
theorem dJ24_fixAfterDeletion_42 : decode cJ24_fixAfterDeletion 42 = .ok (.aload_n 2, 1) := dk_44 (dk_at dksJ24_fixAfterDeletion_1 18 rfl rfl)
theorem dJ24_fixAfterDeletion_43 : decode cJ24_fixAfterDeletion 43 = .ok (.iconst 1, 1) := dk_4 (dk_at dksJ24_fixAfterDeletion_1 19 rfl rfl)
theorem dJ24_fixAfterDeletion_44 : decode cJ24_fixAfterDeletion 44 = .ok (.invokestatic 307, 3) := dk_184 1 51 (dk_at dksJ24_fixAfterDeletion_1 20 rfl rfl)
theorem dJ24_fixAfterDeletion_47 : decode cJ24_fixAfterDeletion 47 = .ok (.aload_n 1, 1) := dk_43 (dk_at dksJ24_fixAfterDeletion_1 23 rfl rfl)
theorem dJ24_fixAfterDeletion_48 : decode cJ24_fixAfterDeletion 48 = .ok (.invokestatic 294, 3) := dk_184 1 38 (dk_at dksJ24_fixAfterDeletion_2 0 rfl rfl)
theorem dJ24_fixAfterDeletion_51 : decode cJ24_fixAfterDeletion 51 = .ok (.iconst 0, 1) := dk_3 (dk_at dksJ24_fixAfterDeletion_2 3 rfl rfl)
theorem dJ24_fixAfterDeletion_52 : decode cJ24_fixAfterDeletion 52 = .ok (.invokestatic 307, 3) := dk_184 1 51 (dk_at dksJ24_fixAfterDeletion_2 4 rfl rfl)
theorem dJ24_fixAfterDeletion_55 : decode cJ24_fixAfterDeletion 55 = .ok (.aload_n 0, 1) := dk_42 (dk_at dksJ24_fixAfterDeletion_2 7 rfl rfl)
theorem dJ24_fixAfterDeletion_56 : decode cJ24_fixAfterDeletion 56 = .ok (.aload_n 1, 1) := dk_43 (dk_at dksJ24_fixAfterDeletion_2 8 rfl rfl)
theorem dJ24_fixAfterDeletion_57 : decode cJ24_fixAfterDeletion 57 = .ok (.invokestatic 294, 3) := dk_184 1 38 (dk_at dksJ24_fixAfterDeletion_2 9 rfl rfl)
theorem dJ24_fixAfterDeletion_60 : decode cJ24_fixAfterDeletion 60 = .ok (.invokevirtual 311, 3) := dk_182 1 55 (dk_at dksJ24_fixAfterDeletion_2 12 rfl rfl)
theorem dJ24_fixAfterDeletion_63 : decode cJ24_fixAfterDeletion 63 = .ok (.aload_n 1, 1) := dk_43 (dk_at dksJ24_fixAfterDeletion_2 15 rfl rfl)
theorem dJ24_fixAfterDeletion_64 : decode cJ24_fixAfterDeletion 64 = .ok (.invokestatic 294, 3) := dk_184 1 38 (dk_at dksJ24_fixAfterDeletion_2 16 rfl rfl)
theorem dJ24_fixAfterDeletion_67 : decode cJ24_fixAfterDeletion 67 = .ok (.invokestatic 300, 3) := dk_184 1 44 (dk_at dksJ24_fixAfterDeletion_2 19 rfl rfl)
theorem dJ24_fixAfterDeletion_70 : decode cJ24_fixAfterDeletion 70 = .ok (.astore_n 2, 1) := dk_77 (dk_at dksJ24_fixAfterDeletion_2 22 rfl rfl)
theorem dJ24_fixAfterDeletion_71 : decode cJ24_fixAfterDeletion 71 = .ok (.aload_n 2, 1) := dk_44 (dk_at dksJ24_fixAfterDeletion_2 23 rfl rfl)
theorem dJ24_fixAfterDeletion_72 : decode cJ24_fixAfterDeletion 72 = .ok (.invokestatic 297, 3) := dk_184 1 41 (dk_at dksJ24_fixAfterDeletion_3 0 rfl rfl)
theorem dJ24_fixAfterDeletion_75 : decode cJ24_fixAfterDeletion 75 = .ok (.invokestatic 303, 3) := dk_184 1 47 (dk_at dksJ24_fixAfterDeletion_3 3 rfl rfl)
theorem dJ24_fixAfterDeletion_78 : decode cJ24_fixAfterDeletion 78 = .ok (.iconst 1, 1) := dk_4 (dk_at dksJ24_fixAfterDeletion_3 6 rfl rfl)
theorem dJ24_fixAfterDeletion_79 : decode cJ24_fixAfterDeletion 79 = .ok (.if_icmp .ne 27, 3) := dk_160 0 27 (dk_at dksJ24_fixAfterDeletion_3 7 rfl rfl)
theorem dJ24_fixAfterDeletion_82 : decode cJ24_fixAfterDeletion 82 = .ok (.aload_n 2, 1) := dk_44 (dk_at dksJ24_fixAfterDeletion_3 10 rfl rfl)
theorem dJ24_fixAfterDeletion_83 : decode cJ24_fixAfterDeletion 83 = .ok (.invokestatic 300, 3) := dk_184 1 44 (dk_at dksJ24_fixAfterDeletion_3 11 rfl rfl)
theorem dJ24_fixAfterDeletion_86 : decode cJ24_fixAfterDeletion 86 = .ok (.invokestatic 303, 3) := dk_184 1 47 (dk_at dksJ24_fixAfterDeletion_3 14 rfl rfl)
theorem dJ24_fixAfterDeletion_89 : decode cJ24_fixAfterDeletion 89 = .ok (.iconst 1, 1) := dk_4 (dk_at dksJ24_fixAfterDeletion_3 17 rfl rfl)
theorem dJ24_fixAfterDeletion_90 : decode cJ24_fixAfterDeletion 90 = .ok (.if_icmp .ne 16, 3) := dk_160 0 16 (dk_at dksJ24_fixAfterDeletion_3 18 rfl rfl)
theorem dJ24_fixAfterDeletion_93 : decode cJ24_fixAfterDeletion 93 = .ok (.aload_n 2, 1) := dk_44 (dk_at dksJ24_fixAfterDeletion_3 21 rfl rfl)
theorem dJ24_fixAfterDeletion_94 : decode cJ24_fixAfterDeletion 94 = .ok (.iconst 0, 1) := dk_3 (dk_at dksJ24_fixAfterDeletion_3 22 rfl rfl)
theorem dJ24_fixAfterDeletion_95 : decode cJ24_fixAfterDeletion 95 = .ok (.invokestatic 307, 3) := dk_184 1 51 (dk_at dksJ24_fixAfterDeletion_4 0 rfl rfl)
theorem dJ24_fixAfterDeletion_98 : decode cJ24_fixAfterDeletion 98 = .ok (.aload_n 1, 1) := dk_43 (dk_at dksJ24_fixAfterDeletion_4 3 rfl rfl)
theorem dJ24_fixAfterDeletion_99 : decode cJ24_fixAfterDeletion 99 = .ok (.invokestatic 294, 3) := dk_184 1 38 (dk_at dksJ24_fixAfterDeletion_4 4 rfl rfl)
theorem dJ24_fixAfterDeletion_102 : decode cJ24_fixAfterDeletion 102 = .ok (.astore_n 1, 1) := dk_76 (dk_at dksJ24_fixAfterDeletion_4 7 rfl rfl)
theorem dJ24_fixAfterDeletion_103 : decode cJ24_fixAfterDeletion 103 = .ok (.goto 80, 3) := dk_167 0 80 (dk_at dksJ24_fixAfterDeletion_4 8 rfl rfl)
theorem dJ24_fixAfterDeletion_106 : decode cJ24_fixAfterDeletion 106 = .ok (.aload_n 2, 1) := dk_44 (dk_at dksJ24_fixAfterDeletion_4 11 rfl rfl)
theorem dJ24_fixAfterDeletion_107 : decode cJ24_fixAfterDeletion 107 = .ok (.invokestatic 300, 3) := dk_184 1 44 (dk_at dksJ24_fixAfterDeletion_4 12 rfl rfl)
theorem dJ24_fixAfterDeletion_110 : decode cJ24_fixAfterDeletion 110 = .ok (.invokestatic 303, 3) := dk_184 1 47 (dk_at dksJ24_fixAfterDeletion_4 15 rfl rfl)
theorem dJ24_fixAfterDeletion_113 : decode cJ24_fixAfterDeletion 113 = .ok (.iconst 1, 1) := dk_4 (dk_at dksJ24_fixAfterDeletion_4 18 rfl rfl)
theorem dJ24_fixAfterDeletion_114 : decode cJ24_fixAfterDeletion 114 = .ok (.if_icmp .ne 29, 3) := dk_160 0 29 (dk_at dksJ24_fixAfterDeletion_4 19 rfl rfl)
theorem dJ24_fixAfterDeletion_117 : decode cJ24_fixAfterDeletion 117 = .ok (.aload_n 2, 1) := dk_44 (dk_at dksJ24_fixAfterDeletion_4 22 rfl rfl)
theorem dJ24_fixAfterDeletion_118 : decode cJ24_fixAfterDeletion 118 = .ok (.invokestatic 297, 3) := dk_184 1 41 (dk_at dksJ24_fixAfterDeletion_5 0 rfl rfl)
theorem dJ24_fixAfterDeletion_121 : decode cJ24_fixAfterDeletion 121 = .ok (.iconst 1, 1) := dk_4 (dk_at dksJ24_fixAfterDeletion_5 3 rfl rfl)
theorem dJ24_fixAfterDeletion_122 : decode cJ24_fixAfterDeletion 122 = .ok (.invokestatic 307, 3) := dk_184 1 51 (dk_at dksJ24_fixAfterDeletion_5 4 rfl rfl)
theorem dJ24_fixAfterDeletion_125 : decode cJ24_fixAfterDeletion 125 = .ok (.aload_n 2, 1) := dk_44 (dk_at dksJ24_fixAfterDeletion_5 7 rfl rfl)
theorem dJ24_fixAfterDeletion_126 : decode cJ24_fixAfterDeletion 126 = .ok (.iconst 0, 1) := dk_3 (dk_at dksJ24_fixAfterDeletion_5 8 rfl rfl)
theorem dJ24_fixAfterDeletion_127 : decode cJ24_fixAfterDeletion 127 = .ok (.invokestatic 307, 3) := dk_184 1 51 (dk_at dksJ24_fixAfterDeletion_5 9 rfl rfl)
theorem dJ24_fixAfterDeletion_130 : decode cJ24_fixAfterDeletion 130 = .ok (.aload_n 0, 1) := dk_42 (dk_at dksJ24_fixAfterDeletion_5 12 rfl rfl)
theorem dJ24_fixAfterDeletion_131 : decode cJ24_fixAfterDeletion 131 = .ok (.aload_n 2, 1) := dk_44 (dk_at dksJ24_fixAfterDeletion_5 13 rfl rfl)
theorem dJ24_fixAfterDeletion_132 : decode cJ24_fixAfterDeletion 132 = .ok (.invokevirtual 314, 3) := dk_182 1 58 (dk_at dksJ24_fixAfterDeletion_5 14 rfl rfl)
theorem dJ24_fixAfterDeletion_135 : decode cJ24_fixAfterDeletion 135 = .ok (.aload_n 1, 1) := dk_43 (dk_at dksJ24_fixAfterDeletion_5 17 rfl rfl)
theorem dJ24_fixAfterDeletion_136 : decode cJ24_fixAfterDeletion 136 = .ok (.invokestatic 294, 3) := dk_184 1 38 (dk_at dksJ24_fixAfterDeletion_5 18 rfl rfl)
theorem dJ24_fixAfterDeletion_139 : decode cJ24_fixAfterDeletion 139 = .ok (.invokestatic 300, 3) := dk_184 1 44 (dk_at dksJ24_fixAfterDeletion_5 21 rfl rfl)
theorem dJ24_fixAfterDeletion_142 : decode cJ24_fixAfterDeletion 142 = .ok (.astore_n 2, 1) := dk_77 (dk_at dksJ24_fixAfterDeletion_6 0 rfl rfl)
theorem dJ24_fixAfterDeletion_143 : decode cJ24_fixAfterDeletion 143 = .ok (.aload_n 2, 1) := dk_44 (dk_at dksJ24_fixAfterDeletion_6 1 rfl rfl)
theorem dJ24_fixAfterDeletion_144 : decode cJ24_fixAfterDeletion 144 = .ok (.aload_n 1, 1) := dk_43 (dk_at dksJ24_fixAfterDeletion_6 2 rfl rfl)
theorem dJ24_fixAfterDeletion_145 : decode cJ24_fixAfterDeletion 145 = .ok (.invokestatic 294, 3) := dk_184 1 38 (dk_at dksJ24_fixAfterDeletion_6 3 rfl rfl)
theorem dJ24_fixAfterDeletion_148 : decode cJ24_fixAfterDeletion 148 = .ok (.invokestatic 303, 3) := dk_184 1 47 (dk_at dksJ24_fixAfterDeletion_6 6 rfl rfl)
theorem dJ24_fixAfterDeletion_151 : decode cJ24_fixAfterDeletion 151 = .ok (.invokestatic 307, 3) := dk_184 1 51 (dk_at dksJ24_fixAfterDeletion_6 9 rfl rfl)
theorem dJ24_fixAfterDeletion_154 : decode cJ24_fixAfterDeletion 154 = .ok (.aload_n 1, 1) := dk_43 (dk_at dksJ24_fixAfterDeletion_6 12 rfl rfl)
theorem dJ24_fixAfterDeletion_155 : decode cJ24_fixAfterDeletion 155 = .ok (.invokestatic 294, 3) := dk_184 1 38 (dk_at dksJ24_fixAfterDeletion_6 13 rfl rfl)
theorem dJ24_fixAfterDeletion_158 : decode cJ24_fixAfterDeletion 158 = .ok (.iconst 1, 1) := dk_4 (dk_at dksJ24_fixAfterDeletion_6 16 rfl rfl)
theorem dJ24_fixAfterDeletion_159 : decode cJ24_fixAfterDeletion 159 = .ok (.invokestatic 307, 3) := dk_184 1 51 (dk_at dksJ24_fixAfterDeletion_6 17 rfl rfl)
theorem dJ24_fixAfterDeletion_162 : decode cJ24_fixAfterDeletion 162 = .ok (.aload_n 2, 1) := dk_44 (dk_at dksJ24_fixAfterDeletion_6 20 rfl rfl)
theorem dJ24_fixAfterDeletion_163 : decode cJ24_fixAfterDeletion 163 = .ok (.invokestatic 300, 3) := dk_184 1 44 (dk_at dksJ24_fixAfterDeletion_6 21 rfl rfl)
theorem dJ24_fixAfterDeletion_166 : decode cJ24_fixAfterDeletion 166 = .ok (.iconst 1, 1) := dk_4 (dk_at dksJ24_fixAfterDeletion_7 0 rfl rfl)
theorem dJ24_fixAfterDeletion_167 : decode cJ24_fixAfterDeletion 167 = .ok (.invokestatic 307, 3) := dk_184 1 51 (dk_at dksJ24_fixAfterDeletion_7 1 rfl rfl)
theorem dJ24_fixAfterDeletion_170 : decode cJ24_fixAfterDeletion 170 = .ok (.aload_n 0, 1) := dk_42 (dk_at dksJ24_fixAfterDeletion_7 4 rfl rfl)
theorem dJ24_fixAfterDeletion_171 : decode cJ24_fixAfterDeletion 171 = .ok (.aload_n 1, 1) := dk_43 (dk_at dksJ24_fixAfterDeletion_7 5 rfl rfl)
theorem dJ24_fixAfterDeletion_172 : decode cJ24_fixAfterDeletion 172 = .ok (.invokestatic 294, 3) := dk_184 1 38 (dk_at dksJ24_fixAfterDeletion_7 6 rfl rfl)
theorem dJ24_fixAfterDeletion_175 : decode cJ24_fixAfterDeletion 175 = .ok (.invokevirtual 311, 3) := dk_182 1 55 (dk_at dksJ24_fixAfterDeletion_7 9 rfl rfl)
theorem dJ24_fixAfterDeletion_178 : decode cJ24_fixAfterDeletion 178 = .ok (.aload_n 0, 1) := dk_42 (dk_at dksJ24_fixAfterDeletion_7 12 rfl rfl)
theorem dJ24_fixAfterDeletion_179 : decode cJ24_fixAfterDeletion 179 = .ok (.getfield 101, 3) := dk_180 0 101 (dk_at dksJ24_fixAfterDeletion_7 13 rfl rfl)
theorem dJ24_fixAfterDeletion_182 : decode cJ24_fixAfterDeletion 182 = .ok (.astore_n 1, 1) := dk_76 (dk_at dksJ24_fixAfterDeletion_7 16 rfl rfl)
theorem dJ24_fixAfterDeletion_183 : decode cJ24_fixAfterDeletion 183 = .ok (.goto (-183), 3) := dk_167 255 73 (dk_at dksJ24_fixAfterDeletion_7 17 rfl rfl)
theorem dJ24_fixAfterDeletion_186 : decode cJ24_fixAfterDeletion 186 = .ok (.aload_n 1, 1) := dk_43 (dk_at dksJ24_fixAfterDeletion_7 20 rfl rfl)
theorem dJ24_fixAfterDeletion_187 : decode cJ24_fixAfterDeletion 187 = .ok (.invokestatic 294, 3) := dk_184 1 38 (dk_at dksJ24_fixAfterDeletion_7 21 rfl rfl)
theorem dJ24_fixAfterDeletion_190 : decode cJ24_fixAfterDeletion 190 = .ok (.invokestatic 297, 3) := dk_184 1 41 (dk_at dksJ24_fixAfterDeletion_8 0 rfl rfl)
theorem dJ24_fixAfterDeletion_193 : decode cJ24_fixAfterDeletion 193 = .ok (.astore_n 2, 1) := dk_77 (dk_at dksJ24_fixAfterDeletion_8 3 rfl rfl)
theorem dJ24_fixAfterDeletion_194 : decode cJ24_fixAfterDeletion 194 = .ok (.aload_n 2, 1) := dk_44 (dk_at dksJ24_fixAfterDeletion_8 4 rfl rfl)
theorem dJ24_fixAfterDeletion_195 : decode cJ24_fixAfterDeletion 195 = .ok (.invokestatic 303, 3) := dk_184 1 47 (dk_at dksJ24_fixAfterDeletion_8 5 rfl rfl)
theorem dJ24_fixAfterDeletion_198 : decode cJ24_fixAfterDeletion 198 = .ok (.ifCond .ne 32, 3) := dk_154 0 32 (dk_at dksJ24_fixAfterDeletion_8 8 rfl rfl)
theorem dJ24_fixAfterDeletion_201 : decode cJ24_fixAfterDeletion 201 = .ok (.aload_n 2, 1) := dk_44 (dk_at dksJ24_fixAfterDeletion_8 11 rfl rfl)
theorem dJ24_fixAfterDeletion_202 : decode cJ24_fixAfterDeletion 202 = .ok (.iconst 1, 1) := dk_4 (dk_at dksJ24_fixAfterDeletion_8 12 rfl rfl)
theorem dJ24_fixAfterDeletion_203 : decode cJ24_fixAfterDeletion 203 = .ok (.invokestatic 307, 3) := dk_184 1 51 (dk_at dksJ24_fixAfterDeletion_8 13 rfl rfl)
theorem dJ24_fixAfterDeletion_206 : decode cJ24_fixAfterDeletion 206 = .ok (.aload_n 1, 1) := dk_43 (dk_at dksJ24_fixAfterDeletion_8 16 rfl rfl)
theorem dJ24_fixAfterDeletion_207 : decode cJ24_fixAfterDeletion 207 = .ok (.invokestatic 294, 3) := dk_184 1 38 (dk_at dksJ24_fixAfterDeletion_8 17 rfl rfl)
theorem dJ24_fixAfterDeletion_210 : decode cJ24_fixAfterDeletion 210 = .ok (.iconst 0, 1) := dk_3 (dk_at dksJ24_fixAfterDeletion_8 20 rfl rfl)
theorem dJ24_fixAfterDeletion_211 : decode cJ24_fixAfterDeletion 211 = .ok (.invokestatic 307, 3) := dk_184 1 51 (dk_at dksJ24_fixAfterDeletion_8 21 rfl rfl)
theorem dJ24_fixAfterDeletion_214 : decode cJ24_fixAfterDeletion 214 = .ok (.aload_n 0, 1) := dk_42 (dk_at dksJ24_fixAfterDeletion_9 0 rfl rfl)
theorem dJ24_fixAfterDeletion_215 : decode cJ24_fixAfterDeletion 215 = .ok (.aload_n 1, 1) := dk_43 (dk_at dksJ24_fixAfterDeletion_9 1 rfl rfl)
theorem dJ24_fixAfterDeletion_216 : decode cJ24_fixAfterDeletion 216 = .ok (.invokestatic 294, 3) := dk_184 1 38 (dk_at dksJ24_fixAfterDeletion_9 2 rfl rfl)
theorem dJ24_fixAfterDeletion_219 : decode cJ24_fixAfterDeletion 219 = .ok (.invokevirtual 314, 3) := dk_182 1 58 (dk_at dksJ24_fixAfterDeletion_9 5 rfl rfl)
theorem dJ24_fixAfterDeletion_222 : decode cJ24_fixAfterDeletion 222 = .ok (.aload_n 1, 1) := dk_43 (dk_at dksJ24_fixAfterDeletion_9 8 rfl rfl)
theorem dJ24_fixAfterDeletion_223 : decode cJ24_fixAfterDeletion 223 = .ok (.invokestatic 294, 3) := dk_184 1 38 (dk_at dksJ24_fixAfterDeletion_9 9 rfl rfl)
theorem dJ24_fixAfterDeletion_226 : decode cJ24_fixAfterDeletion 226 = .ok (.invokestatic 297, 3) := dk_184 1 41 (dk_at dksJ24_fixAfterDeletion_9 12 rfl rfl)
theorem dJ24_fixAfterDeletion_229 : decode cJ24_fixAfterDeletion 229 = .ok (.astore_n 2, 1) := dk_77 (dk_at dksJ24_fixAfterDeletion_9 15 rfl rfl)
theorem dJ24_fixAfterDeletion_230 : decode cJ24_fixAfterDeletion 230 = .ok (.aload_n 2, 1) := dk_44 (dk_at dksJ24_fixAfterDeletion_9 16 rfl rfl)
theorem dJ24_fixAfterDeletion_231 : decode cJ24_fixAfterDeletion 231 = .ok (.invokestatic 300, 3) := dk_184 1 44 (dk_at dksJ24_fixAfterDeletion_9 17 rfl rfl)
theorem dJ24_fixAfterDeletion_234 : decode cJ24_fixAfterDeletion 234 = .ok (.invokestatic 303, 3) := dk_184 1 47 (dk_at dksJ24_fixAfterDeletion_9 20 rfl rfl)
theorem dJ24_fixAfterDeletion_237 : decode cJ24_fixAfterDeletion 237 = .ok (.iconst 1, 1) := dk_4 (dk_at dksJ24_fixAfterDeletion_9 23 rfl rfl)
theorem dJ24_fixAfterDeletion_238 : decode cJ24_fixAfterDeletion 238 = .ok (.if_icmp .ne 27, 3) := dk_160 0 27 (dk_at dksJ24_fixAfterDeletion_10 0 rfl rfl)
theorem dJ24_fixAfterDeletion_241 : decode cJ24_fixAfterDeletion 241 = .ok (.aload_n 2, 1) := dk_44 (dk_at dksJ24_fixAfterDeletion_10 3 rfl rfl)
theorem dJ24_fixAfterDeletion_242 : decode cJ24_fixAfterDeletion 242 = .ok (.invokestatic 297, 3) := dk_184 1 41 (dk_at dksJ24_fixAfterDeletion_10 4 rfl rfl)
theorem dJ24_fixAfterDeletion_245 : decode cJ24_fixAfterDeletion 245 = .ok (.invokestatic 303, 3) := dk_184 1 47 (dk_at dksJ24_fixAfterDeletion_10 7 rfl rfl)
theorem dJ24_fixAfterDeletion_248 : decode cJ24_fixAfterDeletion 248 = .ok (.iconst 1, 1) := dk_4 (dk_at dksJ24_fixAfterDeletion_10 10 rfl rfl)
theorem dJ24_fixAfterDeletion_249 : decode cJ24_fixAfterDeletion 249 = .ok (.if_icmp .ne 16, 3) := dk_160 0 16 (dk_at dksJ24_fixAfterDeletion_10 11 rfl rfl)
theorem dJ24_fixAfterDeletion_252 : decode cJ24_fixAfterDeletion 252 = .ok (.aload_n 2, 1) := dk_44 (dk_at dksJ24_fixAfterDeletion_10 14 rfl rfl)
theorem dJ24_fixAfterDeletion_253 : decode cJ24_fixAfterDeletion 253 = .ok (.iconst 0, 1) := dk_3 (dk_at dksJ24_fixAfterDeletion_10 15 rfl rfl)
theorem dJ24_fixAfterDeletion_254 : decode cJ24_fixAfterDeletion 254 = .ok (.invokestatic 307, 3) := dk_184 1 51 (dk_at dksJ24_fixAfterDeletion_10 16 rfl rfl)
theorem dJ24_fixAfterDeletion_257 : decode cJ24_fixAfterDeletion 257 = .ok (.aload_n 1, 1) := dk_43 (dk_at dksJ24_fixAfterDeletion_10 19 rfl rfl)
theorem dJ24_fixAfterDeletion_258 : decode cJ24_fixAfterDeletion 258 = .ok (.invokestatic 294, 3) := dk_184 1 38 (dk_at dksJ24_fixAfterDeletion_10 20 rfl rfl)
theorem dJ24_fixAfterDeletion_261 : decode cJ24_fixAfterDeletion 261 = .ok (.astore_n 1, 1) := dk_76 (dk_at dksJ24_fixAfterDeletion_10 23 rfl rfl)
theorem dJ24_fixAfterDeletion_262 : decode cJ24_fixAfterDeletion 262 = .ok (.goto 80, 3) := dk_167 0 80 (dk_at dksJ24_fixAfterDeletion_11 0 rfl rfl)
theorem dJ24_fixAfterDeletion_265 : decode cJ24_fixAfterDeletion 265 = .ok (.aload_n 2, 1) := dk_44 (dk_at dksJ24_fixAfterDeletion_11 3 rfl rfl)
theorem dJ24_fixAfterDeletion_266 : decode cJ24_fixAfterDeletion 266 = .ok (.invokestatic 297, 3) := dk_184 1 41 (dk_at dksJ24_fixAfterDeletion_11 4 rfl rfl)
theorem dJ24_fixAfterDeletion_269 : decode cJ24_fixAfterDeletion 269 = .ok (.invokestatic 303, 3) := dk_184 1 47 (dk_at dksJ24_fixAfterDeletion_11 7 rfl rfl)
theorem dJ24_fixAfterDeletion_272 : decode cJ24_fixAfterDeletion 272 = .ok (.iconst 1, 1) := dk_4 (dk_at dksJ24_fixAfterDeletion_11 10 rfl rfl)
theorem dJ24_fixAfterDeletion_273 : decode cJ24_fixAfterDeletion 273 = .ok (.if_icmp .ne 29, 3) := dk_160 0 29 (dk_at dksJ24_fixAfterDeletion_11 11 rfl rfl)
theorem dJ24_fixAfterDeletion_276 : decode cJ24_fixAfterDeletion 276 = .ok (.aload_n 2, 1) := dk_44 (dk_at dksJ24_fixAfterDeletion_11 14 rfl rfl)
theorem dJ24_fixAfterDeletion_277 : decode cJ24_fixAfterDeletion 277 = .ok (.invokestatic 300, 3) := dk_184 1 44 (dk_at dksJ24_fixAfterDeletion_11 15 rfl rfl)
theorem dJ24_fixAfterDeletion_280 : decode cJ24_fixAfterDeletion 280 = .ok (.iconst 1, 1) := dk_4 (dk_at dksJ24_fixAfterDeletion_11 18 rfl rfl)
theorem dJ24_fixAfterDeletion_281 : decode cJ24_fixAfterDeletion 281 = .ok (.invokestatic 307, 3) := dk_184 1 51 (dk_at dksJ24_fixAfterDeletion_11 19 rfl rfl)
theorem dJ24_fixAfterDeletion_284 : decode cJ24_fixAfterDeletion 284 = .ok (.aload_n 2, 1) := dk_44 (dk_at dksJ24_fixAfterDeletion_11 22 rfl rfl)
theorem dJ24_fixAfterDeletion_285 : decode cJ24_fixAfterDeletion 285 = .ok (.iconst 0, 1) := dk_3 (dk_at dksJ24_fixAfterDeletion_11 23 rfl rfl)
theorem dJ24_fixAfterDeletion_286 : decode cJ24_fixAfterDeletion 286 = .ok (.invokestatic 307, 3) := dk_184 1 51 (dk_at dksJ24_fixAfterDeletion_12 0 rfl rfl)
theorem dJ24_fixAfterDeletion_289 : decode cJ24_fixAfterDeletion 289 = .ok (.aload_n 0, 1) := dk_42 (dk_at dksJ24_fixAfterDeletion_12 3 rfl rfl)
theorem dJ24_fixAfterDeletion_290 : decode cJ24_fixAfterDeletion 290 = .ok (.aload_n 2, 1) := dk_44 (dk_at dksJ24_fixAfterDeletion_12 4 rfl rfl)
theorem dJ24_fixAfterDeletion_291 : decode cJ24_fixAfterDeletion 291 = .ok (.invokevirtual 311, 3) := dk_182 1 55 (dk_at dksJ24_fixAfterDeletion_12 5 rfl rfl)
theorem dJ24_fixAfterDeletion_294 : decode cJ24_fixAfterDeletion 294 = .ok (.aload_n 1, 1) := dk_43 (dk_at dksJ24_fixAfterDeletion_12 8 rfl rfl)
theorem dJ24_fixAfterDeletion_295 : decode cJ24_fixAfterDeletion 295 = .ok (.invokestatic 294, 3) := dk_184 1 38 (dk_at dksJ24_fixAfterDeletion_12 9 rfl rfl)
theorem dJ24_fixAfterDeletion_298 : decode cJ24_fixAfterDeletion 298 = .ok (.invokestatic 297, 3) := dk_184 1 41 (dk_at dksJ24_fixAfterDeletion_12 12 rfl rfl)
theorem dJ24_fixAfterDeletion_301 : decode cJ24_fixAfterDeletion 301 = .ok (.astore_n 2, 1) := dk_77 (dk_at dksJ24_fixAfterDeletion_12 15 rfl rfl)
theorem dJ24_fixAfterDeletion_302 : decode cJ24_fixAfterDeletion 302 = .ok (.aload_n 2, 1) := dk_44 (dk_at dksJ24_fixAfterDeletion_12 16 rfl rfl)
theorem dJ24_fixAfterDeletion_303 : decode cJ24_fixAfterDeletion 303 = .ok (.aload_n 1, 1) := dk_43 (dk_at dksJ24_fixAfterDeletion_12 17 rfl rfl)
theorem dJ24_fixAfterDeletion_304 : decode cJ24_fixAfterDeletion 304 = .ok (.invokestatic 294, 3) := dk_184 1 38 (dk_at dksJ24_fixAfterDeletion_12 18 rfl rfl)
theorem dJ24_fixAfterDeletion_307 : decode cJ24_fixAfterDeletion 307 = .ok (.invokestatic 303, 3) := dk_184 1 47 (dk_at dksJ24_fixAfterDeletion_12 21 rfl rfl)
theorem dJ24_fixAfterDeletion_310 : decode cJ24_fixAfterDeletion 310 = .ok (.invokestatic 307, 3) := dk_184 1 51 (dk_at dksJ24_fixAfterDeletion_13 0 rfl rfl)
theorem dJ24_fixAfterDeletion_313 : decode cJ24_fixAfterDeletion 313 = .ok (.aload_n 1, 1) := dk_43 (dk_at dksJ24_fixAfterDeletion_13 3 rfl rfl)
theorem dJ24_fixAfterDeletion_314 : decode cJ24_fixAfterDeletion 314 = .ok (.invokestatic 294, 3) := dk_184 1 38 (dk_at dksJ24_fixAfterDeletion_13 4 rfl rfl)
theorem dJ24_fixAfterDeletion_317 : decode cJ24_fixAfterDeletion 317 = .ok (.iconst 1, 1) := dk_4 (dk_at dksJ24_fixAfterDeletion_13 7 rfl rfl)
theorem dJ24_fixAfterDeletion_318 : decode cJ24_fixAfterDeletion 318 = .ok (.invokestatic 307, 3) := dk_184 1 51 (dk_at dksJ24_fixAfterDeletion_13 8 rfl rfl)
theorem dJ24_fixAfterDeletion_321 : decode cJ24_fixAfterDeletion 321 = .ok (.aload_n 2, 1) := dk_44 (dk_at dksJ24_fixAfterDeletion_13 11 rfl rfl)
theorem dJ24_fixAfterDeletion_322 : decode cJ24_fixAfterDeletion 322 = .ok (.invokestatic 297, 3) := dk_184 1 41 (dk_at dksJ24_fixAfterDeletion_13 12 rfl rfl)
theorem dJ24_fixAfterDeletion_325 : decode cJ24_fixAfterDeletion 325 = .ok (.iconst 1, 1) := dk_4 (dk_at dksJ24_fixAfterDeletion_13 15 rfl rfl)
theorem dJ24_fixAfterDeletion_326 : decode cJ24_fixAfterDeletion 326 = .ok (.invokestatic 307, 3) := dk_184 1 51 (dk_at dksJ24_fixAfterDeletion_13 16 rfl rfl)
theorem dJ24_fixAfterDeletion_329 : decode cJ24_fixAfterDeletion 329 = .ok (.aload_n 0, 1) := dk_42 (dk_at dksJ24_fixAfterDeletion_13 19 rfl rfl)
theorem dJ24_fixAfterDeletion_330 : decode cJ24_fixAfterDeletion 330 = .ok (.aload_n 1, 1) := dk_43 (dk_at dksJ24_fixAfterDeletion_13 20 rfl rfl)
theorem dJ24_fixAfterDeletion_331 : decode cJ24_fixAfterDeletion 331 = .ok (.invokestatic 294, 3) := dk_184 1 38 (dk_at dksJ24_fixAfterDeletion_13 21 rfl rfl)
theorem dJ24_fixAfterDeletion_334 : decode cJ24_fixAfterDeletion 334 = .ok (.invokevirtual 314, 3) := dk_182 1 58 (dk_at dksJ24_fixAfterDeletion_14 0 rfl rfl)
theorem dJ24_fixAfterDeletion_337 : decode cJ24_fixAfterDeletion 337 = .ok (.aload_n 0, 1) := dk_42 (dk_at dksJ24_fixAfterDeletion_14 3 rfl rfl)
theorem dJ24_fixAfterDeletion_338 : decode cJ24_fixAfterDeletion 338 = .ok (.getfield 101, 3) := dk_180 0 101 (dk_at dksJ24_fixAfterDeletion_14 4 rfl rfl)
theorem dJ24_fixAfterDeletion_341 : decode cJ24_fixAfterDeletion 341 = .ok (.astore_n 1, 1) := dk_76 (dk_at dksJ24_fixAfterDeletion_14 7 rfl rfl)
theorem dJ24_fixAfterDeletion_342 : decode cJ24_fixAfterDeletion 342 = .ok (.goto (-342), 3) := dk_167 254 170 (dk_at dksJ24_fixAfterDeletion_14 8 rfl rfl)
theorem dJ24_fixAfterDeletion_345 : decode cJ24_fixAfterDeletion 345 = .ok (.aload_n 1, 1) := dk_43 (dk_at dksJ24_fixAfterDeletion_14 11 rfl rfl)
theorem dJ24_fixAfterDeletion_346 : decode cJ24_fixAfterDeletion 346 = .ok (.iconst 1, 1) := dk_4 (dk_at dksJ24_fixAfterDeletion_14 12 rfl rfl)
theorem dJ24_fixAfterDeletion_347 : decode cJ24_fixAfterDeletion 347 = .ok (.invokestatic 307, 3) := dk_184 1 51 (dk_at dksJ24_fixAfterDeletion_14 13 rfl rfl)
theorem dJ24_fixAfterDeletion_350 : decode cJ24_fixAfterDeletion 350 = .ok (.return_, 1) := dk_177 (dk_at dksJ24_fixAfterDeletion_14 16 rfl rfl)
abbrev cJ24_containsKey : ByteArray := prog_87_method_6_code
def yJ24_containsKey : MethodName := ⟨RJ24, "containsKey", "(Ljava/lang/Object;)Z"⟩
def dkwJ24_containsKey_0 : List UInt8 := [42, 43, 182, 0, 50, 198, 0, 7, 4, 167, 0, 4, 3, 172]
abbrev dktJ24_containsKey_0 : List UInt8 := dkwJ24_containsKey_0 ++ []
theorem dksJ24_containsKey_0 : cJ24_containsKey.data.toList.drop 0 = dktJ24_containsKey_0 := by decide +kernel
theorem dJ24_containsKey_0 : decode cJ24_containsKey 0 = .ok (.aload_n 0, 1) := dk_42 (dk_at dksJ24_containsKey_0 0 rfl rfl)
theorem dJ24_containsKey_1 : decode cJ24_containsKey 1 = .ok (.aload_n 1, 1) := dk_43 (dk_at dksJ24_containsKey_0 1 rfl rfl)
theorem dJ24_containsKey_2 : decode cJ24_containsKey 2 = .ok (.invokevirtual 50, 3) := dk_182 0 50 (dk_at dksJ24_containsKey_0 2 rfl rfl)
theorem dJ24_containsKey_5 : decode cJ24_containsKey 5 = .ok (.ifnull 7, 3) := dk_198 0 7 (dk_at dksJ24_containsKey_0 5 rfl rfl)
theorem dJ24_containsKey_8 : decode cJ24_containsKey 8 = .ok (.iconst 1, 1) := dk_4 (dk_at dksJ24_containsKey_0 8 rfl rfl)
theorem dJ24_containsKey_9 : decode cJ24_containsKey 9 = .ok (.goto 4, 3) := dk_167 0 4 (dk_at dksJ24_containsKey_0 9 rfl rfl)
theorem dJ24_containsKey_12 : decode cJ24_containsKey 12 = .ok (.iconst 0, 1) := dk_3 (dk_at dksJ24_containsKey_0 12 rfl rfl)
theorem dJ24_containsKey_13 : decode cJ24_containsKey 13 = .ok (.ireturn, 1) := dk_172 (dk_at dksJ24_containsKey_0 13 rfl rfl)
abbrev cJ24_keySet : ByteArray := prog_87_method_49_code
def yJ24_keySet : MethodName := ⟨RJ24, "keySet", "()Ljava/util/Set;"⟩
theorem dJ24_keySet_0 : decode cJ24_keySet 0 = .ok (.aload_n 0, 1) := by decide +kernel
theorem dJ24_keySet_1 : decode cJ24_keySet 1 = .ok (.invokevirtual 219, 3) := by decide +kernel
theorem dJ24_keySet_4 : decode cJ24_keySet 4 = .ok (.areturn, 1) := by decide +kernel
abbrev cJ24_navigableKeySet : ByteArray := prog_87_method_50_code
def yJ24_navigableKeySet : MethodName := ⟨RJ24, "navigableKeySet", "()Ljava/util/NavigableSet;"⟩
def dkwJ24_navigableKeySet_1 : List UInt8 := [181, 0, 191, 176]
abbrev dktJ24_navigableKeySet_1 : List UInt8 := dkwJ24_navigableKeySet_1 ++ []
def dkwJ24_navigableKeySet_0 : List UInt8 := [42, 180, 0, 191, 76, 43, 198, 0, 7, 43, 167, 0, 16, 42, 187, 0, 222, 89, 42, 183, 0, 224, 90]
abbrev dktJ24_navigableKeySet_0 : List UInt8 := dkwJ24_navigableKeySet_0 ++ dktJ24_navigableKeySet_1
theorem dksJ24_navigableKeySet_0 : cJ24_navigableKeySet.data.toList.drop 0 = dktJ24_navigableKeySet_0 := by decide +kernel
theorem dksJ24_navigableKeySet_1 : cJ24_navigableKeySet.data.toList.drop 23 = dktJ24_navigableKeySet_1 := dk_seg dksJ24_navigableKeySet_0 23 rfl rfl
theorem dJ24_navigableKeySet_0 : decode cJ24_navigableKeySet 0 = .ok (.aload_n 0, 1) := dk_42 (dk_at dksJ24_navigableKeySet_0 0 rfl rfl)
theorem dJ24_navigableKeySet_1 : decode cJ24_navigableKeySet 1 = .ok (.getfield 191, 3) := dk_180 0 191 (dk_at dksJ24_navigableKeySet_0 1 rfl rfl)
theorem dJ24_navigableKeySet_4 : decode cJ24_navigableKeySet 4 = .ok (.astore_n 1, 1) := dk_76 (dk_at dksJ24_navigableKeySet_0 4 rfl rfl)
theorem dJ24_navigableKeySet_5 : decode cJ24_navigableKeySet 5 = .ok (.aload_n 1, 1) := dk_43 (dk_at dksJ24_navigableKeySet_0 5 rfl rfl)
theorem dJ24_navigableKeySet_6 : decode cJ24_navigableKeySet 6 = .ok (.ifnull 7, 3) := dk_198 0 7 (dk_at dksJ24_navigableKeySet_0 6 rfl rfl)
theorem dJ24_navigableKeySet_9 : decode cJ24_navigableKeySet 9 = .ok (.aload_n 1, 1) := dk_43 (dk_at dksJ24_navigableKeySet_0 9 rfl rfl)
theorem dJ24_navigableKeySet_10 : decode cJ24_navigableKeySet 10 = .ok (.goto 16, 3) := dk_167 0 16 (dk_at dksJ24_navigableKeySet_0 10 rfl rfl)
theorem dJ24_navigableKeySet_13 : decode cJ24_navigableKeySet 13 = .ok (.aload_n 0, 1) := dk_42 (dk_at dksJ24_navigableKeySet_0 13 rfl rfl)
theorem dJ24_navigableKeySet_14 : decode cJ24_navigableKeySet 14 = .ok (.new 222, 3) := dk_187 0 222 (dk_at dksJ24_navigableKeySet_0 14 rfl rfl)
theorem dJ24_navigableKeySet_17 : decode cJ24_navigableKeySet 17 = .ok (.dup, 1) := dk_89 (dk_at dksJ24_navigableKeySet_0 17 rfl rfl)
theorem dJ24_navigableKeySet_18 : decode cJ24_navigableKeySet 18 = .ok (.aload_n 0, 1) := dk_42 (dk_at dksJ24_navigableKeySet_0 18 rfl rfl)
theorem dJ24_navigableKeySet_19 : decode cJ24_navigableKeySet 19 = .ok (.invokespecial 224, 3) := dk_183 0 224 (dk_at dksJ24_navigableKeySet_0 19 rfl rfl)
theorem dJ24_navigableKeySet_22 : decode cJ24_navigableKeySet 22 = .ok (.dup_x1, 1) := dk_90 (dk_at dksJ24_navigableKeySet_0 22 rfl rfl)
theorem dJ24_navigableKeySet_23 : decode cJ24_navigableKeySet 23 = .ok (.putfield 191, 3) := dk_181 0 191 (dk_at dksJ24_navigableKeySet_1 0 rfl rfl)
theorem dJ24_navigableKeySet_26 : decode cJ24_navigableKeySet 26 = .ok (.areturn, 1) := dk_176 (dk_at dksJ24_navigableKeySet_1 3 rfl rfl)
abbrev cJ24_getFirstEntry : ByteArray := prog_87_method_72_code
def yJ24_getFirstEntry : MethodName := ⟨RJ24, "getFirstEntry", "()Ljava/util/TreeMap$Entry;"⟩
def dkwJ24_getFirstEntry_1 : List UInt8 := [43, 176]
abbrev dktJ24_getFirstEntry_1 : List UInt8 := dkwJ24_getFirstEntry_1 ++ []
def dkwJ24_getFirstEntry_0 : List UInt8 := [42, 180, 0, 101, 76, 43, 198, 0, 18, 43, 180, 0, 111, 198, 0, 11, 43, 180, 0, 111, 76, 167, 255, 244]
abbrev dktJ24_getFirstEntry_0 : List UInt8 := dkwJ24_getFirstEntry_0 ++ dktJ24_getFirstEntry_1
theorem dksJ24_getFirstEntry_0 : cJ24_getFirstEntry.data.toList.drop 0 = dktJ24_getFirstEntry_0 := by decide +kernel
theorem dksJ24_getFirstEntry_1 : cJ24_getFirstEntry.data.toList.drop 24 = dktJ24_getFirstEntry_1 := dk_seg dksJ24_getFirstEntry_0 24 rfl rfl
theorem dJ24_getFirstEntry_0 : decode cJ24_getFirstEntry 0 = .ok (.aload_n 0, 1) := dk_42 (dk_at dksJ24_getFirstEntry_0 0 rfl rfl)
theorem dJ24_getFirstEntry_1 : decode cJ24_getFirstEntry 1 = .ok (.getfield 101, 3) := dk_180 0 101 (dk_at dksJ24_getFirstEntry_0 1 rfl rfl)
theorem dJ24_getFirstEntry_4 : decode cJ24_getFirstEntry 4 = .ok (.astore_n 1, 1) := dk_76 (dk_at dksJ24_getFirstEntry_0 4 rfl rfl)
theorem dJ24_getFirstEntry_5 : decode cJ24_getFirstEntry 5 = .ok (.aload_n 1, 1) := dk_43 (dk_at dksJ24_getFirstEntry_0 5 rfl rfl)
theorem dJ24_getFirstEntry_6 : decode cJ24_getFirstEntry 6 = .ok (.ifnull 18, 3) := dk_198 0 18 (dk_at dksJ24_getFirstEntry_0 6 rfl rfl)
theorem dJ24_getFirstEntry_9 : decode cJ24_getFirstEntry 9 = .ok (.aload_n 1, 1) := dk_43 (dk_at dksJ24_getFirstEntry_0 9 rfl rfl)
theorem dJ24_getFirstEntry_10 : decode cJ24_getFirstEntry 10 = .ok (.getfield 111, 3) := dk_180 0 111 (dk_at dksJ24_getFirstEntry_0 10 rfl rfl)
theorem dJ24_getFirstEntry_13 : decode cJ24_getFirstEntry 13 = .ok (.ifnull 11, 3) := dk_198 0 11 (dk_at dksJ24_getFirstEntry_0 13 rfl rfl)
theorem dJ24_getFirstEntry_16 : decode cJ24_getFirstEntry 16 = .ok (.aload_n 1, 1) := dk_43 (dk_at dksJ24_getFirstEntry_0 16 rfl rfl)
theorem dJ24_getFirstEntry_17 : decode cJ24_getFirstEntry 17 = .ok (.getfield 111, 3) := dk_180 0 111 (dk_at dksJ24_getFirstEntry_0 17 rfl rfl)
theorem dJ24_getFirstEntry_20 : decode cJ24_getFirstEntry 20 = .ok (.astore_n 1, 1) := dk_76 (dk_at dksJ24_getFirstEntry_0 20 rfl rfl)
theorem dJ24_getFirstEntry_21 : decode cJ24_getFirstEntry 21 = .ok (.goto (-12), 3) := dk_167 255 244 (dk_at dksJ24_getFirstEntry_0 21 rfl rfl)
theorem dJ24_getFirstEntry_24 : decode cJ24_getFirstEntry 24 = .ok (.aload_n 1, 1) := dk_43 (dk_at dksJ24_getFirstEntry_1 0 rfl rfl)
theorem dJ24_getFirstEntry_25 : decode cJ24_getFirstEntry 25 = .ok (.areturn, 1) := dk_176 (dk_at dksJ24_getFirstEntry_1 1 rfl rfl)
abbrev cJ24_keyIterator : ByteArray := prog_87_method_65_code
def yJ24_keyIterator : MethodName := ⟨RJ24, "keyIterator", "()Ljava/util/Iterator;"⟩
def dkwJ24_keyIterator_0 : List UInt8 := [187, 1, 13, 89, 42, 42, 182, 0, 54, 183, 1, 15, 176]
abbrev dktJ24_keyIterator_0 : List UInt8 := dkwJ24_keyIterator_0 ++ []
theorem dksJ24_keyIterator_0 : cJ24_keyIterator.data.toList.drop 0 = dktJ24_keyIterator_0 := by decide +kernel
theorem dJ24_keyIterator_0 : decode cJ24_keyIterator 0 = .ok (.new 269, 3) := dk_187 1 13 (dk_at dksJ24_keyIterator_0 0 rfl rfl)
theorem dJ24_keyIterator_3 : decode cJ24_keyIterator 3 = .ok (.dup, 1) := dk_89 (dk_at dksJ24_keyIterator_0 3 rfl rfl)
theorem dJ24_keyIterator_4 : decode cJ24_keyIterator 4 = .ok (.aload_n 0, 1) := dk_42 (dk_at dksJ24_keyIterator_0 4 rfl rfl)
theorem dJ24_keyIterator_5 : decode cJ24_keyIterator 5 = .ok (.aload_n 0, 1) := dk_42 (dk_at dksJ24_keyIterator_0 5 rfl rfl)
theorem dJ24_keyIterator_6 : decode cJ24_keyIterator 6 = .ok (.invokevirtual 54, 3) := dk_182 0 54 (dk_at dksJ24_keyIterator_0 6 rfl rfl)
theorem dJ24_keyIterator_9 : decode cJ24_keyIterator 9 = .ok (.invokespecial 271, 3) := dk_183 1 15 (dk_at dksJ24_keyIterator_0 9 rfl rfl)
theorem dJ24_keyIterator_12 : decode cJ24_keyIterator 12 = .ok (.areturn, 1) := dk_176 (dk_at dksJ24_keyIterator_0 12 rfl rfl)
abbrev cJ24_putAll : ByteArray := prog_87_method_14_code
def yJ24_putAll : MethodName := ⟨RJ24, "putAll", "(Ljava/util/Map;)V"⟩
def dkwJ24_putAll_3 : List UInt8 := [182, 0, 42, 167, 0, 4, 78, 177, 42, 43, 183, 0, 91, 177]
abbrev dktJ24_putAll_3 : List UInt8 := dkwJ24_putAll_3 ++ []
def dkwJ24_putAll_2 : List UInt8 := [180, 0, 13, 4, 96, 181, 0, 13, 42, 28, 43, 185, 0, 90, 1, 0, 185, 0, 36, 1, 0, 1, 1]
abbrev dktJ24_putAll_2 : List UInt8 := dkwJ24_putAll_2 ++ dktJ24_putAll_3
def dkwJ24_putAll_1 : List UInt8 := [153, 0, 55, 42, 180, 0, 16, 43, 192, 0, 25, 185, 0, 24, 1, 0, 184, 0, 85, 153, 0, 36, 42, 89]
abbrev dktJ24_putAll_1 : List UInt8 := dkwJ24_putAll_1 ++ dktJ24_putAll_2
def dkwJ24_putAll_0 : List UInt8 := [43, 185, 0, 82, 1, 0, 61, 42, 180, 0, 7, 154, 0, 66, 28, 153, 0, 62, 43, 193, 0, 25]
abbrev dktJ24_putAll_0 : List UInt8 := dkwJ24_putAll_0 ++ dktJ24_putAll_1
theorem dksJ24_putAll_0 : cJ24_putAll.data.toList.drop 0 = dktJ24_putAll_0 := by decide +kernel
theorem dksJ24_putAll_1 : cJ24_putAll.data.toList.drop 22 = dktJ24_putAll_1 := dk_seg dksJ24_putAll_0 22 rfl rfl
theorem dksJ24_putAll_2 : cJ24_putAll.data.toList.drop 46 = dktJ24_putAll_2 := dk_seg dksJ24_putAll_1 24 rfl rfl
theorem dksJ24_putAll_3 : cJ24_putAll.data.toList.drop 69 = dktJ24_putAll_3 := dk_seg dksJ24_putAll_2 23 rfl rfl
theorem dJ24_putAll_0 : decode cJ24_putAll 0 = .ok (.aload_n 1, 1) := dk_43 (dk_at dksJ24_putAll_0 0 rfl rfl)
theorem dJ24_putAll_1 : decode cJ24_putAll 1 = .ok (.invokeinterface 82 1, 5) := by decide +kernel
theorem dJ24_putAll_6 : decode cJ24_putAll 6 = .ok (.istore_n 2, 1) := dk_61 (dk_at dksJ24_putAll_0 6 rfl rfl)
theorem dJ24_putAll_7 : decode cJ24_putAll 7 = .ok (.aload_n 0, 1) := dk_42 (dk_at dksJ24_putAll_0 7 rfl rfl)
theorem dJ24_putAll_8 : decode cJ24_putAll 8 = .ok (.getfield 7, 3) := dk_180 0 7 (dk_at dksJ24_putAll_0 8 rfl rfl)
theorem dJ24_putAll_11 : decode cJ24_putAll 11 = .ok (.ifCond .ne 66, 3) := dk_154 0 66 (dk_at dksJ24_putAll_0 11 rfl rfl)
theorem dJ24_putAll_14 : decode cJ24_putAll 14 = .ok (.iload_n 2, 1) := dk_28 (dk_at dksJ24_putAll_0 14 rfl rfl)
theorem dJ24_putAll_15 : decode cJ24_putAll 15 = .ok (.ifCond .eq 62, 3) := dk_153 0 62 (dk_at dksJ24_putAll_0 15 rfl rfl)
theorem dJ24_putAll_18 : decode cJ24_putAll 18 = .ok (.aload_n 1, 1) := dk_43 (dk_at dksJ24_putAll_0 18 rfl rfl)
theorem dJ24_putAll_19 : decode cJ24_putAll 19 = .ok (.instanceof 25, 3) := dk_193 0 25 (dk_at dksJ24_putAll_0 19 rfl rfl)
theorem dJ24_putAll_22 : decode cJ24_putAll 22 = .ok (.ifCond .eq 55, 3) := dk_153 0 55 (dk_at dksJ24_putAll_1 0 rfl rfl)
theorem dJ24_putAll_25 : decode cJ24_putAll 25 = .ok (.aload_n 0, 1) := dk_42 (dk_at dksJ24_putAll_1 3 rfl rfl)
theorem dJ24_putAll_26 : decode cJ24_putAll 26 = .ok (.getfield 16, 3) := dk_180 0 16 (dk_at dksJ24_putAll_1 4 rfl rfl)
theorem dJ24_putAll_29 : decode cJ24_putAll 29 = .ok (.aload_n 1, 1) := dk_43 (dk_at dksJ24_putAll_1 7 rfl rfl)
theorem dJ24_putAll_30 : decode cJ24_putAll 30 = .ok (.checkcast 25, 3) := dk_192 0 25 (dk_at dksJ24_putAll_1 8 rfl rfl)
theorem dJ24_putAll_33 : decode cJ24_putAll 33 = .ok (.invokeinterface 24 1, 5) := by decide +kernel
theorem dJ24_putAll_38 : decode cJ24_putAll 38 = .ok (.invokestatic 85, 3) := dk_184 0 85 (dk_at dksJ24_putAll_1 16 rfl rfl)
theorem dJ24_putAll_41 : decode cJ24_putAll 41 = .ok (.ifCond .eq 36, 3) := dk_153 0 36 (dk_at dksJ24_putAll_1 19 rfl rfl)
theorem dJ24_putAll_44 : decode cJ24_putAll 44 = .ok (.aload_n 0, 1) := dk_42 (dk_at dksJ24_putAll_1 22 rfl rfl)
theorem dJ24_putAll_45 : decode cJ24_putAll 45 = .ok (.dup, 1) := dk_89 (dk_at dksJ24_putAll_1 23 rfl rfl)
theorem dJ24_putAll_46 : decode cJ24_putAll 46 = .ok (.getfield 13, 3) := dk_180 0 13 (dk_at dksJ24_putAll_2 0 rfl rfl)
theorem dJ24_putAll_49 : decode cJ24_putAll 49 = .ok (.iconst 1, 1) := dk_4 (dk_at dksJ24_putAll_2 3 rfl rfl)
theorem dJ24_putAll_50 : decode cJ24_putAll 50 = .ok (.iadd, 1) := dk_96 (dk_at dksJ24_putAll_2 4 rfl rfl)
theorem dJ24_putAll_51 : decode cJ24_putAll 51 = .ok (.putfield 13, 3) := dk_181 0 13 (dk_at dksJ24_putAll_2 5 rfl rfl)
theorem dJ24_putAll_54 : decode cJ24_putAll 54 = .ok (.aload_n 0, 1) := dk_42 (dk_at dksJ24_putAll_2 8 rfl rfl)
theorem dJ24_putAll_55 : decode cJ24_putAll 55 = .ok (.iload_n 2, 1) := dk_28 (dk_at dksJ24_putAll_2 9 rfl rfl)
theorem dJ24_putAll_56 : decode cJ24_putAll 56 = .ok (.aload_n 1, 1) := dk_43 (dk_at dksJ24_putAll_2 10 rfl rfl)
theorem dJ24_putAll_57 : decode cJ24_putAll 57 = .ok (.invokeinterface 90 1, 5) := by decide +kernel
theorem dJ24_putAll_62 : decode cJ24_putAll 62 = .ok (.invokeinterface 36 1, 5) := by decide +kernel
theorem dJ24_putAll_67 : decode cJ24_putAll 67 = .ok (.aconst_null, 1) := dk_1 (dk_at dksJ24_putAll_2 21 rfl rfl)
theorem dJ24_putAll_68 : decode cJ24_putAll 68 = .ok (.aconst_null, 1) := dk_1 (dk_at dksJ24_putAll_2 22 rfl rfl)
theorem dJ24_putAll_69 : decode cJ24_putAll 69 = .ok (.invokevirtual 42, 3) := dk_182 0 42 (dk_at dksJ24_putAll_3 0 rfl rfl)
theorem dJ24_putAll_72 : decode cJ24_putAll 72 = .ok (.goto 4, 3) := dk_167 0 4 (dk_at dksJ24_putAll_3 3 rfl rfl)
theorem dJ24_putAll_75 : decode cJ24_putAll 75 = .ok (.astore_n 3, 1) := dk_78 (dk_at dksJ24_putAll_3 6 rfl rfl)
theorem dJ24_putAll_76 : decode cJ24_putAll 76 = .ok (.return_, 1) := dk_177 (dk_at dksJ24_putAll_3 7 rfl rfl)
theorem dJ24_putAll_77 : decode cJ24_putAll 77 = .ok (.aload_n 0, 1) := dk_42 (dk_at dksJ24_putAll_3 8 rfl rfl)
theorem dJ24_putAll_78 : decode cJ24_putAll 78 = .ok (.aload_n 1, 1) := dk_43 (dk_at dksJ24_putAll_3 9 rfl rfl)
theorem dJ24_putAll_79 : decode cJ24_putAll 79 = .ok (.invokespecial 91, 3) := dk_183 0 91 (dk_at dksJ24_putAll_3 10 rfl rfl)
theorem dJ24_putAll_82 : decode cJ24_putAll 82 = .ok (.return_, 1) := dk_177 (dk_at dksJ24_putAll_3 13 rfl rfl)
abbrev cJ24_comparator : ByteArray := prog_87_method_9_code
def yJ24_comparator : MethodName := ⟨RJ24, "comparator", "()Ljava/util/Comparator;"⟩
theorem dJ24_comparator_0 : decode cJ24_comparator 0 = .ok (.aload_n 0, 1) := by decide +kernel
theorem dJ24_comparator_1 : decode cJ24_comparator 1 = .ok (.getfield 16, 3) := by decide +kernel
theorem dJ24_comparator_4 : decode cJ24_comparator 4 = .ok (.areturn, 1) := by decide +kernel
abbrev cJ24_entrySet : ByteArray := prog_87_method_53_code
def yJ24_entrySet : MethodName := ⟨RJ24, "entrySet", "()Ljava/util/Set;"⟩
def dkwJ24_entrySet_1 : List UInt8 := [181, 0, 188, 176]
abbrev dktJ24_entrySet_1 : List UInt8 := dkwJ24_entrySet_1 ++ []
def dkwJ24_entrySet_0 : List UInt8 := [42, 180, 0, 188, 76, 43, 198, 0, 7, 43, 167, 0, 16, 42, 187, 0, 242, 89, 42, 183, 0, 244, 90]
abbrev dktJ24_entrySet_0 : List UInt8 := dkwJ24_entrySet_0 ++ dktJ24_entrySet_1
theorem dksJ24_entrySet_0 : cJ24_entrySet.data.toList.drop 0 = dktJ24_entrySet_0 := by decide +kernel
theorem dksJ24_entrySet_1 : cJ24_entrySet.data.toList.drop 23 = dktJ24_entrySet_1 := dk_seg dksJ24_entrySet_0 23 rfl rfl
theorem dJ24_entrySet_0 : decode cJ24_entrySet 0 = .ok (.aload_n 0, 1) := dk_42 (dk_at dksJ24_entrySet_0 0 rfl rfl)
theorem dJ24_entrySet_1 : decode cJ24_entrySet 1 = .ok (.getfield 188, 3) := dk_180 0 188 (dk_at dksJ24_entrySet_0 1 rfl rfl)
theorem dJ24_entrySet_4 : decode cJ24_entrySet 4 = .ok (.astore_n 1, 1) := dk_76 (dk_at dksJ24_entrySet_0 4 rfl rfl)
theorem dJ24_entrySet_5 : decode cJ24_entrySet 5 = .ok (.aload_n 1, 1) := dk_43 (dk_at dksJ24_entrySet_0 5 rfl rfl)
theorem dJ24_entrySet_6 : decode cJ24_entrySet 6 = .ok (.ifnull 7, 3) := dk_198 0 7 (dk_at dksJ24_entrySet_0 6 rfl rfl)
theorem dJ24_entrySet_9 : decode cJ24_entrySet 9 = .ok (.aload_n 1, 1) := dk_43 (dk_at dksJ24_entrySet_0 9 rfl rfl)
theorem dJ24_entrySet_10 : decode cJ24_entrySet 10 = .ok (.goto 16, 3) := dk_167 0 16 (dk_at dksJ24_entrySet_0 10 rfl rfl)
theorem dJ24_entrySet_13 : decode cJ24_entrySet 13 = .ok (.aload_n 0, 1) := dk_42 (dk_at dksJ24_entrySet_0 13 rfl rfl)
theorem dJ24_entrySet_14 : decode cJ24_entrySet 14 = .ok (.new 242, 3) := dk_187 0 242 (dk_at dksJ24_entrySet_0 14 rfl rfl)
theorem dJ24_entrySet_17 : decode cJ24_entrySet 17 = .ok (.dup, 1) := dk_89 (dk_at dksJ24_entrySet_0 17 rfl rfl)
theorem dJ24_entrySet_18 : decode cJ24_entrySet 18 = .ok (.aload_n 0, 1) := dk_42 (dk_at dksJ24_entrySet_0 18 rfl rfl)
theorem dJ24_entrySet_19 : decode cJ24_entrySet 19 = .ok (.invokespecial 244, 3) := dk_183 0 244 (dk_at dksJ24_entrySet_0 19 rfl rfl)
theorem dJ24_entrySet_22 : decode cJ24_entrySet 22 = .ok (.dup_x1, 1) := dk_90 (dk_at dksJ24_entrySet_0 22 rfl rfl)
theorem dJ24_entrySet_23 : decode cJ24_entrySet 23 = .ok (.putfield 188, 3) := dk_181 0 188 (dk_at dksJ24_entrySet_1 0 rfl rfl)
theorem dJ24_entrySet_26 : decode cJ24_entrySet 26 = .ok (.areturn, 1) := dk_176 (dk_at dksJ24_entrySet_1 3 rfl rfl)
abbrev cJ24_buildFromSorted : ByteArray := prog_87_method_90_code
def yJ24_buildFromSorted : MethodName := ⟨RJ24, "buildFromSorted", "(ILjava/util/Iterator;Ljava/io/ObjectInputStream;Ljava/lang/Object;)V"⟩
def dkwJ24_buildFromSorted_1 : List UInt8 := [181, 0, 101, 177]
abbrev dktJ24_buildFromSorted_1 : List UInt8 := dkwJ24_buildFromSorted_1 ++ []
def dkwJ24_buildFromSorted_0 : List UInt8 := [42, 27, 181, 0, 7, 42, 42, 3, 3, 27, 4, 100, 27, 184, 1, 106, 44, 45, 25, 4, 182, 1, 110]
abbrev dktJ24_buildFromSorted_0 : List UInt8 := dkwJ24_buildFromSorted_0 ++ dktJ24_buildFromSorted_1
theorem dksJ24_buildFromSorted_0 : cJ24_buildFromSorted.data.toList.drop 0 = dktJ24_buildFromSorted_0 := by decide +kernel
theorem dksJ24_buildFromSorted_1 : cJ24_buildFromSorted.data.toList.drop 23 = dktJ24_buildFromSorted_1 := dk_seg dksJ24_buildFromSorted_0 23 rfl rfl
theorem dJ24_buildFromSorted_0 : decode cJ24_buildFromSorted 0 = .ok (.aload_n 0, 1) := dk_42 (dk_at dksJ24_buildFromSorted_0 0 rfl rfl)
theorem dJ24_buildFromSorted_1 : decode cJ24_buildFromSorted 1 = .ok (.iload_n 1, 1) := dk_27 (dk_at dksJ24_buildFromSorted_0 1 rfl rfl)
theorem dJ24_buildFromSorted_2 : decode cJ24_buildFromSorted 2 = .ok (.putfield 7, 3) := dk_181 0 7 (dk_at dksJ24_buildFromSorted_0 2 rfl rfl)
theorem dJ24_buildFromSorted_5 : decode cJ24_buildFromSorted 5 = .ok (.aload_n 0, 1) := dk_42 (dk_at dksJ24_buildFromSorted_0 5 rfl rfl)
theorem dJ24_buildFromSorted_6 : decode cJ24_buildFromSorted 6 = .ok (.aload_n 0, 1) := dk_42 (dk_at dksJ24_buildFromSorted_0 6 rfl rfl)
theorem dJ24_buildFromSorted_7 : decode cJ24_buildFromSorted 7 = .ok (.iconst 0, 1) := dk_3 (dk_at dksJ24_buildFromSorted_0 7 rfl rfl)
theorem dJ24_buildFromSorted_8 : decode cJ24_buildFromSorted 8 = .ok (.iconst 0, 1) := dk_3 (dk_at dksJ24_buildFromSorted_0 8 rfl rfl)
theorem dJ24_buildFromSorted_9 : decode cJ24_buildFromSorted 9 = .ok (.iload_n 1, 1) := dk_27 (dk_at dksJ24_buildFromSorted_0 9 rfl rfl)
theorem dJ24_buildFromSorted_10 : decode cJ24_buildFromSorted 10 = .ok (.iconst 1, 1) := dk_4 (dk_at dksJ24_buildFromSorted_0 10 rfl rfl)
theorem dJ24_buildFromSorted_11 : decode cJ24_buildFromSorted 11 = .ok (.isub, 1) := dk_100 (dk_at dksJ24_buildFromSorted_0 11 rfl rfl)
theorem dJ24_buildFromSorted_12 : decode cJ24_buildFromSorted 12 = .ok (.iload_n 1, 1) := dk_27 (dk_at dksJ24_buildFromSorted_0 12 rfl rfl)
theorem dJ24_buildFromSorted_13 : decode cJ24_buildFromSorted 13 = .ok (.invokestatic 362, 3) := dk_184 1 106 (dk_at dksJ24_buildFromSorted_0 13 rfl rfl)
theorem dJ24_buildFromSorted_16 : decode cJ24_buildFromSorted 16 = .ok (.aload_n 2, 1) := dk_44 (dk_at dksJ24_buildFromSorted_0 16 rfl rfl)
theorem dJ24_buildFromSorted_17 : decode cJ24_buildFromSorted 17 = .ok (.aload_n 3, 1) := dk_45 (dk_at dksJ24_buildFromSorted_0 17 rfl rfl)
theorem dJ24_buildFromSorted_18 : decode cJ24_buildFromSorted 18 = .ok (.aload 4, 2) := dk_25 4 (dk_at dksJ24_buildFromSorted_0 18 rfl rfl)
theorem dJ24_buildFromSorted_20 : decode cJ24_buildFromSorted 20 = .ok (.invokevirtual 366, 3) := dk_182 1 110 (dk_at dksJ24_buildFromSorted_0 20 rfl rfl)
theorem dJ24_buildFromSorted_23 : decode cJ24_buildFromSorted 23 = .ok (.putfield 101, 3) := dk_181 0 101 (dk_at dksJ24_buildFromSorted_1 0 rfl rfl)
theorem dJ24_buildFromSorted_26 : decode cJ24_buildFromSorted 26 = .ok (.return_, 1) := dk_177 (dk_at dksJ24_buildFromSorted_1 3 rfl rfl)
abbrev cJ24_computeRedLevel : ByteArray := prog_87_method_92_code
def yJ24_computeRedLevel : MethodName := ⟨RJ24, "computeRedLevel", "(I)I"⟩
def dkwJ24_computeRedLevel_0 : List UInt8 := [16, 31, 26, 4, 96, 184, 1, 116, 100, 172]
abbrev dktJ24_computeRedLevel_0 : List UInt8 := dkwJ24_computeRedLevel_0 ++ []
theorem dksJ24_computeRedLevel_0 : cJ24_computeRedLevel.data.toList.drop 0 = dktJ24_computeRedLevel_0 := by decide +kernel
theorem dJ24_computeRedLevel_0 : decode cJ24_computeRedLevel 0 = .ok (.bipush 31, 2) := dk_16 31 (dk_at dksJ24_computeRedLevel_0 0 rfl rfl)
theorem dJ24_computeRedLevel_2 : decode cJ24_computeRedLevel 2 = .ok (.iload_n 0, 1) := dk_26 (dk_at dksJ24_computeRedLevel_0 2 rfl rfl)
theorem dJ24_computeRedLevel_3 : decode cJ24_computeRedLevel 3 = .ok (.iconst 1, 1) := dk_4 (dk_at dksJ24_computeRedLevel_0 3 rfl rfl)
theorem dJ24_computeRedLevel_4 : decode cJ24_computeRedLevel 4 = .ok (.iadd, 1) := dk_96 (dk_at dksJ24_computeRedLevel_0 4 rfl rfl)
theorem dJ24_computeRedLevel_5 : decode cJ24_computeRedLevel 5 = .ok (.invokestatic 372, 3) := dk_184 1 116 (dk_at dksJ24_computeRedLevel_0 5 rfl rfl)
theorem dJ24_computeRedLevel_8 : decode cJ24_computeRedLevel 8 = .ok (.isub, 1) := dk_100 (dk_at dksJ24_computeRedLevel_0 8 rfl rfl)
theorem dJ24_computeRedLevel_9 : decode cJ24_computeRedLevel 9 = .ok (.ireturn, 1) := dk_172 (dk_at dksJ24_computeRedLevel_0 9 rfl rfl)
abbrev cJ24_buildFromSorted_2 : ByteArray := prog_87_method_91_code
def yJ24_buildFromSorted_2 : MethodName := ⟨RJ24, "buildFromSorted", "(IIIILjava/util/Iterator;Ljava/io/ObjectInputStream;Ljava/lang/Object;)Ljava/util/TreeMap$Entry;"⟩
def dkwJ24_buildFromSorted_2_9 : List UInt8 := [25, 13, 25, 12, 181, 0, 124, 25, 12, 176]
abbrev dktJ24_buildFromSorted_2_9 : List UInt8 := dkwJ24_buildFromSorted_2_9 ++ []
def dkwJ24_buildFromSorted_2_8 : List UInt8 := [4, 96, 29, 21, 4, 25, 5, 25, 6, 25, 7, 182, 1, 110, 58, 13, 25, 12, 25, 13, 181, 0, 114]
abbrev dktJ24_buildFromSorted_2_8 : List UInt8 := dkwJ24_buildFromSorted_2_8 ++ dktJ24_buildFromSorted_2_9
def dkwJ24_buildFromSorted_2_7 : List UInt8 := [25, 9, 181, 0, 111, 25, 9, 25, 12, 181, 0, 124, 21, 8, 29, 162, 0, 39, 42, 27, 4, 96, 21, 8]
abbrev dktJ24_buildFromSorted_2_7 : List UInt8 := dkwJ24_buildFromSorted_2_7 ++ dktJ24_buildFromSorted_2_8
def dkwJ24_buildFromSorted_2_6 : List UInt8 := [183, 0, 167, 58, 12, 27, 21, 4, 160, 0, 9, 25, 12, 3, 181, 1, 34, 25, 9, 198, 0, 17, 25, 12]
abbrev dktJ24_buildFromSorted_2_6 : List UInt8 := dkwJ24_buildFromSorted_2_6 ++ dktJ24_buildFromSorted_2_7
def dkwJ24_buildFromSorted_2_5 : List UInt8 := [198, 0, 8, 25, 7, 167, 0, 8, 25, 6, 182, 1, 113, 58, 11, 187, 0, 59, 89, 25, 10, 25, 11, 1]
abbrev dktJ24_buildFromSorted_2_5 : List UInt8 := dkwJ24_buildFromSorted_2_5 ++ dktJ24_buildFromSorted_2_6
def dkwJ24_buildFromSorted_2_4 : List UInt8 := [185, 1, 79, 1, 0, 58, 10, 25, 7, 58, 11, 167, 0, 27, 25, 6, 182, 1, 113, 58, 10, 25, 7]
abbrev dktJ24_buildFromSorted_2_4 : List UInt8 := dkwJ24_buildFromSorted_2_4 ++ dktJ24_buildFromSorted_2_5
def dkwJ24_buildFromSorted_2_3 : List UInt8 := [185, 1, 84, 1, 0, 58, 10, 25, 12, 185, 1, 91, 1, 0, 58, 11, 167, 0, 43, 25, 5]
abbrev dktJ24_buildFromSorted_2_3 : List UInt8 := dkwJ24_buildFromSorted_2_3 ++ dktJ24_buildFromSorted_2_4
def dkwJ24_buildFromSorted_2_2 : List UInt8 := [198, 0, 57, 25, 7, 199, 0, 36, 25, 5, 185, 1, 79, 1, 0, 192, 1, 82, 58, 12, 25, 12]
abbrev dktJ24_buildFromSorted_2_2 : List UInt8 := dkwJ24_buildFromSorted_2_2 ++ dktJ24_buildFromSorted_2_3
def dkwJ24_buildFromSorted_2_1 : List UInt8 := [27, 4, 96, 28, 21, 8, 4, 100, 21, 4, 25, 5, 25, 6, 25, 7, 182, 1, 110, 58, 9, 25, 5]
abbrev dktJ24_buildFromSorted_2_1 : List UInt8 := dkwJ24_buildFromSorted_2_1 ++ dktJ24_buildFromSorted_2_2
def dkwJ24_buildFromSorted_2_0 : List UInt8 := [29, 28, 162, 0, 5, 1, 176, 28, 29, 96, 4, 124, 54, 8, 1, 58, 9, 28, 21, 8, 162, 0, 25, 42]
abbrev dktJ24_buildFromSorted_2_0 : List UInt8 := dkwJ24_buildFromSorted_2_0 ++ dktJ24_buildFromSorted_2_1
theorem dksJ24_buildFromSorted_2_0 : cJ24_buildFromSorted_2.data.toList.drop 0 = dktJ24_buildFromSorted_2_0 := by decide +kernel
theorem dksJ24_buildFromSorted_2_1 : cJ24_buildFromSorted_2.data.toList.drop 24 = dktJ24_buildFromSorted_2_1 := dk_seg dksJ24_buildFromSorted_2_0 24 rfl rfl
theorem dksJ24_buildFromSorted_2_2 : cJ24_buildFromSorted_2.data.toList.drop 47 = dktJ24_buildFromSorted_2_2 := dk_seg dksJ24_buildFromSorted_2_1 23 rfl rfl
theorem dksJ24_buildFromSorted_2_3 : cJ24_buildFromSorted_2.data.toList.drop 69 = dktJ24_buildFromSorted_2_3 := dk_seg dksJ24_buildFromSorted_2_2 22 rfl rfl
theorem dksJ24_buildFromSorted_2_4 : cJ24_buildFromSorted_2.data.toList.drop 90 = dktJ24_buildFromSorted_2_4 := dk_seg dksJ24_buildFromSorted_2_3 21 rfl rfl
theorem dksJ24_buildFromSorted_2_5 : cJ24_buildFromSorted_2.data.toList.drop 113 = dktJ24_buildFromSorted_2_5 := dk_seg dksJ24_buildFromSorted_2_4 23 rfl rfl
theorem dksJ24_buildFromSorted_2_6 : cJ24_buildFromSorted_2.data.toList.drop 137 = dktJ24_buildFromSorted_2_6 := dk_seg dksJ24_buildFromSorted_2_5 24 rfl rfl
theorem dksJ24_buildFromSorted_2_7 : cJ24_buildFromSorted_2.data.toList.drop 161 = dktJ24_buildFromSorted_2_7 := dk_seg dksJ24_buildFromSorted_2_6 24 rfl rfl
theorem dksJ24_buildFromSorted_2_8 : cJ24_buildFromSorted_2.data.toList.drop 185 = dktJ24_buildFromSorted_2_8 := dk_seg dksJ24_buildFromSorted_2_7 24 rfl rfl
theorem dksJ24_buildFromSorted_2_9 : cJ24_buildFromSorted_2.data.toList.drop 208 = dktJ24_buildFromSorted_2_9 := dk_seg dksJ24_buildFromSorted_2_8 23 rfl rfl
theorem dJ24_buildFromSorted_2_0 : decode cJ24_buildFromSorted_2 0 = .ok (.iload_n 3, 1) := dk_29 (dk_at dksJ24_buildFromSorted_2_0 0 rfl rfl)
theorem dJ24_buildFromSorted_2_1 : decode cJ24_buildFromSorted_2 1 = .ok (.iload_n 2, 1) := dk_28 (dk_at dksJ24_buildFromSorted_2_0 1 rfl rfl)
theorem dJ24_buildFromSorted_2_2 : decode cJ24_buildFromSorted_2 2 = .ok (.if_icmp .ge 5, 3) := dk_162 0 5 (dk_at dksJ24_buildFromSorted_2_0 2 rfl rfl)
theorem dJ24_buildFromSorted_2_5 : decode cJ24_buildFromSorted_2 5 = .ok (.aconst_null, 1) := dk_1 (dk_at dksJ24_buildFromSorted_2_0 5 rfl rfl)
theorem dJ24_buildFromSorted_2_6 : decode cJ24_buildFromSorted_2 6 = .ok (.areturn, 1) := dk_176 (dk_at dksJ24_buildFromSorted_2_0 6 rfl rfl)
theorem dJ24_buildFromSorted_2_7 : decode cJ24_buildFromSorted_2 7 = .ok (.iload_n 2, 1) := dk_28 (dk_at dksJ24_buildFromSorted_2_0 7 rfl rfl)
theorem dJ24_buildFromSorted_2_8 : decode cJ24_buildFromSorted_2 8 = .ok (.iload_n 3, 1) := dk_29 (dk_at dksJ24_buildFromSorted_2_0 8 rfl rfl)
theorem dJ24_buildFromSorted_2_9 : decode cJ24_buildFromSorted_2 9 = .ok (.iadd, 1) := dk_96 (dk_at dksJ24_buildFromSorted_2_0 9 rfl rfl)
theorem dJ24_buildFromSorted_2_10 : decode cJ24_buildFromSorted_2 10 = .ok (.iconst 1, 1) := dk_4 (dk_at dksJ24_buildFromSorted_2_0 10 rfl rfl)
theorem dJ24_buildFromSorted_2_11 : decode cJ24_buildFromSorted_2 11 = .ok (.iushr, 1) := dk_124 (dk_at dksJ24_buildFromSorted_2_0 11 rfl rfl)
theorem dJ24_buildFromSorted_2_12 : decode cJ24_buildFromSorted_2 12 = .ok (.istore 8, 2) := dk_54 8 (dk_at dksJ24_buildFromSorted_2_0 12 rfl rfl)
theorem dJ24_buildFromSorted_2_14 : decode cJ24_buildFromSorted_2 14 = .ok (.aconst_null, 1) := dk_1 (dk_at dksJ24_buildFromSorted_2_0 14 rfl rfl)
theorem dJ24_buildFromSorted_2_15 : decode cJ24_buildFromSorted_2 15 = .ok (.astore 9, 2) := dk_58 9 (dk_at dksJ24_buildFromSorted_2_0 15 rfl rfl)
theorem dJ24_buildFromSorted_2_17 : decode cJ24_buildFromSorted_2 17 = .ok (.iload_n 2, 1) := dk_28 (dk_at dksJ24_buildFromSorted_2_0 17 rfl rfl)
theorem dJ24_buildFromSorted_2_18 : decode cJ24_buildFromSorted_2 18 = .ok (.iload 8, 2) := dk_21 8 (dk_at dksJ24_buildFromSorted_2_0 18 rfl rfl)
theorem dJ24_buildFromSorted_2_20 : decode cJ24_buildFromSorted_2 20 = .ok (.if_icmp .ge 25, 3) := dk_162 0 25 (dk_at dksJ24_buildFromSorted_2_0 20 rfl rfl)
theorem dJ24_buildFromSorted_2_23 : decode cJ24_buildFromSorted_2 23 = .ok (.aload_n 0, 1) := dk_42 (dk_at dksJ24_buildFromSorted_2_0 23 rfl rfl)
theorem dJ24_buildFromSorted_2_24 : decode cJ24_buildFromSorted_2 24 = .ok (.iload_n 1, 1) := dk_27 (dk_at dksJ24_buildFromSorted_2_1 0 rfl rfl)
theorem dJ24_buildFromSorted_2_25 : decode cJ24_buildFromSorted_2 25 = .ok (.iconst 1, 1) := dk_4 (dk_at dksJ24_buildFromSorted_2_1 1 rfl rfl)
theorem dJ24_buildFromSorted_2_26 : decode cJ24_buildFromSorted_2 26 = .ok (.iadd, 1) := dk_96 (dk_at dksJ24_buildFromSorted_2_1 2 rfl rfl)
theorem dJ24_buildFromSorted_2_27 : decode cJ24_buildFromSorted_2 27 = .ok (.iload_n 2, 1) := dk_28 (dk_at dksJ24_buildFromSorted_2_1 3 rfl rfl)
theorem dJ24_buildFromSorted_2_28 : decode cJ24_buildFromSorted_2 28 = .ok (.iload 8, 2) := dk_21 8 (dk_at dksJ24_buildFromSorted_2_1 4 rfl rfl)
theorem dJ24_buildFromSorted_2_30 : decode cJ24_buildFromSorted_2 30 = .ok (.iconst 1, 1) := dk_4 (dk_at dksJ24_buildFromSorted_2_1 6 rfl rfl)
theorem dJ24_buildFromSorted_2_31 : decode cJ24_buildFromSorted_2 31 = .ok (.isub, 1) := dk_100 (dk_at dksJ24_buildFromSorted_2_1 7 rfl rfl)
theorem dJ24_buildFromSorted_2_32 : decode cJ24_buildFromSorted_2 32 = .ok (.iload 4, 2) := dk_21 4 (dk_at dksJ24_buildFromSorted_2_1 8 rfl rfl)
theorem dJ24_buildFromSorted_2_34 : decode cJ24_buildFromSorted_2 34 = .ok (.aload 5, 2) := dk_25 5 (dk_at dksJ24_buildFromSorted_2_1 10 rfl rfl)
theorem dJ24_buildFromSorted_2_36 : decode cJ24_buildFromSorted_2 36 = .ok (.aload 6, 2) := dk_25 6 (dk_at dksJ24_buildFromSorted_2_1 12 rfl rfl)
theorem dJ24_buildFromSorted_2_38 : decode cJ24_buildFromSorted_2 38 = .ok (.aload 7, 2) := dk_25 7 (dk_at dksJ24_buildFromSorted_2_1 14 rfl rfl)
theorem dJ24_buildFromSorted_2_40 : decode cJ24_buildFromSorted_2 40 = .ok (.invokevirtual 366, 3) := dk_182 1 110 (dk_at dksJ24_buildFromSorted_2_1 16 rfl rfl)
theorem dJ24_buildFromSorted_2_43 : decode cJ24_buildFromSorted_2 43 = .ok (.astore 9, 2) := dk_58 9 (dk_at dksJ24_buildFromSorted_2_1 19 rfl rfl)
theorem dJ24_buildFromSorted_2_45 : decode cJ24_buildFromSorted_2 45 = .ok (.aload 5, 2) := dk_25 5 (dk_at dksJ24_buildFromSorted_2_1 21 rfl rfl)
theorem dJ24_buildFromSorted_2_47 : decode cJ24_buildFromSorted_2 47 = .ok (.ifnull 57, 3) := dk_198 0 57 (dk_at dksJ24_buildFromSorted_2_2 0 rfl rfl)
theorem dJ24_buildFromSorted_2_50 : decode cJ24_buildFromSorted_2 50 = .ok (.aload 7, 2) := dk_25 7 (dk_at dksJ24_buildFromSorted_2_2 3 rfl rfl)
theorem dJ24_buildFromSorted_2_52 : decode cJ24_buildFromSorted_2 52 = .ok (.ifnonnull 36, 3) := dk_199 0 36 (dk_at dksJ24_buildFromSorted_2_2 5 rfl rfl)
theorem dJ24_buildFromSorted_2_55 : decode cJ24_buildFromSorted_2 55 = .ok (.aload 5, 2) := dk_25 5 (dk_at dksJ24_buildFromSorted_2_2 8 rfl rfl)
theorem dJ24_buildFromSorted_2_57 : decode cJ24_buildFromSorted_2 57 = .ok (.invokeinterface 335 1, 5) := by decide +kernel
theorem dJ24_buildFromSorted_2_62 : decode cJ24_buildFromSorted_2 62 = .ok (.checkcast 338, 3) := dk_192 1 82 (dk_at dksJ24_buildFromSorted_2_2 15 rfl rfl)
theorem dJ24_buildFromSorted_2_65 : decode cJ24_buildFromSorted_2 65 = .ok (.astore 12, 2) := dk_58 12 (dk_at dksJ24_buildFromSorted_2_2 18 rfl rfl)
theorem dJ24_buildFromSorted_2_67 : decode cJ24_buildFromSorted_2 67 = .ok (.aload 12, 2) := dk_25 12 (dk_at dksJ24_buildFromSorted_2_2 20 rfl rfl)
theorem dJ24_buildFromSorted_2_69 : decode cJ24_buildFromSorted_2 69 = .ok (.invokeinterface 340 1, 5) := by decide +kernel
theorem dJ24_buildFromSorted_2_74 : decode cJ24_buildFromSorted_2 74 = .ok (.astore 10, 2) := dk_58 10 (dk_at dksJ24_buildFromSorted_2_3 5 rfl rfl)
theorem dJ24_buildFromSorted_2_76 : decode cJ24_buildFromSorted_2 76 = .ok (.aload 12, 2) := dk_25 12 (dk_at dksJ24_buildFromSorted_2_3 7 rfl rfl)
theorem dJ24_buildFromSorted_2_78 : decode cJ24_buildFromSorted_2 78 = .ok (.invokeinterface 347 1, 5) := by decide +kernel
theorem dJ24_buildFromSorted_2_83 : decode cJ24_buildFromSorted_2 83 = .ok (.astore 11, 2) := dk_58 11 (dk_at dksJ24_buildFromSorted_2_3 14 rfl rfl)
theorem dJ24_buildFromSorted_2_85 : decode cJ24_buildFromSorted_2 85 = .ok (.goto 43, 3) := dk_167 0 43 (dk_at dksJ24_buildFromSorted_2_3 16 rfl rfl)
theorem dJ24_buildFromSorted_2_88 : decode cJ24_buildFromSorted_2 88 = .ok (.aload 5, 2) := dk_25 5 (dk_at dksJ24_buildFromSorted_2_3 19 rfl rfl)
theorem dJ24_buildFromSorted_2_90 : decode cJ24_buildFromSorted_2 90 = .ok (.invokeinterface 335 1, 5) := by decide +kernel
theorem dJ24_buildFromSorted_2_95 : decode cJ24_buildFromSorted_2 95 = .ok (.astore 10, 2) := dk_58 10 (dk_at dksJ24_buildFromSorted_2_4 5 rfl rfl)
theorem dJ24_buildFromSorted_2_97 : decode cJ24_buildFromSorted_2 97 = .ok (.aload 7, 2) := dk_25 7 (dk_at dksJ24_buildFromSorted_2_4 7 rfl rfl)
theorem dJ24_buildFromSorted_2_99 : decode cJ24_buildFromSorted_2 99 = .ok (.astore 11, 2) := dk_58 11 (dk_at dksJ24_buildFromSorted_2_4 9 rfl rfl)
theorem dJ24_buildFromSorted_2_101 : decode cJ24_buildFromSorted_2 101 = .ok (.goto 27, 3) := dk_167 0 27 (dk_at dksJ24_buildFromSorted_2_4 11 rfl rfl)
theorem dJ24_buildFromSorted_2_104 : decode cJ24_buildFromSorted_2 104 = .ok (.aload 6, 2) := dk_25 6 (dk_at dksJ24_buildFromSorted_2_4 14 rfl rfl)
theorem dJ24_buildFromSorted_2_106 : decode cJ24_buildFromSorted_2 106 = .ok (.invokevirtual 369, 3) := dk_182 1 113 (dk_at dksJ24_buildFromSorted_2_4 16 rfl rfl)
theorem dJ24_buildFromSorted_2_109 : decode cJ24_buildFromSorted_2 109 = .ok (.astore 10, 2) := dk_58 10 (dk_at dksJ24_buildFromSorted_2_4 19 rfl rfl)
theorem dJ24_buildFromSorted_2_111 : decode cJ24_buildFromSorted_2 111 = .ok (.aload 7, 2) := dk_25 7 (dk_at dksJ24_buildFromSorted_2_4 21 rfl rfl)
theorem dJ24_buildFromSorted_2_113 : decode cJ24_buildFromSorted_2 113 = .ok (.ifnull 8, 3) := dk_198 0 8 (dk_at dksJ24_buildFromSorted_2_5 0 rfl rfl)
theorem dJ24_buildFromSorted_2_116 : decode cJ24_buildFromSorted_2 116 = .ok (.aload 7, 2) := dk_25 7 (dk_at dksJ24_buildFromSorted_2_5 3 rfl rfl)
theorem dJ24_buildFromSorted_2_118 : decode cJ24_buildFromSorted_2 118 = .ok (.goto 8, 3) := dk_167 0 8 (dk_at dksJ24_buildFromSorted_2_5 5 rfl rfl)
theorem dJ24_buildFromSorted_2_121 : decode cJ24_buildFromSorted_2 121 = .ok (.aload 6, 2) := dk_25 6 (dk_at dksJ24_buildFromSorted_2_5 8 rfl rfl)
theorem dJ24_buildFromSorted_2_123 : decode cJ24_buildFromSorted_2 123 = .ok (.invokevirtual 369, 3) := dk_182 1 113 (dk_at dksJ24_buildFromSorted_2_5 10 rfl rfl)
theorem dJ24_buildFromSorted_2_126 : decode cJ24_buildFromSorted_2 126 = .ok (.astore 11, 2) := dk_58 11 (dk_at dksJ24_buildFromSorted_2_5 13 rfl rfl)
theorem dJ24_buildFromSorted_2_128 : decode cJ24_buildFromSorted_2 128 = .ok (.new 59, 3) := dk_187 0 59 (dk_at dksJ24_buildFromSorted_2_5 15 rfl rfl)
theorem dJ24_buildFromSorted_2_131 : decode cJ24_buildFromSorted_2 131 = .ok (.dup, 1) := dk_89 (dk_at dksJ24_buildFromSorted_2_5 18 rfl rfl)
theorem dJ24_buildFromSorted_2_132 : decode cJ24_buildFromSorted_2 132 = .ok (.aload 10, 2) := dk_25 10 (dk_at dksJ24_buildFromSorted_2_5 19 rfl rfl)
theorem dJ24_buildFromSorted_2_134 : decode cJ24_buildFromSorted_2 134 = .ok (.aload 11, 2) := dk_25 11 (dk_at dksJ24_buildFromSorted_2_5 21 rfl rfl)
theorem dJ24_buildFromSorted_2_136 : decode cJ24_buildFromSorted_2 136 = .ok (.aconst_null, 1) := dk_1 (dk_at dksJ24_buildFromSorted_2_5 23 rfl rfl)
theorem dJ24_buildFromSorted_2_137 : decode cJ24_buildFromSorted_2 137 = .ok (.invokespecial 167, 3) := dk_183 0 167 (dk_at dksJ24_buildFromSorted_2_6 0 rfl rfl)
theorem dJ24_buildFromSorted_2_140 : decode cJ24_buildFromSorted_2 140 = .ok (.astore 12, 2) := dk_58 12 (dk_at dksJ24_buildFromSorted_2_6 3 rfl rfl)
theorem dJ24_buildFromSorted_2_142 : decode cJ24_buildFromSorted_2 142 = .ok (.iload_n 1, 1) := dk_27 (dk_at dksJ24_buildFromSorted_2_6 5 rfl rfl)
theorem dJ24_buildFromSorted_2_143 : decode cJ24_buildFromSorted_2 143 = .ok (.iload 4, 2) := dk_21 4 (dk_at dksJ24_buildFromSorted_2_6 6 rfl rfl)
theorem dJ24_buildFromSorted_2_145 : decode cJ24_buildFromSorted_2 145 = .ok (.if_icmp .ne 9, 3) := dk_160 0 9 (dk_at dksJ24_buildFromSorted_2_6 8 rfl rfl)
theorem dJ24_buildFromSorted_2_148 : decode cJ24_buildFromSorted_2 148 = .ok (.aload 12, 2) := dk_25 12 (dk_at dksJ24_buildFromSorted_2_6 11 rfl rfl)
theorem dJ24_buildFromSorted_2_150 : decode cJ24_buildFromSorted_2 150 = .ok (.iconst 0, 1) := dk_3 (dk_at dksJ24_buildFromSorted_2_6 13 rfl rfl)
theorem dJ24_buildFromSorted_2_151 : decode cJ24_buildFromSorted_2 151 = .ok (.putfield 290, 3) := dk_181 1 34 (dk_at dksJ24_buildFromSorted_2_6 14 rfl rfl)
theorem dJ24_buildFromSorted_2_154 : decode cJ24_buildFromSorted_2 154 = .ok (.aload 9, 2) := dk_25 9 (dk_at dksJ24_buildFromSorted_2_6 17 rfl rfl)
theorem dJ24_buildFromSorted_2_156 : decode cJ24_buildFromSorted_2 156 = .ok (.ifnull 17, 3) := dk_198 0 17 (dk_at dksJ24_buildFromSorted_2_6 19 rfl rfl)
theorem dJ24_buildFromSorted_2_159 : decode cJ24_buildFromSorted_2 159 = .ok (.aload 12, 2) := dk_25 12 (dk_at dksJ24_buildFromSorted_2_6 22 rfl rfl)
theorem dJ24_buildFromSorted_2_161 : decode cJ24_buildFromSorted_2 161 = .ok (.aload 9, 2) := dk_25 9 (dk_at dksJ24_buildFromSorted_2_7 0 rfl rfl)
theorem dJ24_buildFromSorted_2_163 : decode cJ24_buildFromSorted_2 163 = .ok (.putfield 111, 3) := dk_181 0 111 (dk_at dksJ24_buildFromSorted_2_7 2 rfl rfl)
theorem dJ24_buildFromSorted_2_166 : decode cJ24_buildFromSorted_2 166 = .ok (.aload 9, 2) := dk_25 9 (dk_at dksJ24_buildFromSorted_2_7 5 rfl rfl)
theorem dJ24_buildFromSorted_2_168 : decode cJ24_buildFromSorted_2 168 = .ok (.aload 12, 2) := dk_25 12 (dk_at dksJ24_buildFromSorted_2_7 7 rfl rfl)
theorem dJ24_buildFromSorted_2_170 : decode cJ24_buildFromSorted_2 170 = .ok (.putfield 124, 3) := dk_181 0 124 (dk_at dksJ24_buildFromSorted_2_7 9 rfl rfl)
theorem dJ24_buildFromSorted_2_173 : decode cJ24_buildFromSorted_2 173 = .ok (.iload 8, 2) := dk_21 8 (dk_at dksJ24_buildFromSorted_2_7 12 rfl rfl)
theorem dJ24_buildFromSorted_2_175 : decode cJ24_buildFromSorted_2 175 = .ok (.iload_n 3, 1) := dk_29 (dk_at dksJ24_buildFromSorted_2_7 14 rfl rfl)
theorem dJ24_buildFromSorted_2_176 : decode cJ24_buildFromSorted_2 176 = .ok (.if_icmp .ge 39, 3) := dk_162 0 39 (dk_at dksJ24_buildFromSorted_2_7 15 rfl rfl)
theorem dJ24_buildFromSorted_2_179 : decode cJ24_buildFromSorted_2 179 = .ok (.aload_n 0, 1) := dk_42 (dk_at dksJ24_buildFromSorted_2_7 18 rfl rfl)
theorem dJ24_buildFromSorted_2_180 : decode cJ24_buildFromSorted_2 180 = .ok (.iload_n 1, 1) := dk_27 (dk_at dksJ24_buildFromSorted_2_7 19 rfl rfl)
theorem dJ24_buildFromSorted_2_181 : decode cJ24_buildFromSorted_2 181 = .ok (.iconst 1, 1) := dk_4 (dk_at dksJ24_buildFromSorted_2_7 20 rfl rfl)
theorem dJ24_buildFromSorted_2_182 : decode cJ24_buildFromSorted_2 182 = .ok (.iadd, 1) := dk_96 (dk_at dksJ24_buildFromSorted_2_7 21 rfl rfl)
theorem dJ24_buildFromSorted_2_183 : decode cJ24_buildFromSorted_2 183 = .ok (.iload 8, 2) := dk_21 8 (dk_at dksJ24_buildFromSorted_2_7 22 rfl rfl)
theorem dJ24_buildFromSorted_2_185 : decode cJ24_buildFromSorted_2 185 = .ok (.iconst 1, 1) := dk_4 (dk_at dksJ24_buildFromSorted_2_8 0 rfl rfl)
theorem dJ24_buildFromSorted_2_186 : decode cJ24_buildFromSorted_2 186 = .ok (.iadd, 1) := dk_96 (dk_at dksJ24_buildFromSorted_2_8 1 rfl rfl)
theorem dJ24_buildFromSorted_2_187 : decode cJ24_buildFromSorted_2 187 = .ok (.iload_n 3, 1) := dk_29 (dk_at dksJ24_buildFromSorted_2_8 2 rfl rfl)
theorem dJ24_buildFromSorted_2_188 : decode cJ24_buildFromSorted_2 188 = .ok (.iload 4, 2) := dk_21 4 (dk_at dksJ24_buildFromSorted_2_8 3 rfl rfl)
theorem dJ24_buildFromSorted_2_190 : decode cJ24_buildFromSorted_2 190 = .ok (.aload 5, 2) := dk_25 5 (dk_at dksJ24_buildFromSorted_2_8 5 rfl rfl)
theorem dJ24_buildFromSorted_2_192 : decode cJ24_buildFromSorted_2 192 = .ok (.aload 6, 2) := dk_25 6 (dk_at dksJ24_buildFromSorted_2_8 7 rfl rfl)
theorem dJ24_buildFromSorted_2_194 : decode cJ24_buildFromSorted_2 194 = .ok (.aload 7, 2) := dk_25 7 (dk_at dksJ24_buildFromSorted_2_8 9 rfl rfl)
theorem dJ24_buildFromSorted_2_196 : decode cJ24_buildFromSorted_2 196 = .ok (.invokevirtual 366, 3) := dk_182 1 110 (dk_at dksJ24_buildFromSorted_2_8 11 rfl rfl)
theorem dJ24_buildFromSorted_2_199 : decode cJ24_buildFromSorted_2 199 = .ok (.astore 13, 2) := dk_58 13 (dk_at dksJ24_buildFromSorted_2_8 14 rfl rfl)
theorem dJ24_buildFromSorted_2_201 : decode cJ24_buildFromSorted_2 201 = .ok (.aload 12, 2) := dk_25 12 (dk_at dksJ24_buildFromSorted_2_8 16 rfl rfl)
theorem dJ24_buildFromSorted_2_203 : decode cJ24_buildFromSorted_2 203 = .ok (.aload 13, 2) := dk_25 13 (dk_at dksJ24_buildFromSorted_2_8 18 rfl rfl)
theorem dJ24_buildFromSorted_2_205 : decode cJ24_buildFromSorted_2 205 = .ok (.putfield 114, 3) := dk_181 0 114 (dk_at dksJ24_buildFromSorted_2_8 20 rfl rfl)
theorem dJ24_buildFromSorted_2_208 : decode cJ24_buildFromSorted_2 208 = .ok (.aload 13, 2) := dk_25 13 (dk_at dksJ24_buildFromSorted_2_9 0 rfl rfl)
theorem dJ24_buildFromSorted_2_210 : decode cJ24_buildFromSorted_2 210 = .ok (.aload 12, 2) := dk_25 12 (dk_at dksJ24_buildFromSorted_2_9 2 rfl rfl)
theorem dJ24_buildFromSorted_2_212 : decode cJ24_buildFromSorted_2 212 = .ok (.putfield 124, 3) := dk_181 0 124 (dk_at dksJ24_buildFromSorted_2_9 4 rfl rfl)
theorem dJ24_buildFromSorted_2_215 : decode cJ24_buildFromSorted_2 215 = .ok (.aload 12, 2) := dk_25 12 (dk_at dksJ24_buildFromSorted_2_9 7 rfl rfl)
theorem dJ24_buildFromSorted_2_217 : decode cJ24_buildFromSorted_2 217 = .ok (.areturn, 1) := dk_176 (dk_at dksJ24_buildFromSorted_2_9 9 rfl rfl)
abbrev cJ24_firstKey : ByteArray := prog_87_method_10_code
def yJ24_firstKey : MethodName := ⟨RJ24, "firstKey", "()Ljava/lang/Object;"⟩
def dkwJ24_firstKey_0 : List UInt8 := [42, 182, 0, 54, 184, 0, 72, 176]
abbrev dktJ24_firstKey_0 : List UInt8 := dkwJ24_firstKey_0 ++ []
theorem dksJ24_firstKey_0 : cJ24_firstKey.data.toList.drop 0 = dktJ24_firstKey_0 := by decide +kernel
theorem dJ24_firstKey_0 : decode cJ24_firstKey 0 = .ok (.aload_n 0, 1) := dk_42 (dk_at dksJ24_firstKey_0 0 rfl rfl)
theorem dJ24_firstKey_1 : decode cJ24_firstKey 1 = .ok (.invokevirtual 54, 3) := dk_182 0 54 (dk_at dksJ24_firstKey_0 1 rfl rfl)
theorem dJ24_firstKey_4 : decode cJ24_firstKey 4 = .ok (.invokestatic 72, 3) := dk_184 0 72 (dk_at dksJ24_firstKey_0 4 rfl rfl)
theorem dJ24_firstKey_7 : decode cJ24_firstKey 7 = .ok (.areturn, 1) := dk_176 (dk_at dksJ24_firstKey_0 7 rfl rfl)
abbrev cJ24_key : ByteArray := prog_87_method_71_code
def yJ24_key : MethodName := ⟨RJ24, "key", "(Ljava/util/TreeMap$Entry;)Ljava/lang/Object;"⟩
def dkwJ24_key_0 : List UInt8 := [42, 199, 0, 11, 187, 1, 31, 89, 183, 1, 33, 191, 42, 180, 0, 105, 176]
abbrev dktJ24_key_0 : List UInt8 := dkwJ24_key_0 ++ []
theorem dksJ24_key_0 : cJ24_key.data.toList.drop 0 = dktJ24_key_0 := by decide +kernel
theorem dJ24_key_0 : decode cJ24_key 0 = .ok (.aload_n 0, 1) := dk_42 (dk_at dksJ24_key_0 0 rfl rfl)
theorem dJ24_key_1 : decode cJ24_key 1 = .ok (.ifnonnull 11, 3) := dk_199 0 11 (dk_at dksJ24_key_0 1 rfl rfl)
theorem dJ24_key_4 : decode cJ24_key 4 = .ok (.new 287, 3) := dk_187 1 31 (dk_at dksJ24_key_0 4 rfl rfl)
theorem dJ24_key_7 : decode cJ24_key 7 = .ok (.dup, 1) := dk_89 (dk_at dksJ24_key_0 7 rfl rfl)
theorem dJ24_key_8 : decode cJ24_key 8 = .ok (.invokespecial 289, 3) := dk_183 1 33 (dk_at dksJ24_key_0 8 rfl rfl)
theorem dJ24_key_11 : decode cJ24_key 11 = .ok (.athrow, 1) := dk_191 (dk_at dksJ24_key_0 11 rfl rfl)
theorem dJ24_key_12 : decode cJ24_key 12 = .ok (.aload_n 0, 1) := dk_42 (dk_at dksJ24_key_0 12 rfl rfl)
theorem dJ24_key_13 : decode cJ24_key 13 = .ok (.getfield 105, 3) := dk_180 0 105 (dk_at dksJ24_key_0 13 rfl rfl)
theorem dJ24_key_16 : decode cJ24_key 16 = .ok (.areturn, 1) := dk_176 (dk_at dksJ24_key_0 16 rfl rfl)
abbrev cJ24_lastKey : ByteArray := prog_87_method_11_code
def yJ24_lastKey : MethodName := ⟨RJ24, "lastKey", "()Ljava/lang/Object;"⟩
def dkwJ24_lastKey_0 : List UInt8 := [42, 182, 0, 76, 184, 0, 72, 176]
abbrev dktJ24_lastKey_0 : List UInt8 := dkwJ24_lastKey_0 ++ []
theorem dksJ24_lastKey_0 : cJ24_lastKey.data.toList.drop 0 = dktJ24_lastKey_0 := by decide +kernel
theorem dJ24_lastKey_0 : decode cJ24_lastKey 0 = .ok (.aload_n 0, 1) := dk_42 (dk_at dksJ24_lastKey_0 0 rfl rfl)
theorem dJ24_lastKey_1 : decode cJ24_lastKey 1 = .ok (.invokevirtual 76, 3) := dk_182 0 76 (dk_at dksJ24_lastKey_0 1 rfl rfl)
theorem dJ24_lastKey_4 : decode cJ24_lastKey 4 = .ok (.invokestatic 72, 3) := dk_184 0 72 (dk_at dksJ24_lastKey_0 4 rfl rfl)
theorem dJ24_lastKey_7 : decode cJ24_lastKey 7 = .ok (.areturn, 1) := dk_176 (dk_at dksJ24_lastKey_0 7 rfl rfl)
abbrev cJ24_getLastEntry : ByteArray := prog_87_method_73_code
def yJ24_getLastEntry : MethodName := ⟨RJ24, "getLastEntry", "()Ljava/util/TreeMap$Entry;"⟩
def dkwJ24_getLastEntry_1 : List UInt8 := [43, 176]
abbrev dktJ24_getLastEntry_1 : List UInt8 := dkwJ24_getLastEntry_1 ++ []
def dkwJ24_getLastEntry_0 : List UInt8 := [42, 180, 0, 101, 76, 43, 198, 0, 18, 43, 180, 0, 114, 198, 0, 11, 43, 180, 0, 114, 76, 167, 255, 244]
abbrev dktJ24_getLastEntry_0 : List UInt8 := dkwJ24_getLastEntry_0 ++ dktJ24_getLastEntry_1
theorem dksJ24_getLastEntry_0 : cJ24_getLastEntry.data.toList.drop 0 = dktJ24_getLastEntry_0 := by decide +kernel
theorem dksJ24_getLastEntry_1 : cJ24_getLastEntry.data.toList.drop 24 = dktJ24_getLastEntry_1 := dk_seg dksJ24_getLastEntry_0 24 rfl rfl
theorem dJ24_getLastEntry_0 : decode cJ24_getLastEntry 0 = .ok (.aload_n 0, 1) := dk_42 (dk_at dksJ24_getLastEntry_0 0 rfl rfl)
theorem dJ24_getLastEntry_1 : decode cJ24_getLastEntry 1 = .ok (.getfield 101, 3) := dk_180 0 101 (dk_at dksJ24_getLastEntry_0 1 rfl rfl)
theorem dJ24_getLastEntry_4 : decode cJ24_getLastEntry 4 = .ok (.astore_n 1, 1) := dk_76 (dk_at dksJ24_getLastEntry_0 4 rfl rfl)
theorem dJ24_getLastEntry_5 : decode cJ24_getLastEntry 5 = .ok (.aload_n 1, 1) := dk_43 (dk_at dksJ24_getLastEntry_0 5 rfl rfl)
theorem dJ24_getLastEntry_6 : decode cJ24_getLastEntry 6 = .ok (.ifnull 18, 3) := dk_198 0 18 (dk_at dksJ24_getLastEntry_0 6 rfl rfl)
theorem dJ24_getLastEntry_9 : decode cJ24_getLastEntry 9 = .ok (.aload_n 1, 1) := dk_43 (dk_at dksJ24_getLastEntry_0 9 rfl rfl)
theorem dJ24_getLastEntry_10 : decode cJ24_getLastEntry 10 = .ok (.getfield 114, 3) := dk_180 0 114 (dk_at dksJ24_getLastEntry_0 10 rfl rfl)
theorem dJ24_getLastEntry_13 : decode cJ24_getLastEntry 13 = .ok (.ifnull 11, 3) := dk_198 0 11 (dk_at dksJ24_getLastEntry_0 13 rfl rfl)
theorem dJ24_getLastEntry_16 : decode cJ24_getLastEntry 16 = .ok (.aload_n 1, 1) := dk_43 (dk_at dksJ24_getLastEntry_0 16 rfl rfl)
theorem dJ24_getLastEntry_17 : decode cJ24_getLastEntry 17 = .ok (.getfield 114, 3) := dk_180 0 114 (dk_at dksJ24_getLastEntry_0 17 rfl rfl)
theorem dJ24_getLastEntry_20 : decode cJ24_getLastEntry 20 = .ok (.astore_n 1, 1) := dk_76 (dk_at dksJ24_getLastEntry_0 20 rfl rfl)
theorem dJ24_getLastEntry_21 : decode cJ24_getLastEntry 21 = .ok (.goto (-12), 3) := dk_167 255 244 (dk_at dksJ24_getLastEntry_0 21 rfl rfl)
theorem dJ24_getLastEntry_24 : decode cJ24_getLastEntry 24 = .ok (.aload_n 1, 1) := dk_43 (dk_at dksJ24_getLastEntry_1 0 rfl rfl)
theorem dJ24_getLastEntry_25 : decode cJ24_getLastEntry 25 = .ok (.areturn, 1) := dk_176 (dk_at dksJ24_getLastEntry_1 1 rfl rfl)
theorem q211 : (Jvm.Cond.initialized "java/util/TreeMap") ∈ lw_all := lw_g (lw_at lw_m1 35 rfl) rfl
theorem q436 : (Jvm.Cond.selects "java/util/TreeMap" ({ cls := "java/lang/Object", name := "getClass", desc := "()Ljava/lang/Class;" } : Jvm.MethodName) ({ cls := "java/lang/Object", name := "getClass", desc := "()Ljava/lang/Class;" } : Jvm.MethodName)) ∈ lw_all := lw_g (lw_at lw_m2 20 rfl) rfl
theorem q1320 : (Jvm.Cond.instantiable "java/util/TreeMap" (9 : Nat)) ∈ lw_all := lw_g (lw_at lw_m5 184 rfl) rfl
theorem q1322 : (Jvm.Cond.instanceMethod ({ cls := "java/util/TreeMap", name := "<init>", desc := "()V" } : Jvm.MethodName)) ∈ lw_all := lw_g (lw_at lw_m5 186 rfl) rfl
theorem q1323 : (Jvm.Cond.code ({ cls := "java/util/TreeMap", name := "<init>", desc := "()V" } : Jvm.MethodName) prog_87_method_1_code (1 : Nat) (Option.none : Option Jvm.ClassFile.FieldType)) ∈ lw_all := lw_g (lw_at lw_m5 187 rfl) rfl
theorem q1324 : (Jvm.Cond.methodLink "java/util/TreeMap" (1 : Nat) ({ cls := "java/util/AbstractMap", name := "<init>", desc := "()V" } : Jvm.MethodName)) ∈ lw_all := lw_g (lw_at lw_m5 188 rfl) rfl
theorem q1328 : (Jvm.Cond.fieldLink "java/util/TreeMap" (16 : Nat) "java/util/TreeMap" "comparator" "Ljava/util/Comparator;") ∈ lw_all := lw_g (lw_at lw_m5 192 rfl) rfl
theorem q1329 : (Jvm.Cond.fieldLink "java/util/TreeMap" (101 : Nat) "java/util/TreeMap" "root" "Ljava/util/TreeMap$Entry;") ∈ lw_all := lw_g (lw_at lw_m5 193 rfl) rfl
theorem q1330 : (Jvm.Cond.fieldLink "java/util/TreeMap" (7 : Nat) "java/util/TreeMap" "size" "I") ∈ lw_all := lw_g (lw_at lw_m5 194 rfl) rfl
theorem q1331 : (Jvm.Cond.fieldLink "java/util/TreeMap" (13 : Nat) "java/util/TreeMap" "modCount" "I") ∈ lw_all := lw_g (lw_at lw_m5 195 rfl) rfl
theorem q1333 : (Jvm.Cond.fieldLink "java/util/TreeMap" (188 : Nat) "java/util/TreeMap" "entrySet" "Ljava/util/TreeMap$EntrySet;") ∈ lw_all := lw_g (lw_at lw_m5 197 rfl) rfl
theorem q1334 : (Jvm.Cond.fieldLink "java/util/TreeMap" (191 : Nat) "java/util/TreeMap" "navigableKeySet" "Ljava/util/TreeMap$KeySet;") ∈ lw_all := lw_g (lw_at lw_m5 198 rfl) rfl
theorem q1335 : (Jvm.Cond.laysFinal "java/util/TreeMap" "java/util/TreeMap" "comparator" "Ljava/util/Comparator;") ∈ lw_all := lw_g (lw_at lw_m5 199 rfl) rfl
theorem q1336 : (Jvm.Cond.soleField "java/util/TreeMap" "comparator") ∈ lw_all := lw_g (lw_at lw_m5 200 rfl) rfl
theorem q1337 : (Jvm.Cond.lays "java/util/TreeMap" "java/util/TreeMap" "root" "Ljava/util/TreeMap$Entry;") ∈ lw_all := lw_g (lw_at lw_m5 201 rfl) rfl
theorem q1338 : (Jvm.Cond.soleField "java/util/TreeMap" "root") ∈ lw_all := lw_g (lw_at lw_m5 202 rfl) rfl
theorem q1339 : (Jvm.Cond.lays "java/util/TreeMap" "java/util/TreeMap" "size" "I") ∈ lw_all := lw_g (lw_at lw_m5 203 rfl) rfl
theorem q1340 : (Jvm.Cond.soleField "java/util/TreeMap" "size") ∈ lw_all := lw_g (lw_at lw_m5 204 rfl) rfl
theorem q1341 : (Jvm.Cond.lays "java/util/TreeMap" "java/util/TreeMap" "modCount" "I") ∈ lw_all := lw_g (lw_at lw_m5 205 rfl) rfl
theorem q1342 : (Jvm.Cond.soleField "java/util/TreeMap" "modCount") ∈ lw_all := lw_g (lw_at lw_m5 206 rfl) rfl
theorem q1343 : (Jvm.Cond.lays "java/util/TreeMap" "java/util/TreeMap" "entrySet" "Ljava/util/TreeMap$EntrySet;") ∈ lw_all := lw_g (lw_at lw_m5 207 rfl) rfl
theorem q1344 : (Jvm.Cond.soleField "java/util/TreeMap" "entrySet") ∈ lw_all := lw_g (lw_at lw_m5 208 rfl) rfl
theorem q1345 : (Jvm.Cond.lays "java/util/TreeMap" "java/util/TreeMap" "navigableKeySet" "Ljava/util/TreeMap$KeySet;") ∈ lw_all := lw_g (lw_at lw_m5 209 rfl) rfl
theorem q1346 : (Jvm.Cond.soleField "java/util/TreeMap" "navigableKeySet") ∈ lw_all := lw_g (lw_at lw_m5 210 rfl) rfl
theorem q1347 : (Jvm.Cond.lays "java/util/TreeMap" "java/util/TreeMap" "descendingMap" "Ljava/util/NavigableMap;") ∈ lw_all := lw_g (lw_at lw_m5 211 rfl) rfl
theorem q1348 : (Jvm.Cond.soleField "java/util/TreeMap" "descendingMap") ∈ lw_all := lw_g (lw_at lw_m5 212 rfl) rfl
theorem q1349 : (Jvm.Cond.lays "java/util/TreeMap" "java/util/AbstractMap" "keySet" "Ljava/util/Set;") ∈ lw_all := lw_g (lw_at lw_m5 213 rfl) rfl
theorem q1351 : (Jvm.Cond.lays "java/util/TreeMap" "java/util/AbstractMap" "values" "Ljava/util/Collection;") ∈ lw_all := lw_g (lw_at lw_m5 215 rfl) rfl
theorem q1353 : (Jvm.Cond.superclass "java/util/TreeMap" "java/util/AbstractMap") ∈ lw_all := lw_g (lw_at lw_m5 217 rfl) rfl
theorem q1481 : (Jvm.Cond.instanceMethod ({ cls := "java/util/TreeMap", name := "put", desc := "(Ljava/lang/Object;Ljava/lang/Object;)Ljava/lang/Object;" } : Jvm.MethodName)) ∈ lw_all := lw_g (lw_at lw_m6 105 rfl) rfl
theorem q1482 : (Jvm.Cond.selects "java/util/TreeMap" ({ cls := "java/util/TreeMap", name := "put", desc := "(Ljava/lang/Object;Ljava/lang/Object;)Ljava/lang/Object;" } : Jvm.MethodName) ({ cls := "java/util/TreeMap", name := "put", desc := "(Ljava/lang/Object;Ljava/lang/Object;)Ljava/lang/Object;" } : Jvm.MethodName)) ∈ lw_all := lw_g (lw_at lw_m6 106 rfl) rfl
theorem q1483 : (Jvm.Cond.code ({ cls := "java/util/TreeMap", name := "put", desc := "(Ljava/lang/Object;Ljava/lang/Object;)Ljava/lang/Object;" } : Jvm.MethodName) prog_87_method_21_code (3 : Nat) (Option.some (Jvm.ClassFile.FieldType.object "java/lang/Object"))) ∈ lw_all := lw_g (lw_at lw_m6 107 rfl) rfl
theorem q1484 : (Jvm.Cond.methodLink "java/util/TreeMap" (127 : Nat) ({ cls := "java/util/TreeMap", name := "put", desc := "(Ljava/lang/Object;Ljava/lang/Object;Z)Ljava/lang/Object;" } : Jvm.MethodName)) ∈ lw_all := lw_g (lw_at lw_m6 108 rfl) rfl
theorem q1485 : (Jvm.Cond.privateMethod ({ cls := "java/util/TreeMap", name := "put", desc := "(Ljava/lang/Object;Ljava/lang/Object;Z)Ljava/lang/Object;" } : Jvm.MethodName)) ∈ lw_tbl := lw_at lw_m6 109 rfl
theorem q1486 : (Jvm.Cond.instanceMethod ({ cls := "java/util/TreeMap", name := "put", desc := "(Ljava/lang/Object;Ljava/lang/Object;Z)Ljava/lang/Object;" } : Jvm.MethodName)) ∈ lw_all := lw_g (lw_at lw_m6 110 rfl) rfl
theorem q1487 : (Jvm.Cond.code ({ cls := "java/util/TreeMap", name := "put", desc := "(Ljava/lang/Object;Ljava/lang/Object;Z)Ljava/lang/Object;" } : Jvm.MethodName) prog_87_method_31_code (10 : Nat) (Option.some (Jvm.ClassFile.FieldType.object "java/lang/Object"))) ∈ lw_all := lw_g (lw_at lw_m6 111 rfl) rfl
theorem q1488 : (Jvm.Cond.methodLink "java/util/TreeMap" (135 : Nat) ({ cls := "java/util/TreeMap", name := "addEntryToEmptyMap", desc := "(Ljava/lang/Object;Ljava/lang/Object;)V" } : Jvm.MethodName)) ∈ lw_all := lw_g (lw_at lw_m6 112 rfl) rfl
theorem q1489 : (Jvm.Cond.privateMethod ({ cls := "java/util/TreeMap", name := "addEntryToEmptyMap", desc := "(Ljava/lang/Object;Ljava/lang/Object;)V" } : Jvm.MethodName)) ∈ lw_tbl := lw_at lw_m6 113 rfl
theorem q1490 : (Jvm.Cond.instanceMethod ({ cls := "java/util/TreeMap", name := "addEntryToEmptyMap", desc := "(Ljava/lang/Object;Ljava/lang/Object;)V" } : Jvm.MethodName)) ∈ lw_all := lw_g (lw_at lw_m6 114 rfl) rfl
theorem q1491 : (Jvm.Cond.code ({ cls := "java/util/TreeMap", name := "addEntryToEmptyMap", desc := "(Ljava/lang/Object;Ljava/lang/Object;)V" } : Jvm.MethodName) prog_87_method_30_code (3 : Nat) (Option.none : Option Jvm.ClassFile.FieldType)) ∈ lw_all := lw_g (lw_at lw_m6 115 rfl) rfl
theorem q1492 : (Jvm.Cond.methodLink "java/util/TreeMap" (123 : Nat) ({ cls := "java/util/TreeMap", name := "compare", desc := "(Ljava/lang/Object;Ljava/lang/Object;)I" } : Jvm.MethodName)) ∈ lw_all := lw_g (lw_at lw_m6 116 rfl) rfl
theorem q1493 : (Jvm.Cond.instanceMethod ({ cls := "java/util/TreeMap", name := "compare", desc := "(Ljava/lang/Object;Ljava/lang/Object;)I" } : Jvm.MethodName)) ∈ lw_all := lw_g (lw_at lw_m6 117 rfl) rfl
theorem q1494 : (Jvm.Cond.selects "java/util/TreeMap" ({ cls := "java/util/TreeMap", name := "compare", desc := "(Ljava/lang/Object;Ljava/lang/Object;)I" } : Jvm.MethodName) ({ cls := "java/util/TreeMap", name := "compare", desc := "(Ljava/lang/Object;Ljava/lang/Object;)I" } : Jvm.MethodName)) ∈ lw_all := lw_g (lw_at lw_m6 118 rfl) rfl
theorem q1495 : (Jvm.Cond.code ({ cls := "java/util/TreeMap", name := "compare", desc := "(Ljava/lang/Object;Ljava/lang/Object;)I" } : Jvm.MethodName) prog_87_method_67_code (3 : Nat) (Option.some Jvm.ClassFile.FieldType.int)) ∈ lw_all := lw_g (lw_at lw_m6 119 rfl) rfl
theorem q1496 : (Jvm.Cond.classLink "java/util/TreeMap" (99 : Nat) "java/lang/Comparable") ∈ lw_all := lw_g (lw_at lw_m6 120 rfl) rfl
theorem q1497 : (Jvm.Cond.interfaceEntry "java/util/TreeMap" (107 : Nat)) ∈ lw_tbl := lw_at lw_m6 121 rfl
theorem q1498 : (Jvm.Cond.methodLink "java/util/TreeMap" (107 : Nat) ({ cls := "java/lang/Comparable", name := "compareTo", desc := "(Ljava/lang/Object;)I" } : Jvm.MethodName)) ∈ lw_all := lw_g (lw_at lw_m6 122 rfl) rfl
theorem q1704 : (Jvm.Cond.interfaceEntry "java/util/TreeMap" (117 : Nat)) ∈ lw_tbl := lw_at lw_m7 88 rfl
theorem q1705 : (Jvm.Cond.methodLink "java/util/TreeMap" (117 : Nat) ({ cls := "java/util/Comparator", name := "compare", desc := "(Ljava/lang/Object;Ljava/lang/Object;)I" } : Jvm.MethodName)) ∈ lw_all := lw_g (lw_at lw_m7 89 rfl) rfl
theorem q1720 : (Jvm.Cond.classLink "java/util/TreeMap" (59 : Nat) "java/util/TreeMap$Entry") ∈ lw_all := lw_g (lw_at lw_m7 104 rfl) rfl
theorem q1722 : (Jvm.Cond.methodLink "java/util/TreeMap" (167 : Nat) ({ cls := "java/util/TreeMap$Entry", name := "<init>", desc := "(Ljava/lang/Object;Ljava/lang/Object;Ljava/util/TreeMap$Entry;)V" } : Jvm.MethodName)) ∈ lw_all := lw_g (lw_at lw_m7 106 rfl) rfl
theorem q1728 : (Jvm.Cond.fieldLink "java/util/TreeMap" (105 : Nat) "java/util/TreeMap$Entry" "key" "Ljava/lang/Object;") ∈ lw_all := lw_g (lw_at lw_m7 112 rfl) rfl
theorem q1730 : (Jvm.Cond.fieldLink "java/util/TreeMap" (58 : Nat) "java/util/TreeMap$Entry" "value" "Ljava/lang/Object;") ∈ lw_all := lw_g (lw_at lw_m7 114 rfl) rfl
theorem q1731 : (Jvm.Cond.fieldLink "java/util/TreeMap" (111 : Nat) "java/util/TreeMap$Entry" "left" "Ljava/util/TreeMap$Entry;") ∈ lw_all := lw_g (lw_at lw_m7 115 rfl) rfl
theorem q1732 : (Jvm.Cond.fieldLink "java/util/TreeMap" (114 : Nat) "java/util/TreeMap$Entry" "right" "Ljava/util/TreeMap$Entry;") ∈ lw_all := lw_g (lw_at lw_m7 116 rfl) rfl
theorem q1734 : (Jvm.Cond.fieldLink "java/util/TreeMap" (124 : Nat) "java/util/TreeMap$Entry" "parent" "Ljava/util/TreeMap$Entry;") ∈ lw_all := lw_g (lw_at lw_m7 118 rfl) rfl
theorem q1736 : (Jvm.Cond.fieldLink "java/util/TreeMap" (290 : Nat) "java/util/TreeMap$Entry" "color" "Z") ∈ lw_all := lw_g (lw_at lw_m7 120 rfl) rfl
theorem q1750 : (Jvm.Cond.methodLink "java/util/TreeMap" (95 : Nat) ({ cls := "java/util/Objects", name := "requireNonNull", desc := "(Ljava/lang/Object;)Ljava/lang/Object;" } : Jvm.MethodName)) ∈ lw_all := lw_g (lw_at lw_m7 134 rfl) rfl
theorem q1753 : (Jvm.Cond.methodLink "java/util/TreeMap" (139 : Nat) ({ cls := "java/util/TreeMap", name := "addEntry", desc := "(Ljava/lang/Object;Ljava/lang/Object;Ljava/util/TreeMap$Entry;Z)V" } : Jvm.MethodName)) ∈ lw_all := lw_g (lw_at lw_m7 137 rfl) rfl
theorem q1754 : (Jvm.Cond.privateMethod ({ cls := "java/util/TreeMap", name := "addEntry", desc := "(Ljava/lang/Object;Ljava/lang/Object;Ljava/util/TreeMap$Entry;Z)V" } : Jvm.MethodName)) ∈ lw_tbl := lw_at lw_m7 138 rfl
theorem q1755 : (Jvm.Cond.instanceMethod ({ cls := "java/util/TreeMap", name := "addEntry", desc := "(Ljava/lang/Object;Ljava/lang/Object;Ljava/util/TreeMap$Entry;Z)V" } : Jvm.MethodName)) ∈ lw_all := lw_g (lw_at lw_m7 139 rfl) rfl
theorem q1756 : (Jvm.Cond.code ({ cls := "java/util/TreeMap", name := "addEntry", desc := "(Ljava/lang/Object;Ljava/lang/Object;Ljava/util/TreeMap$Entry;Z)V" } : Jvm.MethodName) prog_87_method_29_code (6 : Nat) (Option.none : Option Jvm.ClassFile.FieldType)) ∈ lw_all := lw_g (lw_at lw_m7 140 rfl) rfl
theorem q1757 : (Jvm.Cond.methodLink "java/util/TreeMap" (170 : Nat) ({ cls := "java/util/TreeMap", name := "fixAfterInsertion", desc := "(Ljava/util/TreeMap$Entry;)V" } : Jvm.MethodName)) ∈ lw_all := lw_g (lw_at lw_m7 141 rfl) rfl
theorem q1758 : (Jvm.Cond.privateMethod ({ cls := "java/util/TreeMap", name := "fixAfterInsertion", desc := "(Ljava/util/TreeMap$Entry;)V" } : Jvm.MethodName)) ∈ lw_tbl := lw_at lw_m7 142 rfl
theorem q1759 : (Jvm.Cond.instanceMethod ({ cls := "java/util/TreeMap", name := "fixAfterInsertion", desc := "(Ljava/util/TreeMap$Entry;)V" } : Jvm.MethodName)) ∈ lw_all := lw_g (lw_at lw_m7 143 rfl) rfl
theorem q1760 : (Jvm.Cond.code ({ cls := "java/util/TreeMap", name := "fixAfterInsertion", desc := "(Ljava/util/TreeMap$Entry;)V" } : Jvm.MethodName) prog_87_method_83_code (3 : Nat) (Option.none : Option Jvm.ClassFile.FieldType)) ∈ lw_all := lw_g (lw_at lw_m7 144 rfl) rfl
theorem q1761 : (Jvm.Cond.methodLink "java/util/TreeMap" (294 : Nat) ({ cls := "java/util/TreeMap", name := "parentOf", desc := "(Ljava/util/TreeMap$Entry;)Ljava/util/TreeMap$Entry;" } : Jvm.MethodName)) ∈ lw_all := lw_g (lw_at lw_m7 145 rfl) rfl
theorem q1762 : (Jvm.Cond.static ({ cls := "java/util/TreeMap", name := "parentOf", desc := "(Ljava/util/TreeMap$Entry;)Ljava/util/TreeMap$Entry;" } : Jvm.MethodName)) ∈ lw_all := lw_g (lw_at lw_m7 146 rfl) rfl
theorem q1763 : (Jvm.Cond.code ({ cls := "java/util/TreeMap", name := "parentOf", desc := "(Ljava/util/TreeMap$Entry;)Ljava/util/TreeMap$Entry;" } : Jvm.MethodName) prog_87_method_77_code (1 : Nat) (Option.some (Jvm.ClassFile.FieldType.object "java/util/TreeMap$Entry"))) ∈ lw_all := lw_g (lw_at lw_m7 147 rfl) rfl
theorem q1764 : (Jvm.Cond.methodLink "java/util/TreeMap" (297 : Nat) ({ cls := "java/util/TreeMap", name := "leftOf", desc := "(Ljava/util/TreeMap$Entry;)Ljava/util/TreeMap$Entry;" } : Jvm.MethodName)) ∈ lw_all := lw_g (lw_at lw_m7 148 rfl) rfl
theorem q1765 : (Jvm.Cond.static ({ cls := "java/util/TreeMap", name := "leftOf", desc := "(Ljava/util/TreeMap$Entry;)Ljava/util/TreeMap$Entry;" } : Jvm.MethodName)) ∈ lw_all := lw_g (lw_at lw_m7 149 rfl) rfl
theorem q1766 : (Jvm.Cond.code ({ cls := "java/util/TreeMap", name := "leftOf", desc := "(Ljava/util/TreeMap$Entry;)Ljava/util/TreeMap$Entry;" } : Jvm.MethodName) prog_87_method_79_code (1 : Nat) (Option.some (Jvm.ClassFile.FieldType.object "java/util/TreeMap$Entry"))) ∈ lw_all := lw_g (lw_at lw_m7 150 rfl) rfl
theorem q1767 : (Jvm.Cond.methodLink "java/util/TreeMap" (300 : Nat) ({ cls := "java/util/TreeMap", name := "rightOf", desc := "(Ljava/util/TreeMap$Entry;)Ljava/util/TreeMap$Entry;" } : Jvm.MethodName)) ∈ lw_all := lw_g (lw_at lw_m7 151 rfl) rfl
theorem q1768 : (Jvm.Cond.static ({ cls := "java/util/TreeMap", name := "rightOf", desc := "(Ljava/util/TreeMap$Entry;)Ljava/util/TreeMap$Entry;" } : Jvm.MethodName)) ∈ lw_all := lw_g (lw_at lw_m7 152 rfl) rfl
theorem q1769 : (Jvm.Cond.code ({ cls := "java/util/TreeMap", name := "rightOf", desc := "(Ljava/util/TreeMap$Entry;)Ljava/util/TreeMap$Entry;" } : Jvm.MethodName) prog_87_method_80_code (1 : Nat) (Option.some (Jvm.ClassFile.FieldType.object "java/util/TreeMap$Entry"))) ∈ lw_all := lw_g (lw_at lw_m7 153 rfl) rfl
theorem q1770 : (Jvm.Cond.methodLink "java/util/TreeMap" (303 : Nat) ({ cls := "java/util/TreeMap", name := "colorOf", desc := "(Ljava/util/TreeMap$Entry;)Z" } : Jvm.MethodName)) ∈ lw_all := lw_g (lw_at lw_m7 154 rfl) rfl
theorem q1771 : (Jvm.Cond.static ({ cls := "java/util/TreeMap", name := "colorOf", desc := "(Ljava/util/TreeMap$Entry;)Z" } : Jvm.MethodName)) ∈ lw_all := lw_g (lw_at lw_m7 155 rfl) rfl
theorem q1772 : (Jvm.Cond.code ({ cls := "java/util/TreeMap", name := "colorOf", desc := "(Ljava/util/TreeMap$Entry;)Z" } : Jvm.MethodName) prog_87_method_76_code (1 : Nat) (Option.some Jvm.ClassFile.FieldType.boolean)) ∈ lw_all := lw_g (lw_at lw_m7 156 rfl) rfl
theorem q1773 : (Jvm.Cond.methodLink "java/util/TreeMap" (307 : Nat) ({ cls := "java/util/TreeMap", name := "setColor", desc := "(Ljava/util/TreeMap$Entry;Z)V" } : Jvm.MethodName)) ∈ lw_all := lw_g (lw_at lw_m7 157 rfl) rfl
theorem q1774 : (Jvm.Cond.static ({ cls := "java/util/TreeMap", name := "setColor", desc := "(Ljava/util/TreeMap$Entry;Z)V" } : Jvm.MethodName)) ∈ lw_all := lw_g (lw_at lw_m7 158 rfl) rfl
theorem q1775 : (Jvm.Cond.code ({ cls := "java/util/TreeMap", name := "setColor", desc := "(Ljava/util/TreeMap$Entry;Z)V" } : Jvm.MethodName) prog_87_method_78_code (2 : Nat) (Option.none : Option Jvm.ClassFile.FieldType)) ∈ lw_all := lw_g (lw_at lw_m7 159 rfl) rfl
theorem q1776 : (Jvm.Cond.methodLink "java/util/TreeMap" (311 : Nat) ({ cls := "java/util/TreeMap", name := "rotateLeft", desc := "(Ljava/util/TreeMap$Entry;)V" } : Jvm.MethodName)) ∈ lw_all := lw_g (lw_at lw_m7 160 rfl) rfl
theorem q1777 : (Jvm.Cond.privateMethod ({ cls := "java/util/TreeMap", name := "rotateLeft", desc := "(Ljava/util/TreeMap$Entry;)V" } : Jvm.MethodName)) ∈ lw_tbl := lw_at lw_m7 161 rfl
theorem q1778 : (Jvm.Cond.instanceMethod ({ cls := "java/util/TreeMap", name := "rotateLeft", desc := "(Ljava/util/TreeMap$Entry;)V" } : Jvm.MethodName)) ∈ lw_all := lw_g (lw_at lw_m7 162 rfl) rfl
theorem q1779 : (Jvm.Cond.code ({ cls := "java/util/TreeMap", name := "rotateLeft", desc := "(Ljava/util/TreeMap$Entry;)V" } : Jvm.MethodName) prog_87_method_81_code (3 : Nat) (Option.none : Option Jvm.ClassFile.FieldType)) ∈ lw_all := lw_g (lw_at lw_m7 163 rfl) rfl
theorem q1780 : (Jvm.Cond.methodLink "java/util/TreeMap" (314 : Nat) ({ cls := "java/util/TreeMap", name := "rotateRight", desc := "(Ljava/util/TreeMap$Entry;)V" } : Jvm.MethodName)) ∈ lw_all := lw_g (lw_at lw_m7 164 rfl) rfl
theorem q1781 : (Jvm.Cond.privateMethod ({ cls := "java/util/TreeMap", name := "rotateRight", desc := "(Ljava/util/TreeMap$Entry;)V" } : Jvm.MethodName)) ∈ lw_tbl := lw_at lw_m7 165 rfl
theorem q1782 : (Jvm.Cond.instanceMethod ({ cls := "java/util/TreeMap", name := "rotateRight", desc := "(Ljava/util/TreeMap$Entry;)V" } : Jvm.MethodName)) ∈ lw_all := lw_g (lw_at lw_m7 166 rfl) rfl
theorem q1783 : (Jvm.Cond.code ({ cls := "java/util/TreeMap", name := "rotateRight", desc := "(Ljava/util/TreeMap$Entry;)V" } : Jvm.MethodName) prog_87_method_82_code (3 : Nat) (Option.none : Option Jvm.ClassFile.FieldType)) ∈ lw_all := lw_g (lw_at lw_m7 167 rfl) rfl
theorem q1817 : (Jvm.Cond.instanceMethod ({ cls := "java/util/TreeMap", name := "size", desc := "()I" } : Jvm.MethodName)) ∈ lw_all := lw_g (lw_at lw_m7 201 rfl) rfl
theorem q1818 : (Jvm.Cond.selects "java/util/TreeMap" ({ cls := "java/util/TreeMap", name := "size", desc := "()I" } : Jvm.MethodName) ({ cls := "java/util/TreeMap", name := "size", desc := "()I" } : Jvm.MethodName)) ∈ lw_all := lw_g (lw_at lw_m7 202 rfl) rfl
theorem q1819 : (Jvm.Cond.code ({ cls := "java/util/TreeMap", name := "size", desc := "()I" } : Jvm.MethodName) prog_87_method_5_code (1 : Nat) (Option.some Jvm.ClassFile.FieldType.int)) ∈ lw_all := lw_g (lw_at lw_m7 203 rfl) rfl
theorem q1826 : (Jvm.Cond.castable "java/util/TreeMap" "java/util/NavigableMap") ∈ lw_tbl := lw_at lw_m7 210 rfl
theorem q1827 : (Jvm.Cond.selects "java/util/TreeMap" ({ cls := "java/util/Map", name := "size", desc := "()I" } : Jvm.MethodName) ({ cls := "java/util/TreeMap", name := "size", desc := "()I" } : Jvm.MethodName)) ∈ lw_all := lw_g (lw_at lw_m7 211 rfl) rfl
theorem q1828 : (Jvm.Cond.unhidden "java/util/TreeMap" "size" "()I") ∈ lw_tbl := lw_at lw_m7 212 rfl
theorem q1829 : (Jvm.Cond.publicMethod ({ cls := "java/util/TreeMap", name := "size", desc := "()I" } : Jvm.MethodName)) ∈ lw_tbl := lw_at lw_m7 213 rfl
theorem q1874 : (Jvm.Cond.instanceMethod ({ cls := "java/util/TreeMap", name := "floorKey", desc := "(Ljava/lang/Object;)Ljava/lang/Object;" } : Jvm.MethodName)) ∈ lw_all := lw_g (lw_at lw_m8 18 rfl) rfl
theorem q1875 : (Jvm.Cond.selects "java/util/TreeMap" ({ cls := "java/util/TreeMap", name := "floorKey", desc := "(Ljava/lang/Object;)Ljava/lang/Object;" } : Jvm.MethodName) ({ cls := "java/util/TreeMap", name := "floorKey", desc := "(Ljava/lang/Object;)Ljava/lang/Object;" } : Jvm.MethodName)) ∈ lw_all := lw_g (lw_at lw_m8 19 rfl) rfl
theorem q1876 : (Jvm.Cond.code ({ cls := "java/util/TreeMap", name := "floorKey", desc := "(Ljava/lang/Object;)Ljava/lang/Object;" } : Jvm.MethodName) prog_87_method_44_code (2 : Nat) (Option.some (Jvm.ClassFile.FieldType.object "java/lang/Object"))) ∈ lw_all := lw_g (lw_at lw_m8 20 rfl) rfl
theorem q1877 : (Jvm.Cond.methodLink "java/util/TreeMap" (210 : Nat) ({ cls := "java/util/TreeMap", name := "getFloorEntry", desc := "(Ljava/lang/Object;)Ljava/util/TreeMap$Entry;" } : Jvm.MethodName)) ∈ lw_all := lw_g (lw_at lw_m8 21 rfl) rfl
theorem q1878 : (Jvm.Cond.instanceMethod ({ cls := "java/util/TreeMap", name := "getFloorEntry", desc := "(Ljava/lang/Object;)Ljava/util/TreeMap$Entry;" } : Jvm.MethodName)) ∈ lw_all := lw_g (lw_at lw_m8 22 rfl) rfl
theorem q1879 : (Jvm.Cond.selects "java/util/TreeMap" ({ cls := "java/util/TreeMap", name := "getFloorEntry", desc := "(Ljava/lang/Object;)Ljava/util/TreeMap$Entry;" } : Jvm.MethodName) ({ cls := "java/util/TreeMap", name := "getFloorEntry", desc := "(Ljava/lang/Object;)Ljava/util/TreeMap$Entry;" } : Jvm.MethodName)) ∈ lw_all := lw_g (lw_at lw_m8 23 rfl) rfl
theorem q1880 : (Jvm.Cond.code ({ cls := "java/util/TreeMap", name := "getFloorEntry", desc := "(Ljava/lang/Object;)Ljava/util/TreeMap$Entry;" } : Jvm.MethodName) prog_87_method_18_code (6 : Nat) (Option.some (Jvm.ClassFile.FieldType.object "java/util/TreeMap$Entry"))) ∈ lw_all := lw_g (lw_at lw_m8 24 rfl) rfl
theorem q1881 : (Jvm.Cond.methodLink "java/util/TreeMap" (207 : Nat) ({ cls := "java/util/TreeMap", name := "keyOrNull", desc := "(Ljava/util/TreeMap$Entry;)Ljava/lang/Object;" } : Jvm.MethodName)) ∈ lw_all := lw_g (lw_at lw_m8 25 rfl) rfl
theorem q1882 : (Jvm.Cond.static ({ cls := "java/util/TreeMap", name := "keyOrNull", desc := "(Ljava/util/TreeMap$Entry;)Ljava/lang/Object;" } : Jvm.MethodName)) ∈ lw_all := lw_g (lw_at lw_m8 26 rfl) rfl
theorem q1883 : (Jvm.Cond.code ({ cls := "java/util/TreeMap", name := "keyOrNull", desc := "(Ljava/util/TreeMap$Entry;)Ljava/lang/Object;" } : Jvm.MethodName) prog_87_method_70_code (1 : Nat) (Option.some (Jvm.ClassFile.FieldType.object "java/lang/Object"))) ∈ lw_all := lw_g (lw_at lw_m8 27 rfl) rfl
theorem q1886 : (Jvm.Cond.instanceMethod ({ cls := "java/util/TreeMap", name := "get", desc := "(Ljava/lang/Object;)Ljava/lang/Object;" } : Jvm.MethodName)) ∈ lw_all := lw_g (lw_at lw_m8 30 rfl) rfl
theorem q1887 : (Jvm.Cond.selects "java/util/TreeMap" ({ cls := "java/util/TreeMap", name := "get", desc := "(Ljava/lang/Object;)Ljava/lang/Object;" } : Jvm.MethodName) ({ cls := "java/util/TreeMap", name := "get", desc := "(Ljava/lang/Object;)Ljava/lang/Object;" } : Jvm.MethodName)) ∈ lw_all := lw_g (lw_at lw_m8 31 rfl) rfl
theorem q1888 : (Jvm.Cond.code ({ cls := "java/util/TreeMap", name := "get", desc := "(Ljava/lang/Object;)Ljava/lang/Object;" } : Jvm.MethodName) prog_87_method_8_code (3 : Nat) (Option.some (Jvm.ClassFile.FieldType.object "java/lang/Object"))) ∈ lw_all := lw_g (lw_at lw_m8 32 rfl) rfl
theorem q1889 : (Jvm.Cond.methodLink "java/util/TreeMap" (50 : Nat) ({ cls := "java/util/TreeMap", name := "getEntry", desc := "(Ljava/lang/Object;)Ljava/util/TreeMap$Entry;" } : Jvm.MethodName)) ∈ lw_all := lw_g (lw_at lw_m8 33 rfl) rfl
theorem q1890 : (Jvm.Cond.instanceMethod ({ cls := "java/util/TreeMap", name := "getEntry", desc := "(Ljava/lang/Object;)Ljava/util/TreeMap$Entry;" } : Jvm.MethodName)) ∈ lw_all := lw_g (lw_at lw_m8 34 rfl) rfl
theorem q1891 : (Jvm.Cond.selects "java/util/TreeMap" ({ cls := "java/util/TreeMap", name := "getEntry", desc := "(Ljava/lang/Object;)Ljava/util/TreeMap$Entry;" } : Jvm.MethodName) ({ cls := "java/util/TreeMap", name := "getEntry", desc := "(Ljava/lang/Object;)Ljava/util/TreeMap$Entry;" } : Jvm.MethodName)) ∈ lw_all := lw_g (lw_at lw_m8 35 rfl) rfl
theorem q1892 : (Jvm.Cond.code ({ cls := "java/util/TreeMap", name := "getEntry", desc := "(Ljava/lang/Object;)Ljava/util/TreeMap$Entry;" } : Jvm.MethodName) prog_87_method_15_code (5 : Nat) (Option.some (Jvm.ClassFile.FieldType.object "java/util/TreeMap$Entry"))) ∈ lw_all := lw_g (lw_at lw_m8 36 rfl) rfl
theorem q1893 : (Jvm.Cond.methodLink "java/util/TreeMap" (92 : Nat) ({ cls := "java/util/TreeMap", name := "getEntryUsingComparator", desc := "(Ljava/lang/Object;)Ljava/util/TreeMap$Entry;" } : Jvm.MethodName)) ∈ lw_all := lw_g (lw_at lw_m8 37 rfl) rfl
theorem q1894 : (Jvm.Cond.instanceMethod ({ cls := "java/util/TreeMap", name := "getEntryUsingComparator", desc := "(Ljava/lang/Object;)Ljava/util/TreeMap$Entry;" } : Jvm.MethodName)) ∈ lw_all := lw_g (lw_at lw_m8 38 rfl) rfl
theorem q1895 : (Jvm.Cond.selects "java/util/TreeMap" ({ cls := "java/util/TreeMap", name := "getEntryUsingComparator", desc := "(Ljava/lang/Object;)Ljava/util/TreeMap$Entry;" } : Jvm.MethodName) ({ cls := "java/util/TreeMap", name := "getEntryUsingComparator", desc := "(Ljava/lang/Object;)Ljava/util/TreeMap$Entry;" } : Jvm.MethodName)) ∈ lw_all := lw_g (lw_at lw_m8 39 rfl) rfl
theorem q1896 : (Jvm.Cond.code ({ cls := "java/util/TreeMap", name := "getEntryUsingComparator", desc := "(Ljava/lang/Object;)Ljava/util/TreeMap$Entry;" } : Jvm.MethodName) prog_87_method_16_code (6 : Nat) (Option.some (Jvm.ClassFile.FieldType.object "java/util/TreeMap$Entry"))) ∈ lw_all := lw_g (lw_at lw_m8 40 rfl) rfl
theorem q1948 : (Jvm.Cond.selects "java/util/TreeMap" ({ cls := "java/util/Map", name := "put", desc := "(Ljava/lang/Object;Ljava/lang/Object;)Ljava/lang/Object;" } : Jvm.MethodName) ({ cls := "java/util/TreeMap", name := "put", desc := "(Ljava/lang/Object;Ljava/lang/Object;)Ljava/lang/Object;" } : Jvm.MethodName)) ∈ lw_all := lw_g (lw_at lw_m8 92 rfl) rfl
theorem q1949 : (Jvm.Cond.unhidden "java/util/TreeMap" "put" "(Ljava/lang/Object;Ljava/lang/Object;)Ljava/lang/Object;") ∈ lw_tbl := lw_at lw_m8 93 rfl
theorem q1950 : (Jvm.Cond.publicMethod ({ cls := "java/util/TreeMap", name := "put", desc := "(Ljava/lang/Object;Ljava/lang/Object;)Ljava/lang/Object;" } : Jvm.MethodName)) ∈ lw_tbl := lw_at lw_m8 94 rfl
theorem q1952 : (Jvm.Cond.instanceMethod ({ cls := "java/util/TreeMap", name := "higherKey", desc := "(Ljava/lang/Object;)Ljava/lang/Object;" } : Jvm.MethodName)) ∈ lw_all := lw_g (lw_at lw_m8 96 rfl) rfl
theorem q1953 : (Jvm.Cond.selects "java/util/TreeMap" ({ cls := "java/util/TreeMap", name := "higherKey", desc := "(Ljava/lang/Object;)Ljava/lang/Object;" } : Jvm.MethodName) ({ cls := "java/util/TreeMap", name := "higherKey", desc := "(Ljava/lang/Object;)Ljava/lang/Object;" } : Jvm.MethodName)) ∈ lw_all := lw_g (lw_at lw_m8 97 rfl) rfl
theorem q1954 : (Jvm.Cond.code ({ cls := "java/util/TreeMap", name := "higherKey", desc := "(Ljava/lang/Object;)Ljava/lang/Object;" } : Jvm.MethodName) prog_87_method_48_code (2 : Nat) (Option.some (Jvm.ClassFile.FieldType.object "java/lang/Object"))) ∈ lw_all := lw_g (lw_at lw_m8 98 rfl) rfl
theorem q1955 : (Jvm.Cond.methodLink "java/util/TreeMap" (216 : Nat) ({ cls := "java/util/TreeMap", name := "getHigherEntry", desc := "(Ljava/lang/Object;)Ljava/util/TreeMap$Entry;" } : Jvm.MethodName)) ∈ lw_all := lw_g (lw_at lw_m8 99 rfl) rfl
theorem q1956 : (Jvm.Cond.instanceMethod ({ cls := "java/util/TreeMap", name := "getHigherEntry", desc := "(Ljava/lang/Object;)Ljava/util/TreeMap$Entry;" } : Jvm.MethodName)) ∈ lw_all := lw_g (lw_at lw_m8 100 rfl) rfl
theorem q1957 : (Jvm.Cond.selects "java/util/TreeMap" ({ cls := "java/util/TreeMap", name := "getHigherEntry", desc := "(Ljava/lang/Object;)Ljava/util/TreeMap$Entry;" } : Jvm.MethodName) ({ cls := "java/util/TreeMap", name := "getHigherEntry", desc := "(Ljava/lang/Object;)Ljava/util/TreeMap$Entry;" } : Jvm.MethodName)) ∈ lw_all := lw_g (lw_at lw_m8 101 rfl) rfl
theorem q1958 : (Jvm.Cond.code ({ cls := "java/util/TreeMap", name := "getHigherEntry", desc := "(Ljava/lang/Object;)Ljava/util/TreeMap$Entry;" } : Jvm.MethodName) prog_87_method_19_code (6 : Nat) (Option.some (Jvm.ClassFile.FieldType.object "java/util/TreeMap$Entry"))) ∈ lw_all := lw_g (lw_at lw_m8 102 rfl) rfl
theorem q1970 : (Jvm.Cond.selects "java/util/TreeMap" ({ cls := "java/util/Map", name := "remove", desc := "(Ljava/lang/Object;)Ljava/lang/Object;" } : Jvm.MethodName) ({ cls := "java/util/TreeMap", name := "remove", desc := "(Ljava/lang/Object;)Ljava/lang/Object;" } : Jvm.MethodName)) ∈ lw_all := lw_g (lw_at lw_m8 114 rfl) rfl
theorem q1971 : (Jvm.Cond.unhidden "java/util/TreeMap" "remove" "(Ljava/lang/Object;)Ljava/lang/Object;") ∈ lw_tbl := lw_at lw_m8 115 rfl
theorem q1972 : (Jvm.Cond.instanceMethod ({ cls := "java/util/TreeMap", name := "remove", desc := "(Ljava/lang/Object;)Ljava/lang/Object;" } : Jvm.MethodName)) ∈ lw_all := lw_g (lw_at lw_m8 116 rfl) rfl
theorem q1973 : (Jvm.Cond.publicMethod ({ cls := "java/util/TreeMap", name := "remove", desc := "(Ljava/lang/Object;)Ljava/lang/Object;" } : Jvm.MethodName)) ∈ lw_tbl := lw_at lw_m8 117 rfl
theorem q1974 : (Jvm.Cond.code ({ cls := "java/util/TreeMap", name := "remove", desc := "(Ljava/lang/Object;)Ljava/lang/Object;" } : Jvm.MethodName) prog_87_method_34_code (4 : Nat) (Option.some (Jvm.ClassFile.FieldType.object "java/lang/Object"))) ∈ lw_all := lw_g (lw_at lw_m8 118 rfl) rfl
theorem q1975 : (Jvm.Cond.methodLink "java/util/TreeMap" (174 : Nat) ({ cls := "java/util/TreeMap", name := "deleteEntry", desc := "(Ljava/util/TreeMap$Entry;)V" } : Jvm.MethodName)) ∈ lw_all := lw_g (lw_at lw_m8 119 rfl) rfl
theorem q1976 : (Jvm.Cond.privateMethod ({ cls := "java/util/TreeMap", name := "deleteEntry", desc := "(Ljava/util/TreeMap$Entry;)V" } : Jvm.MethodName)) ∈ lw_tbl := lw_at lw_m8 120 rfl
theorem q1977 : (Jvm.Cond.instanceMethod ({ cls := "java/util/TreeMap", name := "deleteEntry", desc := "(Ljava/util/TreeMap$Entry;)V" } : Jvm.MethodName)) ∈ lw_all := lw_g (lw_at lw_m8 121 rfl) rfl
theorem q1978 : (Jvm.Cond.code ({ cls := "java/util/TreeMap", name := "deleteEntry", desc := "(Ljava/util/TreeMap$Entry;)V" } : Jvm.MethodName) prog_87_method_84_code (3 : Nat) (Option.none : Option Jvm.ClassFile.FieldType)) ∈ lw_all := lw_g (lw_at lw_m8 122 rfl) rfl
theorem q1979 : (Jvm.Cond.methodLink "java/util/TreeMap" (68 : Nat) ({ cls := "java/util/TreeMap", name := "successor", desc := "(Ljava/util/TreeMap$Entry;)Ljava/util/TreeMap$Entry;" } : Jvm.MethodName)) ∈ lw_all := lw_g (lw_at lw_m8 123 rfl) rfl
theorem q1980 : (Jvm.Cond.static ({ cls := "java/util/TreeMap", name := "successor", desc := "(Ljava/util/TreeMap$Entry;)Ljava/util/TreeMap$Entry;" } : Jvm.MethodName)) ∈ lw_all := lw_g (lw_at lw_m8 124 rfl) rfl
theorem q1981 : (Jvm.Cond.code ({ cls := "java/util/TreeMap", name := "successor", desc := "(Ljava/util/TreeMap$Entry;)Ljava/util/TreeMap$Entry;" } : Jvm.MethodName) prog_87_method_74_code (3 : Nat) (Option.some (Jvm.ClassFile.FieldType.object "java/util/TreeMap$Entry"))) ∈ lw_all := lw_g (lw_at lw_m8 125 rfl) rfl
theorem q1982 : (Jvm.Cond.methodLink "java/util/TreeMap" (317 : Nat) ({ cls := "java/util/TreeMap", name := "fixAfterDeletion", desc := "(Ljava/util/TreeMap$Entry;)V" } : Jvm.MethodName)) ∈ lw_all := lw_g (lw_at lw_m8 126 rfl) rfl
theorem q1983 : (Jvm.Cond.privateMethod ({ cls := "java/util/TreeMap", name := "fixAfterDeletion", desc := "(Ljava/util/TreeMap$Entry;)V" } : Jvm.MethodName)) ∈ lw_tbl := lw_at lw_m8 127 rfl
theorem q1984 : (Jvm.Cond.instanceMethod ({ cls := "java/util/TreeMap", name := "fixAfterDeletion", desc := "(Ljava/util/TreeMap$Entry;)V" } : Jvm.MethodName)) ∈ lw_all := lw_g (lw_at lw_m8 128 rfl) rfl
theorem q1985 : (Jvm.Cond.code ({ cls := "java/util/TreeMap", name := "fixAfterDeletion", desc := "(Ljava/util/TreeMap$Entry;)V" } : Jvm.MethodName) prog_87_method_85_code (3 : Nat) (Option.none : Option Jvm.ClassFile.FieldType)) ∈ lw_all := lw_g (lw_at lw_m8 129 rfl) rfl
theorem q1993 : (Jvm.Cond.selects "java/util/TreeMap" ({ cls := "java/util/Map", name := "containsKey", desc := "(Ljava/lang/Object;)Z" } : Jvm.MethodName) ({ cls := "java/util/TreeMap", name := "containsKey", desc := "(Ljava/lang/Object;)Z" } : Jvm.MethodName)) ∈ lw_all := lw_g (lw_at lw_m8 137 rfl) rfl
theorem q1994 : (Jvm.Cond.unhidden "java/util/TreeMap" "containsKey" "(Ljava/lang/Object;)Z") ∈ lw_tbl := lw_at lw_m8 138 rfl
theorem q1995 : (Jvm.Cond.instanceMethod ({ cls := "java/util/TreeMap", name := "containsKey", desc := "(Ljava/lang/Object;)Z" } : Jvm.MethodName)) ∈ lw_all := lw_g (lw_at lw_m8 139 rfl) rfl
theorem q1996 : (Jvm.Cond.publicMethod ({ cls := "java/util/TreeMap", name := "containsKey", desc := "(Ljava/lang/Object;)Z" } : Jvm.MethodName)) ∈ lw_tbl := lw_at lw_m8 140 rfl
theorem q1997 : (Jvm.Cond.code ({ cls := "java/util/TreeMap", name := "containsKey", desc := "(Ljava/lang/Object;)Z" } : Jvm.MethodName) prog_87_method_6_code (2 : Nat) (Option.some Jvm.ClassFile.FieldType.boolean)) ∈ lw_all := lw_g (lw_at lw_m8 141 rfl) rfl
theorem q2075 : (Jvm.Cond.instanceMethod ({ cls := "java/util/TreeMap", name := "keySet", desc := "()Ljava/util/Set;" } : Jvm.MethodName)) ∈ lw_all := lw_g (lw_at lw_m8 219 rfl) rfl
theorem q2076 : (Jvm.Cond.selects "java/util/TreeMap" ({ cls := "java/util/TreeMap", name := "keySet", desc := "()Ljava/util/Set;" } : Jvm.MethodName) ({ cls := "java/util/TreeMap", name := "keySet", desc := "()Ljava/util/Set;" } : Jvm.MethodName)) ∈ lw_all := lw_g (lw_at lw_m8 220 rfl) rfl
theorem q2077 : (Jvm.Cond.code ({ cls := "java/util/TreeMap", name := "keySet", desc := "()Ljava/util/Set;" } : Jvm.MethodName) prog_87_method_49_code (1 : Nat) (Option.some (Jvm.ClassFile.FieldType.object "java/util/Set"))) ∈ lw_all := lw_g (lw_at lw_m8 221 rfl) rfl
theorem q2078 : (Jvm.Cond.methodLink "java/util/TreeMap" (219 : Nat) ({ cls := "java/util/TreeMap", name := "navigableKeySet", desc := "()Ljava/util/NavigableSet;" } : Jvm.MethodName)) ∈ lw_all := lw_g (lw_at lw_m8 222 rfl) rfl
theorem q2079 : (Jvm.Cond.instanceMethod ({ cls := "java/util/TreeMap", name := "navigableKeySet", desc := "()Ljava/util/NavigableSet;" } : Jvm.MethodName)) ∈ lw_all := lw_g (lw_at lw_m8 223 rfl) rfl
theorem q2080 : (Jvm.Cond.selects "java/util/TreeMap" ({ cls := "java/util/TreeMap", name := "navigableKeySet", desc := "()Ljava/util/NavigableSet;" } : Jvm.MethodName) ({ cls := "java/util/TreeMap", name := "navigableKeySet", desc := "()Ljava/util/NavigableSet;" } : Jvm.MethodName)) ∈ lw_all := lw_g (lw_at lw_m8 224 rfl) rfl
theorem q2081 : (Jvm.Cond.code ({ cls := "java/util/TreeMap", name := "navigableKeySet", desc := "()Ljava/util/NavigableSet;" } : Jvm.MethodName) prog_87_method_50_code (2 : Nat) (Option.some (Jvm.ClassFile.FieldType.object "java/util/NavigableSet"))) ∈ lw_all := lw_g (lw_at lw_m8 225 rfl) rfl
theorem q2082 : (Jvm.Cond.classLink "java/util/TreeMap" (222 : Nat) "java/util/TreeMap$KeySet") ∈ lw_all := lw_g (lw_at lw_m8 226 rfl) rfl
theorem q2084 : (Jvm.Cond.methodLink "java/util/TreeMap" (224 : Nat) ({ cls := "java/util/TreeMap$KeySet", name := "<init>", desc := "(Ljava/util/NavigableMap;)V" } : Jvm.MethodName)) ∈ lw_all := lw_g (lw_at lw_m8 228 rfl) rfl
theorem q2105 : (Jvm.Cond.instanceMethod ({ cls := "java/util/TreeMap", name := "getFirstEntry", desc := "()Ljava/util/TreeMap$Entry;" } : Jvm.MethodName)) ∈ lw_all := lw_g (lw_at lw_m9 9 rfl) rfl
theorem q2106 : (Jvm.Cond.selects "java/util/TreeMap" ({ cls := "java/util/TreeMap", name := "getFirstEntry", desc := "()Ljava/util/TreeMap$Entry;" } : Jvm.MethodName) ({ cls := "java/util/TreeMap", name := "getFirstEntry", desc := "()Ljava/util/TreeMap$Entry;" } : Jvm.MethodName)) ∈ lw_all := lw_g (lw_at lw_m9 10 rfl) rfl
theorem q2107 : (Jvm.Cond.code ({ cls := "java/util/TreeMap", name := "getFirstEntry", desc := "()Ljava/util/TreeMap$Entry;" } : Jvm.MethodName) prog_87_method_72_code (2 : Nat) (Option.some (Jvm.ClassFile.FieldType.object "java/util/TreeMap$Entry"))) ∈ lw_all := lw_g (lw_at lw_m9 11 rfl) rfl
theorem q2136 : (Jvm.Cond.instanceMethod ({ cls := "java/util/TreeMap", name := "keyIterator", desc := "()Ljava/util/Iterator;" } : Jvm.MethodName)) ∈ lw_all := lw_g (lw_at lw_m9 40 rfl) rfl
theorem q2137 : (Jvm.Cond.selects "java/util/TreeMap" ({ cls := "java/util/TreeMap", name := "keyIterator", desc := "()Ljava/util/Iterator;" } : Jvm.MethodName) ({ cls := "java/util/TreeMap", name := "keyIterator", desc := "()Ljava/util/Iterator;" } : Jvm.MethodName)) ∈ lw_all := lw_g (lw_at lw_m9 41 rfl) rfl
theorem q2138 : (Jvm.Cond.code ({ cls := "java/util/TreeMap", name := "keyIterator", desc := "()Ljava/util/Iterator;" } : Jvm.MethodName) prog_87_method_65_code (1 : Nat) (Option.some (Jvm.ClassFile.FieldType.object "java/util/Iterator"))) ∈ lw_all := lw_g (lw_at lw_m9 42 rfl) rfl
theorem q2139 : (Jvm.Cond.classLink "java/util/TreeMap" (269 : Nat) "java/util/TreeMap$KeyIterator") ∈ lw_all := lw_g (lw_at lw_m9 43 rfl) rfl
theorem q2141 : (Jvm.Cond.methodLink "java/util/TreeMap" (54 : Nat) ({ cls := "java/util/TreeMap", name := "getFirstEntry", desc := "()Ljava/util/TreeMap$Entry;" } : Jvm.MethodName)) ∈ lw_all := lw_g (lw_at lw_m9 45 rfl) rfl
theorem q2142 : (Jvm.Cond.methodLink "java/util/TreeMap" (271 : Nat) ({ cls := "java/util/TreeMap$KeyIterator", name := "<init>", desc := "(Ljava/util/TreeMap;Ljava/util/TreeMap$Entry;)V" } : Jvm.MethodName)) ∈ lw_all := lw_g (lw_at lw_m9 46 rfl) rfl
theorem q2165 : (Jvm.Cond.selects "java/util/TreeMap" ({ cls := "java/util/NavigableMap", name := "navigableKeySet", desc := "()Ljava/util/NavigableSet;" } : Jvm.MethodName) ({ cls := "java/util/TreeMap", name := "navigableKeySet", desc := "()Ljava/util/NavigableSet;" } : Jvm.MethodName)) ∈ lw_all := lw_g (lw_at lw_m9 69 rfl) rfl
theorem q2166 : (Jvm.Cond.unhidden "java/util/TreeMap" "navigableKeySet" "()Ljava/util/NavigableSet;") ∈ lw_tbl := lw_at lw_m9 70 rfl
theorem q2167 : (Jvm.Cond.publicMethod ({ cls := "java/util/TreeMap", name := "navigableKeySet", desc := "()Ljava/util/NavigableSet;" } : Jvm.MethodName)) ∈ lw_tbl := lw_at lw_m9 71 rfl
theorem q2652 : (Jvm.Cond.selects "java/util/TreeMap" ({ cls := "java/util/Map", name := "isEmpty", desc := "()Z" } : Jvm.MethodName) ({ cls := "java/util/AbstractMap", name := "isEmpty", desc := "()Z" } : Jvm.MethodName)) ∈ lw_all := lw_g (lw_at lw_m11 76 rfl) rfl
theorem q2653 : (Jvm.Cond.unhidden "java/util/TreeMap" "isEmpty" "()Z") ∈ lw_tbl := lw_at lw_m11 77 rfl
theorem q2660 : (Jvm.Cond.selects "java/util/TreeMap" ({ cls := "java/util/AbstractMap", name := "size", desc := "()I" } : Jvm.MethodName) ({ cls := "java/util/TreeMap", name := "size", desc := "()I" } : Jvm.MethodName)) ∈ lw_all := lw_g (lw_at lw_m11 84 rfl) rfl
theorem q2783 : (Jvm.Cond.instanceMethod ({ cls := "java/util/TreeMap", name := "putAll", desc := "(Ljava/util/Map;)V" } : Jvm.MethodName)) ∈ lw_all := lw_g (lw_at lw_m11 207 rfl) rfl
theorem q2784 : (Jvm.Cond.selects "java/util/TreeMap" ({ cls := "java/util/TreeMap", name := "putAll", desc := "(Ljava/util/Map;)V" } : Jvm.MethodName) ({ cls := "java/util/TreeMap", name := "putAll", desc := "(Ljava/util/Map;)V" } : Jvm.MethodName)) ∈ lw_all := lw_g (lw_at lw_m11 208 rfl) rfl
theorem q2785 : (Jvm.Cond.codeWith ({ cls := "java/util/TreeMap", name := "putAll", desc := "(Ljava/util/Map;)V" } : Jvm.MethodName) prog_87_method_14_code (4 : Nat) (Option.none : Option Jvm.ClassFile.FieldType) [((54 : Nat), (72 : Nat), (75 : Nat), (46 : Nat)), ((54 : Nat), (72 : Nat), (75 : Nat), (48 : Nat))]) ∈ lw_all := lw_g (lw_at lw_m11 209 rfl) rfl
theorem q2786 : (Jvm.Cond.interfaceEntry "java/util/TreeMap" (82 : Nat)) ∈ lw_tbl := lw_at lw_m11 210 rfl
theorem q2787 : (Jvm.Cond.methodLink "java/util/TreeMap" (82 : Nat) ({ cls := "java/util/Map", name := "size", desc := "()I" } : Jvm.MethodName)) ∈ lw_all := lw_g (lw_at lw_m11 211 rfl) rfl
theorem q2789 : (Jvm.Cond.castable "java/util/TreeMap" "java/util/Map") ∈ lw_tbl := lw_at lw_m11 213 rfl
theorem q2790 : (Jvm.Cond.classLink "java/util/TreeMap" (25 : Nat) "java/util/SortedMap") ∈ lw_all := lw_g (lw_at lw_m11 214 rfl) rfl
theorem q2791 : (Jvm.Cond.interfaceEntry "java/util/TreeMap" (24 : Nat)) ∈ lw_tbl := lw_at lw_m11 215 rfl
theorem q2792 : (Jvm.Cond.methodLink "java/util/TreeMap" (24 : Nat) ({ cls := "java/util/SortedMap", name := "comparator", desc := "()Ljava/util/Comparator;" } : Jvm.MethodName)) ∈ lw_all := lw_g (lw_at lw_m11 216 rfl) rfl
theorem q2795 : (Jvm.Cond.castable "java/util/TreeMap" "java/util/SortedMap") ∈ lw_tbl := lw_at lw_m11 219 rfl
theorem q2796 : (Jvm.Cond.selects "java/util/TreeMap" ({ cls := "java/util/SortedMap", name := "comparator", desc := "()Ljava/util/Comparator;" } : Jvm.MethodName) ({ cls := "java/util/TreeMap", name := "comparator", desc := "()Ljava/util/Comparator;" } : Jvm.MethodName)) ∈ lw_all := lw_g (lw_at lw_m11 220 rfl) rfl
theorem q2797 : (Jvm.Cond.unhidden "java/util/TreeMap" "comparator" "()Ljava/util/Comparator;") ∈ lw_tbl := lw_at lw_m11 221 rfl
theorem q2798 : (Jvm.Cond.instanceMethod ({ cls := "java/util/TreeMap", name := "comparator", desc := "()Ljava/util/Comparator;" } : Jvm.MethodName)) ∈ lw_all := lw_g (lw_at lw_m11 222 rfl) rfl
theorem q2799 : (Jvm.Cond.publicMethod ({ cls := "java/util/TreeMap", name := "comparator", desc := "()Ljava/util/Comparator;" } : Jvm.MethodName)) ∈ lw_tbl := lw_at lw_m11 223 rfl
theorem q2800 : (Jvm.Cond.code ({ cls := "java/util/TreeMap", name := "comparator", desc := "()Ljava/util/Comparator;" } : Jvm.MethodName) prog_87_method_9_code (1 : Nat) (Option.some (Jvm.ClassFile.FieldType.object "java/util/Comparator"))) ∈ lw_all := lw_g (lw_at lw_m11 224 rfl) rfl
theorem q2801 : (Jvm.Cond.methodLink "java/util/TreeMap" (85 : Nat) ({ cls := "java/util/Objects", name := "equals", desc := "(Ljava/lang/Object;Ljava/lang/Object;)Z" } : Jvm.MethodName)) ∈ lw_all := lw_g (lw_at lw_m11 225 rfl) rfl
theorem q2837 : (Jvm.Cond.interfaceEntry "java/util/TreeMap" (90 : Nat)) ∈ lw_tbl := lw_at lw_m12 21 rfl
theorem q2838 : (Jvm.Cond.methodLink "java/util/TreeMap" (90 : Nat) ({ cls := "java/util/Map", name := "entrySet", desc := "()Ljava/util/Set;" } : Jvm.MethodName)) ∈ lw_all := lw_g (lw_at lw_m12 22 rfl) rfl
theorem q2841 : (Jvm.Cond.selects "java/util/TreeMap" ({ cls := "java/util/Map", name := "entrySet", desc := "()Ljava/util/Set;" } : Jvm.MethodName) ({ cls := "java/util/TreeMap", name := "entrySet", desc := "()Ljava/util/Set;" } : Jvm.MethodName)) ∈ lw_all := lw_g (lw_at lw_m12 25 rfl) rfl
theorem q2842 : (Jvm.Cond.unhidden "java/util/TreeMap" "entrySet" "()Ljava/util/Set;") ∈ lw_tbl := lw_at lw_m12 26 rfl
theorem q2843 : (Jvm.Cond.instanceMethod ({ cls := "java/util/TreeMap", name := "entrySet", desc := "()Ljava/util/Set;" } : Jvm.MethodName)) ∈ lw_all := lw_g (lw_at lw_m12 27 rfl) rfl
theorem q2844 : (Jvm.Cond.publicMethod ({ cls := "java/util/TreeMap", name := "entrySet", desc := "()Ljava/util/Set;" } : Jvm.MethodName)) ∈ lw_tbl := lw_at lw_m12 28 rfl
theorem q2845 : (Jvm.Cond.code ({ cls := "java/util/TreeMap", name := "entrySet", desc := "()Ljava/util/Set;" } : Jvm.MethodName) prog_87_method_53_code (2 : Nat) (Option.some (Jvm.ClassFile.FieldType.object "java/util/Set"))) ∈ lw_all := lw_g (lw_at lw_m12 29 rfl) rfl
theorem q2846 : (Jvm.Cond.classLink "java/util/TreeMap" (242 : Nat) "java/util/TreeMap$EntrySet") ∈ lw_all := lw_g (lw_at lw_m12 30 rfl) rfl
theorem q2848 : (Jvm.Cond.methodLink "java/util/TreeMap" (244 : Nat) ({ cls := "java/util/TreeMap$EntrySet", name := "<init>", desc := "(Ljava/util/TreeMap;)V" } : Jvm.MethodName)) ∈ lw_all := lw_g (lw_at lw_m12 32 rfl) rfl
theorem q2856 : (Jvm.Cond.interfaceEntry "java/util/TreeMap" (36 : Nat)) ∈ lw_tbl := lw_at lw_m12 40 rfl
theorem q2857 : (Jvm.Cond.methodLink "java/util/TreeMap" (36 : Nat) ({ cls := "java/util/Set", name := "iterator", desc := "()Ljava/util/Iterator;" } : Jvm.MethodName)) ∈ lw_all := lw_g (lw_at lw_m12 41 rfl) rfl
theorem q2858 : (Jvm.Cond.methodLink "java/util/TreeMap" (42 : Nat) ({ cls := "java/util/TreeMap", name := "buildFromSorted", desc := "(ILjava/util/Iterator;Ljava/io/ObjectInputStream;Ljava/lang/Object;)V" } : Jvm.MethodName)) ∈ lw_all := lw_g (lw_at lw_m12 42 rfl) rfl
theorem q2859 : (Jvm.Cond.privateMethod ({ cls := "java/util/TreeMap", name := "buildFromSorted", desc := "(ILjava/util/Iterator;Ljava/io/ObjectInputStream;Ljava/lang/Object;)V" } : Jvm.MethodName)) ∈ lw_tbl := lw_at lw_m12 43 rfl
theorem q2860 : (Jvm.Cond.instanceMethod ({ cls := "java/util/TreeMap", name := "buildFromSorted", desc := "(ILjava/util/Iterator;Ljava/io/ObjectInputStream;Ljava/lang/Object;)V" } : Jvm.MethodName)) ∈ lw_all := lw_g (lw_at lw_m12 44 rfl) rfl
theorem q2861 : (Jvm.Cond.code ({ cls := "java/util/TreeMap", name := "buildFromSorted", desc := "(ILjava/util/Iterator;Ljava/io/ObjectInputStream;Ljava/lang/Object;)V" } : Jvm.MethodName) prog_87_method_90_code (5 : Nat) (Option.none : Option Jvm.ClassFile.FieldType)) ∈ lw_all := lw_g (lw_at lw_m12 45 rfl) rfl
theorem q2862 : (Jvm.Cond.methodLink "java/util/TreeMap" (362 : Nat) ({ cls := "java/util/TreeMap", name := "computeRedLevel", desc := "(I)I" } : Jvm.MethodName)) ∈ lw_all := lw_g (lw_at lw_m12 46 rfl) rfl
theorem q2863 : (Jvm.Cond.static ({ cls := "java/util/TreeMap", name := "computeRedLevel", desc := "(I)I" } : Jvm.MethodName)) ∈ lw_all := lw_g (lw_at lw_m12 47 rfl) rfl
theorem q2864 : (Jvm.Cond.code ({ cls := "java/util/TreeMap", name := "computeRedLevel", desc := "(I)I" } : Jvm.MethodName) prog_87_method_92_code (1 : Nat) (Option.some Jvm.ClassFile.FieldType.int)) ∈ lw_all := lw_g (lw_at lw_m12 48 rfl) rfl
theorem q2865 : (Jvm.Cond.methodLink "java/util/TreeMap" (372 : Nat) ({ cls := "java/lang/Integer", name := "numberOfLeadingZeros", desc := "(I)I" } : Jvm.MethodName)) ∈ lw_all := lw_g (lw_at lw_m12 49 rfl) rfl
theorem q2866 : (Jvm.Cond.methodLink "java/util/TreeMap" (366 : Nat) ({ cls := "java/util/TreeMap", name := "buildFromSorted", desc := "(IIIILjava/util/Iterator;Ljava/io/ObjectInputStream;Ljava/lang/Object;)Ljava/util/TreeMap$Entry;" } : Jvm.MethodName)) ∈ lw_all := lw_g (lw_at lw_m12 50 rfl) rfl
theorem q2867 : (Jvm.Cond.privateMethod ({ cls := "java/util/TreeMap", name := "buildFromSorted", desc := "(IIIILjava/util/Iterator;Ljava/io/ObjectInputStream;Ljava/lang/Object;)Ljava/util/TreeMap$Entry;" } : Jvm.MethodName)) ∈ lw_tbl := lw_at lw_m12 51 rfl
theorem q2868 : (Jvm.Cond.instanceMethod ({ cls := "java/util/TreeMap", name := "buildFromSorted", desc := "(IIIILjava/util/Iterator;Ljava/io/ObjectInputStream;Ljava/lang/Object;)Ljava/util/TreeMap$Entry;" } : Jvm.MethodName)) ∈ lw_all := lw_g (lw_at lw_m12 52 rfl) rfl
theorem q2869 : (Jvm.Cond.code ({ cls := "java/util/TreeMap", name := "buildFromSorted", desc := "(IIIILjava/util/Iterator;Ljava/io/ObjectInputStream;Ljava/lang/Object;)Ljava/util/TreeMap$Entry;" } : Jvm.MethodName) prog_87_method_91_code (14 : Nat) (Option.some (Jvm.ClassFile.FieldType.object "java/util/TreeMap$Entry"))) ∈ lw_all := lw_g (lw_at lw_m12 53 rfl) rfl
theorem q2870 : (Jvm.Cond.interfaceEntry "java/util/TreeMap" (335 : Nat)) ∈ lw_tbl := lw_at lw_m12 54 rfl
theorem q2871 : (Jvm.Cond.methodLink "java/util/TreeMap" (335 : Nat) ({ cls := "java/util/Iterator", name := "next", desc := "()Ljava/lang/Object;" } : Jvm.MethodName)) ∈ lw_all := lw_g (lw_at lw_m12 55 rfl) rfl
theorem q2872 : (Jvm.Cond.classLink "java/util/TreeMap" (338 : Nat) "java/util/Map$Entry") ∈ lw_all := lw_g (lw_at lw_m12 56 rfl) rfl
theorem q2873 : (Jvm.Cond.interfaceEntry "java/util/TreeMap" (340 : Nat)) ∈ lw_tbl := lw_at lw_m12 57 rfl
theorem q2874 : (Jvm.Cond.methodLink "java/util/TreeMap" (340 : Nat) ({ cls := "java/util/Map$Entry", name := "getKey", desc := "()Ljava/lang/Object;" } : Jvm.MethodName)) ∈ lw_all := lw_g (lw_at lw_m12 58 rfl) rfl
theorem q2883 : (Jvm.Cond.interfaceEntry "java/util/TreeMap" (347 : Nat)) ∈ lw_tbl := lw_at lw_m12 67 rfl
theorem q2884 : (Jvm.Cond.methodLink "java/util/TreeMap" (347 : Nat) ({ cls := "java/util/Map$Entry", name := "getValue", desc := "()Ljava/lang/Object;" } : Jvm.MethodName)) ∈ lw_all := lw_g (lw_at lw_m12 68 rfl) rfl
theorem q2892 : (Jvm.Cond.methodLink "java/util/TreeMap" (91 : Nat) ({ cls := "java/util/AbstractMap", name := "putAll", desc := "(Ljava/util/Map;)V" } : Jvm.MethodName)) ∈ lw_all := lw_g (lw_at lw_m12 76 rfl) rfl
theorem q2911 : (Jvm.Cond.selects "java/util/TreeMap" ({ cls := "java/util/AbstractMap", name := "put", desc := "(Ljava/lang/Object;Ljava/lang/Object;)Ljava/lang/Object;" } : Jvm.MethodName) ({ cls := "java/util/TreeMap", name := "put", desc := "(Ljava/lang/Object;Ljava/lang/Object;)Ljava/lang/Object;" } : Jvm.MethodName)) ∈ lw_all := lw_g (lw_at lw_m12 95 rfl) rfl
theorem q3070 : (Jvm.Cond.selects "java/util/TreeMap" ({ cls := "java/util/SortedMap", name := "firstKey", desc := "()Ljava/lang/Object;" } : Jvm.MethodName) ({ cls := "java/util/TreeMap", name := "firstKey", desc := "()Ljava/lang/Object;" } : Jvm.MethodName)) ∈ lw_all := lw_g (lw_at lw_m13 14 rfl) rfl
theorem q3071 : (Jvm.Cond.unhidden "java/util/TreeMap" "firstKey" "()Ljava/lang/Object;") ∈ lw_tbl := lw_at lw_m13 15 rfl
theorem q3072 : (Jvm.Cond.instanceMethod ({ cls := "java/util/TreeMap", name := "firstKey", desc := "()Ljava/lang/Object;" } : Jvm.MethodName)) ∈ lw_all := lw_g (lw_at lw_m13 16 rfl) rfl
theorem q3073 : (Jvm.Cond.publicMethod ({ cls := "java/util/TreeMap", name := "firstKey", desc := "()Ljava/lang/Object;" } : Jvm.MethodName)) ∈ lw_tbl := lw_at lw_m13 17 rfl
theorem q3074 : (Jvm.Cond.code ({ cls := "java/util/TreeMap", name := "firstKey", desc := "()Ljava/lang/Object;" } : Jvm.MethodName) prog_87_method_10_code (1 : Nat) (Option.some (Jvm.ClassFile.FieldType.object "java/lang/Object"))) ∈ lw_all := lw_g (lw_at lw_m13 18 rfl) rfl
theorem q3075 : (Jvm.Cond.methodLink "java/util/TreeMap" (72 : Nat) ({ cls := "java/util/TreeMap", name := "key", desc := "(Ljava/util/TreeMap$Entry;)Ljava/lang/Object;" } : Jvm.MethodName)) ∈ lw_all := lw_g (lw_at lw_m13 19 rfl) rfl
theorem q3076 : (Jvm.Cond.static ({ cls := "java/util/TreeMap", name := "key", desc := "(Ljava/util/TreeMap$Entry;)Ljava/lang/Object;" } : Jvm.MethodName)) ∈ lw_all := lw_g (lw_at lw_m13 20 rfl) rfl
theorem q3077 : (Jvm.Cond.code ({ cls := "java/util/TreeMap", name := "key", desc := "(Ljava/util/TreeMap$Entry;)Ljava/lang/Object;" } : Jvm.MethodName) prog_87_method_71_code (1 : Nat) (Option.some (Jvm.ClassFile.FieldType.object "java/lang/Object"))) ∈ lw_all := lw_g (lw_at lw_m13 21 rfl) rfl
theorem q3078 : (Jvm.Cond.classLink "java/util/TreeMap" (287 : Nat) "java/util/NoSuchElementException") ∈ lw_all := lw_g (lw_at lw_m13 22 rfl) rfl
theorem q3079 : (Jvm.Cond.methodLink "java/util/TreeMap" (289 : Nat) ({ cls := "java/util/NoSuchElementException", name := "<init>", desc := "()V" } : Jvm.MethodName)) ∈ lw_all := lw_g (lw_at lw_m13 23 rfl) rfl
theorem q3251 : (Jvm.Cond.selects "java/util/TreeMap" ({ cls := "java/util/SortedMap", name := "lastKey", desc := "()Ljava/lang/Object;" } : Jvm.MethodName) ({ cls := "java/util/TreeMap", name := "lastKey", desc := "()Ljava/lang/Object;" } : Jvm.MethodName)) ∈ lw_all := lw_g (lw_at lw_m13 195 rfl) rfl
theorem q3252 : (Jvm.Cond.unhidden "java/util/TreeMap" "lastKey" "()Ljava/lang/Object;") ∈ lw_tbl := lw_at lw_m13 196 rfl
theorem q3253 : (Jvm.Cond.instanceMethod ({ cls := "java/util/TreeMap", name := "lastKey", desc := "()Ljava/lang/Object;" } : Jvm.MethodName)) ∈ lw_all := lw_g (lw_at lw_m13 197 rfl) rfl
theorem q3254 : (Jvm.Cond.publicMethod ({ cls := "java/util/TreeMap", name := "lastKey", desc := "()Ljava/lang/Object;" } : Jvm.MethodName)) ∈ lw_tbl := lw_at lw_m13 198 rfl
theorem q3255 : (Jvm.Cond.code ({ cls := "java/util/TreeMap", name := "lastKey", desc := "()Ljava/lang/Object;" } : Jvm.MethodName) prog_87_method_11_code (1 : Nat) (Option.some (Jvm.ClassFile.FieldType.object "java/lang/Object"))) ∈ lw_all := lw_g (lw_at lw_m13 199 rfl) rfl
theorem q3256 : (Jvm.Cond.methodLink "java/util/TreeMap" (76 : Nat) ({ cls := "java/util/TreeMap", name := "getLastEntry", desc := "()Ljava/util/TreeMap$Entry;" } : Jvm.MethodName)) ∈ lw_all := lw_g (lw_at lw_m13 200 rfl) rfl
theorem q3257 : (Jvm.Cond.instanceMethod ({ cls := "java/util/TreeMap", name := "getLastEntry", desc := "()Ljava/util/TreeMap$Entry;" } : Jvm.MethodName)) ∈ lw_all := lw_g (lw_at lw_m13 201 rfl) rfl
theorem q3258 : (Jvm.Cond.selects "java/util/TreeMap" ({ cls := "java/util/TreeMap", name := "getLastEntry", desc := "()Ljava/util/TreeMap$Entry;" } : Jvm.MethodName) ({ cls := "java/util/TreeMap", name := "getLastEntry", desc := "()Ljava/util/TreeMap$Entry;" } : Jvm.MethodName)) ∈ lw_all := lw_g (lw_at lw_m13 202 rfl) rfl
theorem q3259 : (Jvm.Cond.code ({ cls := "java/util/TreeMap", name := "getLastEntry", desc := "()Ljava/util/TreeMap$Entry;" } : Jvm.MethodName) prog_87_method_73_code (2 : Nat) (Option.some (Jvm.ClassFile.FieldType.object "java/util/TreeMap$Entry"))) ∈ lw_all := lw_g (lw_at lw_m13 203 rfl) rfl
theorem q3292 : (Jvm.Cond.selects "java/util/TreeMap" ({ cls := "java/util/NavigableMap", name := "higherKey", desc := "(Ljava/lang/Object;)Ljava/lang/Object;" } : Jvm.MethodName) ({ cls := "java/util/TreeMap", name := "higherKey", desc := "(Ljava/lang/Object;)Ljava/lang/Object;" } : Jvm.MethodName)) ∈ lw_all := lw_g (lw_at lw_m13 236 rfl) rfl
theorem q3293 : (Jvm.Cond.unhidden "java/util/TreeMap" "higherKey" "(Ljava/lang/Object;)Ljava/lang/Object;") ∈ lw_tbl := lw_at lw_m13 237 rfl
theorem q3294 : (Jvm.Cond.publicMethod ({ cls := "java/util/TreeMap", name := "higherKey", desc := "(Ljava/lang/Object;)Ljava/lang/Object;" } : Jvm.MethodName)) ∈ lw_tbl := lw_at lw_m13 238 rfl
theorem q4496 : (Jvm.Cond.castable "java/util/TreeMap" "java/lang/Object") ∈ lw_tbl := lw_at lw_m19 0 rfl
theorem in_J24 : ∀ w ∈ wsJ240, w ∈ lw_all := lw_in wsJ240 [1349, 1351, 1335, 1337, 1339, 1341, 1343, 1345, 1347] (by decide +kernel) (by decide +kernel)

/-! jdk/internal/misc/Unsafe -/
set_option maxRecDepth 100000
def RJ25 : String := "jdk/internal/misc/Unsafe"
abbrev cJ25_getLongUnaligned : ByteArray := prog_97_method_334_code
def yJ25_getLongUnaligned : MethodName := ⟨RJ25, "getLongUnaligned", "(Ljava/lang/Object;J)J"⟩
def dkwJ25_getLongUnaligned_7 : List UInt8 := [182, 0, 39, 184, 2, 197, 173]
abbrev dktJ25_getLongUnaligned_7 : List UInt8 := dkwJ25_getLongUnaligned_7 ++ []
def dkwJ25_getLongUnaligned_6 : List UInt8 := [20, 2, 195, 97, 182, 0, 39, 42, 43, 32, 20, 2, 190, 97, 182, 0, 39, 42, 43, 32, 20, 2, 184, 97]
abbrev dktJ25_getLongUnaligned_6 : List UInt8 := dkwJ25_getLongUnaligned_6 ++ dktJ25_getLongUnaligned_7
def dkwJ25_getLongUnaligned_5 : List UInt8 := [43, 32, 20, 1, 93, 97, 182, 0, 39, 42, 43, 32, 20, 0, 205, 97, 182, 0, 39, 42, 43, 32]
abbrev dktJ25_getLongUnaligned_5 : List UInt8 := dkwJ25_getLongUnaligned_5 ++ dktJ25_getLongUnaligned_6
def dkwJ25_getLongUnaligned_4 : List UInt8 := [43, 32, 182, 0, 39, 42, 43, 32, 10, 97, 182, 0, 39, 42, 43, 32, 20, 0, 203, 97, 182, 0, 39, 42]
abbrev dktJ25_getLongUnaligned_4 : List UInt8 := dkwJ25_getLongUnaligned_4 ++ dktJ25_getLongUnaligned_5
def dkwJ25_getLongUnaligned_3 : List UInt8 := [43, 32, 20, 0, 205, 97, 182, 0, 47, 42, 43, 32, 20, 2, 190, 97, 182, 0, 47, 184, 2, 192, 173, 42]
abbrev dktJ25_getLongUnaligned_3 : List UInt8 := dkwJ25_getLongUnaligned_3 ++ dktJ25_getLongUnaligned_4
def dkwJ25_getLongUnaligned_2 : List UInt8 := [10, 127, 9, 148, 154, 0, 43, 42, 43, 32, 182, 0, 47, 42, 43, 32, 20, 0, 203, 97, 182, 0, 47, 42]
abbrev dktJ25_getLongUnaligned_2 : List UInt8 := dkwJ25_getLongUnaligned_2 ++ dktJ25_getLongUnaligned_3
def dkwJ25_getLongUnaligned_1 : List UInt8 := [154, 0, 23, 42, 43, 32, 182, 0, 17, 42, 43, 32, 20, 0, 205, 97, 182, 0, 17, 184, 2, 186, 173, 32]
abbrev dktJ25_getLongUnaligned_1 : List UInt8 := dkwJ25_getLongUnaligned_1 ++ dktJ25_getLongUnaligned_2
def dkwJ25_getLongUnaligned_0 : List UInt8 := [32, 20, 2, 184, 127, 9, 148, 154, 0, 10, 42, 43, 32, 182, 0, 27, 173, 32, 20, 1, 93, 127, 9, 148]
abbrev dktJ25_getLongUnaligned_0 : List UInt8 := dkwJ25_getLongUnaligned_0 ++ dktJ25_getLongUnaligned_1
theorem dksJ25_getLongUnaligned_0 : cJ25_getLongUnaligned.data.toList.drop 0 = dktJ25_getLongUnaligned_0 := by decide +kernel
theorem dksJ25_getLongUnaligned_1 : cJ25_getLongUnaligned.data.toList.drop 24 = dktJ25_getLongUnaligned_1 := dk_seg dksJ25_getLongUnaligned_0 24 rfl rfl
theorem dksJ25_getLongUnaligned_2 : cJ25_getLongUnaligned.data.toList.drop 48 = dktJ25_getLongUnaligned_2 := dk_seg dksJ25_getLongUnaligned_1 24 rfl rfl
theorem dksJ25_getLongUnaligned_3 : cJ25_getLongUnaligned.data.toList.drop 72 = dktJ25_getLongUnaligned_3 := dk_seg dksJ25_getLongUnaligned_2 24 rfl rfl
theorem dksJ25_getLongUnaligned_4 : cJ25_getLongUnaligned.data.toList.drop 96 = dktJ25_getLongUnaligned_4 := dk_seg dksJ25_getLongUnaligned_3 24 rfl rfl
theorem dksJ25_getLongUnaligned_5 : cJ25_getLongUnaligned.data.toList.drop 120 = dktJ25_getLongUnaligned_5 := dk_seg dksJ25_getLongUnaligned_4 24 rfl rfl
theorem dksJ25_getLongUnaligned_6 : cJ25_getLongUnaligned.data.toList.drop 142 = dktJ25_getLongUnaligned_6 := dk_seg dksJ25_getLongUnaligned_5 22 rfl rfl
theorem dksJ25_getLongUnaligned_7 : cJ25_getLongUnaligned.data.toList.drop 166 = dktJ25_getLongUnaligned_7 := dk_seg dksJ25_getLongUnaligned_6 24 rfl rfl
theorem dJ25_getLongUnaligned_0 : decode cJ25_getLongUnaligned 0 = .ok (.lload_n 2, 1) := dk_32 (dk_at dksJ25_getLongUnaligned_0 0 rfl rfl)
theorem dJ25_getLongUnaligned_1 : decode cJ25_getLongUnaligned 1 = .ok (.ldc2_w 696, 3) := dk_20 2 184 (dk_at dksJ25_getLongUnaligned_0 1 rfl rfl)
theorem dJ25_getLongUnaligned_4 : decode cJ25_getLongUnaligned 4 = .ok (.land, 1) := dk_127 (dk_at dksJ25_getLongUnaligned_0 4 rfl rfl)
theorem dJ25_getLongUnaligned_5 : decode cJ25_getLongUnaligned 5 = .ok (.lconst 0, 1) := dk_9 (dk_at dksJ25_getLongUnaligned_0 5 rfl rfl)
theorem dJ25_getLongUnaligned_6 : decode cJ25_getLongUnaligned 6 = .ok (.lcmp, 1) := dk_148 (dk_at dksJ25_getLongUnaligned_0 6 rfl rfl)
theorem dJ25_getLongUnaligned_7 : decode cJ25_getLongUnaligned 7 = .ok (.ifCond .ne 10, 3) := dk_154 0 10 (dk_at dksJ25_getLongUnaligned_0 7 rfl rfl)
theorem dJ25_getLongUnaligned_10 : decode cJ25_getLongUnaligned 10 = .ok (.aload_n 0, 1) := dk_42 (dk_at dksJ25_getLongUnaligned_0 10 rfl rfl)
theorem dJ25_getLongUnaligned_11 : decode cJ25_getLongUnaligned 11 = .ok (.aload_n 1, 1) := dk_43 (dk_at dksJ25_getLongUnaligned_0 11 rfl rfl)
theorem dJ25_getLongUnaligned_12 : decode cJ25_getLongUnaligned 12 = .ok (.lload_n 2, 1) := dk_32 (dk_at dksJ25_getLongUnaligned_0 12 rfl rfl)
theorem dJ25_getLongUnaligned_13 : decode cJ25_getLongUnaligned 13 = .ok (.invokevirtual 27, 3) := dk_182 0 27 (dk_at dksJ25_getLongUnaligned_0 13 rfl rfl)
theorem dJ25_getLongUnaligned_16 : decode cJ25_getLongUnaligned 16 = .ok (.lreturn, 1) := dk_173 (dk_at dksJ25_getLongUnaligned_0 16 rfl rfl)
theorem dJ25_getLongUnaligned_17 : decode cJ25_getLongUnaligned 17 = .ok (.lload_n 2, 1) := dk_32 (dk_at dksJ25_getLongUnaligned_0 17 rfl rfl)
theorem dJ25_getLongUnaligned_18 : decode cJ25_getLongUnaligned 18 = .ok (.ldc2_w 349, 3) := dk_20 1 93 (dk_at dksJ25_getLongUnaligned_0 18 rfl rfl)
theorem dJ25_getLongUnaligned_21 : decode cJ25_getLongUnaligned 21 = .ok (.land, 1) := dk_127 (dk_at dksJ25_getLongUnaligned_0 21 rfl rfl)
theorem dJ25_getLongUnaligned_22 : decode cJ25_getLongUnaligned 22 = .ok (.lconst 0, 1) := dk_9 (dk_at dksJ25_getLongUnaligned_0 22 rfl rfl)
theorem dJ25_getLongUnaligned_23 : decode cJ25_getLongUnaligned 23 = .ok (.lcmp, 1) := dk_148 (dk_at dksJ25_getLongUnaligned_0 23 rfl rfl)
theorem dJ25_getLongUnaligned_24 : decode cJ25_getLongUnaligned 24 = .ok (.ifCond .ne 23, 3) := dk_154 0 23 (dk_at dksJ25_getLongUnaligned_1 0 rfl rfl)
theorem dJ25_getLongUnaligned_27 : decode cJ25_getLongUnaligned 27 = .ok (.aload_n 0, 1) := dk_42 (dk_at dksJ25_getLongUnaligned_1 3 rfl rfl)
theorem dJ25_getLongUnaligned_28 : decode cJ25_getLongUnaligned 28 = .ok (.aload_n 1, 1) := dk_43 (dk_at dksJ25_getLongUnaligned_1 4 rfl rfl)
theorem dJ25_getLongUnaligned_29 : decode cJ25_getLongUnaligned 29 = .ok (.lload_n 2, 1) := dk_32 (dk_at dksJ25_getLongUnaligned_1 5 rfl rfl)
theorem dJ25_getLongUnaligned_30 : decode cJ25_getLongUnaligned 30 = .ok (.invokevirtual 17, 3) := dk_182 0 17 (dk_at dksJ25_getLongUnaligned_1 6 rfl rfl)
theorem dJ25_getLongUnaligned_33 : decode cJ25_getLongUnaligned 33 = .ok (.aload_n 0, 1) := dk_42 (dk_at dksJ25_getLongUnaligned_1 9 rfl rfl)
theorem dJ25_getLongUnaligned_34 : decode cJ25_getLongUnaligned 34 = .ok (.aload_n 1, 1) := dk_43 (dk_at dksJ25_getLongUnaligned_1 10 rfl rfl)
theorem dJ25_getLongUnaligned_35 : decode cJ25_getLongUnaligned 35 = .ok (.lload_n 2, 1) := dk_32 (dk_at dksJ25_getLongUnaligned_1 11 rfl rfl)
theorem dJ25_getLongUnaligned_36 : decode cJ25_getLongUnaligned 36 = .ok (.ldc2_w 205, 3) := dk_20 0 205 (dk_at dksJ25_getLongUnaligned_1 12 rfl rfl)
theorem dJ25_getLongUnaligned_39 : decode cJ25_getLongUnaligned 39 = .ok (.ladd, 1) := dk_97 (dk_at dksJ25_getLongUnaligned_1 15 rfl rfl)
theorem dJ25_getLongUnaligned_40 : decode cJ25_getLongUnaligned 40 = .ok (.invokevirtual 17, 3) := dk_182 0 17 (dk_at dksJ25_getLongUnaligned_1 16 rfl rfl)
theorem dJ25_getLongUnaligned_43 : decode cJ25_getLongUnaligned 43 = .ok (.invokestatic 698, 3) := dk_184 2 186 (dk_at dksJ25_getLongUnaligned_1 19 rfl rfl)
theorem dJ25_getLongUnaligned_46 : decode cJ25_getLongUnaligned 46 = .ok (.lreturn, 1) := dk_173 (dk_at dksJ25_getLongUnaligned_1 22 rfl rfl)
theorem dJ25_getLongUnaligned_47 : decode cJ25_getLongUnaligned 47 = .ok (.lload_n 2, 1) := dk_32 (dk_at dksJ25_getLongUnaligned_1 23 rfl rfl)
theorem dJ25_getLongUnaligned_48 : decode cJ25_getLongUnaligned 48 = .ok (.lconst 1, 1) := dk_10 (dk_at dksJ25_getLongUnaligned_2 0 rfl rfl)
theorem dJ25_getLongUnaligned_49 : decode cJ25_getLongUnaligned 49 = .ok (.land, 1) := dk_127 (dk_at dksJ25_getLongUnaligned_2 1 rfl rfl)
theorem dJ25_getLongUnaligned_50 : decode cJ25_getLongUnaligned 50 = .ok (.lconst 0, 1) := dk_9 (dk_at dksJ25_getLongUnaligned_2 2 rfl rfl)
theorem dJ25_getLongUnaligned_51 : decode cJ25_getLongUnaligned 51 = .ok (.lcmp, 1) := dk_148 (dk_at dksJ25_getLongUnaligned_2 3 rfl rfl)
theorem dJ25_getLongUnaligned_52 : decode cJ25_getLongUnaligned 52 = .ok (.ifCond .ne 43, 3) := dk_154 0 43 (dk_at dksJ25_getLongUnaligned_2 4 rfl rfl)
theorem dJ25_getLongUnaligned_55 : decode cJ25_getLongUnaligned 55 = .ok (.aload_n 0, 1) := dk_42 (dk_at dksJ25_getLongUnaligned_2 7 rfl rfl)
theorem dJ25_getLongUnaligned_56 : decode cJ25_getLongUnaligned 56 = .ok (.aload_n 1, 1) := dk_43 (dk_at dksJ25_getLongUnaligned_2 8 rfl rfl)
theorem dJ25_getLongUnaligned_57 : decode cJ25_getLongUnaligned 57 = .ok (.lload_n 2, 1) := dk_32 (dk_at dksJ25_getLongUnaligned_2 9 rfl rfl)
theorem dJ25_getLongUnaligned_58 : decode cJ25_getLongUnaligned 58 = .ok (.invokevirtual 47, 3) := dk_182 0 47 (dk_at dksJ25_getLongUnaligned_2 10 rfl rfl)
theorem dJ25_getLongUnaligned_61 : decode cJ25_getLongUnaligned 61 = .ok (.aload_n 0, 1) := dk_42 (dk_at dksJ25_getLongUnaligned_2 13 rfl rfl)
theorem dJ25_getLongUnaligned_62 : decode cJ25_getLongUnaligned 62 = .ok (.aload_n 1, 1) := dk_43 (dk_at dksJ25_getLongUnaligned_2 14 rfl rfl)
theorem dJ25_getLongUnaligned_63 : decode cJ25_getLongUnaligned 63 = .ok (.lload_n 2, 1) := dk_32 (dk_at dksJ25_getLongUnaligned_2 15 rfl rfl)
theorem dJ25_getLongUnaligned_64 : decode cJ25_getLongUnaligned 64 = .ok (.ldc2_w 203, 3) := dk_20 0 203 (dk_at dksJ25_getLongUnaligned_2 16 rfl rfl)
theorem dJ25_getLongUnaligned_67 : decode cJ25_getLongUnaligned 67 = .ok (.ladd, 1) := dk_97 (dk_at dksJ25_getLongUnaligned_2 19 rfl rfl)
theorem dJ25_getLongUnaligned_68 : decode cJ25_getLongUnaligned 68 = .ok (.invokevirtual 47, 3) := dk_182 0 47 (dk_at dksJ25_getLongUnaligned_2 20 rfl rfl)
theorem dJ25_getLongUnaligned_71 : decode cJ25_getLongUnaligned 71 = .ok (.aload_n 0, 1) := dk_42 (dk_at dksJ25_getLongUnaligned_2 23 rfl rfl)
theorem dJ25_getLongUnaligned_72 : decode cJ25_getLongUnaligned 72 = .ok (.aload_n 1, 1) := dk_43 (dk_at dksJ25_getLongUnaligned_3 0 rfl rfl)
theorem dJ25_getLongUnaligned_73 : decode cJ25_getLongUnaligned 73 = .ok (.lload_n 2, 1) := dk_32 (dk_at dksJ25_getLongUnaligned_3 1 rfl rfl)
theorem dJ25_getLongUnaligned_74 : decode cJ25_getLongUnaligned 74 = .ok (.ldc2_w 205, 3) := dk_20 0 205 (dk_at dksJ25_getLongUnaligned_3 2 rfl rfl)
theorem dJ25_getLongUnaligned_77 : decode cJ25_getLongUnaligned 77 = .ok (.ladd, 1) := dk_97 (dk_at dksJ25_getLongUnaligned_3 5 rfl rfl)
theorem dJ25_getLongUnaligned_78 : decode cJ25_getLongUnaligned 78 = .ok (.invokevirtual 47, 3) := dk_182 0 47 (dk_at dksJ25_getLongUnaligned_3 6 rfl rfl)
theorem dJ25_getLongUnaligned_81 : decode cJ25_getLongUnaligned 81 = .ok (.aload_n 0, 1) := dk_42 (dk_at dksJ25_getLongUnaligned_3 9 rfl rfl)
theorem dJ25_getLongUnaligned_82 : decode cJ25_getLongUnaligned 82 = .ok (.aload_n 1, 1) := dk_43 (dk_at dksJ25_getLongUnaligned_3 10 rfl rfl)
theorem dJ25_getLongUnaligned_83 : decode cJ25_getLongUnaligned 83 = .ok (.lload_n 2, 1) := dk_32 (dk_at dksJ25_getLongUnaligned_3 11 rfl rfl)
theorem dJ25_getLongUnaligned_84 : decode cJ25_getLongUnaligned 84 = .ok (.ldc2_w 702, 3) := dk_20 2 190 (dk_at dksJ25_getLongUnaligned_3 12 rfl rfl)
theorem dJ25_getLongUnaligned_87 : decode cJ25_getLongUnaligned 87 = .ok (.ladd, 1) := dk_97 (dk_at dksJ25_getLongUnaligned_3 15 rfl rfl)
theorem dJ25_getLongUnaligned_88 : decode cJ25_getLongUnaligned 88 = .ok (.invokevirtual 47, 3) := dk_182 0 47 (dk_at dksJ25_getLongUnaligned_3 16 rfl rfl)
theorem dJ25_getLongUnaligned_91 : decode cJ25_getLongUnaligned 91 = .ok (.invokestatic 704, 3) := dk_184 2 192 (dk_at dksJ25_getLongUnaligned_3 19 rfl rfl)
theorem dJ25_getLongUnaligned_94 : decode cJ25_getLongUnaligned 94 = .ok (.lreturn, 1) := dk_173 (dk_at dksJ25_getLongUnaligned_3 22 rfl rfl)
theorem dJ25_getLongUnaligned_95 : decode cJ25_getLongUnaligned 95 = .ok (.aload_n 0, 1) := dk_42 (dk_at dksJ25_getLongUnaligned_3 23 rfl rfl)
theorem dJ25_getLongUnaligned_96 : decode cJ25_getLongUnaligned 96 = .ok (.aload_n 1, 1) := dk_43 (dk_at dksJ25_getLongUnaligned_4 0 rfl rfl)
theorem dJ25_getLongUnaligned_97 : decode cJ25_getLongUnaligned 97 = .ok (.lload_n 2, 1) := dk_32 (dk_at dksJ25_getLongUnaligned_4 1 rfl rfl)
theorem dJ25_getLongUnaligned_98 : decode cJ25_getLongUnaligned 98 = .ok (.invokevirtual 39, 3) := dk_182 0 39 (dk_at dksJ25_getLongUnaligned_4 2 rfl rfl)
theorem dJ25_getLongUnaligned_101 : decode cJ25_getLongUnaligned 101 = .ok (.aload_n 0, 1) := dk_42 (dk_at dksJ25_getLongUnaligned_4 5 rfl rfl)
theorem dJ25_getLongUnaligned_102 : decode cJ25_getLongUnaligned 102 = .ok (.aload_n 1, 1) := dk_43 (dk_at dksJ25_getLongUnaligned_4 6 rfl rfl)
theorem dJ25_getLongUnaligned_103 : decode cJ25_getLongUnaligned 103 = .ok (.lload_n 2, 1) := dk_32 (dk_at dksJ25_getLongUnaligned_4 7 rfl rfl)
theorem dJ25_getLongUnaligned_104 : decode cJ25_getLongUnaligned 104 = .ok (.lconst 1, 1) := dk_10 (dk_at dksJ25_getLongUnaligned_4 8 rfl rfl)
theorem dJ25_getLongUnaligned_105 : decode cJ25_getLongUnaligned 105 = .ok (.ladd, 1) := dk_97 (dk_at dksJ25_getLongUnaligned_4 9 rfl rfl)
theorem dJ25_getLongUnaligned_106 : decode cJ25_getLongUnaligned 106 = .ok (.invokevirtual 39, 3) := dk_182 0 39 (dk_at dksJ25_getLongUnaligned_4 10 rfl rfl)
theorem dJ25_getLongUnaligned_109 : decode cJ25_getLongUnaligned 109 = .ok (.aload_n 0, 1) := dk_42 (dk_at dksJ25_getLongUnaligned_4 13 rfl rfl)
theorem dJ25_getLongUnaligned_110 : decode cJ25_getLongUnaligned 110 = .ok (.aload_n 1, 1) := dk_43 (dk_at dksJ25_getLongUnaligned_4 14 rfl rfl)
theorem dJ25_getLongUnaligned_111 : decode cJ25_getLongUnaligned 111 = .ok (.lload_n 2, 1) := dk_32 (dk_at dksJ25_getLongUnaligned_4 15 rfl rfl)
theorem dJ25_getLongUnaligned_112 : decode cJ25_getLongUnaligned 112 = .ok (.ldc2_w 203, 3) := dk_20 0 203 (dk_at dksJ25_getLongUnaligned_4 16 rfl rfl)
theorem dJ25_getLongUnaligned_115 : decode cJ25_getLongUnaligned 115 = .ok (.ladd, 1) := dk_97 (dk_at dksJ25_getLongUnaligned_4 19 rfl rfl)
theorem dJ25_getLongUnaligned_116 : decode cJ25_getLongUnaligned 116 = .ok (.invokevirtual 39, 3) := dk_182 0 39 (dk_at dksJ25_getLongUnaligned_4 20 rfl rfl)
theorem dJ25_getLongUnaligned_119 : decode cJ25_getLongUnaligned 119 = .ok (.aload_n 0, 1) := dk_42 (dk_at dksJ25_getLongUnaligned_4 23 rfl rfl)
theorem dJ25_getLongUnaligned_120 : decode cJ25_getLongUnaligned 120 = .ok (.aload_n 1, 1) := dk_43 (dk_at dksJ25_getLongUnaligned_5 0 rfl rfl)
theorem dJ25_getLongUnaligned_121 : decode cJ25_getLongUnaligned 121 = .ok (.lload_n 2, 1) := dk_32 (dk_at dksJ25_getLongUnaligned_5 1 rfl rfl)
theorem dJ25_getLongUnaligned_122 : decode cJ25_getLongUnaligned 122 = .ok (.ldc2_w 349, 3) := dk_20 1 93 (dk_at dksJ25_getLongUnaligned_5 2 rfl rfl)
theorem dJ25_getLongUnaligned_125 : decode cJ25_getLongUnaligned 125 = .ok (.ladd, 1) := dk_97 (dk_at dksJ25_getLongUnaligned_5 5 rfl rfl)
theorem dJ25_getLongUnaligned_126 : decode cJ25_getLongUnaligned 126 = .ok (.invokevirtual 39, 3) := dk_182 0 39 (dk_at dksJ25_getLongUnaligned_5 6 rfl rfl)
theorem dJ25_getLongUnaligned_129 : decode cJ25_getLongUnaligned 129 = .ok (.aload_n 0, 1) := dk_42 (dk_at dksJ25_getLongUnaligned_5 9 rfl rfl)
theorem dJ25_getLongUnaligned_130 : decode cJ25_getLongUnaligned 130 = .ok (.aload_n 1, 1) := dk_43 (dk_at dksJ25_getLongUnaligned_5 10 rfl rfl)
theorem dJ25_getLongUnaligned_131 : decode cJ25_getLongUnaligned 131 = .ok (.lload_n 2, 1) := dk_32 (dk_at dksJ25_getLongUnaligned_5 11 rfl rfl)
theorem dJ25_getLongUnaligned_132 : decode cJ25_getLongUnaligned 132 = .ok (.ldc2_w 205, 3) := dk_20 0 205 (dk_at dksJ25_getLongUnaligned_5 12 rfl rfl)
theorem dJ25_getLongUnaligned_135 : decode cJ25_getLongUnaligned 135 = .ok (.ladd, 1) := dk_97 (dk_at dksJ25_getLongUnaligned_5 15 rfl rfl)
theorem dJ25_getLongUnaligned_136 : decode cJ25_getLongUnaligned 136 = .ok (.invokevirtual 39, 3) := dk_182 0 39 (dk_at dksJ25_getLongUnaligned_5 16 rfl rfl)
theorem dJ25_getLongUnaligned_139 : decode cJ25_getLongUnaligned 139 = .ok (.aload_n 0, 1) := dk_42 (dk_at dksJ25_getLongUnaligned_5 19 rfl rfl)
theorem dJ25_getLongUnaligned_140 : decode cJ25_getLongUnaligned 140 = .ok (.aload_n 1, 1) := dk_43 (dk_at dksJ25_getLongUnaligned_5 20 rfl rfl)
theorem dJ25_getLongUnaligned_141 : decode cJ25_getLongUnaligned 141 = .ok (.lload_n 2, 1) := dk_32 (dk_at dksJ25_getLongUnaligned_5 21 rfl rfl)
theorem dJ25_getLongUnaligned_142 : decode cJ25_getLongUnaligned 142 = .ok (.ldc2_w 707, 3) := dk_20 2 195 (dk_at dksJ25_getLongUnaligned_6 0 rfl rfl)
theorem dJ25_getLongUnaligned_145 : decode cJ25_getLongUnaligned 145 = .ok (.ladd, 1) := dk_97 (dk_at dksJ25_getLongUnaligned_6 3 rfl rfl)
theorem dJ25_getLongUnaligned_146 : decode cJ25_getLongUnaligned 146 = .ok (.invokevirtual 39, 3) := dk_182 0 39 (dk_at dksJ25_getLongUnaligned_6 4 rfl rfl)
theorem dJ25_getLongUnaligned_149 : decode cJ25_getLongUnaligned 149 = .ok (.aload_n 0, 1) := dk_42 (dk_at dksJ25_getLongUnaligned_6 7 rfl rfl)
theorem dJ25_getLongUnaligned_150 : decode cJ25_getLongUnaligned 150 = .ok (.aload_n 1, 1) := dk_43 (dk_at dksJ25_getLongUnaligned_6 8 rfl rfl)
theorem dJ25_getLongUnaligned_151 : decode cJ25_getLongUnaligned 151 = .ok (.lload_n 2, 1) := dk_32 (dk_at dksJ25_getLongUnaligned_6 9 rfl rfl)
theorem dJ25_getLongUnaligned_152 : decode cJ25_getLongUnaligned 152 = .ok (.ldc2_w 702, 3) := dk_20 2 190 (dk_at dksJ25_getLongUnaligned_6 10 rfl rfl)
theorem dJ25_getLongUnaligned_155 : decode cJ25_getLongUnaligned 155 = .ok (.ladd, 1) := dk_97 (dk_at dksJ25_getLongUnaligned_6 13 rfl rfl)
theorem dJ25_getLongUnaligned_156 : decode cJ25_getLongUnaligned 156 = .ok (.invokevirtual 39, 3) := dk_182 0 39 (dk_at dksJ25_getLongUnaligned_6 14 rfl rfl)
theorem dJ25_getLongUnaligned_159 : decode cJ25_getLongUnaligned 159 = .ok (.aload_n 0, 1) := dk_42 (dk_at dksJ25_getLongUnaligned_6 17 rfl rfl)
theorem dJ25_getLongUnaligned_160 : decode cJ25_getLongUnaligned 160 = .ok (.aload_n 1, 1) := dk_43 (dk_at dksJ25_getLongUnaligned_6 18 rfl rfl)
theorem dJ25_getLongUnaligned_161 : decode cJ25_getLongUnaligned 161 = .ok (.lload_n 2, 1) := dk_32 (dk_at dksJ25_getLongUnaligned_6 19 rfl rfl)
theorem dJ25_getLongUnaligned_162 : decode cJ25_getLongUnaligned 162 = .ok (.ldc2_w 696, 3) := dk_20 2 184 (dk_at dksJ25_getLongUnaligned_6 20 rfl rfl)
theorem dJ25_getLongUnaligned_165 : decode cJ25_getLongUnaligned 165 = .ok (.ladd, 1) := dk_97 (dk_at dksJ25_getLongUnaligned_6 23 rfl rfl)
theorem dJ25_getLongUnaligned_166 : decode cJ25_getLongUnaligned 166 = .ok (.invokevirtual 39, 3) := dk_182 0 39 (dk_at dksJ25_getLongUnaligned_7 0 rfl rfl)
theorem dJ25_getLongUnaligned_169 : decode cJ25_getLongUnaligned 169 = .ok (.invokestatic 709, 3) := dk_184 2 197 (dk_at dksJ25_getLongUnaligned_7 3 rfl rfl)
theorem dJ25_getLongUnaligned_172 : decode cJ25_getLongUnaligned 172 = .ok (.lreturn, 1) := dk_173 (dk_at dksJ25_getLongUnaligned_7 6 rfl rfl)
abbrev cJ25_makeLong : ByteArray := prog_97_method_353_code
def yJ25_makeLong : MethodName := ⟨RJ25, "makeLong", "(II)J"⟩
def dkwJ25_makeLong_1 : List UInt8 := [173]
abbrev dktJ25_makeLong_1 : List UInt8 := dkwJ25_makeLong_1 ++ []
def dkwJ25_makeLong_0 : List UInt8 := [26, 184, 3, 23, 16, 32, 3, 184, 3, 16, 121, 27, 184, 3, 23, 16, 32, 16, 32, 184, 3, 16, 121, 129]
abbrev dktJ25_makeLong_0 : List UInt8 := dkwJ25_makeLong_0 ++ dktJ25_makeLong_1
theorem dksJ25_makeLong_0 : cJ25_makeLong.data.toList.drop 0 = dktJ25_makeLong_0 := by decide +kernel
theorem dksJ25_makeLong_1 : cJ25_makeLong.data.toList.drop 24 = dktJ25_makeLong_1 := dk_seg dksJ25_makeLong_0 24 rfl rfl
theorem dJ25_makeLong_0 : decode cJ25_makeLong 0 = .ok (.iload_n 0, 1) := dk_26 (dk_at dksJ25_makeLong_0 0 rfl rfl)
theorem dJ25_makeLong_1 : decode cJ25_makeLong 1 = .ok (.invokestatic 791, 3) := dk_184 3 23 (dk_at dksJ25_makeLong_0 1 rfl rfl)
theorem dJ25_makeLong_4 : decode cJ25_makeLong 4 = .ok (.bipush 32, 2) := dk_16 32 (dk_at dksJ25_makeLong_0 4 rfl rfl)
theorem dJ25_makeLong_6 : decode cJ25_makeLong 6 = .ok (.iconst 0, 1) := dk_3 (dk_at dksJ25_makeLong_0 6 rfl rfl)
theorem dJ25_makeLong_7 : decode cJ25_makeLong 7 = .ok (.invokestatic 784, 3) := dk_184 3 16 (dk_at dksJ25_makeLong_0 7 rfl rfl)
theorem dJ25_makeLong_10 : decode cJ25_makeLong 10 = .ok (.lshl, 1) := dk_121 (dk_at dksJ25_makeLong_0 10 rfl rfl)
theorem dJ25_makeLong_11 : decode cJ25_makeLong 11 = .ok (.iload_n 1, 1) := dk_27 (dk_at dksJ25_makeLong_0 11 rfl rfl)
theorem dJ25_makeLong_12 : decode cJ25_makeLong 12 = .ok (.invokestatic 791, 3) := dk_184 3 23 (dk_at dksJ25_makeLong_0 12 rfl rfl)
theorem dJ25_makeLong_15 : decode cJ25_makeLong 15 = .ok (.bipush 32, 2) := dk_16 32 (dk_at dksJ25_makeLong_0 15 rfl rfl)
theorem dJ25_makeLong_17 : decode cJ25_makeLong 17 = .ok (.bipush 32, 2) := dk_16 32 (dk_at dksJ25_makeLong_0 17 rfl rfl)
theorem dJ25_makeLong_19 : decode cJ25_makeLong 19 = .ok (.invokestatic 784, 3) := dk_184 3 16 (dk_at dksJ25_makeLong_0 19 rfl rfl)
theorem dJ25_makeLong_22 : decode cJ25_makeLong 22 = .ok (.lshl, 1) := dk_121 (dk_at dksJ25_makeLong_0 22 rfl rfl)
theorem dJ25_makeLong_23 : decode cJ25_makeLong 23 = .ok (.lor, 1) := dk_129 (dk_at dksJ25_makeLong_0 23 rfl rfl)
theorem dJ25_makeLong_24 : decode cJ25_makeLong 24 = .ok (.lreturn, 1) := dk_173 (dk_at dksJ25_makeLong_1 0 rfl rfl)
abbrev cJ25_toUnsignedLong : ByteArray := prog_97_method_370_code
def yJ25_toUnsignedLong : MethodName := ⟨RJ25, "toUnsignedLong", "(I)J"⟩
def dkwJ25_toUnsignedLong_0 : List UInt8 := [26, 133, 20, 3, 44, 127, 173]
abbrev dktJ25_toUnsignedLong_0 : List UInt8 := dkwJ25_toUnsignedLong_0 ++ []
theorem dksJ25_toUnsignedLong_0 : cJ25_toUnsignedLong.data.toList.drop 0 = dktJ25_toUnsignedLong_0 := by decide +kernel
theorem dJ25_toUnsignedLong_0 : decode cJ25_toUnsignedLong 0 = .ok (.iload_n 0, 1) := dk_26 (dk_at dksJ25_toUnsignedLong_0 0 rfl rfl)
theorem dJ25_toUnsignedLong_1 : decode cJ25_toUnsignedLong 1 = .ok (.i2l, 1) := dk_133 (dk_at dksJ25_toUnsignedLong_0 1 rfl rfl)
theorem dJ25_toUnsignedLong_2 : decode cJ25_toUnsignedLong 2 = .ok (.ldc2_w 812, 3) := dk_20 3 44 (dk_at dksJ25_toUnsignedLong_0 2 rfl rfl)
theorem dJ25_toUnsignedLong_5 : decode cJ25_toUnsignedLong 5 = .ok (.land, 1) := dk_127 (dk_at dksJ25_toUnsignedLong_0 5 rfl rfl)
theorem dJ25_toUnsignedLong_6 : decode cJ25_toUnsignedLong 6 = .ok (.lreturn, 1) := dk_173 (dk_at dksJ25_toUnsignedLong_0 6 rfl rfl)
abbrev cJ25_pickPos : ByteArray := prog_97_method_350_code
def yJ25_pickPos : MethodName := ⟨RJ25, "pickPos", "(II)I"⟩
def dkwJ25_pickPos_0 : List UInt8 := [178, 1, 95, 153, 0, 9, 26, 27, 100, 167, 0, 4, 27, 172]
abbrev dktJ25_pickPos_0 : List UInt8 := dkwJ25_pickPos_0 ++ []
theorem dksJ25_pickPos_0 : cJ25_pickPos.data.toList.drop 0 = dktJ25_pickPos_0 := by decide +kernel
theorem dJ25_pickPos_0 : decode cJ25_pickPos 0 = .ok (.getstatic 351, 3) := dk_178 1 95 (dk_at dksJ25_pickPos_0 0 rfl rfl)
theorem dJ25_pickPos_3 : decode cJ25_pickPos 3 = .ok (.ifCond .eq 9, 3) := dk_153 0 9 (dk_at dksJ25_pickPos_0 3 rfl rfl)
theorem dJ25_pickPos_6 : decode cJ25_pickPos 6 = .ok (.iload_n 0, 1) := dk_26 (dk_at dksJ25_pickPos_0 6 rfl rfl)
theorem dJ25_pickPos_7 : decode cJ25_pickPos 7 = .ok (.iload_n 1, 1) := dk_27 (dk_at dksJ25_pickPos_0 7 rfl rfl)
theorem dJ25_pickPos_8 : decode cJ25_pickPos 8 = .ok (.isub, 1) := dk_100 (dk_at dksJ25_pickPos_0 8 rfl rfl)
theorem dJ25_pickPos_9 : decode cJ25_pickPos 9 = .ok (.goto 4, 3) := dk_167 0 4 (dk_at dksJ25_pickPos_0 9 rfl rfl)
theorem dJ25_pickPos_12 : decode cJ25_pickPos 12 = .ok (.iload_n 1, 1) := dk_27 (dk_at dksJ25_pickPos_0 12 rfl rfl)
theorem dJ25_pickPos_13 : decode cJ25_pickPos 13 = .ok (.ireturn, 1) := dk_172 (dk_at dksJ25_pickPos_0 13 rfl rfl)
abbrev cJ25_makeLong_2 : ByteArray := prog_97_method_352_code
def yJ25_makeLong_2 : MethodName := ⟨RJ25, "makeLong", "(SSSS)J"⟩
def dkwJ25_makeLong_2_2 : List UInt8 := [121, 129, 173]
abbrev dktJ25_makeLong_2_2 : List UInt8 := dkwJ25_makeLong_2_2 ++ []
def dkwJ25_makeLong_2_1 : List UInt8 := [28, 184, 3, 20, 16, 48, 16, 32, 184, 3, 16, 121, 129, 29, 184, 3, 20, 16, 48, 16, 48, 184, 3, 16]
abbrev dktJ25_makeLong_2_1 : List UInt8 := dkwJ25_makeLong_2_1 ++ dktJ25_makeLong_2_2
def dkwJ25_makeLong_2_0 : List UInt8 := [26, 184, 3, 20, 16, 48, 3, 184, 3, 16, 121, 27, 184, 3, 20, 16, 48, 16, 16, 184, 3, 16, 121, 129]
abbrev dktJ25_makeLong_2_0 : List UInt8 := dkwJ25_makeLong_2_0 ++ dktJ25_makeLong_2_1
theorem dksJ25_makeLong_2_0 : cJ25_makeLong_2.data.toList.drop 0 = dktJ25_makeLong_2_0 := by decide +kernel
theorem dksJ25_makeLong_2_1 : cJ25_makeLong_2.data.toList.drop 24 = dktJ25_makeLong_2_1 := dk_seg dksJ25_makeLong_2_0 24 rfl rfl
theorem dksJ25_makeLong_2_2 : cJ25_makeLong_2.data.toList.drop 48 = dktJ25_makeLong_2_2 := dk_seg dksJ25_makeLong_2_1 24 rfl rfl
theorem dJ25_makeLong_2_0 : decode cJ25_makeLong_2 0 = .ok (.iload_n 0, 1) := dk_26 (dk_at dksJ25_makeLong_2_0 0 rfl rfl)
theorem dJ25_makeLong_2_1 : decode cJ25_makeLong_2 1 = .ok (.invokestatic 788, 3) := dk_184 3 20 (dk_at dksJ25_makeLong_2_0 1 rfl rfl)
theorem dJ25_makeLong_2_4 : decode cJ25_makeLong_2 4 = .ok (.bipush 48, 2) := dk_16 48 (dk_at dksJ25_makeLong_2_0 4 rfl rfl)
theorem dJ25_makeLong_2_6 : decode cJ25_makeLong_2 6 = .ok (.iconst 0, 1) := dk_3 (dk_at dksJ25_makeLong_2_0 6 rfl rfl)
theorem dJ25_makeLong_2_7 : decode cJ25_makeLong_2 7 = .ok (.invokestatic 784, 3) := dk_184 3 16 (dk_at dksJ25_makeLong_2_0 7 rfl rfl)
theorem dJ25_makeLong_2_10 : decode cJ25_makeLong_2 10 = .ok (.lshl, 1) := dk_121 (dk_at dksJ25_makeLong_2_0 10 rfl rfl)
theorem dJ25_makeLong_2_11 : decode cJ25_makeLong_2 11 = .ok (.iload_n 1, 1) := dk_27 (dk_at dksJ25_makeLong_2_0 11 rfl rfl)
theorem dJ25_makeLong_2_12 : decode cJ25_makeLong_2 12 = .ok (.invokestatic 788, 3) := dk_184 3 20 (dk_at dksJ25_makeLong_2_0 12 rfl rfl)
theorem dJ25_makeLong_2_15 : decode cJ25_makeLong_2 15 = .ok (.bipush 48, 2) := dk_16 48 (dk_at dksJ25_makeLong_2_0 15 rfl rfl)
theorem dJ25_makeLong_2_17 : decode cJ25_makeLong_2 17 = .ok (.bipush 16, 2) := dk_16 16 (dk_at dksJ25_makeLong_2_0 17 rfl rfl)
theorem dJ25_makeLong_2_19 : decode cJ25_makeLong_2 19 = .ok (.invokestatic 784, 3) := dk_184 3 16 (dk_at dksJ25_makeLong_2_0 19 rfl rfl)
theorem dJ25_makeLong_2_22 : decode cJ25_makeLong_2 22 = .ok (.lshl, 1) := dk_121 (dk_at dksJ25_makeLong_2_0 22 rfl rfl)
theorem dJ25_makeLong_2_23 : decode cJ25_makeLong_2 23 = .ok (.lor, 1) := dk_129 (dk_at dksJ25_makeLong_2_0 23 rfl rfl)
theorem dJ25_makeLong_2_24 : decode cJ25_makeLong_2 24 = .ok (.iload_n 2, 1) := dk_28 (dk_at dksJ25_makeLong_2_1 0 rfl rfl)
theorem dJ25_makeLong_2_25 : decode cJ25_makeLong_2 25 = .ok (.invokestatic 788, 3) := dk_184 3 20 (dk_at dksJ25_makeLong_2_1 1 rfl rfl)
theorem dJ25_makeLong_2_28 : decode cJ25_makeLong_2 28 = .ok (.bipush 48, 2) := dk_16 48 (dk_at dksJ25_makeLong_2_1 4 rfl rfl)
theorem dJ25_makeLong_2_30 : decode cJ25_makeLong_2 30 = .ok (.bipush 32, 2) := dk_16 32 (dk_at dksJ25_makeLong_2_1 6 rfl rfl)
theorem dJ25_makeLong_2_32 : decode cJ25_makeLong_2 32 = .ok (.invokestatic 784, 3) := dk_184 3 16 (dk_at dksJ25_makeLong_2_1 8 rfl rfl)
theorem dJ25_makeLong_2_35 : decode cJ25_makeLong_2 35 = .ok (.lshl, 1) := dk_121 (dk_at dksJ25_makeLong_2_1 11 rfl rfl)
theorem dJ25_makeLong_2_36 : decode cJ25_makeLong_2 36 = .ok (.lor, 1) := dk_129 (dk_at dksJ25_makeLong_2_1 12 rfl rfl)
theorem dJ25_makeLong_2_37 : decode cJ25_makeLong_2 37 = .ok (.iload_n 3, 1) := dk_29 (dk_at dksJ25_makeLong_2_1 13 rfl rfl)
theorem dJ25_makeLong_2_38 : decode cJ25_makeLong_2 38 = .ok (.invokestatic 788, 3) := dk_184 3 20 (dk_at dksJ25_makeLong_2_1 14 rfl rfl)
theorem dJ25_makeLong_2_41 : decode cJ25_makeLong_2 41 = .ok (.bipush 48, 2) := dk_16 48 (dk_at dksJ25_makeLong_2_1 17 rfl rfl)
theorem dJ25_makeLong_2_43 : decode cJ25_makeLong_2 43 = .ok (.bipush 48, 2) := dk_16 48 (dk_at dksJ25_makeLong_2_1 19 rfl rfl)
theorem dJ25_makeLong_2_45 : decode cJ25_makeLong_2 45 = .ok (.invokestatic 784, 3) := dk_184 3 16 (dk_at dksJ25_makeLong_2_1 21 rfl rfl)
theorem dJ25_makeLong_2_48 : decode cJ25_makeLong_2 48 = .ok (.lshl, 1) := dk_121 (dk_at dksJ25_makeLong_2_2 0 rfl rfl)
theorem dJ25_makeLong_2_49 : decode cJ25_makeLong_2 49 = .ok (.lor, 1) := dk_129 (dk_at dksJ25_makeLong_2_2 1 rfl rfl)
theorem dJ25_makeLong_2_50 : decode cJ25_makeLong_2 50 = .ok (.lreturn, 1) := dk_173 (dk_at dksJ25_makeLong_2_2 2 rfl rfl)
abbrev cJ25_toUnsignedLong_2 : ByteArray := prog_97_method_369_code
def yJ25_toUnsignedLong_2 : MethodName := ⟨RJ25, "toUnsignedLong", "(S)J"⟩
def dkwJ25_toUnsignedLong_2_0 : List UInt8 := [26, 133, 20, 3, 42, 127, 173]
abbrev dktJ25_toUnsignedLong_2_0 : List UInt8 := dkwJ25_toUnsignedLong_2_0 ++ []
theorem dksJ25_toUnsignedLong_2_0 : cJ25_toUnsignedLong_2.data.toList.drop 0 = dktJ25_toUnsignedLong_2_0 := by decide +kernel
theorem dJ25_toUnsignedLong_2_0 : decode cJ25_toUnsignedLong_2 0 = .ok (.iload_n 0, 1) := dk_26 (dk_at dksJ25_toUnsignedLong_2_0 0 rfl rfl)
theorem dJ25_toUnsignedLong_2_1 : decode cJ25_toUnsignedLong_2 1 = .ok (.i2l, 1) := dk_133 (dk_at dksJ25_toUnsignedLong_2_0 1 rfl rfl)
theorem dJ25_toUnsignedLong_2_2 : decode cJ25_toUnsignedLong_2 2 = .ok (.ldc2_w 810, 3) := dk_20 3 42 (dk_at dksJ25_toUnsignedLong_2_0 2 rfl rfl)
theorem dJ25_toUnsignedLong_2_5 : decode cJ25_toUnsignedLong_2 5 = .ok (.land, 1) := dk_127 (dk_at dksJ25_toUnsignedLong_2_0 5 rfl rfl)
theorem dJ25_toUnsignedLong_2_6 : decode cJ25_toUnsignedLong_2 6 = .ok (.lreturn, 1) := dk_173 (dk_at dksJ25_toUnsignedLong_2_0 6 rfl rfl)
abbrev cJ25_makeLong_3 : ByteArray := prog_97_method_351_code
def yJ25_makeLong_3 : MethodName := ⟨RJ25, "makeLong", "(BBBBBBBB)J"⟩
def dkwJ25_makeLong_3_4 : List UInt8 := [184, 3, 13, 16, 56, 16, 56, 184, 3, 16, 121, 129, 173]
abbrev dktJ25_makeLong_3_4 : List UInt8 := dkwJ25_makeLong_3_4 ++ []
def dkwJ25_makeLong_3_3 : List UInt8 := [16, 40, 184, 3, 16, 121, 129, 21, 6, 184, 3, 13, 16, 56, 16, 48, 184, 3, 16, 121, 129, 21, 7]
abbrev dktJ25_makeLong_3_3 : List UInt8 := dkwJ25_makeLong_3_3 ++ dktJ25_makeLong_3_4
def dkwJ25_makeLong_3_2 : List UInt8 := [121, 129, 21, 4, 184, 3, 13, 16, 56, 16, 32, 184, 3, 16, 121, 129, 21, 5, 184, 3, 13, 16, 56]
abbrev dktJ25_makeLong_3_2 : List UInt8 := dkwJ25_makeLong_3_2 ++ dktJ25_makeLong_3_3
def dkwJ25_makeLong_3_1 : List UInt8 := [28, 184, 3, 13, 16, 56, 16, 16, 184, 3, 16, 121, 129, 29, 184, 3, 13, 16, 56, 16, 24, 184, 3, 16]
abbrev dktJ25_makeLong_3_1 : List UInt8 := dkwJ25_makeLong_3_1 ++ dktJ25_makeLong_3_2
def dkwJ25_makeLong_3_0 : List UInt8 := [26, 184, 3, 13, 16, 56, 3, 184, 3, 16, 121, 27, 184, 3, 13, 16, 56, 16, 8, 184, 3, 16, 121, 129]
abbrev dktJ25_makeLong_3_0 : List UInt8 := dkwJ25_makeLong_3_0 ++ dktJ25_makeLong_3_1
theorem dksJ25_makeLong_3_0 : cJ25_makeLong_3.data.toList.drop 0 = dktJ25_makeLong_3_0 := by decide +kernel
theorem dksJ25_makeLong_3_1 : cJ25_makeLong_3.data.toList.drop 24 = dktJ25_makeLong_3_1 := dk_seg dksJ25_makeLong_3_0 24 rfl rfl
theorem dksJ25_makeLong_3_2 : cJ25_makeLong_3.data.toList.drop 48 = dktJ25_makeLong_3_2 := dk_seg dksJ25_makeLong_3_1 24 rfl rfl
theorem dksJ25_makeLong_3_3 : cJ25_makeLong_3.data.toList.drop 71 = dktJ25_makeLong_3_3 := dk_seg dksJ25_makeLong_3_2 23 rfl rfl
theorem dksJ25_makeLong_3_4 : cJ25_makeLong_3.data.toList.drop 94 = dktJ25_makeLong_3_4 := dk_seg dksJ25_makeLong_3_3 23 rfl rfl
theorem dJ25_makeLong_3_0 : decode cJ25_makeLong_3 0 = .ok (.iload_n 0, 1) := dk_26 (dk_at dksJ25_makeLong_3_0 0 rfl rfl)
theorem dJ25_makeLong_3_1 : decode cJ25_makeLong_3 1 = .ok (.invokestatic 781, 3) := dk_184 3 13 (dk_at dksJ25_makeLong_3_0 1 rfl rfl)
theorem dJ25_makeLong_3_4 : decode cJ25_makeLong_3 4 = .ok (.bipush 56, 2) := dk_16 56 (dk_at dksJ25_makeLong_3_0 4 rfl rfl)
theorem dJ25_makeLong_3_6 : decode cJ25_makeLong_3 6 = .ok (.iconst 0, 1) := dk_3 (dk_at dksJ25_makeLong_3_0 6 rfl rfl)
theorem dJ25_makeLong_3_7 : decode cJ25_makeLong_3 7 = .ok (.invokestatic 784, 3) := dk_184 3 16 (dk_at dksJ25_makeLong_3_0 7 rfl rfl)
theorem dJ25_makeLong_3_10 : decode cJ25_makeLong_3 10 = .ok (.lshl, 1) := dk_121 (dk_at dksJ25_makeLong_3_0 10 rfl rfl)
theorem dJ25_makeLong_3_11 : decode cJ25_makeLong_3 11 = .ok (.iload_n 1, 1) := dk_27 (dk_at dksJ25_makeLong_3_0 11 rfl rfl)
theorem dJ25_makeLong_3_12 : decode cJ25_makeLong_3 12 = .ok (.invokestatic 781, 3) := dk_184 3 13 (dk_at dksJ25_makeLong_3_0 12 rfl rfl)
theorem dJ25_makeLong_3_15 : decode cJ25_makeLong_3 15 = .ok (.bipush 56, 2) := dk_16 56 (dk_at dksJ25_makeLong_3_0 15 rfl rfl)
theorem dJ25_makeLong_3_17 : decode cJ25_makeLong_3 17 = .ok (.bipush 8, 2) := dk_16 8 (dk_at dksJ25_makeLong_3_0 17 rfl rfl)
theorem dJ25_makeLong_3_19 : decode cJ25_makeLong_3 19 = .ok (.invokestatic 784, 3) := dk_184 3 16 (dk_at dksJ25_makeLong_3_0 19 rfl rfl)
theorem dJ25_makeLong_3_22 : decode cJ25_makeLong_3 22 = .ok (.lshl, 1) := dk_121 (dk_at dksJ25_makeLong_3_0 22 rfl rfl)
theorem dJ25_makeLong_3_23 : decode cJ25_makeLong_3 23 = .ok (.lor, 1) := dk_129 (dk_at dksJ25_makeLong_3_0 23 rfl rfl)
theorem dJ25_makeLong_3_24 : decode cJ25_makeLong_3 24 = .ok (.iload_n 2, 1) := dk_28 (dk_at dksJ25_makeLong_3_1 0 rfl rfl)
theorem dJ25_makeLong_3_25 : decode cJ25_makeLong_3 25 = .ok (.invokestatic 781, 3) := dk_184 3 13 (dk_at dksJ25_makeLong_3_1 1 rfl rfl)
theorem dJ25_makeLong_3_28 : decode cJ25_makeLong_3 28 = .ok (.bipush 56, 2) := dk_16 56 (dk_at dksJ25_makeLong_3_1 4 rfl rfl)
theorem dJ25_makeLong_3_30 : decode cJ25_makeLong_3 30 = .ok (.bipush 16, 2) := dk_16 16 (dk_at dksJ25_makeLong_3_1 6 rfl rfl)
theorem dJ25_makeLong_3_32 : decode cJ25_makeLong_3 32 = .ok (.invokestatic 784, 3) := dk_184 3 16 (dk_at dksJ25_makeLong_3_1 8 rfl rfl)
theorem dJ25_makeLong_3_35 : decode cJ25_makeLong_3 35 = .ok (.lshl, 1) := dk_121 (dk_at dksJ25_makeLong_3_1 11 rfl rfl)
theorem dJ25_makeLong_3_36 : decode cJ25_makeLong_3 36 = .ok (.lor, 1) := dk_129 (dk_at dksJ25_makeLong_3_1 12 rfl rfl)
theorem dJ25_makeLong_3_37 : decode cJ25_makeLong_3 37 = .ok (.iload_n 3, 1) := dk_29 (dk_at dksJ25_makeLong_3_1 13 rfl rfl)
theorem dJ25_makeLong_3_38 : decode cJ25_makeLong_3 38 = .ok (.invokestatic 781, 3) := dk_184 3 13 (dk_at dksJ25_makeLong_3_1 14 rfl rfl)
theorem dJ25_makeLong_3_41 : decode cJ25_makeLong_3 41 = .ok (.bipush 56, 2) := dk_16 56 (dk_at dksJ25_makeLong_3_1 17 rfl rfl)
theorem dJ25_makeLong_3_43 : decode cJ25_makeLong_3 43 = .ok (.bipush 24, 2) := dk_16 24 (dk_at dksJ25_makeLong_3_1 19 rfl rfl)
theorem dJ25_makeLong_3_45 : decode cJ25_makeLong_3 45 = .ok (.invokestatic 784, 3) := dk_184 3 16 (dk_at dksJ25_makeLong_3_1 21 rfl rfl)
theorem dJ25_makeLong_3_48 : decode cJ25_makeLong_3 48 = .ok (.lshl, 1) := dk_121 (dk_at dksJ25_makeLong_3_2 0 rfl rfl)
theorem dJ25_makeLong_3_49 : decode cJ25_makeLong_3 49 = .ok (.lor, 1) := dk_129 (dk_at dksJ25_makeLong_3_2 1 rfl rfl)
theorem dJ25_makeLong_3_50 : decode cJ25_makeLong_3 50 = .ok (.iload 4, 2) := dk_21 4 (dk_at dksJ25_makeLong_3_2 2 rfl rfl)
theorem dJ25_makeLong_3_52 : decode cJ25_makeLong_3 52 = .ok (.invokestatic 781, 3) := dk_184 3 13 (dk_at dksJ25_makeLong_3_2 4 rfl rfl)
theorem dJ25_makeLong_3_55 : decode cJ25_makeLong_3 55 = .ok (.bipush 56, 2) := dk_16 56 (dk_at dksJ25_makeLong_3_2 7 rfl rfl)
theorem dJ25_makeLong_3_57 : decode cJ25_makeLong_3 57 = .ok (.bipush 32, 2) := dk_16 32 (dk_at dksJ25_makeLong_3_2 9 rfl rfl)
theorem dJ25_makeLong_3_59 : decode cJ25_makeLong_3 59 = .ok (.invokestatic 784, 3) := dk_184 3 16 (dk_at dksJ25_makeLong_3_2 11 rfl rfl)
theorem dJ25_makeLong_3_62 : decode cJ25_makeLong_3 62 = .ok (.lshl, 1) := dk_121 (dk_at dksJ25_makeLong_3_2 14 rfl rfl)
theorem dJ25_makeLong_3_63 : decode cJ25_makeLong_3 63 = .ok (.lor, 1) := dk_129 (dk_at dksJ25_makeLong_3_2 15 rfl rfl)
theorem dJ25_makeLong_3_64 : decode cJ25_makeLong_3 64 = .ok (.iload 5, 2) := dk_21 5 (dk_at dksJ25_makeLong_3_2 16 rfl rfl)
theorem dJ25_makeLong_3_66 : decode cJ25_makeLong_3 66 = .ok (.invokestatic 781, 3) := dk_184 3 13 (dk_at dksJ25_makeLong_3_2 18 rfl rfl)
theorem dJ25_makeLong_3_69 : decode cJ25_makeLong_3 69 = .ok (.bipush 56, 2) := dk_16 56 (dk_at dksJ25_makeLong_3_2 21 rfl rfl)
theorem dJ25_makeLong_3_71 : decode cJ25_makeLong_3 71 = .ok (.bipush 40, 2) := dk_16 40 (dk_at dksJ25_makeLong_3_3 0 rfl rfl)
theorem dJ25_makeLong_3_73 : decode cJ25_makeLong_3 73 = .ok (.invokestatic 784, 3) := dk_184 3 16 (dk_at dksJ25_makeLong_3_3 2 rfl rfl)
theorem dJ25_makeLong_3_76 : decode cJ25_makeLong_3 76 = .ok (.lshl, 1) := dk_121 (dk_at dksJ25_makeLong_3_3 5 rfl rfl)
theorem dJ25_makeLong_3_77 : decode cJ25_makeLong_3 77 = .ok (.lor, 1) := dk_129 (dk_at dksJ25_makeLong_3_3 6 rfl rfl)
theorem dJ25_makeLong_3_78 : decode cJ25_makeLong_3 78 = .ok (.iload 6, 2) := dk_21 6 (dk_at dksJ25_makeLong_3_3 7 rfl rfl)
theorem dJ25_makeLong_3_80 : decode cJ25_makeLong_3 80 = .ok (.invokestatic 781, 3) := dk_184 3 13 (dk_at dksJ25_makeLong_3_3 9 rfl rfl)
theorem dJ25_makeLong_3_83 : decode cJ25_makeLong_3 83 = .ok (.bipush 56, 2) := dk_16 56 (dk_at dksJ25_makeLong_3_3 12 rfl rfl)
theorem dJ25_makeLong_3_85 : decode cJ25_makeLong_3 85 = .ok (.bipush 48, 2) := dk_16 48 (dk_at dksJ25_makeLong_3_3 14 rfl rfl)
theorem dJ25_makeLong_3_87 : decode cJ25_makeLong_3 87 = .ok (.invokestatic 784, 3) := dk_184 3 16 (dk_at dksJ25_makeLong_3_3 16 rfl rfl)
theorem dJ25_makeLong_3_90 : decode cJ25_makeLong_3 90 = .ok (.lshl, 1) := dk_121 (dk_at dksJ25_makeLong_3_3 19 rfl rfl)
theorem dJ25_makeLong_3_91 : decode cJ25_makeLong_3 91 = .ok (.lor, 1) := dk_129 (dk_at dksJ25_makeLong_3_3 20 rfl rfl)
theorem dJ25_makeLong_3_92 : decode cJ25_makeLong_3 92 = .ok (.iload 7, 2) := dk_21 7 (dk_at dksJ25_makeLong_3_3 21 rfl rfl)
theorem dJ25_makeLong_3_94 : decode cJ25_makeLong_3 94 = .ok (.invokestatic 781, 3) := dk_184 3 13 (dk_at dksJ25_makeLong_3_4 0 rfl rfl)
theorem dJ25_makeLong_3_97 : decode cJ25_makeLong_3 97 = .ok (.bipush 56, 2) := dk_16 56 (dk_at dksJ25_makeLong_3_4 3 rfl rfl)
theorem dJ25_makeLong_3_99 : decode cJ25_makeLong_3 99 = .ok (.bipush 56, 2) := dk_16 56 (dk_at dksJ25_makeLong_3_4 5 rfl rfl)
theorem dJ25_makeLong_3_101 : decode cJ25_makeLong_3 101 = .ok (.invokestatic 784, 3) := dk_184 3 16 (dk_at dksJ25_makeLong_3_4 7 rfl rfl)
theorem dJ25_makeLong_3_104 : decode cJ25_makeLong_3 104 = .ok (.lshl, 1) := dk_121 (dk_at dksJ25_makeLong_3_4 10 rfl rfl)
theorem dJ25_makeLong_3_105 : decode cJ25_makeLong_3 105 = .ok (.lor, 1) := dk_129 (dk_at dksJ25_makeLong_3_4 11 rfl rfl)
theorem dJ25_makeLong_3_106 : decode cJ25_makeLong_3 106 = .ok (.lreturn, 1) := dk_173 (dk_at dksJ25_makeLong_3_4 12 rfl rfl)
abbrev cJ25_toUnsignedLong_3 : ByteArray := prog_97_method_368_code
def yJ25_toUnsignedLong_3 : MethodName := ⟨RJ25, "toUnsignedLong", "(B)J"⟩
def dkwJ25_toUnsignedLong_3_0 : List UInt8 := [26, 133, 20, 3, 40, 127, 173]
abbrev dktJ25_toUnsignedLong_3_0 : List UInt8 := dkwJ25_toUnsignedLong_3_0 ++ []
theorem dksJ25_toUnsignedLong_3_0 : cJ25_toUnsignedLong_3.data.toList.drop 0 = dktJ25_toUnsignedLong_3_0 := by decide +kernel
theorem dJ25_toUnsignedLong_3_0 : decode cJ25_toUnsignedLong_3 0 = .ok (.iload_n 0, 1) := dk_26 (dk_at dksJ25_toUnsignedLong_3_0 0 rfl rfl)
theorem dJ25_toUnsignedLong_3_1 : decode cJ25_toUnsignedLong_3 1 = .ok (.i2l, 1) := dk_133 (dk_at dksJ25_toUnsignedLong_3_0 1 rfl rfl)
theorem dJ25_toUnsignedLong_3_2 : decode cJ25_toUnsignedLong_3 2 = .ok (.ldc2_w 808, 3) := dk_20 3 40 (dk_at dksJ25_toUnsignedLong_3_0 2 rfl rfl)
theorem dJ25_toUnsignedLong_3_5 : decode cJ25_toUnsignedLong_3 5 = .ok (.land, 1) := dk_127 (dk_at dksJ25_toUnsignedLong_3_0 5 rfl rfl)
theorem dJ25_toUnsignedLong_3_6 : decode cJ25_toUnsignedLong_3 6 = .ok (.lreturn, 1) := dk_173 (dk_at dksJ25_toUnsignedLong_3_0 6 rfl rfl)
abbrev cJ25_getIntUnaligned : ByteArray := prog_97_method_336_code
def yJ25_getIntUnaligned : MethodName := ⟨RJ25, "getIntUnaligned", "(Ljava/lang/Object;J)I"⟩
def dkwJ25_getIntUnaligned_3 : List UInt8 := [43, 32, 20, 1, 93, 97, 182, 0, 39, 184, 2, 211, 172]
abbrev dktJ25_getIntUnaligned_3 : List UInt8 := dkwJ25_getIntUnaligned_3 ++ []
def dkwJ25_getIntUnaligned_2 : List UInt8 := [43, 32, 182, 0, 39, 42, 43, 32, 10, 97, 182, 0, 39, 42, 43, 32, 20, 0, 203, 97, 182, 0, 39, 42]
abbrev dktJ25_getIntUnaligned_2 : List UInt8 := dkwJ25_getIntUnaligned_2 ++ dktJ25_getIntUnaligned_3
def dkwJ25_getIntUnaligned_1 : List UInt8 := [154, 0, 23, 42, 43, 32, 182, 0, 47, 42, 43, 32, 20, 0, 203, 97, 182, 0, 47, 184, 2, 207, 172, 42]
abbrev dktJ25_getIntUnaligned_1 : List UInt8 := dkwJ25_getIntUnaligned_1 ++ dktJ25_getIntUnaligned_2
def dkwJ25_getIntUnaligned_0 : List UInt8 := [32, 20, 1, 93, 127, 9, 148, 154, 0, 10, 42, 43, 32, 182, 0, 17, 172, 32, 10, 127, 9, 148]
abbrev dktJ25_getIntUnaligned_0 : List UInt8 := dkwJ25_getIntUnaligned_0 ++ dktJ25_getIntUnaligned_1
theorem dksJ25_getIntUnaligned_0 : cJ25_getIntUnaligned.data.toList.drop 0 = dktJ25_getIntUnaligned_0 := by decide +kernel
theorem dksJ25_getIntUnaligned_1 : cJ25_getIntUnaligned.data.toList.drop 22 = dktJ25_getIntUnaligned_1 := dk_seg dksJ25_getIntUnaligned_0 22 rfl rfl
theorem dksJ25_getIntUnaligned_2 : cJ25_getIntUnaligned.data.toList.drop 46 = dktJ25_getIntUnaligned_2 := dk_seg dksJ25_getIntUnaligned_1 24 rfl rfl
theorem dksJ25_getIntUnaligned_3 : cJ25_getIntUnaligned.data.toList.drop 70 = dktJ25_getIntUnaligned_3 := dk_seg dksJ25_getIntUnaligned_2 24 rfl rfl
theorem dJ25_getIntUnaligned_0 : decode cJ25_getIntUnaligned 0 = .ok (.lload_n 2, 1) := dk_32 (dk_at dksJ25_getIntUnaligned_0 0 rfl rfl)
theorem dJ25_getIntUnaligned_1 : decode cJ25_getIntUnaligned 1 = .ok (.ldc2_w 349, 3) := dk_20 1 93 (dk_at dksJ25_getIntUnaligned_0 1 rfl rfl)
theorem dJ25_getIntUnaligned_4 : decode cJ25_getIntUnaligned 4 = .ok (.land, 1) := dk_127 (dk_at dksJ25_getIntUnaligned_0 4 rfl rfl)
theorem dJ25_getIntUnaligned_5 : decode cJ25_getIntUnaligned 5 = .ok (.lconst 0, 1) := dk_9 (dk_at dksJ25_getIntUnaligned_0 5 rfl rfl)
theorem dJ25_getIntUnaligned_6 : decode cJ25_getIntUnaligned 6 = .ok (.lcmp, 1) := dk_148 (dk_at dksJ25_getIntUnaligned_0 6 rfl rfl)
theorem dJ25_getIntUnaligned_7 : decode cJ25_getIntUnaligned 7 = .ok (.ifCond .ne 10, 3) := dk_154 0 10 (dk_at dksJ25_getIntUnaligned_0 7 rfl rfl)
theorem dJ25_getIntUnaligned_10 : decode cJ25_getIntUnaligned 10 = .ok (.aload_n 0, 1) := dk_42 (dk_at dksJ25_getIntUnaligned_0 10 rfl rfl)
theorem dJ25_getIntUnaligned_11 : decode cJ25_getIntUnaligned 11 = .ok (.aload_n 1, 1) := dk_43 (dk_at dksJ25_getIntUnaligned_0 11 rfl rfl)
theorem dJ25_getIntUnaligned_12 : decode cJ25_getIntUnaligned 12 = .ok (.lload_n 2, 1) := dk_32 (dk_at dksJ25_getIntUnaligned_0 12 rfl rfl)
theorem dJ25_getIntUnaligned_13 : decode cJ25_getIntUnaligned 13 = .ok (.invokevirtual 17, 3) := dk_182 0 17 (dk_at dksJ25_getIntUnaligned_0 13 rfl rfl)
theorem dJ25_getIntUnaligned_16 : decode cJ25_getIntUnaligned 16 = .ok (.ireturn, 1) := dk_172 (dk_at dksJ25_getIntUnaligned_0 16 rfl rfl)
theorem dJ25_getIntUnaligned_17 : decode cJ25_getIntUnaligned 17 = .ok (.lload_n 2, 1) := dk_32 (dk_at dksJ25_getIntUnaligned_0 17 rfl rfl)
theorem dJ25_getIntUnaligned_18 : decode cJ25_getIntUnaligned 18 = .ok (.lconst 1, 1) := dk_10 (dk_at dksJ25_getIntUnaligned_0 18 rfl rfl)
theorem dJ25_getIntUnaligned_19 : decode cJ25_getIntUnaligned 19 = .ok (.land, 1) := dk_127 (dk_at dksJ25_getIntUnaligned_0 19 rfl rfl)
theorem dJ25_getIntUnaligned_20 : decode cJ25_getIntUnaligned 20 = .ok (.lconst 0, 1) := dk_9 (dk_at dksJ25_getIntUnaligned_0 20 rfl rfl)
theorem dJ25_getIntUnaligned_21 : decode cJ25_getIntUnaligned 21 = .ok (.lcmp, 1) := dk_148 (dk_at dksJ25_getIntUnaligned_0 21 rfl rfl)
theorem dJ25_getIntUnaligned_22 : decode cJ25_getIntUnaligned 22 = .ok (.ifCond .ne 23, 3) := dk_154 0 23 (dk_at dksJ25_getIntUnaligned_1 0 rfl rfl)
theorem dJ25_getIntUnaligned_25 : decode cJ25_getIntUnaligned 25 = .ok (.aload_n 0, 1) := dk_42 (dk_at dksJ25_getIntUnaligned_1 3 rfl rfl)
theorem dJ25_getIntUnaligned_26 : decode cJ25_getIntUnaligned 26 = .ok (.aload_n 1, 1) := dk_43 (dk_at dksJ25_getIntUnaligned_1 4 rfl rfl)
theorem dJ25_getIntUnaligned_27 : decode cJ25_getIntUnaligned 27 = .ok (.lload_n 2, 1) := dk_32 (dk_at dksJ25_getIntUnaligned_1 5 rfl rfl)
theorem dJ25_getIntUnaligned_28 : decode cJ25_getIntUnaligned 28 = .ok (.invokevirtual 47, 3) := dk_182 0 47 (dk_at dksJ25_getIntUnaligned_1 6 rfl rfl)
theorem dJ25_getIntUnaligned_31 : decode cJ25_getIntUnaligned 31 = .ok (.aload_n 0, 1) := dk_42 (dk_at dksJ25_getIntUnaligned_1 9 rfl rfl)
theorem dJ25_getIntUnaligned_32 : decode cJ25_getIntUnaligned 32 = .ok (.aload_n 1, 1) := dk_43 (dk_at dksJ25_getIntUnaligned_1 10 rfl rfl)
theorem dJ25_getIntUnaligned_33 : decode cJ25_getIntUnaligned 33 = .ok (.lload_n 2, 1) := dk_32 (dk_at dksJ25_getIntUnaligned_1 11 rfl rfl)
theorem dJ25_getIntUnaligned_34 : decode cJ25_getIntUnaligned 34 = .ok (.ldc2_w 203, 3) := dk_20 0 203 (dk_at dksJ25_getIntUnaligned_1 12 rfl rfl)
theorem dJ25_getIntUnaligned_37 : decode cJ25_getIntUnaligned 37 = .ok (.ladd, 1) := dk_97 (dk_at dksJ25_getIntUnaligned_1 15 rfl rfl)
theorem dJ25_getIntUnaligned_38 : decode cJ25_getIntUnaligned 38 = .ok (.invokevirtual 47, 3) := dk_182 0 47 (dk_at dksJ25_getIntUnaligned_1 16 rfl rfl)
theorem dJ25_getIntUnaligned_41 : decode cJ25_getIntUnaligned 41 = .ok (.invokestatic 719, 3) := dk_184 2 207 (dk_at dksJ25_getIntUnaligned_1 19 rfl rfl)
theorem dJ25_getIntUnaligned_44 : decode cJ25_getIntUnaligned 44 = .ok (.ireturn, 1) := dk_172 (dk_at dksJ25_getIntUnaligned_1 22 rfl rfl)
theorem dJ25_getIntUnaligned_45 : decode cJ25_getIntUnaligned 45 = .ok (.aload_n 0, 1) := dk_42 (dk_at dksJ25_getIntUnaligned_1 23 rfl rfl)
theorem dJ25_getIntUnaligned_46 : decode cJ25_getIntUnaligned 46 = .ok (.aload_n 1, 1) := dk_43 (dk_at dksJ25_getIntUnaligned_2 0 rfl rfl)
theorem dJ25_getIntUnaligned_47 : decode cJ25_getIntUnaligned 47 = .ok (.lload_n 2, 1) := dk_32 (dk_at dksJ25_getIntUnaligned_2 1 rfl rfl)
theorem dJ25_getIntUnaligned_48 : decode cJ25_getIntUnaligned 48 = .ok (.invokevirtual 39, 3) := dk_182 0 39 (dk_at dksJ25_getIntUnaligned_2 2 rfl rfl)
theorem dJ25_getIntUnaligned_51 : decode cJ25_getIntUnaligned 51 = .ok (.aload_n 0, 1) := dk_42 (dk_at dksJ25_getIntUnaligned_2 5 rfl rfl)
theorem dJ25_getIntUnaligned_52 : decode cJ25_getIntUnaligned 52 = .ok (.aload_n 1, 1) := dk_43 (dk_at dksJ25_getIntUnaligned_2 6 rfl rfl)
theorem dJ25_getIntUnaligned_53 : decode cJ25_getIntUnaligned 53 = .ok (.lload_n 2, 1) := dk_32 (dk_at dksJ25_getIntUnaligned_2 7 rfl rfl)
theorem dJ25_getIntUnaligned_54 : decode cJ25_getIntUnaligned 54 = .ok (.lconst 1, 1) := dk_10 (dk_at dksJ25_getIntUnaligned_2 8 rfl rfl)
theorem dJ25_getIntUnaligned_55 : decode cJ25_getIntUnaligned 55 = .ok (.ladd, 1) := dk_97 (dk_at dksJ25_getIntUnaligned_2 9 rfl rfl)
theorem dJ25_getIntUnaligned_56 : decode cJ25_getIntUnaligned 56 = .ok (.invokevirtual 39, 3) := dk_182 0 39 (dk_at dksJ25_getIntUnaligned_2 10 rfl rfl)
theorem dJ25_getIntUnaligned_59 : decode cJ25_getIntUnaligned 59 = .ok (.aload_n 0, 1) := dk_42 (dk_at dksJ25_getIntUnaligned_2 13 rfl rfl)
theorem dJ25_getIntUnaligned_60 : decode cJ25_getIntUnaligned 60 = .ok (.aload_n 1, 1) := dk_43 (dk_at dksJ25_getIntUnaligned_2 14 rfl rfl)
theorem dJ25_getIntUnaligned_61 : decode cJ25_getIntUnaligned 61 = .ok (.lload_n 2, 1) := dk_32 (dk_at dksJ25_getIntUnaligned_2 15 rfl rfl)
theorem dJ25_getIntUnaligned_62 : decode cJ25_getIntUnaligned 62 = .ok (.ldc2_w 203, 3) := dk_20 0 203 (dk_at dksJ25_getIntUnaligned_2 16 rfl rfl)
theorem dJ25_getIntUnaligned_65 : decode cJ25_getIntUnaligned 65 = .ok (.ladd, 1) := dk_97 (dk_at dksJ25_getIntUnaligned_2 19 rfl rfl)
theorem dJ25_getIntUnaligned_66 : decode cJ25_getIntUnaligned 66 = .ok (.invokevirtual 39, 3) := dk_182 0 39 (dk_at dksJ25_getIntUnaligned_2 20 rfl rfl)
theorem dJ25_getIntUnaligned_69 : decode cJ25_getIntUnaligned 69 = .ok (.aload_n 0, 1) := dk_42 (dk_at dksJ25_getIntUnaligned_2 23 rfl rfl)
theorem dJ25_getIntUnaligned_70 : decode cJ25_getIntUnaligned 70 = .ok (.aload_n 1, 1) := dk_43 (dk_at dksJ25_getIntUnaligned_3 0 rfl rfl)
theorem dJ25_getIntUnaligned_71 : decode cJ25_getIntUnaligned 71 = .ok (.lload_n 2, 1) := dk_32 (dk_at dksJ25_getIntUnaligned_3 1 rfl rfl)
theorem dJ25_getIntUnaligned_72 : decode cJ25_getIntUnaligned 72 = .ok (.ldc2_w 349, 3) := dk_20 1 93 (dk_at dksJ25_getIntUnaligned_3 2 rfl rfl)
theorem dJ25_getIntUnaligned_75 : decode cJ25_getIntUnaligned 75 = .ok (.ladd, 1) := dk_97 (dk_at dksJ25_getIntUnaligned_3 5 rfl rfl)
theorem dJ25_getIntUnaligned_76 : decode cJ25_getIntUnaligned 76 = .ok (.invokevirtual 39, 3) := dk_182 0 39 (dk_at dksJ25_getIntUnaligned_3 6 rfl rfl)
theorem dJ25_getIntUnaligned_79 : decode cJ25_getIntUnaligned 79 = .ok (.invokestatic 723, 3) := dk_184 2 211 (dk_at dksJ25_getIntUnaligned_3 9 rfl rfl)
theorem dJ25_getIntUnaligned_82 : decode cJ25_getIntUnaligned 82 = .ok (.ireturn, 1) := dk_172 (dk_at dksJ25_getIntUnaligned_3 12 rfl rfl)
abbrev cJ25_makeInt : ByteArray := prog_97_method_354_code
def yJ25_makeInt : MethodName := ⟨RJ25, "makeInt", "(SS)I"⟩
def dkwJ25_makeInt_1 : List UInt8 := [172]
abbrev dktJ25_makeInt_1 : List UInt8 := dkwJ25_makeInt_1 ++ []
def dkwJ25_makeInt_0 : List UInt8 := [26, 184, 3, 24, 16, 16, 3, 184, 3, 16, 120, 27, 184, 3, 24, 16, 16, 16, 16, 184, 3, 16, 120, 128]
abbrev dktJ25_makeInt_0 : List UInt8 := dkwJ25_makeInt_0 ++ dktJ25_makeInt_1
theorem dksJ25_makeInt_0 : cJ25_makeInt.data.toList.drop 0 = dktJ25_makeInt_0 := by decide +kernel
theorem dksJ25_makeInt_1 : cJ25_makeInt.data.toList.drop 24 = dktJ25_makeInt_1 := dk_seg dksJ25_makeInt_0 24 rfl rfl
theorem dJ25_makeInt_0 : decode cJ25_makeInt 0 = .ok (.iload_n 0, 1) := dk_26 (dk_at dksJ25_makeInt_0 0 rfl rfl)
theorem dJ25_makeInt_1 : decode cJ25_makeInt 1 = .ok (.invokestatic 792, 3) := dk_184 3 24 (dk_at dksJ25_makeInt_0 1 rfl rfl)
theorem dJ25_makeInt_4 : decode cJ25_makeInt 4 = .ok (.bipush 16, 2) := dk_16 16 (dk_at dksJ25_makeInt_0 4 rfl rfl)
theorem dJ25_makeInt_6 : decode cJ25_makeInt 6 = .ok (.iconst 0, 1) := dk_3 (dk_at dksJ25_makeInt_0 6 rfl rfl)
theorem dJ25_makeInt_7 : decode cJ25_makeInt 7 = .ok (.invokestatic 784, 3) := dk_184 3 16 (dk_at dksJ25_makeInt_0 7 rfl rfl)
theorem dJ25_makeInt_10 : decode cJ25_makeInt 10 = .ok (.ishl, 1) := dk_120 (dk_at dksJ25_makeInt_0 10 rfl rfl)
theorem dJ25_makeInt_11 : decode cJ25_makeInt 11 = .ok (.iload_n 1, 1) := dk_27 (dk_at dksJ25_makeInt_0 11 rfl rfl)
theorem dJ25_makeInt_12 : decode cJ25_makeInt 12 = .ok (.invokestatic 792, 3) := dk_184 3 24 (dk_at dksJ25_makeInt_0 12 rfl rfl)
theorem dJ25_makeInt_15 : decode cJ25_makeInt 15 = .ok (.bipush 16, 2) := dk_16 16 (dk_at dksJ25_makeInt_0 15 rfl rfl)
theorem dJ25_makeInt_17 : decode cJ25_makeInt 17 = .ok (.bipush 16, 2) := dk_16 16 (dk_at dksJ25_makeInt_0 17 rfl rfl)
theorem dJ25_makeInt_19 : decode cJ25_makeInt 19 = .ok (.invokestatic 784, 3) := dk_184 3 16 (dk_at dksJ25_makeInt_0 19 rfl rfl)
theorem dJ25_makeInt_22 : decode cJ25_makeInt 22 = .ok (.ishl, 1) := dk_120 (dk_at dksJ25_makeInt_0 22 rfl rfl)
theorem dJ25_makeInt_23 : decode cJ25_makeInt 23 = .ok (.ior, 1) := dk_128 (dk_at dksJ25_makeInt_0 23 rfl rfl)
theorem dJ25_makeInt_24 : decode cJ25_makeInt 24 = .ok (.ireturn, 1) := dk_172 (dk_at dksJ25_makeInt_1 0 rfl rfl)
abbrev cJ25_toUnsignedInt : ByteArray := prog_97_method_367_code
def yJ25_toUnsignedInt : MethodName := ⟨RJ25, "toUnsignedInt", "(S)I"⟩
def dkwJ25_toUnsignedInt_0 : List UInt8 := [26, 19, 1, 118, 126, 172]
abbrev dktJ25_toUnsignedInt_0 : List UInt8 := dkwJ25_toUnsignedInt_0 ++ []
theorem dksJ25_toUnsignedInt_0 : cJ25_toUnsignedInt.data.toList.drop 0 = dktJ25_toUnsignedInt_0 := by decide +kernel
theorem dJ25_toUnsignedInt_0 : decode cJ25_toUnsignedInt 0 = .ok (.iload_n 0, 1) := dk_26 (dk_at dksJ25_toUnsignedInt_0 0 rfl rfl)
theorem dJ25_toUnsignedInt_1 : decode cJ25_toUnsignedInt 1 = .ok (.ldc_w 374, 3) := dk_19 1 118 (dk_at dksJ25_toUnsignedInt_0 1 rfl rfl)
theorem dJ25_toUnsignedInt_4 : decode cJ25_toUnsignedInt 4 = .ok (.iand, 1) := dk_126 (dk_at dksJ25_toUnsignedInt_0 4 rfl rfl)
theorem dJ25_toUnsignedInt_5 : decode cJ25_toUnsignedInt 5 = .ok (.ireturn, 1) := dk_172 (dk_at dksJ25_toUnsignedInt_0 5 rfl rfl)
abbrev cJ25_makeInt_2 : ByteArray := prog_97_method_355_code
def yJ25_makeInt_2 : MethodName := ⟨RJ25, "makeInt", "(BBBB)I"⟩
def dkwJ25_makeInt_2_2 : List UInt8 := [120, 128, 172]
abbrev dktJ25_makeInt_2_2 : List UInt8 := dkwJ25_makeInt_2_2 ++ []
def dkwJ25_makeInt_2_1 : List UInt8 := [28, 184, 3, 28, 16, 24, 16, 16, 184, 3, 16, 120, 128, 29, 184, 3, 28, 16, 24, 16, 24, 184, 3, 16]
abbrev dktJ25_makeInt_2_1 : List UInt8 := dkwJ25_makeInt_2_1 ++ dktJ25_makeInt_2_2
def dkwJ25_makeInt_2_0 : List UInt8 := [26, 184, 3, 28, 16, 24, 3, 184, 3, 16, 120, 27, 184, 3, 28, 16, 24, 16, 8, 184, 3, 16, 120, 128]
abbrev dktJ25_makeInt_2_0 : List UInt8 := dkwJ25_makeInt_2_0 ++ dktJ25_makeInt_2_1
theorem dksJ25_makeInt_2_0 : cJ25_makeInt_2.data.toList.drop 0 = dktJ25_makeInt_2_0 := by decide +kernel
theorem dksJ25_makeInt_2_1 : cJ25_makeInt_2.data.toList.drop 24 = dktJ25_makeInt_2_1 := dk_seg dksJ25_makeInt_2_0 24 rfl rfl
theorem dksJ25_makeInt_2_2 : cJ25_makeInt_2.data.toList.drop 48 = dktJ25_makeInt_2_2 := dk_seg dksJ25_makeInt_2_1 24 rfl rfl
theorem dJ25_makeInt_2_0 : decode cJ25_makeInt_2 0 = .ok (.iload_n 0, 1) := dk_26 (dk_at dksJ25_makeInt_2_0 0 rfl rfl)
theorem dJ25_makeInt_2_1 : decode cJ25_makeInt_2 1 = .ok (.invokestatic 796, 3) := dk_184 3 28 (dk_at dksJ25_makeInt_2_0 1 rfl rfl)
theorem dJ25_makeInt_2_4 : decode cJ25_makeInt_2 4 = .ok (.bipush 24, 2) := dk_16 24 (dk_at dksJ25_makeInt_2_0 4 rfl rfl)
theorem dJ25_makeInt_2_6 : decode cJ25_makeInt_2 6 = .ok (.iconst 0, 1) := dk_3 (dk_at dksJ25_makeInt_2_0 6 rfl rfl)
theorem dJ25_makeInt_2_7 : decode cJ25_makeInt_2 7 = .ok (.invokestatic 784, 3) := dk_184 3 16 (dk_at dksJ25_makeInt_2_0 7 rfl rfl)
theorem dJ25_makeInt_2_10 : decode cJ25_makeInt_2 10 = .ok (.ishl, 1) := dk_120 (dk_at dksJ25_makeInt_2_0 10 rfl rfl)
theorem dJ25_makeInt_2_11 : decode cJ25_makeInt_2 11 = .ok (.iload_n 1, 1) := dk_27 (dk_at dksJ25_makeInt_2_0 11 rfl rfl)
theorem dJ25_makeInt_2_12 : decode cJ25_makeInt_2 12 = .ok (.invokestatic 796, 3) := dk_184 3 28 (dk_at dksJ25_makeInt_2_0 12 rfl rfl)
theorem dJ25_makeInt_2_15 : decode cJ25_makeInt_2 15 = .ok (.bipush 24, 2) := dk_16 24 (dk_at dksJ25_makeInt_2_0 15 rfl rfl)
theorem dJ25_makeInt_2_17 : decode cJ25_makeInt_2 17 = .ok (.bipush 8, 2) := dk_16 8 (dk_at dksJ25_makeInt_2_0 17 rfl rfl)
theorem dJ25_makeInt_2_19 : decode cJ25_makeInt_2 19 = .ok (.invokestatic 784, 3) := dk_184 3 16 (dk_at dksJ25_makeInt_2_0 19 rfl rfl)
theorem dJ25_makeInt_2_22 : decode cJ25_makeInt_2 22 = .ok (.ishl, 1) := dk_120 (dk_at dksJ25_makeInt_2_0 22 rfl rfl)
theorem dJ25_makeInt_2_23 : decode cJ25_makeInt_2 23 = .ok (.ior, 1) := dk_128 (dk_at dksJ25_makeInt_2_0 23 rfl rfl)
theorem dJ25_makeInt_2_24 : decode cJ25_makeInt_2 24 = .ok (.iload_n 2, 1) := dk_28 (dk_at dksJ25_makeInt_2_1 0 rfl rfl)
theorem dJ25_makeInt_2_25 : decode cJ25_makeInt_2 25 = .ok (.invokestatic 796, 3) := dk_184 3 28 (dk_at dksJ25_makeInt_2_1 1 rfl rfl)
theorem dJ25_makeInt_2_28 : decode cJ25_makeInt_2 28 = .ok (.bipush 24, 2) := dk_16 24 (dk_at dksJ25_makeInt_2_1 4 rfl rfl)
theorem dJ25_makeInt_2_30 : decode cJ25_makeInt_2 30 = .ok (.bipush 16, 2) := dk_16 16 (dk_at dksJ25_makeInt_2_1 6 rfl rfl)
theorem dJ25_makeInt_2_32 : decode cJ25_makeInt_2 32 = .ok (.invokestatic 784, 3) := dk_184 3 16 (dk_at dksJ25_makeInt_2_1 8 rfl rfl)
theorem dJ25_makeInt_2_35 : decode cJ25_makeInt_2 35 = .ok (.ishl, 1) := dk_120 (dk_at dksJ25_makeInt_2_1 11 rfl rfl)
theorem dJ25_makeInt_2_36 : decode cJ25_makeInt_2 36 = .ok (.ior, 1) := dk_128 (dk_at dksJ25_makeInt_2_1 12 rfl rfl)
theorem dJ25_makeInt_2_37 : decode cJ25_makeInt_2 37 = .ok (.iload_n 3, 1) := dk_29 (dk_at dksJ25_makeInt_2_1 13 rfl rfl)
theorem dJ25_makeInt_2_38 : decode cJ25_makeInt_2 38 = .ok (.invokestatic 796, 3) := dk_184 3 28 (dk_at dksJ25_makeInt_2_1 14 rfl rfl)
theorem dJ25_makeInt_2_41 : decode cJ25_makeInt_2 41 = .ok (.bipush 24, 2) := dk_16 24 (dk_at dksJ25_makeInt_2_1 17 rfl rfl)
theorem dJ25_makeInt_2_43 : decode cJ25_makeInt_2 43 = .ok (.bipush 24, 2) := dk_16 24 (dk_at dksJ25_makeInt_2_1 19 rfl rfl)
theorem dJ25_makeInt_2_45 : decode cJ25_makeInt_2 45 = .ok (.invokestatic 784, 3) := dk_184 3 16 (dk_at dksJ25_makeInt_2_1 21 rfl rfl)
theorem dJ25_makeInt_2_48 : decode cJ25_makeInt_2 48 = .ok (.ishl, 1) := dk_120 (dk_at dksJ25_makeInt_2_2 0 rfl rfl)
theorem dJ25_makeInt_2_49 : decode cJ25_makeInt_2 49 = .ok (.ior, 1) := dk_128 (dk_at dksJ25_makeInt_2_2 1 rfl rfl)
theorem dJ25_makeInt_2_50 : decode cJ25_makeInt_2 50 = .ok (.ireturn, 1) := dk_172 (dk_at dksJ25_makeInt_2_2 2 rfl rfl)
abbrev cJ25_toUnsignedInt_2 : ByteArray := prog_97_method_366_code
def yJ25_toUnsignedInt_2 : MethodName := ⟨RJ25, "toUnsignedInt", "(B)I"⟩
def dkwJ25_toUnsignedInt_2_0 : List UInt8 := [26, 17, 0, 255, 126, 172]
abbrev dktJ25_toUnsignedInt_2_0 : List UInt8 := dkwJ25_toUnsignedInt_2_0 ++ []
theorem dksJ25_toUnsignedInt_2_0 : cJ25_toUnsignedInt_2.data.toList.drop 0 = dktJ25_toUnsignedInt_2_0 := by decide +kernel
theorem dJ25_toUnsignedInt_2_0 : decode cJ25_toUnsignedInt_2 0 = .ok (.iload_n 0, 1) := dk_26 (dk_at dksJ25_toUnsignedInt_2_0 0 rfl rfl)
theorem dJ25_toUnsignedInt_2_1 : decode cJ25_toUnsignedInt_2 1 = .ok (.sipush 255, 3) := dk_17 0 255 (dk_at dksJ25_toUnsignedInt_2_0 1 rfl rfl)
theorem dJ25_toUnsignedInt_2_4 : decode cJ25_toUnsignedInt_2 4 = .ok (.iand, 1) := dk_126 (dk_at dksJ25_toUnsignedInt_2_0 4 rfl rfl)
theorem dJ25_toUnsignedInt_2_5 : decode cJ25_toUnsignedInt_2 5 = .ok (.ireturn, 1) := dk_172 (dk_at dksJ25_toUnsignedInt_2_0 5 rfl rfl)
theorem q215 : (Jvm.Cond.initialized "jdk/internal/misc/Unsafe") ∈ lw_all := lw_g (lw_at lw_m1 39 rfl) rfl
theorem q443 : (Jvm.Cond.selects "jdk/internal/misc/Unsafe" ({ cls := "java/lang/Object", name := "getClass", desc := "()Ljava/lang/Class;" } : Jvm.MethodName) ({ cls := "java/lang/Object", name := "getClass", desc := "()Ljava/lang/Class;" } : Jvm.MethodName)) ∈ lw_all := lw_g (lw_at lw_m2 27 rfl) rfl
theorem q1547 : (Jvm.Cond.laysStatic "jdk/internal/misc/Unsafe" "ARRAY_BYTE_BASE_OFFSET" "I") ∈ lw_tbl := lw_at lw_m6 171 rfl
theorem q1558 : (Jvm.Cond.instanceMethod ({ cls := "jdk/internal/misc/Unsafe", name := "getLongUnaligned", desc := "(Ljava/lang/Object;J)J" } : Jvm.MethodName)) ∈ lw_all := lw_g (lw_at lw_m6 182 rfl) rfl
theorem q1559 : (Jvm.Cond.selects "jdk/internal/misc/Unsafe" ({ cls := "jdk/internal/misc/Unsafe", name := "getLongUnaligned", desc := "(Ljava/lang/Object;J)J" } : Jvm.MethodName) ({ cls := "jdk/internal/misc/Unsafe", name := "getLongUnaligned", desc := "(Ljava/lang/Object;J)J" } : Jvm.MethodName)) ∈ lw_all := lw_g (lw_at lw_m6 183 rfl) rfl
theorem q1560 : (Jvm.Cond.code ({ cls := "jdk/internal/misc/Unsafe", name := "getLongUnaligned", desc := "(Ljava/lang/Object;J)J" } : Jvm.MethodName) prog_97_method_334_code (4 : Nat) (Option.some Jvm.ClassFile.FieldType.long)) ∈ lw_all := lw_g (lw_at lw_m6 184 rfl) rfl
theorem q1561 : (Jvm.Cond.constantLong "jdk/internal/misc/Unsafe" (696 : Nat) (7 : Int64)) ∈ lw_all := lw_g (lw_at lw_m6 185 rfl) rfl
theorem q1562 : (Jvm.Cond.methodLink "jdk/internal/misc/Unsafe" (27 : Nat) ({ cls := "jdk/internal/misc/Unsafe", name := "getLong", desc := "(Ljava/lang/Object;J)J" } : Jvm.MethodName)) ∈ lw_all := lw_g (lw_at lw_m6 186 rfl) rfl
theorem q1563 : (Jvm.Cond.instanceMethod ({ cls := "jdk/internal/misc/Unsafe", name := "getLong", desc := "(Ljava/lang/Object;J)J" } : Jvm.MethodName)) ∈ lw_all := lw_g (lw_at lw_m6 187 rfl) rfl
theorem q1564 : (Jvm.Cond.selects "jdk/internal/misc/Unsafe" ({ cls := "jdk/internal/misc/Unsafe", name := "getLong", desc := "(Ljava/lang/Object;J)J" } : Jvm.MethodName) ({ cls := "jdk/internal/misc/Unsafe", name := "getLong", desc := "(Ljava/lang/Object;J)J" } : Jvm.MethodName)) ∈ lw_all := lw_g (lw_at lw_m6 188 rfl) rfl
theorem q1565 : (Jvm.Cond.native ({ cls := "jdk/internal/misc/Unsafe", name := "getLong", desc := "(Ljava/lang/Object;J)J" } : Jvm.MethodName)) ∈ lw_all := lw_g (lw_at lw_m6 189 rfl) rfl
theorem q1566 : (Jvm.Cond.constantLong "jdk/internal/misc/Unsafe" (349 : Nat) (3 : Int64)) ∈ lw_all := lw_g (lw_at lw_m6 190 rfl) rfl
theorem q1567 : (Jvm.Cond.methodLink "jdk/internal/misc/Unsafe" (17 : Nat) ({ cls := "jdk/internal/misc/Unsafe", name := "getInt", desc := "(Ljava/lang/Object;J)I" } : Jvm.MethodName)) ∈ lw_all := lw_g (lw_at lw_m6 191 rfl) rfl
theorem q1568 : (Jvm.Cond.instanceMethod ({ cls := "jdk/internal/misc/Unsafe", name := "getInt", desc := "(Ljava/lang/Object;J)I" } : Jvm.MethodName)) ∈ lw_all := lw_g (lw_at lw_m6 192 rfl) rfl
theorem q1569 : (Jvm.Cond.selects "jdk/internal/misc/Unsafe" ({ cls := "jdk/internal/misc/Unsafe", name := "getInt", desc := "(Ljava/lang/Object;J)I" } : Jvm.MethodName) ({ cls := "jdk/internal/misc/Unsafe", name := "getInt", desc := "(Ljava/lang/Object;J)I" } : Jvm.MethodName)) ∈ lw_all := lw_g (lw_at lw_m6 193 rfl) rfl
theorem q1570 : (Jvm.Cond.native ({ cls := "jdk/internal/misc/Unsafe", name := "getInt", desc := "(Ljava/lang/Object;J)I" } : Jvm.MethodName)) ∈ lw_all := lw_g (lw_at lw_m6 194 rfl) rfl
theorem q1571 : (Jvm.Cond.constantLong "jdk/internal/misc/Unsafe" (205 : Nat) (4 : Int64)) ∈ lw_all := lw_g (lw_at lw_m6 195 rfl) rfl
theorem q1572 : (Jvm.Cond.methodLink "jdk/internal/misc/Unsafe" (698 : Nat) ({ cls := "jdk/internal/misc/Unsafe", name := "makeLong", desc := "(II)J" } : Jvm.MethodName)) ∈ lw_all := lw_g (lw_at lw_m6 196 rfl) rfl
theorem q1573 : (Jvm.Cond.static ({ cls := "jdk/internal/misc/Unsafe", name := "makeLong", desc := "(II)J" } : Jvm.MethodName)) ∈ lw_all := lw_g (lw_at lw_m6 197 rfl) rfl
theorem q1574 : (Jvm.Cond.code ({ cls := "jdk/internal/misc/Unsafe", name := "makeLong", desc := "(II)J" } : Jvm.MethodName) prog_97_method_353_code (2 : Nat) (Option.some Jvm.ClassFile.FieldType.long)) ∈ lw_all := lw_g (lw_at lw_m6 198 rfl) rfl
theorem q1575 : (Jvm.Cond.methodLink "jdk/internal/misc/Unsafe" (791 : Nat) ({ cls := "jdk/internal/misc/Unsafe", name := "toUnsignedLong", desc := "(I)J" } : Jvm.MethodName)) ∈ lw_all := lw_g (lw_at lw_m6 199 rfl) rfl
theorem q1576 : (Jvm.Cond.static ({ cls := "jdk/internal/misc/Unsafe", name := "toUnsignedLong", desc := "(I)J" } : Jvm.MethodName)) ∈ lw_all := lw_g (lw_at lw_m6 200 rfl) rfl
theorem q1577 : (Jvm.Cond.code ({ cls := "jdk/internal/misc/Unsafe", name := "toUnsignedLong", desc := "(I)J" } : Jvm.MethodName) prog_97_method_370_code (1 : Nat) (Option.some Jvm.ClassFile.FieldType.long)) ∈ lw_all := lw_g (lw_at lw_m6 201 rfl) rfl
theorem q1578 : (Jvm.Cond.constantLong "jdk/internal/misc/Unsafe" (812 : Nat) (4294967295 : Int64)) ∈ lw_all := lw_g (lw_at lw_m6 202 rfl) rfl
theorem q1579 : (Jvm.Cond.methodLink "jdk/internal/misc/Unsafe" (784 : Nat) ({ cls := "jdk/internal/misc/Unsafe", name := "pickPos", desc := "(II)I" } : Jvm.MethodName)) ∈ lw_all := lw_g (lw_at lw_m6 203 rfl) rfl
theorem q1580 : (Jvm.Cond.static ({ cls := "jdk/internal/misc/Unsafe", name := "pickPos", desc := "(II)I" } : Jvm.MethodName)) ∈ lw_all := lw_g (lw_at lw_m6 204 rfl) rfl
theorem q1581 : (Jvm.Cond.code ({ cls := "jdk/internal/misc/Unsafe", name := "pickPos", desc := "(II)I" } : Jvm.MethodName) prog_97_method_350_code (2 : Nat) (Option.some Jvm.ClassFile.FieldType.int)) ∈ lw_all := lw_g (lw_at lw_m6 205 rfl) rfl
theorem q1582 : (Jvm.Cond.fieldLink "jdk/internal/misc/Unsafe" (351 : Nat) "jdk/internal/misc/UnsafeConstants" "BIG_ENDIAN" "Z") ∈ lw_all := lw_g (lw_at lw_m6 206 rfl) rfl
theorem q1584 : (Jvm.Cond.methodLink "jdk/internal/misc/Unsafe" (47 : Nat) ({ cls := "jdk/internal/misc/Unsafe", name := "getShort", desc := "(Ljava/lang/Object;J)S" } : Jvm.MethodName)) ∈ lw_all := lw_g (lw_at lw_m6 208 rfl) rfl
theorem q1585 : (Jvm.Cond.instanceMethod ({ cls := "jdk/internal/misc/Unsafe", name := "getShort", desc := "(Ljava/lang/Object;J)S" } : Jvm.MethodName)) ∈ lw_all := lw_g (lw_at lw_m6 209 rfl) rfl
theorem q1586 : (Jvm.Cond.selects "jdk/internal/misc/Unsafe" ({ cls := "jdk/internal/misc/Unsafe", name := "getShort", desc := "(Ljava/lang/Object;J)S" } : Jvm.MethodName) ({ cls := "jdk/internal/misc/Unsafe", name := "getShort", desc := "(Ljava/lang/Object;J)S" } : Jvm.MethodName)) ∈ lw_all := lw_g (lw_at lw_m6 210 rfl) rfl
theorem q1587 : (Jvm.Cond.native ({ cls := "jdk/internal/misc/Unsafe", name := "getShort", desc := "(Ljava/lang/Object;J)S" } : Jvm.MethodName)) ∈ lw_all := lw_g (lw_at lw_m6 211 rfl) rfl
theorem q1588 : (Jvm.Cond.constantLong "jdk/internal/misc/Unsafe" (203 : Nat) (2 : Int64)) ∈ lw_all := lw_g (lw_at lw_m6 212 rfl) rfl
theorem q1589 : (Jvm.Cond.constantLong "jdk/internal/misc/Unsafe" (702 : Nat) (6 : Int64)) ∈ lw_all := lw_g (lw_at lw_m6 213 rfl) rfl
theorem q1590 : (Jvm.Cond.methodLink "jdk/internal/misc/Unsafe" (704 : Nat) ({ cls := "jdk/internal/misc/Unsafe", name := "makeLong", desc := "(SSSS)J" } : Jvm.MethodName)) ∈ lw_all := lw_g (lw_at lw_m6 214 rfl) rfl
theorem q1591 : (Jvm.Cond.static ({ cls := "jdk/internal/misc/Unsafe", name := "makeLong", desc := "(SSSS)J" } : Jvm.MethodName)) ∈ lw_all := lw_g (lw_at lw_m6 215 rfl) rfl
theorem q1592 : (Jvm.Cond.code ({ cls := "jdk/internal/misc/Unsafe", name := "makeLong", desc := "(SSSS)J" } : Jvm.MethodName) prog_97_method_352_code (4 : Nat) (Option.some Jvm.ClassFile.FieldType.long)) ∈ lw_all := lw_g (lw_at lw_m6 216 rfl) rfl
theorem q1593 : (Jvm.Cond.methodLink "jdk/internal/misc/Unsafe" (788 : Nat) ({ cls := "jdk/internal/misc/Unsafe", name := "toUnsignedLong", desc := "(S)J" } : Jvm.MethodName)) ∈ lw_all := lw_g (lw_at lw_m6 217 rfl) rfl
theorem q1594 : (Jvm.Cond.static ({ cls := "jdk/internal/misc/Unsafe", name := "toUnsignedLong", desc := "(S)J" } : Jvm.MethodName)) ∈ lw_all := lw_g (lw_at lw_m6 218 rfl) rfl
theorem q1595 : (Jvm.Cond.code ({ cls := "jdk/internal/misc/Unsafe", name := "toUnsignedLong", desc := "(S)J" } : Jvm.MethodName) prog_97_method_369_code (1 : Nat) (Option.some Jvm.ClassFile.FieldType.long)) ∈ lw_all := lw_g (lw_at lw_m6 219 rfl) rfl
theorem q1596 : (Jvm.Cond.constantLong "jdk/internal/misc/Unsafe" (810 : Nat) (65535 : Int64)) ∈ lw_all := lw_g (lw_at lw_m6 220 rfl) rfl
theorem q1597 : (Jvm.Cond.methodLink "jdk/internal/misc/Unsafe" (39 : Nat) ({ cls := "jdk/internal/misc/Unsafe", name := "getByte", desc := "(Ljava/lang/Object;J)B" } : Jvm.MethodName)) ∈ lw_all := lw_g (lw_at lw_m6 221 rfl) rfl
theorem q1598 : (Jvm.Cond.instanceMethod ({ cls := "jdk/internal/misc/Unsafe", name := "getByte", desc := "(Ljava/lang/Object;J)B" } : Jvm.MethodName)) ∈ lw_all := lw_g (lw_at lw_m6 222 rfl) rfl
theorem q1599 : (Jvm.Cond.selects "jdk/internal/misc/Unsafe" ({ cls := "jdk/internal/misc/Unsafe", name := "getByte", desc := "(Ljava/lang/Object;J)B" } : Jvm.MethodName) ({ cls := "jdk/internal/misc/Unsafe", name := "getByte", desc := "(Ljava/lang/Object;J)B" } : Jvm.MethodName)) ∈ lw_all := lw_g (lw_at lw_m6 223 rfl) rfl
theorem q1600 : (Jvm.Cond.native ({ cls := "jdk/internal/misc/Unsafe", name := "getByte", desc := "(Ljava/lang/Object;J)B" } : Jvm.MethodName)) ∈ lw_all := lw_g (lw_at lw_m6 224 rfl) rfl
theorem q1601 : (Jvm.Cond.constantLong "jdk/internal/misc/Unsafe" (707 : Nat) (5 : Int64)) ∈ lw_all := lw_g (lw_at lw_m6 225 rfl) rfl
theorem q1602 : (Jvm.Cond.methodLink "jdk/internal/misc/Unsafe" (709 : Nat) ({ cls := "jdk/internal/misc/Unsafe", name := "makeLong", desc := "(BBBBBBBB)J" } : Jvm.MethodName)) ∈ lw_all := lw_g (lw_at lw_m6 226 rfl) rfl
theorem q1603 : (Jvm.Cond.static ({ cls := "jdk/internal/misc/Unsafe", name := "makeLong", desc := "(BBBBBBBB)J" } : Jvm.MethodName)) ∈ lw_all := lw_g (lw_at lw_m6 227 rfl) rfl
theorem q1604 : (Jvm.Cond.code ({ cls := "jdk/internal/misc/Unsafe", name := "makeLong", desc := "(BBBBBBBB)J" } : Jvm.MethodName) prog_97_method_351_code (8 : Nat) (Option.some Jvm.ClassFile.FieldType.long)) ∈ lw_all := lw_g (lw_at lw_m6 228 rfl) rfl
theorem q1605 : (Jvm.Cond.methodLink "jdk/internal/misc/Unsafe" (781 : Nat) ({ cls := "jdk/internal/misc/Unsafe", name := "toUnsignedLong", desc := "(B)J" } : Jvm.MethodName)) ∈ lw_all := lw_g (lw_at lw_m6 229 rfl) rfl
theorem q1606 : (Jvm.Cond.static ({ cls := "jdk/internal/misc/Unsafe", name := "toUnsignedLong", desc := "(B)J" } : Jvm.MethodName)) ∈ lw_all := lw_g (lw_at lw_m6 230 rfl) rfl
theorem q1607 : (Jvm.Cond.code ({ cls := "jdk/internal/misc/Unsafe", name := "toUnsignedLong", desc := "(B)J" } : Jvm.MethodName) prog_97_method_368_code (1 : Nat) (Option.some Jvm.ClassFile.FieldType.long)) ∈ lw_all := lw_g (lw_at lw_m6 231 rfl) rfl
theorem q1608 : (Jvm.Cond.constantLong "jdk/internal/misc/Unsafe" (808 : Nat) (255 : Int64)) ∈ lw_all := lw_g (lw_at lw_m6 232 rfl) rfl
theorem q1629 : (Jvm.Cond.instanceMethod ({ cls := "jdk/internal/misc/Unsafe", name := "getIntUnaligned", desc := "(Ljava/lang/Object;J)I" } : Jvm.MethodName)) ∈ lw_all := lw_g (lw_at lw_m7 13 rfl) rfl
theorem q1630 : (Jvm.Cond.selects "jdk/internal/misc/Unsafe" ({ cls := "jdk/internal/misc/Unsafe", name := "getIntUnaligned", desc := "(Ljava/lang/Object;J)I" } : Jvm.MethodName) ({ cls := "jdk/internal/misc/Unsafe", name := "getIntUnaligned", desc := "(Ljava/lang/Object;J)I" } : Jvm.MethodName)) ∈ lw_all := lw_g (lw_at lw_m7 14 rfl) rfl
theorem q1631 : (Jvm.Cond.code ({ cls := "jdk/internal/misc/Unsafe", name := "getIntUnaligned", desc := "(Ljava/lang/Object;J)I" } : Jvm.MethodName) prog_97_method_336_code (4 : Nat) (Option.some Jvm.ClassFile.FieldType.int)) ∈ lw_all := lw_g (lw_at lw_m7 15 rfl) rfl
theorem q1632 : (Jvm.Cond.methodLink "jdk/internal/misc/Unsafe" (719 : Nat) ({ cls := "jdk/internal/misc/Unsafe", name := "makeInt", desc := "(SS)I" } : Jvm.MethodName)) ∈ lw_all := lw_g (lw_at lw_m7 16 rfl) rfl
theorem q1633 : (Jvm.Cond.static ({ cls := "jdk/internal/misc/Unsafe", name := "makeInt", desc := "(SS)I" } : Jvm.MethodName)) ∈ lw_all := lw_g (lw_at lw_m7 17 rfl) rfl
theorem q1634 : (Jvm.Cond.code ({ cls := "jdk/internal/misc/Unsafe", name := "makeInt", desc := "(SS)I" } : Jvm.MethodName) prog_97_method_354_code (2 : Nat) (Option.some Jvm.ClassFile.FieldType.int)) ∈ lw_all := lw_g (lw_at lw_m7 18 rfl) rfl
theorem q1635 : (Jvm.Cond.methodLink "jdk/internal/misc/Unsafe" (792 : Nat) ({ cls := "jdk/internal/misc/Unsafe", name := "toUnsignedInt", desc := "(S)I" } : Jvm.MethodName)) ∈ lw_all := lw_g (lw_at lw_m7 19 rfl) rfl
theorem q1636 : (Jvm.Cond.static ({ cls := "jdk/internal/misc/Unsafe", name := "toUnsignedInt", desc := "(S)I" } : Jvm.MethodName)) ∈ lw_all := lw_g (lw_at lw_m7 20 rfl) rfl
theorem q1637 : (Jvm.Cond.code ({ cls := "jdk/internal/misc/Unsafe", name := "toUnsignedInt", desc := "(S)I" } : Jvm.MethodName) prog_97_method_367_code (1 : Nat) (Option.some Jvm.ClassFile.FieldType.int)) ∈ lw_all := lw_g (lw_at lw_m7 21 rfl) rfl
theorem q1638 : (Jvm.Cond.constant "jdk/internal/misc/Unsafe" (374 : Nat) (65535 : Int32)) ∈ lw_all := lw_g (lw_at lw_m7 22 rfl) rfl
theorem q1639 : (Jvm.Cond.methodLink "jdk/internal/misc/Unsafe" (723 : Nat) ({ cls := "jdk/internal/misc/Unsafe", name := "makeInt", desc := "(BBBB)I" } : Jvm.MethodName)) ∈ lw_all := lw_g (lw_at lw_m7 23 rfl) rfl
theorem q1640 : (Jvm.Cond.static ({ cls := "jdk/internal/misc/Unsafe", name := "makeInt", desc := "(BBBB)I" } : Jvm.MethodName)) ∈ lw_all := lw_g (lw_at lw_m7 24 rfl) rfl
theorem q1641 : (Jvm.Cond.code ({ cls := "jdk/internal/misc/Unsafe", name := "makeInt", desc := "(BBBB)I" } : Jvm.MethodName) prog_97_method_355_code (4 : Nat) (Option.some Jvm.ClassFile.FieldType.int)) ∈ lw_all := lw_g (lw_at lw_m7 25 rfl) rfl
theorem q1642 : (Jvm.Cond.methodLink "jdk/internal/misc/Unsafe" (796 : Nat) ({ cls := "jdk/internal/misc/Unsafe", name := "toUnsignedInt", desc := "(B)I" } : Jvm.MethodName)) ∈ lw_all := lw_g (lw_at lw_m7 26 rfl) rfl
theorem q1643 : (Jvm.Cond.static ({ cls := "jdk/internal/misc/Unsafe", name := "toUnsignedInt", desc := "(B)I" } : Jvm.MethodName)) ∈ lw_all := lw_g (lw_at lw_m7 27 rfl) rfl
theorem q1644 : (Jvm.Cond.code ({ cls := "jdk/internal/misc/Unsafe", name := "toUnsignedInt", desc := "(B)I" } : Jvm.MethodName) prog_97_method_366_code (1 : Nat) (Option.some Jvm.ClassFile.FieldType.int)) ∈ lw_all := lw_g (lw_at lw_m7 28 rfl) rfl
theorem q2835 : (Jvm.Cond.selects "jdk/internal/misc/Unsafe" ({ cls := "java/lang/Object", name := "equals", desc := "(Ljava/lang/Object;)Z" } : Jvm.MethodName) ({ cls := "java/lang/Object", name := "equals", desc := "(Ljava/lang/Object;)Z" } : Jvm.MethodName)) ∈ lw_all := lw_g (lw_at lw_m12 19 rfl) rfl
theorem q4500 : (Jvm.Cond.castable "jdk/internal/misc/Unsafe" "java/lang/Object") ∈ lw_tbl := lw_at lw_m19 4 rfl

/-! java/lang/Long -/
set_option maxRecDepth 100000
def RJ26 : String := "java/lang/Long"
abbrev cJ26_numberOfLeadingZeros : ByteArray := prog_35_method_48_code
def yJ26_numberOfLeadingZeros : MethodName := ⟨RJ26, "numberOfLeadingZeros", "(J)I"⟩
def dkwJ26_numberOfLeadingZeros_1 : List UInt8 := [184, 1, 52, 172]
abbrev dktJ26_numberOfLeadingZeros_1 : List UInt8 := dkwJ26_numberOfLeadingZeros_1 ++ []
def dkwJ26_numberOfLeadingZeros_0 : List UInt8 := [30, 16, 32, 125, 136, 61, 28, 154, 0, 14, 16, 32, 30, 136, 184, 1, 52, 96, 167, 0, 7, 28]
abbrev dktJ26_numberOfLeadingZeros_0 : List UInt8 := dkwJ26_numberOfLeadingZeros_0 ++ dktJ26_numberOfLeadingZeros_1
theorem dksJ26_numberOfLeadingZeros_0 : cJ26_numberOfLeadingZeros.data.toList.drop 0 = dktJ26_numberOfLeadingZeros_0 := by decide +kernel
theorem dksJ26_numberOfLeadingZeros_1 : cJ26_numberOfLeadingZeros.data.toList.drop 22 = dktJ26_numberOfLeadingZeros_1 := dk_seg dksJ26_numberOfLeadingZeros_0 22 rfl rfl
theorem dJ26_numberOfLeadingZeros_0 : decode cJ26_numberOfLeadingZeros 0 = .ok (.lload_n 0, 1) := dk_30 (dk_at dksJ26_numberOfLeadingZeros_0 0 rfl rfl)
theorem dJ26_numberOfLeadingZeros_1 : decode cJ26_numberOfLeadingZeros 1 = .ok (.bipush 32, 2) := dk_16 32 (dk_at dksJ26_numberOfLeadingZeros_0 1 rfl rfl)
theorem dJ26_numberOfLeadingZeros_3 : decode cJ26_numberOfLeadingZeros 3 = .ok (.lushr, 1) := dk_125 (dk_at dksJ26_numberOfLeadingZeros_0 3 rfl rfl)
theorem dJ26_numberOfLeadingZeros_4 : decode cJ26_numberOfLeadingZeros 4 = .ok (.l2i, 1) := dk_136 (dk_at dksJ26_numberOfLeadingZeros_0 4 rfl rfl)
theorem dJ26_numberOfLeadingZeros_5 : decode cJ26_numberOfLeadingZeros 5 = .ok (.istore_n 2, 1) := dk_61 (dk_at dksJ26_numberOfLeadingZeros_0 5 rfl rfl)
theorem dJ26_numberOfLeadingZeros_6 : decode cJ26_numberOfLeadingZeros 6 = .ok (.iload_n 2, 1) := dk_28 (dk_at dksJ26_numberOfLeadingZeros_0 6 rfl rfl)
theorem dJ26_numberOfLeadingZeros_7 : decode cJ26_numberOfLeadingZeros 7 = .ok (.ifCond .ne 14, 3) := dk_154 0 14 (dk_at dksJ26_numberOfLeadingZeros_0 7 rfl rfl)
theorem dJ26_numberOfLeadingZeros_10 : decode cJ26_numberOfLeadingZeros 10 = .ok (.bipush 32, 2) := dk_16 32 (dk_at dksJ26_numberOfLeadingZeros_0 10 rfl rfl)
theorem dJ26_numberOfLeadingZeros_12 : decode cJ26_numberOfLeadingZeros 12 = .ok (.lload_n 0, 1) := dk_30 (dk_at dksJ26_numberOfLeadingZeros_0 12 rfl rfl)
theorem dJ26_numberOfLeadingZeros_13 : decode cJ26_numberOfLeadingZeros 13 = .ok (.l2i, 1) := dk_136 (dk_at dksJ26_numberOfLeadingZeros_0 13 rfl rfl)
theorem dJ26_numberOfLeadingZeros_14 : decode cJ26_numberOfLeadingZeros 14 = .ok (.invokestatic 308, 3) := dk_184 1 52 (dk_at dksJ26_numberOfLeadingZeros_0 14 rfl rfl)
theorem dJ26_numberOfLeadingZeros_17 : decode cJ26_numberOfLeadingZeros 17 = .ok (.iadd, 1) := dk_96 (dk_at dksJ26_numberOfLeadingZeros_0 17 rfl rfl)
theorem dJ26_numberOfLeadingZeros_18 : decode cJ26_numberOfLeadingZeros 18 = .ok (.goto 7, 3) := dk_167 0 7 (dk_at dksJ26_numberOfLeadingZeros_0 18 rfl rfl)
theorem dJ26_numberOfLeadingZeros_21 : decode cJ26_numberOfLeadingZeros 21 = .ok (.iload_n 2, 1) := dk_28 (dk_at dksJ26_numberOfLeadingZeros_0 21 rfl rfl)
theorem dJ26_numberOfLeadingZeros_22 : decode cJ26_numberOfLeadingZeros 22 = .ok (.invokestatic 308, 3) := dk_184 1 52 (dk_at dksJ26_numberOfLeadingZeros_1 0 rfl rfl)
theorem dJ26_numberOfLeadingZeros_25 : decode cJ26_numberOfLeadingZeros 25 = .ok (.ireturn, 1) := dk_172 (dk_at dksJ26_numberOfLeadingZeros_1 3 rfl rfl)
abbrev cJ26_numberOfTrailingZeros : ByteArray := prog_35_method_49_code
def yJ26_numberOfTrailingZeros : MethodName := ⟨RJ26, "numberOfTrailingZeros", "(J)I"⟩
def dkwJ26_numberOfTrailingZeros_1 : List UInt8 := [184, 1, 55, 172]
abbrev dktJ26_numberOfTrailingZeros_1 : List UInt8 := dkwJ26_numberOfTrailingZeros_1 ++ []
def dkwJ26_numberOfTrailingZeros_0 : List UInt8 := [30, 136, 61, 28, 154, 0, 17, 16, 32, 30, 16, 32, 125, 136, 184, 1, 55, 96, 167, 0, 7, 28]
abbrev dktJ26_numberOfTrailingZeros_0 : List UInt8 := dkwJ26_numberOfTrailingZeros_0 ++ dktJ26_numberOfTrailingZeros_1
theorem dksJ26_numberOfTrailingZeros_0 : cJ26_numberOfTrailingZeros.data.toList.drop 0 = dktJ26_numberOfTrailingZeros_0 := by decide +kernel
theorem dksJ26_numberOfTrailingZeros_1 : cJ26_numberOfTrailingZeros.data.toList.drop 22 = dktJ26_numberOfTrailingZeros_1 := dk_seg dksJ26_numberOfTrailingZeros_0 22 rfl rfl
theorem dJ26_numberOfTrailingZeros_0 : decode cJ26_numberOfTrailingZeros 0 = .ok (.lload_n 0, 1) := dk_30 (dk_at dksJ26_numberOfTrailingZeros_0 0 rfl rfl)
theorem dJ26_numberOfTrailingZeros_1 : decode cJ26_numberOfTrailingZeros 1 = .ok (.l2i, 1) := dk_136 (dk_at dksJ26_numberOfTrailingZeros_0 1 rfl rfl)
theorem dJ26_numberOfTrailingZeros_2 : decode cJ26_numberOfTrailingZeros 2 = .ok (.istore_n 2, 1) := dk_61 (dk_at dksJ26_numberOfTrailingZeros_0 2 rfl rfl)
theorem dJ26_numberOfTrailingZeros_3 : decode cJ26_numberOfTrailingZeros 3 = .ok (.iload_n 2, 1) := dk_28 (dk_at dksJ26_numberOfTrailingZeros_0 3 rfl rfl)
theorem dJ26_numberOfTrailingZeros_4 : decode cJ26_numberOfTrailingZeros 4 = .ok (.ifCond .ne 17, 3) := dk_154 0 17 (dk_at dksJ26_numberOfTrailingZeros_0 4 rfl rfl)
theorem dJ26_numberOfTrailingZeros_7 : decode cJ26_numberOfTrailingZeros 7 = .ok (.bipush 32, 2) := dk_16 32 (dk_at dksJ26_numberOfTrailingZeros_0 7 rfl rfl)
theorem dJ26_numberOfTrailingZeros_9 : decode cJ26_numberOfTrailingZeros 9 = .ok (.lload_n 0, 1) := dk_30 (dk_at dksJ26_numberOfTrailingZeros_0 9 rfl rfl)
theorem dJ26_numberOfTrailingZeros_10 : decode cJ26_numberOfTrailingZeros 10 = .ok (.bipush 32, 2) := dk_16 32 (dk_at dksJ26_numberOfTrailingZeros_0 10 rfl rfl)
theorem dJ26_numberOfTrailingZeros_12 : decode cJ26_numberOfTrailingZeros 12 = .ok (.lushr, 1) := dk_125 (dk_at dksJ26_numberOfTrailingZeros_0 12 rfl rfl)
theorem dJ26_numberOfTrailingZeros_13 : decode cJ26_numberOfTrailingZeros 13 = .ok (.l2i, 1) := dk_136 (dk_at dksJ26_numberOfTrailingZeros_0 13 rfl rfl)
theorem dJ26_numberOfTrailingZeros_14 : decode cJ26_numberOfTrailingZeros 14 = .ok (.invokestatic 311, 3) := dk_184 1 55 (dk_at dksJ26_numberOfTrailingZeros_0 14 rfl rfl)
theorem dJ26_numberOfTrailingZeros_17 : decode cJ26_numberOfTrailingZeros 17 = .ok (.iadd, 1) := dk_96 (dk_at dksJ26_numberOfTrailingZeros_0 17 rfl rfl)
theorem dJ26_numberOfTrailingZeros_18 : decode cJ26_numberOfTrailingZeros 18 = .ok (.goto 7, 3) := dk_167 0 7 (dk_at dksJ26_numberOfTrailingZeros_0 18 rfl rfl)
theorem dJ26_numberOfTrailingZeros_21 : decode cJ26_numberOfTrailingZeros 21 = .ok (.iload_n 2, 1) := dk_28 (dk_at dksJ26_numberOfTrailingZeros_0 21 rfl rfl)
theorem dJ26_numberOfTrailingZeros_22 : decode cJ26_numberOfTrailingZeros 22 = .ok (.invokestatic 311, 3) := dk_184 1 55 (dk_at dksJ26_numberOfTrailingZeros_1 0 rfl rfl)
theorem dJ26_numberOfTrailingZeros_25 : decode cJ26_numberOfTrailingZeros 25 = .ok (.ireturn, 1) := dk_172 (dk_at dksJ26_numberOfTrailingZeros_1 3 rfl rfl)
abbrev cJ26_bitCount : ByteArray := prog_35_method_50_code
def yJ26_bitCount : MethodName := ⟨RJ26, "bitCount", "(J)I"⟩
def dkwJ26_bitCount_2 : List UInt8 := [30, 30, 16, 32, 125, 97, 63, 30, 136, 16, 127, 126, 172]
abbrev dktJ26_bitCount_2 : List UInt8 := dkwJ26_bitCount_2 ++ []
def dkwJ26_bitCount_1 : List UInt8 := [30, 30, 7, 125, 97, 20, 1, 62, 127, 63, 30, 30, 16, 8, 125, 97, 63, 30, 30, 16, 16, 125, 97, 63]
abbrev dktJ26_bitCount_1 : List UInt8 := dkwJ26_bitCount_1 ++ dktJ26_bitCount_2
def dkwJ26_bitCount_0 : List UInt8 := [30, 30, 4, 125, 20, 1, 58, 127, 101, 63, 30, 20, 1, 60, 127, 30, 5, 125, 20, 1, 60, 127, 97, 63]
abbrev dktJ26_bitCount_0 : List UInt8 := dkwJ26_bitCount_0 ++ dktJ26_bitCount_1
theorem dksJ26_bitCount_0 : cJ26_bitCount.data.toList.drop 0 = dktJ26_bitCount_0 := by decide +kernel
theorem dksJ26_bitCount_1 : cJ26_bitCount.data.toList.drop 24 = dktJ26_bitCount_1 := dk_seg dksJ26_bitCount_0 24 rfl rfl
theorem dksJ26_bitCount_2 : cJ26_bitCount.data.toList.drop 48 = dktJ26_bitCount_2 := dk_seg dksJ26_bitCount_1 24 rfl rfl
theorem dJ26_bitCount_0 : decode cJ26_bitCount 0 = .ok (.lload_n 0, 1) := dk_30 (dk_at dksJ26_bitCount_0 0 rfl rfl)
theorem dJ26_bitCount_1 : decode cJ26_bitCount 1 = .ok (.lload_n 0, 1) := dk_30 (dk_at dksJ26_bitCount_0 1 rfl rfl)
theorem dJ26_bitCount_2 : decode cJ26_bitCount 2 = .ok (.iconst 1, 1) := dk_4 (dk_at dksJ26_bitCount_0 2 rfl rfl)
theorem dJ26_bitCount_3 : decode cJ26_bitCount 3 = .ok (.lushr, 1) := dk_125 (dk_at dksJ26_bitCount_0 3 rfl rfl)
theorem dJ26_bitCount_4 : decode cJ26_bitCount 4 = .ok (.ldc2_w 314, 3) := dk_20 1 58 (dk_at dksJ26_bitCount_0 4 rfl rfl)
theorem dJ26_bitCount_7 : decode cJ26_bitCount 7 = .ok (.land, 1) := dk_127 (dk_at dksJ26_bitCount_0 7 rfl rfl)
theorem dJ26_bitCount_8 : decode cJ26_bitCount 8 = .ok (.lsub, 1) := dk_101 (dk_at dksJ26_bitCount_0 8 rfl rfl)
theorem dJ26_bitCount_9 : decode cJ26_bitCount 9 = .ok (.lstore_n 0, 1) := dk_63 (dk_at dksJ26_bitCount_0 9 rfl rfl)
theorem dJ26_bitCount_10 : decode cJ26_bitCount 10 = .ok (.lload_n 0, 1) := dk_30 (dk_at dksJ26_bitCount_0 10 rfl rfl)
theorem dJ26_bitCount_11 : decode cJ26_bitCount 11 = .ok (.ldc2_w 316, 3) := dk_20 1 60 (dk_at dksJ26_bitCount_0 11 rfl rfl)
theorem dJ26_bitCount_14 : decode cJ26_bitCount 14 = .ok (.land, 1) := dk_127 (dk_at dksJ26_bitCount_0 14 rfl rfl)
theorem dJ26_bitCount_15 : decode cJ26_bitCount 15 = .ok (.lload_n 0, 1) := dk_30 (dk_at dksJ26_bitCount_0 15 rfl rfl)
theorem dJ26_bitCount_16 : decode cJ26_bitCount 16 = .ok (.iconst 2, 1) := dk_5 (dk_at dksJ26_bitCount_0 16 rfl rfl)
theorem dJ26_bitCount_17 : decode cJ26_bitCount 17 = .ok (.lushr, 1) := dk_125 (dk_at dksJ26_bitCount_0 17 rfl rfl)
theorem dJ26_bitCount_18 : decode cJ26_bitCount 18 = .ok (.ldc2_w 316, 3) := dk_20 1 60 (dk_at dksJ26_bitCount_0 18 rfl rfl)
theorem dJ26_bitCount_21 : decode cJ26_bitCount 21 = .ok (.land, 1) := dk_127 (dk_at dksJ26_bitCount_0 21 rfl rfl)
theorem dJ26_bitCount_22 : decode cJ26_bitCount 22 = .ok (.ladd, 1) := dk_97 (dk_at dksJ26_bitCount_0 22 rfl rfl)
theorem dJ26_bitCount_23 : decode cJ26_bitCount 23 = .ok (.lstore_n 0, 1) := dk_63 (dk_at dksJ26_bitCount_0 23 rfl rfl)
theorem dJ26_bitCount_24 : decode cJ26_bitCount 24 = .ok (.lload_n 0, 1) := dk_30 (dk_at dksJ26_bitCount_1 0 rfl rfl)
theorem dJ26_bitCount_25 : decode cJ26_bitCount 25 = .ok (.lload_n 0, 1) := dk_30 (dk_at dksJ26_bitCount_1 1 rfl rfl)
theorem dJ26_bitCount_26 : decode cJ26_bitCount 26 = .ok (.iconst 4, 1) := dk_7 (dk_at dksJ26_bitCount_1 2 rfl rfl)
theorem dJ26_bitCount_27 : decode cJ26_bitCount 27 = .ok (.lushr, 1) := dk_125 (dk_at dksJ26_bitCount_1 3 rfl rfl)
theorem dJ26_bitCount_28 : decode cJ26_bitCount 28 = .ok (.ladd, 1) := dk_97 (dk_at dksJ26_bitCount_1 4 rfl rfl)
theorem dJ26_bitCount_29 : decode cJ26_bitCount 29 = .ok (.ldc2_w 318, 3) := dk_20 1 62 (dk_at dksJ26_bitCount_1 5 rfl rfl)
theorem dJ26_bitCount_32 : decode cJ26_bitCount 32 = .ok (.land, 1) := dk_127 (dk_at dksJ26_bitCount_1 8 rfl rfl)
theorem dJ26_bitCount_33 : decode cJ26_bitCount 33 = .ok (.lstore_n 0, 1) := dk_63 (dk_at dksJ26_bitCount_1 9 rfl rfl)
theorem dJ26_bitCount_34 : decode cJ26_bitCount 34 = .ok (.lload_n 0, 1) := dk_30 (dk_at dksJ26_bitCount_1 10 rfl rfl)
theorem dJ26_bitCount_35 : decode cJ26_bitCount 35 = .ok (.lload_n 0, 1) := dk_30 (dk_at dksJ26_bitCount_1 11 rfl rfl)
theorem dJ26_bitCount_36 : decode cJ26_bitCount 36 = .ok (.bipush 8, 2) := dk_16 8 (dk_at dksJ26_bitCount_1 12 rfl rfl)
theorem dJ26_bitCount_38 : decode cJ26_bitCount 38 = .ok (.lushr, 1) := dk_125 (dk_at dksJ26_bitCount_1 14 rfl rfl)
theorem dJ26_bitCount_39 : decode cJ26_bitCount 39 = .ok (.ladd, 1) := dk_97 (dk_at dksJ26_bitCount_1 15 rfl rfl)
theorem dJ26_bitCount_40 : decode cJ26_bitCount 40 = .ok (.lstore_n 0, 1) := dk_63 (dk_at dksJ26_bitCount_1 16 rfl rfl)
theorem dJ26_bitCount_41 : decode cJ26_bitCount 41 = .ok (.lload_n 0, 1) := dk_30 (dk_at dksJ26_bitCount_1 17 rfl rfl)
theorem dJ26_bitCount_42 : decode cJ26_bitCount 42 = .ok (.lload_n 0, 1) := dk_30 (dk_at dksJ26_bitCount_1 18 rfl rfl)
theorem dJ26_bitCount_43 : decode cJ26_bitCount 43 = .ok (.bipush 16, 2) := dk_16 16 (dk_at dksJ26_bitCount_1 19 rfl rfl)
theorem dJ26_bitCount_45 : decode cJ26_bitCount 45 = .ok (.lushr, 1) := dk_125 (dk_at dksJ26_bitCount_1 21 rfl rfl)
theorem dJ26_bitCount_46 : decode cJ26_bitCount 46 = .ok (.ladd, 1) := dk_97 (dk_at dksJ26_bitCount_1 22 rfl rfl)
theorem dJ26_bitCount_47 : decode cJ26_bitCount 47 = .ok (.lstore_n 0, 1) := dk_63 (dk_at dksJ26_bitCount_1 23 rfl rfl)
theorem dJ26_bitCount_48 : decode cJ26_bitCount 48 = .ok (.lload_n 0, 1) := dk_30 (dk_at dksJ26_bitCount_2 0 rfl rfl)
theorem dJ26_bitCount_49 : decode cJ26_bitCount 49 = .ok (.lload_n 0, 1) := dk_30 (dk_at dksJ26_bitCount_2 1 rfl rfl)
theorem dJ26_bitCount_50 : decode cJ26_bitCount 50 = .ok (.bipush 32, 2) := dk_16 32 (dk_at dksJ26_bitCount_2 2 rfl rfl)
theorem dJ26_bitCount_52 : decode cJ26_bitCount 52 = .ok (.lushr, 1) := dk_125 (dk_at dksJ26_bitCount_2 4 rfl rfl)
theorem dJ26_bitCount_53 : decode cJ26_bitCount 53 = .ok (.ladd, 1) := dk_97 (dk_at dksJ26_bitCount_2 5 rfl rfl)
theorem dJ26_bitCount_54 : decode cJ26_bitCount 54 = .ok (.lstore_n 0, 1) := dk_63 (dk_at dksJ26_bitCount_2 6 rfl rfl)
theorem dJ26_bitCount_55 : decode cJ26_bitCount 55 = .ok (.lload_n 0, 1) := dk_30 (dk_at dksJ26_bitCount_2 7 rfl rfl)
theorem dJ26_bitCount_56 : decode cJ26_bitCount 56 = .ok (.l2i, 1) := dk_136 (dk_at dksJ26_bitCount_2 8 rfl rfl)
theorem dJ26_bitCount_57 : decode cJ26_bitCount 57 = .ok (.bipush 127, 2) := dk_16 127 (dk_at dksJ26_bitCount_2 9 rfl rfl)
theorem dJ26_bitCount_59 : decode cJ26_bitCount 59 = .ok (.iand, 1) := dk_126 (dk_at dksJ26_bitCount_2 11 rfl rfl)
theorem dJ26_bitCount_60 : decode cJ26_bitCount 60 = .ok (.ireturn, 1) := dk_172 (dk_at dksJ26_bitCount_2 12 rfl rfl)
theorem q217 : (Jvm.Cond.initialized "java/lang/Long") ∈ lw_all := lw_g (lw_at lw_m1 41 rfl) rfl
theorem q1612 : (Jvm.Cond.static ({ cls := "java/lang/Long", name := "numberOfLeadingZeros", desc := "(J)I" } : Jvm.MethodName)) ∈ lw_all := lw_g (lw_at lw_m6 236 rfl) rfl
theorem q1613 : (Jvm.Cond.code ({ cls := "java/lang/Long", name := "numberOfLeadingZeros", desc := "(J)I" } : Jvm.MethodName) prog_35_method_48_code (3 : Nat) (Option.some Jvm.ClassFile.FieldType.int)) ∈ lw_all := lw_g (lw_at lw_m6 237 rfl) rfl
theorem q1614 : (Jvm.Cond.methodLink "java/lang/Long" (308 : Nat) ({ cls := "java/lang/Integer", name := "numberOfLeadingZeros", desc := "(I)I" } : Jvm.MethodName)) ∈ lw_all := lw_g (lw_at lw_m6 238 rfl) rfl
theorem q1621 : (Jvm.Cond.static ({ cls := "java/lang/Long", name := "numberOfTrailingZeros", desc := "(J)I" } : Jvm.MethodName)) ∈ lw_all := lw_g (lw_at lw_m7 5 rfl) rfl
theorem q1622 : (Jvm.Cond.code ({ cls := "java/lang/Long", name := "numberOfTrailingZeros", desc := "(J)I" } : Jvm.MethodName) prog_35_method_49_code (3 : Nat) (Option.some Jvm.ClassFile.FieldType.int)) ∈ lw_all := lw_g (lw_at lw_m7 6 rfl) rfl
theorem q1623 : (Jvm.Cond.methodLink "java/lang/Long" (311 : Nat) ({ cls := "java/lang/Integer", name := "numberOfTrailingZeros", desc := "(I)I" } : Jvm.MethodName)) ∈ lw_all := lw_g (lw_at lw_m7 7 rfl) rfl
theorem q3093 : (Jvm.Cond.static ({ cls := "java/lang/Long", name := "bitCount", desc := "(J)I" } : Jvm.MethodName)) ∈ lw_all := lw_g (lw_at lw_m13 37 rfl) rfl
theorem q3094 : (Jvm.Cond.code ({ cls := "java/lang/Long", name := "bitCount", desc := "(J)I" } : Jvm.MethodName) prog_35_method_50_code (2 : Nat) (Option.some Jvm.ClassFile.FieldType.int)) ∈ lw_all := lw_g (lw_at lw_m13 38 rfl) rfl
theorem q3095 : (Jvm.Cond.constantLong "java/lang/Long" (314 : Nat) (6148914691236517205 : Int64)) ∈ lw_all := lw_g (lw_at lw_m13 39 rfl) rfl
theorem q3096 : (Jvm.Cond.constantLong "java/lang/Long" (316 : Nat) (3689348814741910323 : Int64)) ∈ lw_all := lw_g (lw_at lw_m13 40 rfl) rfl
theorem q3097 : (Jvm.Cond.constantLong "java/lang/Long" (318 : Nat) (1085102592571150095 : Int64)) ∈ lw_all := lw_g (lw_at lw_m13 41 rfl) rfl

/-! java/util/TreeMap$Entry -/
set_option maxRecDepth 100000
def RJ27 : String := "java/util/TreeMap$Entry"
def TJ27 : u_T := fun k => match k with
  | 0 => ("java/util/TreeMap$Entry", "key", "Ljava/lang/Object;", false)
  | 1 => ("java/util/TreeMap$Entry", "value", "Ljava/lang/Object;", false)
  | 2 => ("java/util/TreeMap$Entry", "left", "Ljava/util/TreeMap$Entry;", false)
  | 3 => ("java/util/TreeMap$Entry", "right", "Ljava/util/TreeMap$Entry;", false)
  | 4 => ("java/util/TreeMap$Entry", "parent", "Ljava/util/TreeMap$Entry;", false)
  | _ => ("java/util/TreeMap$Entry", "color", "Z", false)
def tyJ27 : Nat → FieldType := fun k => match k with
  | 0 => .object "java/lang/Object"
  | 1 => .object "java/lang/Object"
  | 2 => .object "java/util/TreeMap$Entry"
  | 3 => .object "java/util/TreeMap$Entry"
  | 4 => .object "java/util/TreeMap$Entry"
  | _ => .boolean
abbrev wsJ270 : List Cond := u_ws RJ27 TJ27 6
theorem nmJ27 : ∀ a, a < 6 → ∀ b, b < 6 → a ≠ b → (TJ27 a).2.1 ≠ (TJ27 b).2.1 := by decide +kernel
theorem tyJ27_ok : ∀ k, k < 6 → parseFieldDescriptor (TJ27 k).2.2.1 = some (tyJ27 k) := by decide +kernel
abbrev cJ27_init : ByteArray := prog_88_method_1_code
def yJ27_init : MethodName := ⟨RJ27, "<init>", "(Ljava/lang/Object;Ljava/lang/Object;Ljava/util/TreeMap$Entry;)V"⟩
def dkwJ27_init_1 : List UInt8 := [177]
abbrev dktJ27_init_1 : List UInt8 := dkwJ27_init_1 ++ []
def dkwJ27_init_0 : List UInt8 := [42, 183, 0, 3, 42, 4, 181, 0, 9, 42, 43, 181, 0, 15, 42, 44, 181, 0, 19, 42, 45, 181, 0, 22]
abbrev dktJ27_init_0 : List UInt8 := dkwJ27_init_0 ++ dktJ27_init_1
theorem dksJ27_init_0 : cJ27_init.data.toList.drop 0 = dktJ27_init_0 := by decide +kernel
theorem dksJ27_init_1 : cJ27_init.data.toList.drop 24 = dktJ27_init_1 := dk_seg dksJ27_init_0 24 rfl rfl
theorem dJ27_init_0 : decode cJ27_init 0 = .ok (.aload_n 0, 1) := dk_42 (dk_at dksJ27_init_0 0 rfl rfl)
theorem dJ27_init_1 : decode cJ27_init 1 = .ok (.invokespecial 3, 3) := dk_183 0 3 (dk_at dksJ27_init_0 1 rfl rfl)
theorem dJ27_init_4 : decode cJ27_init 4 = .ok (.aload_n 0, 1) := dk_42 (dk_at dksJ27_init_0 4 rfl rfl)
theorem dJ27_init_5 : decode cJ27_init 5 = .ok (.iconst 1, 1) := dk_4 (dk_at dksJ27_init_0 5 rfl rfl)
theorem dJ27_init_6 : decode cJ27_init 6 = .ok (.putfield 9, 3) := dk_181 0 9 (dk_at dksJ27_init_0 6 rfl rfl)
theorem dJ27_init_9 : decode cJ27_init 9 = .ok (.aload_n 0, 1) := dk_42 (dk_at dksJ27_init_0 9 rfl rfl)
theorem dJ27_init_10 : decode cJ27_init 10 = .ok (.aload_n 1, 1) := dk_43 (dk_at dksJ27_init_0 10 rfl rfl)
theorem dJ27_init_11 : decode cJ27_init 11 = .ok (.putfield 15, 3) := dk_181 0 15 (dk_at dksJ27_init_0 11 rfl rfl)
theorem dJ27_init_14 : decode cJ27_init 14 = .ok (.aload_n 0, 1) := dk_42 (dk_at dksJ27_init_0 14 rfl rfl)
theorem dJ27_init_15 : decode cJ27_init 15 = .ok (.aload_n 2, 1) := dk_44 (dk_at dksJ27_init_0 15 rfl rfl)
theorem dJ27_init_16 : decode cJ27_init 16 = .ok (.putfield 19, 3) := dk_181 0 19 (dk_at dksJ27_init_0 16 rfl rfl)
theorem dJ27_init_19 : decode cJ27_init 19 = .ok (.aload_n 0, 1) := dk_42 (dk_at dksJ27_init_0 19 rfl rfl)
theorem dJ27_init_20 : decode cJ27_init 20 = .ok (.aload_n 3, 1) := dk_45 (dk_at dksJ27_init_0 20 rfl rfl)
theorem dJ27_init_21 : decode cJ27_init 21 = .ok (.putfield 22, 3) := dk_181 0 22 (dk_at dksJ27_init_0 21 rfl rfl)
theorem dJ27_init_24 : decode cJ27_init 24 = .ok (.return_, 1) := dk_177 (dk_at dksJ27_init_1 0 rfl rfl)
abbrev cJ27_getKey : ByteArray := prog_88_method_2_code
def yJ27_getKey : MethodName := ⟨RJ27, "getKey", "()Ljava/lang/Object;"⟩
theorem dJ27_getKey_0 : decode cJ27_getKey 0 = .ok (.aload_n 0, 1) := by decide +kernel
theorem dJ27_getKey_1 : decode cJ27_getKey 1 = .ok (.getfield 15, 3) := by decide +kernel
theorem dJ27_getKey_4 : decode cJ27_getKey 4 = .ok (.areturn, 1) := by decide +kernel
abbrev cJ27_getValue : ByteArray := prog_88_method_3_code
def yJ27_getValue : MethodName := ⟨RJ27, "getValue", "()Ljava/lang/Object;"⟩
theorem dJ27_getValue_0 : decode cJ27_getValue 0 = .ok (.aload_n 0, 1) := by decide +kernel
theorem dJ27_getValue_1 : decode cJ27_getValue 1 = .ok (.getfield 19, 3) := by decide +kernel
theorem dJ27_getValue_4 : decode cJ27_getValue 4 = .ok (.areturn, 1) := by decide +kernel
theorem q218 : (Jvm.Cond.initialized "java/util/TreeMap$Entry") ∈ lw_all := lw_g (lw_at lw_m1 42 rfl) rfl
theorem q437 : (Jvm.Cond.selects "java/util/TreeMap$Entry" ({ cls := "java/lang/Object", name := "getClass", desc := "()Ljava/lang/Class;" } : Jvm.MethodName) ({ cls := "java/lang/Object", name := "getClass", desc := "()Ljava/lang/Class;" } : Jvm.MethodName)) ∈ lw_all := lw_g (lw_at lw_m2 21 rfl) rfl
theorem q1721 : (Jvm.Cond.instantiable "java/util/TreeMap$Entry" (6 : Nat)) ∈ lw_all := lw_g (lw_at lw_m7 105 rfl) rfl
theorem q1723 : (Jvm.Cond.instanceMethod ({ cls := "java/util/TreeMap$Entry", name := "<init>", desc := "(Ljava/lang/Object;Ljava/lang/Object;Ljava/util/TreeMap$Entry;)V" } : Jvm.MethodName)) ∈ lw_all := lw_g (lw_at lw_m7 107 rfl) rfl
theorem q1724 : (Jvm.Cond.code ({ cls := "java/util/TreeMap$Entry", name := "<init>", desc := "(Ljava/lang/Object;Ljava/lang/Object;Ljava/util/TreeMap$Entry;)V" } : Jvm.MethodName) prog_88_method_1_code (4 : Nat) (Option.none : Option Jvm.ClassFile.FieldType)) ∈ lw_all := lw_g (lw_at lw_m7 108 rfl) rfl
theorem q1725 : (Jvm.Cond.methodLink "java/util/TreeMap$Entry" (3 : Nat) ({ cls := "java/lang/Object", name := "<init>", desc := "()V" } : Jvm.MethodName)) ∈ lw_all := lw_g (lw_at lw_m7 109 rfl) rfl
theorem q1726 : (Jvm.Cond.fieldLink "java/util/TreeMap$Entry" (15 : Nat) "java/util/TreeMap$Entry" "key" "Ljava/lang/Object;") ∈ lw_all := lw_g (lw_at lw_m7 110 rfl) rfl
theorem q1729 : (Jvm.Cond.fieldLink "java/util/TreeMap$Entry" (19 : Nat) "java/util/TreeMap$Entry" "value" "Ljava/lang/Object;") ∈ lw_all := lw_g (lw_at lw_m7 113 rfl) rfl
theorem q1733 : (Jvm.Cond.fieldLink "java/util/TreeMap$Entry" (22 : Nat) "java/util/TreeMap$Entry" "parent" "Ljava/util/TreeMap$Entry;") ∈ lw_all := lw_g (lw_at lw_m7 117 rfl) rfl
theorem q1735 : (Jvm.Cond.fieldLink "java/util/TreeMap$Entry" (9 : Nat) "java/util/TreeMap$Entry" "color" "Z") ∈ lw_all := lw_g (lw_at lw_m7 119 rfl) rfl
theorem q1737 : (Jvm.Cond.lays "java/util/TreeMap$Entry" "java/util/TreeMap$Entry" "key" "Ljava/lang/Object;") ∈ lw_all := lw_g (lw_at lw_m7 121 rfl) rfl
theorem q1738 : (Jvm.Cond.soleField "java/util/TreeMap$Entry" "key") ∈ lw_all := lw_g (lw_at lw_m7 122 rfl) rfl
theorem q1739 : (Jvm.Cond.lays "java/util/TreeMap$Entry" "java/util/TreeMap$Entry" "value" "Ljava/lang/Object;") ∈ lw_all := lw_g (lw_at lw_m7 123 rfl) rfl
theorem q1740 : (Jvm.Cond.soleField "java/util/TreeMap$Entry" "value") ∈ lw_all := lw_g (lw_at lw_m7 124 rfl) rfl
theorem q1741 : (Jvm.Cond.lays "java/util/TreeMap$Entry" "java/util/TreeMap$Entry" "left" "Ljava/util/TreeMap$Entry;") ∈ lw_all := lw_g (lw_at lw_m7 125 rfl) rfl
theorem q1742 : (Jvm.Cond.soleField "java/util/TreeMap$Entry" "left") ∈ lw_all := lw_g (lw_at lw_m7 126 rfl) rfl
theorem q1743 : (Jvm.Cond.lays "java/util/TreeMap$Entry" "java/util/TreeMap$Entry" "right" "Ljava/util/TreeMap$Entry;") ∈ lw_all := lw_g (lw_at lw_m7 127 rfl) rfl
theorem q1744 : (Jvm.Cond.soleField "java/util/TreeMap$Entry" "right") ∈ lw_all := lw_g (lw_at lw_m7 128 rfl) rfl
theorem q1745 : (Jvm.Cond.lays "java/util/TreeMap$Entry" "java/util/TreeMap$Entry" "parent" "Ljava/util/TreeMap$Entry;") ∈ lw_all := lw_g (lw_at lw_m7 129 rfl) rfl
theorem q1746 : (Jvm.Cond.soleField "java/util/TreeMap$Entry" "parent") ∈ lw_all := lw_g (lw_at lw_m7 130 rfl) rfl
theorem q1747 : (Jvm.Cond.lays "java/util/TreeMap$Entry" "java/util/TreeMap$Entry" "color" "Z") ∈ lw_all := lw_g (lw_at lw_m7 131 rfl) rfl
theorem q1748 : (Jvm.Cond.soleField "java/util/TreeMap$Entry" "color") ∈ lw_all := lw_g (lw_at lw_m7 132 rfl) rfl
theorem q1749 : (Jvm.Cond.superclass "java/util/TreeMap$Entry" "java/lang/Object") ∈ lw_all := lw_g (lw_at lw_m7 133 rfl) rfl
theorem q2877 : (Jvm.Cond.castable "java/util/TreeMap$Entry" "java/util/Map$Entry") ∈ lw_tbl := lw_at lw_m12 61 rfl
theorem q2878 : (Jvm.Cond.selects "java/util/TreeMap$Entry" ({ cls := "java/util/Map$Entry", name := "getKey", desc := "()Ljava/lang/Object;" } : Jvm.MethodName) ({ cls := "java/util/TreeMap$Entry", name := "getKey", desc := "()Ljava/lang/Object;" } : Jvm.MethodName)) ∈ lw_all := lw_g (lw_at lw_m12 62 rfl) rfl
theorem q2879 : (Jvm.Cond.unhidden "java/util/TreeMap$Entry" "getKey" "()Ljava/lang/Object;") ∈ lw_tbl := lw_at lw_m12 63 rfl
theorem q2880 : (Jvm.Cond.instanceMethod ({ cls := "java/util/TreeMap$Entry", name := "getKey", desc := "()Ljava/lang/Object;" } : Jvm.MethodName)) ∈ lw_all := lw_g (lw_at lw_m12 64 rfl) rfl
theorem q2881 : (Jvm.Cond.publicMethod ({ cls := "java/util/TreeMap$Entry", name := "getKey", desc := "()Ljava/lang/Object;" } : Jvm.MethodName)) ∈ lw_tbl := lw_at lw_m12 65 rfl
theorem q2882 : (Jvm.Cond.code ({ cls := "java/util/TreeMap$Entry", name := "getKey", desc := "()Ljava/lang/Object;" } : Jvm.MethodName) prog_88_method_2_code (1 : Nat) (Option.some (Jvm.ClassFile.FieldType.object "java/lang/Object"))) ∈ lw_all := lw_g (lw_at lw_m12 66 rfl) rfl
theorem q2887 : (Jvm.Cond.selects "java/util/TreeMap$Entry" ({ cls := "java/util/Map$Entry", name := "getValue", desc := "()Ljava/lang/Object;" } : Jvm.MethodName) ({ cls := "java/util/TreeMap$Entry", name := "getValue", desc := "()Ljava/lang/Object;" } : Jvm.MethodName)) ∈ lw_all := lw_g (lw_at lw_m12 71 rfl) rfl
theorem q2888 : (Jvm.Cond.unhidden "java/util/TreeMap$Entry" "getValue" "()Ljava/lang/Object;") ∈ lw_tbl := lw_at lw_m12 72 rfl
theorem q2889 : (Jvm.Cond.instanceMethod ({ cls := "java/util/TreeMap$Entry", name := "getValue", desc := "()Ljava/lang/Object;" } : Jvm.MethodName)) ∈ lw_all := lw_g (lw_at lw_m12 73 rfl) rfl
theorem q2890 : (Jvm.Cond.publicMethod ({ cls := "java/util/TreeMap$Entry", name := "getValue", desc := "()Ljava/lang/Object;" } : Jvm.MethodName)) ∈ lw_tbl := lw_at lw_m12 74 rfl
theorem q2891 : (Jvm.Cond.code ({ cls := "java/util/TreeMap$Entry", name := "getValue", desc := "()Ljava/lang/Object;" } : Jvm.MethodName) prog_88_method_3_code (1 : Nat) (Option.some (Jvm.ClassFile.FieldType.object "java/lang/Object"))) ∈ lw_all := lw_g (lw_at lw_m12 75 rfl) rfl
theorem q4501 : (Jvm.Cond.castable "java/util/TreeMap$Entry" "java/lang/Object") ∈ lw_tbl := lw_at lw_m19 5 rfl
theorem in_J27 : ∀ w ∈ wsJ270, w ∈ lw_all := lw_in wsJ270 [1737, 1739, 1741, 1743, 1745, 1747] (by decide +kernel) (by decide +kernel)

/-! java/util/ArrayList$Itr -/
set_option maxRecDepth 100000
def RJ28 : String := "java/util/ArrayList$Itr"
def TJ28 : u_T := fun k => match k with
  | 0 => ("java/util/ArrayList$Itr", "cursor", "I", false)
  | 1 => ("java/util/ArrayList$Itr", "lastRet", "I", false)
  | 2 => ("java/util/ArrayList$Itr", "expectedModCount", "I", false)
  | _ => ("java/util/ArrayList$Itr", "this$0", "Ljava/util/ArrayList;", true)
def tyJ28 : Nat → FieldType := fun k => match k with
  | 0 => .int
  | 1 => .int
  | 2 => .int
  | _ => .object "java/util/ArrayList"
abbrev wsJ280 : List Cond := u_ws RJ28 TJ28 4
theorem nmJ28 : ∀ a, a < 4 → ∀ b, b < 4 → a ≠ b → (TJ28 a).2.1 ≠ (TJ28 b).2.1 := by decide +kernel
theorem tyJ28_ok : ∀ k, k < 4 → parseFieldDescriptor (TJ28 k).2.2.1 = some (tyJ28 k) := by decide +kernel
abbrev cJ28_hasNext : ByteArray := prog_59_method_2_code
def yJ28_hasNext : MethodName := ⟨RJ28, "hasNext", "()Z"⟩
def dkwJ28_hasNext_0 : List UInt8 := [42, 180, 0, 25, 42, 180, 0, 1, 180, 0, 28, 159, 0, 7, 4, 167, 0, 4, 3, 172]
abbrev dktJ28_hasNext_0 : List UInt8 := dkwJ28_hasNext_0 ++ []
theorem dksJ28_hasNext_0 : cJ28_hasNext.data.toList.drop 0 = dktJ28_hasNext_0 := by decide +kernel
theorem dJ28_hasNext_0 : decode cJ28_hasNext 0 = .ok (.aload_n 0, 1) := dk_42 (dk_at dksJ28_hasNext_0 0 rfl rfl)
theorem dJ28_hasNext_1 : decode cJ28_hasNext 1 = .ok (.getfield 25, 3) := dk_180 0 25 (dk_at dksJ28_hasNext_0 1 rfl rfl)
theorem dJ28_hasNext_4 : decode cJ28_hasNext 4 = .ok (.aload_n 0, 1) := dk_42 (dk_at dksJ28_hasNext_0 4 rfl rfl)
theorem dJ28_hasNext_5 : decode cJ28_hasNext 5 = .ok (.getfield 1, 3) := dk_180 0 1 (dk_at dksJ28_hasNext_0 5 rfl rfl)
theorem dJ28_hasNext_8 : decode cJ28_hasNext 8 = .ok (.getfield 28, 3) := dk_180 0 28 (dk_at dksJ28_hasNext_0 8 rfl rfl)
theorem dJ28_hasNext_11 : decode cJ28_hasNext 11 = .ok (.if_icmp .eq 7, 3) := dk_159 0 7 (dk_at dksJ28_hasNext_0 11 rfl rfl)
theorem dJ28_hasNext_14 : decode cJ28_hasNext 14 = .ok (.iconst 1, 1) := dk_4 (dk_at dksJ28_hasNext_0 14 rfl rfl)
theorem dJ28_hasNext_15 : decode cJ28_hasNext 15 = .ok (.goto 4, 3) := dk_167 0 4 (dk_at dksJ28_hasNext_0 15 rfl rfl)
theorem dJ28_hasNext_18 : decode cJ28_hasNext 18 = .ok (.iconst 0, 1) := dk_3 (dk_at dksJ28_hasNext_0 18 rfl rfl)
theorem dJ28_hasNext_19 : decode cJ28_hasNext 19 = .ok (.ireturn, 1) := dk_172 (dk_at dksJ28_hasNext_0 19 rfl rfl)
abbrev cJ28_next : ByteArray := prog_59_method_3_code
def yJ28_next : MethodName := ⟨RJ28, "next", "()Ljava/lang/Object;"⟩
def dkwJ28_next_2 : List UInt8 := [183, 0, 43, 191, 42, 27, 4, 96, 181, 0, 25, 44, 42, 27, 90, 181, 0, 13, 50, 176]
abbrev dktJ28_next_2 : List UInt8 := dkwJ28_next_2 ++ []
def dkwJ28_next_1 : List UInt8 := [183, 0, 36, 191, 42, 180, 0, 1, 180, 0, 37, 77, 27, 44, 190, 161, 0, 11, 187, 0, 41, 89]
abbrev dktJ28_next_1 : List UInt8 := dkwJ28_next_1 ++ dktJ28_next_2
def dkwJ28_next_0 : List UInt8 := [42, 182, 0, 31, 42, 180, 0, 25, 60, 27, 42, 180, 0, 1, 180, 0, 28, 161, 0, 11, 187, 0, 34, 89]
abbrev dktJ28_next_0 : List UInt8 := dkwJ28_next_0 ++ dktJ28_next_1
theorem dksJ28_next_0 : cJ28_next.data.toList.drop 0 = dktJ28_next_0 := by decide +kernel
theorem dksJ28_next_1 : cJ28_next.data.toList.drop 24 = dktJ28_next_1 := dk_seg dksJ28_next_0 24 rfl rfl
theorem dksJ28_next_2 : cJ28_next.data.toList.drop 46 = dktJ28_next_2 := dk_seg dksJ28_next_1 22 rfl rfl
theorem dJ28_next_0 : decode cJ28_next 0 = .ok (.aload_n 0, 1) := dk_42 (dk_at dksJ28_next_0 0 rfl rfl)
theorem dJ28_next_1 : decode cJ28_next 1 = .ok (.invokevirtual 31, 3) := dk_182 0 31 (dk_at dksJ28_next_0 1 rfl rfl)
theorem dJ28_next_4 : decode cJ28_next 4 = .ok (.aload_n 0, 1) := dk_42 (dk_at dksJ28_next_0 4 rfl rfl)
theorem dJ28_next_5 : decode cJ28_next 5 = .ok (.getfield 25, 3) := dk_180 0 25 (dk_at dksJ28_next_0 5 rfl rfl)
theorem dJ28_next_8 : decode cJ28_next 8 = .ok (.istore_n 1, 1) := dk_60 (dk_at dksJ28_next_0 8 rfl rfl)
theorem dJ28_next_9 : decode cJ28_next 9 = .ok (.iload_n 1, 1) := dk_27 (dk_at dksJ28_next_0 9 rfl rfl)
theorem dJ28_next_10 : decode cJ28_next 10 = .ok (.aload_n 0, 1) := dk_42 (dk_at dksJ28_next_0 10 rfl rfl)
theorem dJ28_next_11 : decode cJ28_next 11 = .ok (.getfield 1, 3) := dk_180 0 1 (dk_at dksJ28_next_0 11 rfl rfl)
theorem dJ28_next_14 : decode cJ28_next 14 = .ok (.getfield 28, 3) := dk_180 0 28 (dk_at dksJ28_next_0 14 rfl rfl)
theorem dJ28_next_17 : decode cJ28_next 17 = .ok (.if_icmp .lt 11, 3) := dk_161 0 11 (dk_at dksJ28_next_0 17 rfl rfl)
theorem dJ28_next_20 : decode cJ28_next 20 = .ok (.new 34, 3) := dk_187 0 34 (dk_at dksJ28_next_0 20 rfl rfl)
theorem dJ28_next_23 : decode cJ28_next 23 = .ok (.dup, 1) := dk_89 (dk_at dksJ28_next_0 23 rfl rfl)
theorem dJ28_next_24 : decode cJ28_next 24 = .ok (.invokespecial 36, 3) := dk_183 0 36 (dk_at dksJ28_next_1 0 rfl rfl)
theorem dJ28_next_27 : decode cJ28_next 27 = .ok (.athrow, 1) := dk_191 (dk_at dksJ28_next_1 3 rfl rfl)
theorem dJ28_next_28 : decode cJ28_next 28 = .ok (.aload_n 0, 1) := dk_42 (dk_at dksJ28_next_1 4 rfl rfl)
theorem dJ28_next_29 : decode cJ28_next 29 = .ok (.getfield 1, 3) := dk_180 0 1 (dk_at dksJ28_next_1 5 rfl rfl)
theorem dJ28_next_32 : decode cJ28_next 32 = .ok (.getfield 37, 3) := dk_180 0 37 (dk_at dksJ28_next_1 8 rfl rfl)
theorem dJ28_next_35 : decode cJ28_next 35 = .ok (.astore_n 2, 1) := dk_77 (dk_at dksJ28_next_1 11 rfl rfl)
theorem dJ28_next_36 : decode cJ28_next 36 = .ok (.iload_n 1, 1) := dk_27 (dk_at dksJ28_next_1 12 rfl rfl)
theorem dJ28_next_37 : decode cJ28_next 37 = .ok (.aload_n 2, 1) := dk_44 (dk_at dksJ28_next_1 13 rfl rfl)
theorem dJ28_next_38 : decode cJ28_next 38 = .ok (.arraylength, 1) := dk_190 (dk_at dksJ28_next_1 14 rfl rfl)
theorem dJ28_next_39 : decode cJ28_next 39 = .ok (.if_icmp .lt 11, 3) := dk_161 0 11 (dk_at dksJ28_next_1 15 rfl rfl)
theorem dJ28_next_42 : decode cJ28_next 42 = .ok (.new 41, 3) := dk_187 0 41 (dk_at dksJ28_next_1 18 rfl rfl)
theorem dJ28_next_45 : decode cJ28_next 45 = .ok (.dup, 1) := dk_89 (dk_at dksJ28_next_1 21 rfl rfl)
theorem dJ28_next_46 : decode cJ28_next 46 = .ok (.invokespecial 43, 3) := dk_183 0 43 (dk_at dksJ28_next_2 0 rfl rfl)
theorem dJ28_next_49 : decode cJ28_next 49 = .ok (.athrow, 1) := dk_191 (dk_at dksJ28_next_2 3 rfl rfl)
theorem dJ28_next_50 : decode cJ28_next 50 = .ok (.aload_n 0, 1) := dk_42 (dk_at dksJ28_next_2 4 rfl rfl)
theorem dJ28_next_51 : decode cJ28_next 51 = .ok (.iload_n 1, 1) := dk_27 (dk_at dksJ28_next_2 5 rfl rfl)
theorem dJ28_next_52 : decode cJ28_next 52 = .ok (.iconst 1, 1) := dk_4 (dk_at dksJ28_next_2 6 rfl rfl)
theorem dJ28_next_53 : decode cJ28_next 53 = .ok (.iadd, 1) := dk_96 (dk_at dksJ28_next_2 7 rfl rfl)
theorem dJ28_next_54 : decode cJ28_next 54 = .ok (.putfield 25, 3) := dk_181 0 25 (dk_at dksJ28_next_2 8 rfl rfl)
theorem dJ28_next_57 : decode cJ28_next 57 = .ok (.aload_n 2, 1) := dk_44 (dk_at dksJ28_next_2 11 rfl rfl)
theorem dJ28_next_58 : decode cJ28_next 58 = .ok (.aload_n 0, 1) := dk_42 (dk_at dksJ28_next_2 12 rfl rfl)
theorem dJ28_next_59 : decode cJ28_next 59 = .ok (.iload_n 1, 1) := dk_27 (dk_at dksJ28_next_2 13 rfl rfl)
theorem dJ28_next_60 : decode cJ28_next 60 = .ok (.dup_x1, 1) := dk_90 (dk_at dksJ28_next_2 14 rfl rfl)
theorem dJ28_next_61 : decode cJ28_next 61 = .ok (.putfield 13, 3) := dk_181 0 13 (dk_at dksJ28_next_2 15 rfl rfl)
theorem dJ28_next_64 : decode cJ28_next 64 = .ok (.aaload, 1) := dk_50 (dk_at dksJ28_next_2 18 rfl rfl)
theorem dJ28_next_65 : decode cJ28_next 65 = .ok (.areturn, 1) := dk_176 (dk_at dksJ28_next_2 19 rfl rfl)
abbrev cJ28_checkForComodification : ByteArray := prog_59_method_6_code
def yJ28_checkForComodification : MethodName := ⟨RJ28, "checkForComodification", "()V"⟩
def dkwJ28_checkForComodification_0 : List UInt8 := [42, 180, 0, 1, 180, 0, 17, 42, 180, 0, 22, 159, 0, 11, 187, 0, 41, 89, 183, 0, 43, 191, 177]
abbrev dktJ28_checkForComodification_0 : List UInt8 := dkwJ28_checkForComodification_0 ++ []
theorem dksJ28_checkForComodification_0 : cJ28_checkForComodification.data.toList.drop 0 = dktJ28_checkForComodification_0 := by decide +kernel
theorem dJ28_checkForComodification_0 : decode cJ28_checkForComodification 0 = .ok (.aload_n 0, 1) := dk_42 (dk_at dksJ28_checkForComodification_0 0 rfl rfl)
theorem dJ28_checkForComodification_1 : decode cJ28_checkForComodification 1 = .ok (.getfield 1, 3) := dk_180 0 1 (dk_at dksJ28_checkForComodification_0 1 rfl rfl)
theorem dJ28_checkForComodification_4 : decode cJ28_checkForComodification 4 = .ok (.getfield 17, 3) := dk_180 0 17 (dk_at dksJ28_checkForComodification_0 4 rfl rfl)
theorem dJ28_checkForComodification_7 : decode cJ28_checkForComodification 7 = .ok (.aload_n 0, 1) := dk_42 (dk_at dksJ28_checkForComodification_0 7 rfl rfl)
theorem dJ28_checkForComodification_8 : decode cJ28_checkForComodification 8 = .ok (.getfield 22, 3) := dk_180 0 22 (dk_at dksJ28_checkForComodification_0 8 rfl rfl)
theorem dJ28_checkForComodification_11 : decode cJ28_checkForComodification 11 = .ok (.if_icmp .eq 11, 3) := dk_159 0 11 (dk_at dksJ28_checkForComodification_0 11 rfl rfl)
theorem dJ28_checkForComodification_14 : decode cJ28_checkForComodification 14 = .ok (.new 41, 3) := dk_187 0 41 (dk_at dksJ28_checkForComodification_0 14 rfl rfl)
theorem dJ28_checkForComodification_17 : decode cJ28_checkForComodification 17 = .ok (.dup, 1) := dk_89 (dk_at dksJ28_checkForComodification_0 17 rfl rfl)
theorem dJ28_checkForComodification_18 : decode cJ28_checkForComodification 18 = .ok (.invokespecial 43, 3) := dk_183 0 43 (dk_at dksJ28_checkForComodification_0 18 rfl rfl)
theorem dJ28_checkForComodification_21 : decode cJ28_checkForComodification 21 = .ok (.athrow, 1) := dk_191 (dk_at dksJ28_checkForComodification_0 21 rfl rfl)
theorem dJ28_checkForComodification_22 : decode cJ28_checkForComodification 22 = .ok (.return_, 1) := dk_177 (dk_at dksJ28_checkForComodification_0 22 rfl rfl)
abbrev cJ28_init : ByteArray := prog_59_method_1_code
def yJ28_init : MethodName := ⟨RJ28, "<init>", "(Ljava/util/ArrayList;)V"⟩
def dkwJ28_init_1 : List UInt8 := [181, 0, 22, 177]
abbrev dktJ28_init_1 : List UInt8 := dkwJ28_init_1 ++ []
def dkwJ28_init_0 : List UInt8 := [42, 43, 181, 0, 1, 42, 183, 0, 7, 42, 2, 181, 0, 13, 42, 42, 180, 0, 1, 180, 0, 17]
abbrev dktJ28_init_0 : List UInt8 := dkwJ28_init_0 ++ dktJ28_init_1
theorem dksJ28_init_0 : cJ28_init.data.toList.drop 0 = dktJ28_init_0 := by decide +kernel
theorem dksJ28_init_1 : cJ28_init.data.toList.drop 22 = dktJ28_init_1 := dk_seg dksJ28_init_0 22 rfl rfl
theorem dJ28_init_0 : decode cJ28_init 0 = .ok (.aload_n 0, 1) := dk_42 (dk_at dksJ28_init_0 0 rfl rfl)
theorem dJ28_init_1 : decode cJ28_init 1 = .ok (.aload_n 1, 1) := dk_43 (dk_at dksJ28_init_0 1 rfl rfl)
theorem dJ28_init_2 : decode cJ28_init 2 = .ok (.putfield 1, 3) := dk_181 0 1 (dk_at dksJ28_init_0 2 rfl rfl)
theorem dJ28_init_5 : decode cJ28_init 5 = .ok (.aload_n 0, 1) := dk_42 (dk_at dksJ28_init_0 5 rfl rfl)
theorem dJ28_init_6 : decode cJ28_init 6 = .ok (.invokespecial 7, 3) := dk_183 0 7 (dk_at dksJ28_init_0 6 rfl rfl)
theorem dJ28_init_9 : decode cJ28_init 9 = .ok (.aload_n 0, 1) := dk_42 (dk_at dksJ28_init_0 9 rfl rfl)
theorem dJ28_init_10 : decode cJ28_init 10 = .ok (.iconst (-1), 1) := dk_2 (dk_at dksJ28_init_0 10 rfl rfl)
theorem dJ28_init_11 : decode cJ28_init 11 = .ok (.putfield 13, 3) := dk_181 0 13 (dk_at dksJ28_init_0 11 rfl rfl)
theorem dJ28_init_14 : decode cJ28_init 14 = .ok (.aload_n 0, 1) := dk_42 (dk_at dksJ28_init_0 14 rfl rfl)
theorem dJ28_init_15 : decode cJ28_init 15 = .ok (.aload_n 0, 1) := dk_42 (dk_at dksJ28_init_0 15 rfl rfl)
theorem dJ28_init_16 : decode cJ28_init 16 = .ok (.getfield 1, 3) := dk_180 0 1 (dk_at dksJ28_init_0 16 rfl rfl)
theorem dJ28_init_19 : decode cJ28_init 19 = .ok (.getfield 17, 3) := dk_180 0 17 (dk_at dksJ28_init_0 19 rfl rfl)
theorem dJ28_init_22 : decode cJ28_init 22 = .ok (.putfield 22, 3) := dk_181 0 22 (dk_at dksJ28_init_1 0 rfl rfl)
theorem dJ28_init_25 : decode cJ28_init 25 = .ok (.return_, 1) := dk_177 (dk_at dksJ28_init_1 3 rfl rfl)
theorem q219 : (Jvm.Cond.initialized "java/util/ArrayList$Itr") ∈ lw_all := lw_g (lw_at lw_m1 43 rfl) rfl
theorem q276 : (Jvm.Cond.fieldLink "java/util/ArrayList$Itr" (37 : Nat) "java/util/ArrayList" "elementData" "[Ljava/lang/Object;") ∈ lw_all := lw_g (lw_at lw_m1 100 rfl) rfl
theorem q277 : (Jvm.Cond.fieldLinkNest "java/util/ArrayList$Itr" (28 : Nat) "java/util/ArrayList" "size" "I" "java/util/ArrayList") ∈ lw_tbl := lw_at lw_m1 101 rfl
theorem q282 : (Jvm.Cond.fieldLink "java/util/ArrayList$Itr" (17 : Nat) "java/util/ArrayList" "modCount" "I") ∈ lw_all := lw_g (lw_at lw_m1 106 rfl) rfl
theorem q428 : (Jvm.Cond.selects "java/util/ArrayList$Itr" ({ cls := "java/lang/Object", name := "getClass", desc := "()Ljava/lang/Class;" } : Jvm.MethodName) ({ cls := "java/lang/Object", name := "getClass", desc := "()Ljava/lang/Class;" } : Jvm.MethodName)) ∈ lw_all := lw_g (lw_at lw_m2 12 rfl) rfl
theorem q2190 : (Jvm.Cond.castable "java/util/ArrayList$Itr" "java/util/Iterator") ∈ lw_tbl := lw_at lw_m9 94 rfl
theorem q2191 : (Jvm.Cond.selects "java/util/ArrayList$Itr" ({ cls := "java/util/Iterator", name := "hasNext", desc := "()Z" } : Jvm.MethodName) ({ cls := "java/util/ArrayList$Itr", name := "hasNext", desc := "()Z" } : Jvm.MethodName)) ∈ lw_all := lw_g (lw_at lw_m9 95 rfl) rfl
theorem q2192 : (Jvm.Cond.unhidden "java/util/ArrayList$Itr" "hasNext" "()Z") ∈ lw_tbl := lw_at lw_m9 96 rfl
theorem q2193 : (Jvm.Cond.instanceMethod ({ cls := "java/util/ArrayList$Itr", name := "hasNext", desc := "()Z" } : Jvm.MethodName)) ∈ lw_all := lw_g (lw_at lw_m9 97 rfl) rfl
theorem q2194 : (Jvm.Cond.publicMethod ({ cls := "java/util/ArrayList$Itr", name := "hasNext", desc := "()Z" } : Jvm.MethodName)) ∈ lw_tbl := lw_at lw_m9 98 rfl
theorem q2195 : (Jvm.Cond.code ({ cls := "java/util/ArrayList$Itr", name := "hasNext", desc := "()Z" } : Jvm.MethodName) prog_59_method_2_code (1 : Nat) (Option.some Jvm.ClassFile.FieldType.boolean)) ∈ lw_all := lw_g (lw_at lw_m9 99 rfl) rfl
theorem q2295 : (Jvm.Cond.selects "java/util/ArrayList$Itr" ({ cls := "java/util/Iterator", name := "next", desc := "()Ljava/lang/Object;" } : Jvm.MethodName) ({ cls := "java/util/ArrayList$Itr", name := "next", desc := "()Ljava/lang/Object;" } : Jvm.MethodName)) ∈ lw_all := lw_g (lw_at lw_m9 199 rfl) rfl
theorem q2296 : (Jvm.Cond.unhidden "java/util/ArrayList$Itr" "next" "()Ljava/lang/Object;") ∈ lw_tbl := lw_at lw_m9 200 rfl
theorem q2297 : (Jvm.Cond.instanceMethod ({ cls := "java/util/ArrayList$Itr", name := "next", desc := "()Ljava/lang/Object;" } : Jvm.MethodName)) ∈ lw_all := lw_g (lw_at lw_m9 201 rfl) rfl
theorem q2298 : (Jvm.Cond.publicMethod ({ cls := "java/util/ArrayList$Itr", name := "next", desc := "()Ljava/lang/Object;" } : Jvm.MethodName)) ∈ lw_tbl := lw_at lw_m9 202 rfl
theorem q2299 : (Jvm.Cond.code ({ cls := "java/util/ArrayList$Itr", name := "next", desc := "()Ljava/lang/Object;" } : Jvm.MethodName) prog_59_method_3_code (3 : Nat) (Option.some (Jvm.ClassFile.FieldType.object "java/lang/Object"))) ∈ lw_all := lw_g (lw_at lw_m9 203 rfl) rfl
theorem q2300 : (Jvm.Cond.methodLink "java/util/ArrayList$Itr" (31 : Nat) ({ cls := "java/util/ArrayList$Itr", name := "checkForComodification", desc := "()V" } : Jvm.MethodName)) ∈ lw_all := lw_g (lw_at lw_m9 204 rfl) rfl
theorem q2301 : (Jvm.Cond.instanceMethod ({ cls := "java/util/ArrayList$Itr", name := "checkForComodification", desc := "()V" } : Jvm.MethodName)) ∈ lw_all := lw_g (lw_at lw_m9 205 rfl) rfl
theorem q2302 : (Jvm.Cond.selects "java/util/ArrayList$Itr" ({ cls := "java/util/ArrayList$Itr", name := "checkForComodification", desc := "()V" } : Jvm.MethodName) ({ cls := "java/util/ArrayList$Itr", name := "checkForComodification", desc := "()V" } : Jvm.MethodName)) ∈ lw_all := lw_g (lw_at lw_m9 206 rfl) rfl
theorem q2303 : (Jvm.Cond.sameMethod "java/util/ArrayList$Itr" "java/util/ArrayList$Itr" "checkForComodification" "()V") ∈ lw_all := lw_g (lw_at lw_m9 207 rfl) rfl
theorem q2305 : (Jvm.Cond.code ({ cls := "java/util/ArrayList$Itr", name := "checkForComodification", desc := "()V" } : Jvm.MethodName) prog_59_method_6_code (1 : Nat) (Option.none : Option Jvm.ClassFile.FieldType)) ∈ lw_all := lw_g (lw_at lw_m9 209 rfl) rfl
theorem q2306 : (Jvm.Cond.classLink "java/util/ArrayList$Itr" (34 : Nat) "java/util/NoSuchElementException") ∈ lw_all := lw_g (lw_at lw_m9 210 rfl) rfl
theorem q2307 : (Jvm.Cond.methodLink "java/util/ArrayList$Itr" (36 : Nat) ({ cls := "java/util/NoSuchElementException", name := "<init>", desc := "()V" } : Jvm.MethodName)) ∈ lw_all := lw_g (lw_at lw_m9 211 rfl) rfl
theorem q2402 : (Jvm.Cond.instanceMethod ({ cls := "java/util/ArrayList$Itr", name := "<init>", desc := "(Ljava/util/ArrayList;)V" } : Jvm.MethodName)) ∈ lw_all := lw_g (lw_at lw_m10 66 rfl) rfl
theorem q2403 : (Jvm.Cond.code ({ cls := "java/util/ArrayList$Itr", name := "<init>", desc := "(Ljava/util/ArrayList;)V" } : Jvm.MethodName) prog_59_method_1_code (2 : Nat) (Option.none : Option Jvm.ClassFile.FieldType)) ∈ lw_all := lw_g (lw_at lw_m10 67 rfl) rfl
theorem q2404 : (Jvm.Cond.methodLink "java/util/ArrayList$Itr" (7 : Nat) ({ cls := "java/lang/Object", name := "<init>", desc := "()V" } : Jvm.MethodName)) ∈ lw_all := lw_g (lw_at lw_m10 68 rfl) rfl
theorem q2408 : (Jvm.Cond.fieldLink "java/util/ArrayList$Itr" (25 : Nat) "java/util/ArrayList$Itr" "cursor" "I") ∈ lw_all := lw_g (lw_at lw_m10 72 rfl) rfl
theorem q2409 : (Jvm.Cond.fieldLink "java/util/ArrayList$Itr" (13 : Nat) "java/util/ArrayList$Itr" "lastRet" "I") ∈ lw_all := lw_g (lw_at lw_m10 73 rfl) rfl
theorem q2410 : (Jvm.Cond.fieldLink "java/util/ArrayList$Itr" (22 : Nat) "java/util/ArrayList$Itr" "expectedModCount" "I") ∈ lw_all := lw_g (lw_at lw_m10 74 rfl) rfl
theorem q2411 : (Jvm.Cond.fieldLink "java/util/ArrayList$Itr" (1 : Nat) "java/util/ArrayList$Itr" "this$0" "Ljava/util/ArrayList;") ∈ lw_all := lw_g (lw_at lw_m10 75 rfl) rfl
theorem q2415 : (Jvm.Cond.soleField "java/util/ArrayList$Itr" "cursor") ∈ lw_all := lw_g (lw_at lw_m10 79 rfl) rfl
theorem q2417 : (Jvm.Cond.soleField "java/util/ArrayList$Itr" "lastRet") ∈ lw_all := lw_g (lw_at lw_m10 81 rfl) rfl
theorem q2419 : (Jvm.Cond.soleField "java/util/ArrayList$Itr" "expectedModCount") ∈ lw_all := lw_g (lw_at lw_m10 83 rfl) rfl
theorem q2421 : (Jvm.Cond.soleField "java/util/ArrayList$Itr" "this$0") ∈ lw_all := lw_g (lw_at lw_m10 85 rfl) rfl
theorem q2548 : (Jvm.Cond.instantiable "java/util/ArrayList$Itr" (4 : Nat)) ∈ lw_all := lw_g (lw_at lw_m10 212 rfl) rfl
theorem q2550 : (Jvm.Cond.lays "java/util/ArrayList$Itr" "java/util/ArrayList$Itr" "cursor" "I") ∈ lw_all := lw_g (lw_at lw_m10 214 rfl) rfl
theorem q2551 : (Jvm.Cond.lays "java/util/ArrayList$Itr" "java/util/ArrayList$Itr" "lastRet" "I") ∈ lw_all := lw_g (lw_at lw_m10 215 rfl) rfl
theorem q2552 : (Jvm.Cond.lays "java/util/ArrayList$Itr" "java/util/ArrayList$Itr" "expectedModCount" "I") ∈ lw_all := lw_g (lw_at lw_m10 216 rfl) rfl
theorem q2553 : (Jvm.Cond.laysFinal "java/util/ArrayList$Itr" "java/util/ArrayList$Itr" "this$0" "Ljava/util/ArrayList;") ∈ lw_all := lw_g (lw_at lw_m10 217 rfl) rfl
theorem q2554 : (Jvm.Cond.superclass "java/util/ArrayList$Itr" "java/lang/Object") ∈ lw_all := lw_g (lw_at lw_m10 218 rfl) rfl
theorem q4502 : (Jvm.Cond.castable "java/util/ArrayList$Itr" "java/lang/Object") ∈ lw_tbl := lw_at lw_m19 6 rfl
theorem in_J28 : ∀ w ∈ wsJ280, w ∈ lw_all := lw_in wsJ280 [2550, 2551, 2552, 2553] (by decide +kernel) (by decide +kernel)

/-! java/util/AbstractList$Itr -/
set_option maxRecDepth 100000
def RJ29 : String := "java/util/AbstractList$Itr"
abbrev cJ29_hasNext : ByteArray := prog_51_method_2_code
def yJ29_hasNext : MethodName := ⟨RJ29, "hasNext", "()Z"⟩
def dkwJ29_hasNext_0 : List UInt8 := [42, 180, 0, 13, 42, 180, 0, 1, 182, 0, 28, 159, 0, 7, 4, 167, 0, 4, 3, 172]
abbrev dktJ29_hasNext_0 : List UInt8 := dkwJ29_hasNext_0 ++ []
theorem dksJ29_hasNext_0 : cJ29_hasNext.data.toList.drop 0 = dktJ29_hasNext_0 := by decide +kernel
theorem dJ29_hasNext_0 : decode cJ29_hasNext 0 = .ok (.aload_n 0, 1) := dk_42 (dk_at dksJ29_hasNext_0 0 rfl rfl)
theorem dJ29_hasNext_1 : decode cJ29_hasNext 1 = .ok (.getfield 13, 3) := dk_180 0 13 (dk_at dksJ29_hasNext_0 1 rfl rfl)
theorem dJ29_hasNext_4 : decode cJ29_hasNext 4 = .ok (.aload_n 0, 1) := dk_42 (dk_at dksJ29_hasNext_0 4 rfl rfl)
theorem dJ29_hasNext_5 : decode cJ29_hasNext 5 = .ok (.getfield 1, 3) := dk_180 0 1 (dk_at dksJ29_hasNext_0 5 rfl rfl)
theorem dJ29_hasNext_8 : decode cJ29_hasNext 8 = .ok (.invokevirtual 28, 3) := dk_182 0 28 (dk_at dksJ29_hasNext_0 8 rfl rfl)
theorem dJ29_hasNext_11 : decode cJ29_hasNext 11 = .ok (.if_icmp .eq 7, 3) := dk_159 0 7 (dk_at dksJ29_hasNext_0 11 rfl rfl)
theorem dJ29_hasNext_14 : decode cJ29_hasNext 14 = .ok (.iconst 1, 1) := dk_4 (dk_at dksJ29_hasNext_0 14 rfl rfl)
theorem dJ29_hasNext_15 : decode cJ29_hasNext 15 = .ok (.goto 4, 3) := dk_167 0 4 (dk_at dksJ29_hasNext_0 15 rfl rfl)
theorem dJ29_hasNext_18 : decode cJ29_hasNext 18 = .ok (.iconst 0, 1) := dk_3 (dk_at dksJ29_hasNext_0 18 rfl rfl)
theorem dJ29_hasNext_19 : decode cJ29_hasNext 19 = .ok (.ireturn, 1) := dk_172 (dk_at dksJ29_hasNext_0 19 rfl rfl)
abbrev cJ29_next : ByteArray := prog_51_method_3_code
def yJ29_next : MethodName := ⟨RJ29, "next", "()Ljava/lang/Object;"⟩
def dkwJ29_next_1 : List UInt8 := [27, 4, 96, 181, 0, 13, 44, 176, 76, 42, 182, 0, 32, 187, 0, 41, 89, 43, 183, 0, 43, 191]
abbrev dktJ29_next_1 : List UInt8 := dkwJ29_next_1 ++ []
def dkwJ29_next_0 : List UInt8 := [42, 182, 0, 32, 42, 180, 0, 13, 60, 42, 180, 0, 1, 27, 182, 0, 35, 77, 42, 27, 181, 0, 17, 42]
abbrev dktJ29_next_0 : List UInt8 := dkwJ29_next_0 ++ dktJ29_next_1
theorem dksJ29_next_0 : cJ29_next.data.toList.drop 0 = dktJ29_next_0 := by decide +kernel
theorem dksJ29_next_1 : cJ29_next.data.toList.drop 24 = dktJ29_next_1 := dk_seg dksJ29_next_0 24 rfl rfl
theorem dJ29_next_0 : decode cJ29_next 0 = .ok (.aload_n 0, 1) := dk_42 (dk_at dksJ29_next_0 0 rfl rfl)
theorem dJ29_next_1 : decode cJ29_next 1 = .ok (.invokevirtual 32, 3) := dk_182 0 32 (dk_at dksJ29_next_0 1 rfl rfl)
theorem dJ29_next_4 : decode cJ29_next 4 = .ok (.aload_n 0, 1) := dk_42 (dk_at dksJ29_next_0 4 rfl rfl)
theorem dJ29_next_5 : decode cJ29_next 5 = .ok (.getfield 13, 3) := dk_180 0 13 (dk_at dksJ29_next_0 5 rfl rfl)
theorem dJ29_next_8 : decode cJ29_next 8 = .ok (.istore_n 1, 1) := dk_60 (dk_at dksJ29_next_0 8 rfl rfl)
theorem dJ29_next_9 : decode cJ29_next 9 = .ok (.aload_n 0, 1) := dk_42 (dk_at dksJ29_next_0 9 rfl rfl)
theorem dJ29_next_10 : decode cJ29_next 10 = .ok (.getfield 1, 3) := dk_180 0 1 (dk_at dksJ29_next_0 10 rfl rfl)
theorem dJ29_next_13 : decode cJ29_next 13 = .ok (.iload_n 1, 1) := dk_27 (dk_at dksJ29_next_0 13 rfl rfl)
theorem dJ29_next_14 : decode cJ29_next 14 = .ok (.invokevirtual 35, 3) := dk_182 0 35 (dk_at dksJ29_next_0 14 rfl rfl)
theorem dJ29_next_17 : decode cJ29_next 17 = .ok (.astore_n 2, 1) := dk_77 (dk_at dksJ29_next_0 17 rfl rfl)
theorem dJ29_next_18 : decode cJ29_next 18 = .ok (.aload_n 0, 1) := dk_42 (dk_at dksJ29_next_0 18 rfl rfl)
theorem dJ29_next_19 : decode cJ29_next 19 = .ok (.iload_n 1, 1) := dk_27 (dk_at dksJ29_next_0 19 rfl rfl)
theorem dJ29_next_20 : decode cJ29_next 20 = .ok (.putfield 17, 3) := dk_181 0 17 (dk_at dksJ29_next_0 20 rfl rfl)
theorem dJ29_next_23 : decode cJ29_next 23 = .ok (.aload_n 0, 1) := dk_42 (dk_at dksJ29_next_0 23 rfl rfl)
theorem dJ29_next_24 : decode cJ29_next 24 = .ok (.iload_n 1, 1) := dk_27 (dk_at dksJ29_next_1 0 rfl rfl)
theorem dJ29_next_25 : decode cJ29_next 25 = .ok (.iconst 1, 1) := dk_4 (dk_at dksJ29_next_1 1 rfl rfl)
theorem dJ29_next_26 : decode cJ29_next 26 = .ok (.iadd, 1) := dk_96 (dk_at dksJ29_next_1 2 rfl rfl)
theorem dJ29_next_27 : decode cJ29_next 27 = .ok (.putfield 13, 3) := dk_181 0 13 (dk_at dksJ29_next_1 3 rfl rfl)
theorem dJ29_next_30 : decode cJ29_next 30 = .ok (.aload_n 2, 1) := dk_44 (dk_at dksJ29_next_1 6 rfl rfl)
theorem dJ29_next_31 : decode cJ29_next 31 = .ok (.areturn, 1) := dk_176 (dk_at dksJ29_next_1 7 rfl rfl)
theorem dJ29_next_32 : decode cJ29_next 32 = .ok (.astore_n 1, 1) := dk_76 (dk_at dksJ29_next_1 8 rfl rfl)
theorem dJ29_next_33 : decode cJ29_next 33 = .ok (.aload_n 0, 1) := dk_42 (dk_at dksJ29_next_1 9 rfl rfl)
theorem dJ29_next_34 : decode cJ29_next 34 = .ok (.invokevirtual 32, 3) := dk_182 0 32 (dk_at dksJ29_next_1 10 rfl rfl)
theorem dJ29_next_37 : decode cJ29_next 37 = .ok (.new 41, 3) := dk_187 0 41 (dk_at dksJ29_next_1 13 rfl rfl)
theorem dJ29_next_40 : decode cJ29_next 40 = .ok (.dup, 1) := dk_89 (dk_at dksJ29_next_1 16 rfl rfl)
theorem dJ29_next_41 : decode cJ29_next 41 = .ok (.aload_n 1, 1) := dk_43 (dk_at dksJ29_next_1 17 rfl rfl)
theorem dJ29_next_42 : decode cJ29_next 42 = .ok (.invokespecial 43, 3) := dk_183 0 43 (dk_at dksJ29_next_1 18 rfl rfl)
theorem dJ29_next_45 : decode cJ29_next 45 = .ok (.athrow, 1) := dk_191 (dk_at dksJ29_next_1 21 rfl rfl)
abbrev cJ29_checkForComodification : ByteArray := prog_51_method_5_code
def yJ29_checkForComodification : MethodName := ⟨RJ29, "checkForComodification", "()V"⟩
def dkwJ29_checkForComodification_0 : List UInt8 := [42, 180, 0, 1, 180, 0, 20, 42, 180, 0, 25, 159, 0, 11, 187, 0, 52, 89, 183, 0, 54, 191, 177]
abbrev dktJ29_checkForComodification_0 : List UInt8 := dkwJ29_checkForComodification_0 ++ []
theorem dksJ29_checkForComodification_0 : cJ29_checkForComodification.data.toList.drop 0 = dktJ29_checkForComodification_0 := by decide +kernel
theorem dJ29_checkForComodification_0 : decode cJ29_checkForComodification 0 = .ok (.aload_n 0, 1) := dk_42 (dk_at dksJ29_checkForComodification_0 0 rfl rfl)
theorem dJ29_checkForComodification_1 : decode cJ29_checkForComodification 1 = .ok (.getfield 1, 3) := dk_180 0 1 (dk_at dksJ29_checkForComodification_0 1 rfl rfl)
theorem dJ29_checkForComodification_4 : decode cJ29_checkForComodification 4 = .ok (.getfield 20, 3) := dk_180 0 20 (dk_at dksJ29_checkForComodification_0 4 rfl rfl)
theorem dJ29_checkForComodification_7 : decode cJ29_checkForComodification 7 = .ok (.aload_n 0, 1) := dk_42 (dk_at dksJ29_checkForComodification_0 7 rfl rfl)
theorem dJ29_checkForComodification_8 : decode cJ29_checkForComodification 8 = .ok (.getfield 25, 3) := dk_180 0 25 (dk_at dksJ29_checkForComodification_0 8 rfl rfl)
theorem dJ29_checkForComodification_11 : decode cJ29_checkForComodification 11 = .ok (.if_icmp .eq 11, 3) := dk_159 0 11 (dk_at dksJ29_checkForComodification_0 11 rfl rfl)
theorem dJ29_checkForComodification_14 : decode cJ29_checkForComodification 14 = .ok (.new 52, 3) := dk_187 0 52 (dk_at dksJ29_checkForComodification_0 14 rfl rfl)
theorem dJ29_checkForComodification_17 : decode cJ29_checkForComodification 17 = .ok (.dup, 1) := dk_89 (dk_at dksJ29_checkForComodification_0 17 rfl rfl)
theorem dJ29_checkForComodification_18 : decode cJ29_checkForComodification 18 = .ok (.invokespecial 54, 3) := dk_183 0 54 (dk_at dksJ29_checkForComodification_0 18 rfl rfl)
theorem dJ29_checkForComodification_21 : decode cJ29_checkForComodification 21 = .ok (.athrow, 1) := dk_191 (dk_at dksJ29_checkForComodification_0 21 rfl rfl)
theorem dJ29_checkForComodification_22 : decode cJ29_checkForComodification 22 = .ok (.return_, 1) := dk_177 (dk_at dksJ29_checkForComodification_0 22 rfl rfl)
theorem q220 : (Jvm.Cond.initialized "java/util/AbstractList$Itr") ∈ lw_all := lw_g (lw_at lw_m1 44 rfl) rfl
theorem q284 : (Jvm.Cond.fieldLink "java/util/AbstractList$Itr" (20 : Nat) "java/util/AbstractList" "modCount" "I") ∈ lw_all := lw_g (lw_at lw_m1 108 rfl) rfl
theorem q2183 : (Jvm.Cond.instanceMethod ({ cls := "java/util/AbstractList$Itr", name := "hasNext", desc := "()Z" } : Jvm.MethodName)) ∈ lw_all := lw_g (lw_at lw_m9 87 rfl) rfl
theorem q2184 : (Jvm.Cond.publicMethod ({ cls := "java/util/AbstractList$Itr", name := "hasNext", desc := "()Z" } : Jvm.MethodName)) ∈ lw_tbl := lw_at lw_m9 88 rfl
theorem q2185 : (Jvm.Cond.code ({ cls := "java/util/AbstractList$Itr", name := "hasNext", desc := "()Z" } : Jvm.MethodName) prog_51_method_2_code (1 : Nat) (Option.some Jvm.ClassFile.FieldType.boolean)) ∈ lw_all := lw_g (lw_at lw_m9 89 rfl) rfl
theorem q2186 : (Jvm.Cond.methodLink "java/util/AbstractList$Itr" (28 : Nat) ({ cls := "java/util/AbstractList", name := "size", desc := "()I" } : Jvm.MethodName)) ∈ lw_all := lw_g (lw_at lw_m9 90 rfl) rfl
theorem q2220 : (Jvm.Cond.instanceMethod ({ cls := "java/util/AbstractList$Itr", name := "next", desc := "()Ljava/lang/Object;" } : Jvm.MethodName)) ∈ lw_all := lw_g (lw_at lw_m9 124 rfl) rfl
theorem q2221 : (Jvm.Cond.publicMethod ({ cls := "java/util/AbstractList$Itr", name := "next", desc := "()Ljava/lang/Object;" } : Jvm.MethodName)) ∈ lw_tbl := lw_at lw_m9 125 rfl
theorem q2222 : (Jvm.Cond.codeWith ({ cls := "java/util/AbstractList$Itr", name := "next", desc := "()Ljava/lang/Object;" } : Jvm.MethodName) prog_51_method_3_code (3 : Nat) (Option.some (Jvm.ClassFile.FieldType.object "java/lang/Object")) [((4 : Nat), (31 : Nat), (32 : Nat), (39 : Nat))]) ∈ lw_all := lw_g (lw_at lw_m9 126 rfl) rfl
theorem q2223 : (Jvm.Cond.methodLink "java/util/AbstractList$Itr" (32 : Nat) ({ cls := "java/util/AbstractList$Itr", name := "checkForComodification", desc := "()V" } : Jvm.MethodName)) ∈ lw_all := lw_g (lw_at lw_m9 127 rfl) rfl
theorem q2224 : (Jvm.Cond.instanceMethod ({ cls := "java/util/AbstractList$Itr", name := "checkForComodification", desc := "()V" } : Jvm.MethodName)) ∈ lw_all := lw_g (lw_at lw_m9 128 rfl) rfl
theorem q2225 : (Jvm.Cond.sameMethod "java/util/AbstractList$Itr" "java/util/AbstractList$Itr" "checkForComodification" "()V") ∈ lw_all := lw_g (lw_at lw_m9 129 rfl) rfl
theorem q2227 : (Jvm.Cond.code ({ cls := "java/util/AbstractList$Itr", name := "checkForComodification", desc := "()V" } : Jvm.MethodName) prog_51_method_5_code (1 : Nat) (Option.none : Option Jvm.ClassFile.FieldType)) ∈ lw_all := lw_g (lw_at lw_m9 131 rfl) rfl
theorem q2228 : (Jvm.Cond.methodLink "java/util/AbstractList$Itr" (35 : Nat) ({ cls := "java/util/AbstractList", name := "get", desc := "(I)Ljava/lang/Object;" } : Jvm.MethodName)) ∈ lw_all := lw_g (lw_at lw_m9 132 rfl) rfl
theorem q2233 : (Jvm.Cond.classLink "java/util/AbstractList$Itr" (41 : Nat) "java/util/NoSuchElementException") ∈ lw_all := lw_g (lw_at lw_m9 137 rfl) rfl
theorem q2242 : (Jvm.Cond.methodLink "java/util/AbstractList$Itr" (43 : Nat) ({ cls := "java/util/NoSuchElementException", name := "<init>", desc := "(Ljava/lang/Throwable;)V" } : Jvm.MethodName)) ∈ lw_all := lw_g (lw_at lw_m9 146 rfl) rfl
theorem q4535 : (Jvm.Cond.fieldLink "java/util/AbstractList$Itr" (1 : Nat) "java/util/AbstractList$Itr" "this$0" "Ljava/util/AbstractList;") ∈ lw_all := lw_g (lw_at lw_m19 39 rfl) rfl
theorem q4536 : (Jvm.Cond.fieldLink "java/util/AbstractList$Itr" (13 : Nat) "java/util/AbstractList$Itr" "cursor" "I") ∈ lw_all := lw_g (lw_at lw_m19 40 rfl) rfl
theorem q4537 : (Jvm.Cond.fieldLink "java/util/AbstractList$Itr" (17 : Nat) "java/util/AbstractList$Itr" "lastRet" "I") ∈ lw_all := lw_g (lw_at lw_m19 41 rfl) rfl
theorem q4538 : (Jvm.Cond.fieldLink "java/util/AbstractList$Itr" (25 : Nat) "java/util/AbstractList$Itr" "expectedModCount" "I") ∈ lw_all := lw_g (lw_at lw_m19 42 rfl) rfl

/-! java/util/ArrayList$ListItr -/
set_option maxRecDepth 100000
def RJ30 : String := "java/util/ArrayList$ListItr"
def TJ30 : u_T := fun k => match k with
  | 0 => ("java/util/ArrayList$Itr", "cursor", "I", false)
  | 1 => ("java/util/ArrayList$Itr", "lastRet", "I", false)
  | 2 => ("java/util/ArrayList$Itr", "expectedModCount", "I", false)
  | 3 => ("java/util/ArrayList$Itr", "this$0", "Ljava/util/ArrayList;", true)
  | _ => ("java/util/ArrayList$ListItr", "this$0", "Ljava/util/ArrayList;", true)
def tyJ30 : Nat → FieldType := fun k => match k with
  | 0 => .int
  | 1 => .int
  | 2 => .int
  | 3 => .object "java/util/ArrayList"
  | _ => .object "java/util/ArrayList"
abbrev wsJ300 : List Cond := u_ws RJ30 TJ30 5
-- two fields of one name: no nmJ30
theorem tyJ30_ok : ∀ k, k < 5 → parseFieldDescriptor (TJ30 k).2.2.1 = some (tyJ30 k) := by decide +kernel
abbrev cJ30_init : ByteArray := prog_60_method_1_code
def yJ30_init : MethodName := ⟨RJ30, "<init>", "(Ljava/util/ArrayList;I)V"⟩
def dkwJ30_init_0 : List UInt8 := [42, 43, 181, 0, 1, 42, 43, 183, 0, 7, 42, 28, 181, 0, 13, 177]
abbrev dktJ30_init_0 : List UInt8 := dkwJ30_init_0 ++ []
theorem dksJ30_init_0 : cJ30_init.data.toList.drop 0 = dktJ30_init_0 := by decide +kernel
theorem dJ30_init_0 : decode cJ30_init 0 = .ok (.aload_n 0, 1) := dk_42 (dk_at dksJ30_init_0 0 rfl rfl)
theorem dJ30_init_1 : decode cJ30_init 1 = .ok (.aload_n 1, 1) := dk_43 (dk_at dksJ30_init_0 1 rfl rfl)
theorem dJ30_init_2 : decode cJ30_init 2 = .ok (.putfield 1, 3) := dk_181 0 1 (dk_at dksJ30_init_0 2 rfl rfl)
theorem dJ30_init_5 : decode cJ30_init 5 = .ok (.aload_n 0, 1) := dk_42 (dk_at dksJ30_init_0 5 rfl rfl)
theorem dJ30_init_6 : decode cJ30_init 6 = .ok (.aload_n 1, 1) := dk_43 (dk_at dksJ30_init_0 6 rfl rfl)
theorem dJ30_init_7 : decode cJ30_init 7 = .ok (.invokespecial 7, 3) := dk_183 0 7 (dk_at dksJ30_init_0 7 rfl rfl)
theorem dJ30_init_10 : decode cJ30_init 10 = .ok (.aload_n 0, 1) := dk_42 (dk_at dksJ30_init_0 10 rfl rfl)
theorem dJ30_init_11 : decode cJ30_init 11 = .ok (.iload_n 2, 1) := dk_28 (dk_at dksJ30_init_0 11 rfl rfl)
theorem dJ30_init_12 : decode cJ30_init 12 = .ok (.putfield 13, 3) := dk_181 0 13 (dk_at dksJ30_init_0 12 rfl rfl)
theorem dJ30_init_15 : decode cJ30_init 15 = .ok (.return_, 1) := dk_177 (dk_at dksJ30_init_0 15 rfl rfl)
theorem q222 : (Jvm.Cond.initialized "java/util/ArrayList$ListItr") ∈ lw_all := lw_g (lw_at lw_m1 46 rfl) rfl
theorem q429 : (Jvm.Cond.selects "java/util/ArrayList$ListItr" ({ cls := "java/lang/Object", name := "getClass", desc := "()Ljava/lang/Class;" } : Jvm.MethodName) ({ cls := "java/lang/Object", name := "getClass", desc := "()Ljava/lang/Class;" } : Jvm.MethodName)) ∈ lw_all := lw_g (lw_at lw_m2 13 rfl) rfl
theorem q2196 : (Jvm.Cond.castable "java/util/ArrayList$ListItr" "java/util/Iterator") ∈ lw_tbl := lw_at lw_m9 100 rfl
theorem q2197 : (Jvm.Cond.selects "java/util/ArrayList$ListItr" ({ cls := "java/util/Iterator", name := "hasNext", desc := "()Z" } : Jvm.MethodName) ({ cls := "java/util/ArrayList$Itr", name := "hasNext", desc := "()Z" } : Jvm.MethodName)) ∈ lw_all := lw_g (lw_at lw_m9 101 rfl) rfl
theorem q2198 : (Jvm.Cond.unhidden "java/util/ArrayList$ListItr" "hasNext" "()Z") ∈ lw_tbl := lw_at lw_m9 102 rfl
theorem q2304 : (Jvm.Cond.selects "java/util/ArrayList$ListItr" ({ cls := "java/util/ArrayList$Itr", name := "checkForComodification", desc := "()V" } : Jvm.MethodName) ({ cls := "java/util/ArrayList$Itr", name := "checkForComodification", desc := "()V" } : Jvm.MethodName)) ∈ lw_all := lw_g (lw_at lw_m9 208 rfl) rfl
theorem q2317 : (Jvm.Cond.selects "java/util/ArrayList$ListItr" ({ cls := "java/util/Iterator", name := "next", desc := "()Ljava/lang/Object;" } : Jvm.MethodName) ({ cls := "java/util/ArrayList$Itr", name := "next", desc := "()Ljava/lang/Object;" } : Jvm.MethodName)) ∈ lw_all := lw_g (lw_at lw_m9 221 rfl) rfl
theorem q2318 : (Jvm.Cond.unhidden "java/util/ArrayList$ListItr" "next" "()Ljava/lang/Object;") ∈ lw_tbl := lw_at lw_m9 222 rfl
theorem q2397 : (Jvm.Cond.instantiable "java/util/ArrayList$ListItr" (5 : Nat)) ∈ lw_all := lw_g (lw_at lw_m10 61 rfl) rfl
theorem q2399 : (Jvm.Cond.instanceMethod ({ cls := "java/util/ArrayList$ListItr", name := "<init>", desc := "(Ljava/util/ArrayList;I)V" } : Jvm.MethodName)) ∈ lw_all := lw_g (lw_at lw_m10 63 rfl) rfl
theorem q2400 : (Jvm.Cond.code ({ cls := "java/util/ArrayList$ListItr", name := "<init>", desc := "(Ljava/util/ArrayList;I)V" } : Jvm.MethodName) prog_60_method_1_code (3 : Nat) (Option.none : Option Jvm.ClassFile.FieldType)) ∈ lw_all := lw_g (lw_at lw_m10 64 rfl) rfl
theorem q2401 : (Jvm.Cond.methodLink "java/util/ArrayList$ListItr" (7 : Nat) ({ cls := "java/util/ArrayList$Itr", name := "<init>", desc := "(Ljava/util/ArrayList;)V" } : Jvm.MethodName)) ∈ lw_all := lw_g (lw_at lw_m10 65 rfl) rfl
theorem q2405 : (Jvm.Cond.fieldLink "java/util/ArrayList$ListItr" (1 : Nat) "java/util/ArrayList$ListItr" "this$0" "Ljava/util/ArrayList;") ∈ lw_all := lw_g (lw_at lw_m10 69 rfl) rfl
theorem q2406 : (Jvm.Cond.fieldLink "java/util/ArrayList$ListItr" (13 : Nat) "java/util/ArrayList$ListItr" "cursor" "I") ∈ lw_all := lw_g (lw_at lw_m10 70 rfl) rfl
theorem q2407 : (Jvm.Cond.sameField "java/util/ArrayList$ListItr" "java/util/ArrayList$Itr" "cursor" "I") ∈ lw_all := lw_g (lw_at lw_m10 71 rfl) rfl
theorem q2412 : (Jvm.Cond.laysFinal "java/util/ArrayList$ListItr" "java/util/ArrayList$ListItr" "this$0" "Ljava/util/ArrayList;") ∈ lw_all := lw_g (lw_at lw_m10 76 rfl) rfl
theorem q2413 : (Jvm.Cond.soleField "java/util/ArrayList$ListItr" "this$0") ∈ lw_all := lw_g (lw_at lw_m10 77 rfl) rfl
theorem q2414 : (Jvm.Cond.lays "java/util/ArrayList$ListItr" "java/util/ArrayList$Itr" "cursor" "I") ∈ lw_all := lw_g (lw_at lw_m10 78 rfl) rfl
theorem q2416 : (Jvm.Cond.lays "java/util/ArrayList$ListItr" "java/util/ArrayList$Itr" "lastRet" "I") ∈ lw_all := lw_g (lw_at lw_m10 80 rfl) rfl
theorem q2418 : (Jvm.Cond.lays "java/util/ArrayList$ListItr" "java/util/ArrayList$Itr" "expectedModCount" "I") ∈ lw_all := lw_g (lw_at lw_m10 82 rfl) rfl
theorem q2420 : (Jvm.Cond.laysFinal "java/util/ArrayList$ListItr" "java/util/ArrayList$Itr" "this$0" "Ljava/util/ArrayList;") ∈ lw_all := lw_g (lw_at lw_m10 84 rfl) rfl
theorem q2422 : (Jvm.Cond.superclass "java/util/ArrayList$ListItr" "java/util/ArrayList$Itr") ∈ lw_all := lw_g (lw_at lw_m10 86 rfl) rfl
theorem q4509 : (Jvm.Cond.castable "java/util/ArrayList$ListItr" "java/lang/Object") ∈ lw_tbl := lw_at lw_m19 13 rfl
theorem in_J30 : ∀ w ∈ wsJ300, w ∈ lw_all := lw_in wsJ300 [2414, 2416, 2418, 2420, 2412] (by decide +kernel) (by decide +kernel)
