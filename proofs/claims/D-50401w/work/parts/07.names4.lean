/-! CountyGazetteer$Parser -/
set_option maxRecDepth 100000
def RX6 : String := "CountyGazetteer$Parser"
def TX6 : u_T := fun k => match k with
  | 0 => ("CountyGazetteer$Parser", "made", "LCountyGazetteer$State;", true)
  | 1 => ("CountyGazetteer$Parser", "told", "Ljava/util/BitSet;", true)
  | 2 => ("CountyGazetteer$Parser", "at", "I", false)
  | _ => ("CountyGazetteer$Parser", "this$0", "LCountyGazetteer;", true)
def tyX6 : Nat → FieldType := fun k => match k with
  | 0 => .object "CountyGazetteer$State"
  | 1 => .object "java/util/BitSet"
  | 2 => .int
  | _ => .object "CountyGazetteer"
abbrev wsX60 : List Cond := u_ws RX6 TX6 4
theorem nmX6 : ∀ a, a < 4 → ∀ b, b < 4 → a ≠ b → (TX6 a).2.1 ≠ (TX6 b).2.1 := by decide +kernel
theorem tyX6_ok : ∀ k, k < 4 → parseFieldDescriptor (TX6 k).2.2.1 = some (tyX6 k) := by decide +kernel
abbrev cX6_init : ByteArray := prog_12_method_1_code
def yX6_init : MethodName := ⟨RX6, "<init>", "(LCountyGazetteer;)V"⟩
def dkwX6_init_1 : List UInt8 := [89, 183, 0, 24, 181, 0, 25, 177]
abbrev dktX6_init_1 : List UInt8 := dkwX6_init_1 ++ []
def dkwX6_init_0 : List UInt8 := [42, 43, 181, 0, 3, 42, 183, 0, 9, 42, 187, 0, 15, 89, 183, 0, 17, 181, 0, 18, 42, 187, 0, 22]
abbrev dktX6_init_0 : List UInt8 := dkwX6_init_0 ++ dktX6_init_1
theorem dksX6_init_0 : cX6_init.data.toList.drop 0 = dktX6_init_0 := by decide +kernel
theorem dksX6_init_1 : cX6_init.data.toList.drop 24 = dktX6_init_1 := dk_seg dksX6_init_0 24 rfl rfl
theorem dX6_init_0 : decode cX6_init 0 = .ok (.aload_n 0, 1) := dk_42 (dk_at dksX6_init_0 0 rfl rfl)
theorem dX6_init_1 : decode cX6_init 1 = .ok (.aload_n 1, 1) := dk_43 (dk_at dksX6_init_0 1 rfl rfl)
theorem dX6_init_2 : decode cX6_init 2 = .ok (.putfield 3, 3) := dk_181 0 3 (dk_at dksX6_init_0 2 rfl rfl)
theorem dX6_init_5 : decode cX6_init 5 = .ok (.aload_n 0, 1) := dk_42 (dk_at dksX6_init_0 5 rfl rfl)
theorem dX6_init_6 : decode cX6_init 6 = .ok (.invokespecial 9, 3) := dk_183 0 9 (dk_at dksX6_init_0 6 rfl rfl)
theorem dX6_init_9 : decode cX6_init 9 = .ok (.aload_n 0, 1) := dk_42 (dk_at dksX6_init_0 9 rfl rfl)
theorem dX6_init_10 : decode cX6_init 10 = .ok (.new 15, 3) := dk_187 0 15 (dk_at dksX6_init_0 10 rfl rfl)
theorem dX6_init_13 : decode cX6_init 13 = .ok (.dup, 1) := dk_89 (dk_at dksX6_init_0 13 rfl rfl)
theorem dX6_init_14 : decode cX6_init 14 = .ok (.invokespecial 17, 3) := dk_183 0 17 (dk_at dksX6_init_0 14 rfl rfl)
theorem dX6_init_17 : decode cX6_init 17 = .ok (.putfield 18, 3) := dk_181 0 18 (dk_at dksX6_init_0 17 rfl rfl)
theorem dX6_init_20 : decode cX6_init 20 = .ok (.aload_n 0, 1) := dk_42 (dk_at dksX6_init_0 20 rfl rfl)
theorem dX6_init_21 : decode cX6_init 21 = .ok (.new 22, 3) := dk_187 0 22 (dk_at dksX6_init_0 21 rfl rfl)
theorem dX6_init_24 : decode cX6_init 24 = .ok (.dup, 1) := dk_89 (dk_at dksX6_init_1 0 rfl rfl)
theorem dX6_init_25 : decode cX6_init 25 = .ok (.invokespecial 24, 3) := dk_183 0 24 (dk_at dksX6_init_1 1 rfl rfl)
theorem dX6_init_28 : decode cX6_init 28 = .ok (.putfield 25, 3) := dk_181 0 25 (dk_at dksX6_init_1 4 rfl rfl)
theorem dX6_init_31 : decode cX6_init 31 = .ok (.return_, 1) := dk_177 (dk_at dksX6_init_1 7 rfl rfl)
abbrev cX6_read : ByteArray := prog_12_method_20_code
def yX6_read : MethodName := ⟨RX6, "read", "()LCountyGazetteer$State;"⟩
def dkwX6_read_2 : List UInt8 := [180, 0, 29, 182, 0, 88, 42, 180, 0, 18, 176]
abbrev dktX6_read_2 : List UInt8 := dkwX6_read_2 ++ []
def dkwX6_read_1 : List UInt8 := [42, 180, 0, 18, 180, 0, 174, 185, 0, 242, 1, 0, 154, 0, 7, 4, 167, 0, 4, 3, 8, 42]
abbrev dktX6_read_1 : List UInt8 := dkwX6_read_1 ++ dktX6_read_2
def dkwX6_read_0 : List UInt8 := [42, 182, 0, 73, 42, 182, 0, 237, 42, 182, 0, 40, 2, 159, 0, 10, 42, 182, 0, 239, 167, 255, 244, 42]
abbrev dktX6_read_0 : List UInt8 := dkwX6_read_0 ++ dktX6_read_1
theorem dksX6_read_0 : cX6_read.data.toList.drop 0 = dktX6_read_0 := by decide +kernel
theorem dksX6_read_1 : cX6_read.data.toList.drop 24 = dktX6_read_1 := dk_seg dksX6_read_0 24 rfl rfl
theorem dksX6_read_2 : cX6_read.data.toList.drop 46 = dktX6_read_2 := dk_seg dksX6_read_1 22 rfl rfl
theorem dX6_read_0 : decode cX6_read 0 = .ok (.aload_n 0, 1) := dk_42 (dk_at dksX6_read_0 0 rfl rfl)
theorem dX6_read_1 : decode cX6_read 1 = .ok (.invokevirtual 73, 3) := dk_182 0 73 (dk_at dksX6_read_0 1 rfl rfl)
theorem dX6_read_4 : decode cX6_read 4 = .ok (.aload_n 0, 1) := dk_42 (dk_at dksX6_read_0 4 rfl rfl)
theorem dX6_read_5 : decode cX6_read 5 = .ok (.invokevirtual 237, 3) := dk_182 0 237 (dk_at dksX6_read_0 5 rfl rfl)
theorem dX6_read_8 : decode cX6_read 8 = .ok (.aload_n 0, 1) := dk_42 (dk_at dksX6_read_0 8 rfl rfl)
theorem dX6_read_9 : decode cX6_read 9 = .ok (.invokevirtual 40, 3) := dk_182 0 40 (dk_at dksX6_read_0 9 rfl rfl)
theorem dX6_read_12 : decode cX6_read 12 = .ok (.iconst (-1), 1) := dk_2 (dk_at dksX6_read_0 12 rfl rfl)
theorem dX6_read_13 : decode cX6_read 13 = .ok (.if_icmp .eq 10, 3) := dk_159 0 10 (dk_at dksX6_read_0 13 rfl rfl)
theorem dX6_read_16 : decode cX6_read 16 = .ok (.aload_n 0, 1) := dk_42 (dk_at dksX6_read_0 16 rfl rfl)
theorem dX6_read_17 : decode cX6_read 17 = .ok (.invokevirtual 239, 3) := dk_182 0 239 (dk_at dksX6_read_0 17 rfl rfl)
theorem dX6_read_20 : decode cX6_read 20 = .ok (.goto (-12), 3) := dk_167 255 244 (dk_at dksX6_read_0 20 rfl rfl)
theorem dX6_read_23 : decode cX6_read 23 = .ok (.aload_n 0, 1) := dk_42 (dk_at dksX6_read_0 23 rfl rfl)
theorem dX6_read_24 : decode cX6_read 24 = .ok (.aload_n 0, 1) := dk_42 (dk_at dksX6_read_1 0 rfl rfl)
theorem dX6_read_25 : decode cX6_read 25 = .ok (.getfield 18, 3) := dk_180 0 18 (dk_at dksX6_read_1 1 rfl rfl)
theorem dX6_read_28 : decode cX6_read 28 = .ok (.getfield 174, 3) := dk_180 0 174 (dk_at dksX6_read_1 4 rfl rfl)
theorem dX6_read_31 : decode cX6_read 31 = .ok (.invokeinterface 242 1, 5) := by decide +kernel
theorem dX6_read_36 : decode cX6_read 36 = .ok (.ifCond .ne 7, 3) := dk_154 0 7 (dk_at dksX6_read_1 12 rfl rfl)
theorem dX6_read_39 : decode cX6_read 39 = .ok (.iconst 1, 1) := dk_4 (dk_at dksX6_read_1 15 rfl rfl)
theorem dX6_read_40 : decode cX6_read 40 = .ok (.goto 4, 3) := dk_167 0 4 (dk_at dksX6_read_1 16 rfl rfl)
theorem dX6_read_43 : decode cX6_read 43 = .ok (.iconst 0, 1) := dk_3 (dk_at dksX6_read_1 19 rfl rfl)
theorem dX6_read_44 : decode cX6_read 44 = .ok (.iconst 5, 1) := dk_8 (dk_at dksX6_read_1 20 rfl rfl)
theorem dX6_read_45 : decode cX6_read 45 = .ok (.aload_n 0, 1) := dk_42 (dk_at dksX6_read_1 21 rfl rfl)
theorem dX6_read_46 : decode cX6_read 46 = .ok (.getfield 29, 3) := dk_180 0 29 (dk_at dksX6_read_2 0 rfl rfl)
theorem dX6_read_49 : decode cX6_read 49 = .ok (.invokevirtual 88, 3) := dk_182 0 88 (dk_at dksX6_read_2 3 rfl rfl)
theorem dX6_read_52 : decode cX6_read 52 = .ok (.aload_n 0, 1) := dk_42 (dk_at dksX6_read_2 6 rfl rfl)
theorem dX6_read_53 : decode cX6_read 53 = .ok (.getfield 18, 3) := dk_180 0 18 (dk_at dksX6_read_2 7 rfl rfl)
theorem dX6_read_56 : decode cX6_read 56 = .ok (.areturn, 1) := dk_176 (dk_at dksX6_read_2 10 rfl rfl)
abbrev cX6_skipBlanks : ByteArray := prog_12_method_3_code
def yX6_skipBlanks : MethodName := ⟨RX6, "skipBlanks", "()V"⟩
def dkwX6_skipBlanks_1 : List UInt8 := [96, 181, 0, 29, 167, 255, 228, 177]
abbrev dktX6_skipBlanks_1 : List UInt8 := dkwX6_skipBlanks_1 ++ []
def dkwX6_skipBlanks_0 : List UInt8 := [42, 182, 0, 40, 16, 32, 159, 0, 12, 42, 182, 0, 40, 16, 10, 160, 0, 16, 42, 89, 180, 0, 29, 4]
abbrev dktX6_skipBlanks_0 : List UInt8 := dkwX6_skipBlanks_0 ++ dktX6_skipBlanks_1
theorem dksX6_skipBlanks_0 : cX6_skipBlanks.data.toList.drop 0 = dktX6_skipBlanks_0 := by decide +kernel
theorem dksX6_skipBlanks_1 : cX6_skipBlanks.data.toList.drop 24 = dktX6_skipBlanks_1 := dk_seg dksX6_skipBlanks_0 24 rfl rfl
theorem dX6_skipBlanks_0 : decode cX6_skipBlanks 0 = .ok (.aload_n 0, 1) := dk_42 (dk_at dksX6_skipBlanks_0 0 rfl rfl)
theorem dX6_skipBlanks_1 : decode cX6_skipBlanks 1 = .ok (.invokevirtual 40, 3) := dk_182 0 40 (dk_at dksX6_skipBlanks_0 1 rfl rfl)
theorem dX6_skipBlanks_4 : decode cX6_skipBlanks 4 = .ok (.bipush 32, 2) := dk_16 32 (dk_at dksX6_skipBlanks_0 4 rfl rfl)
theorem dX6_skipBlanks_6 : decode cX6_skipBlanks 6 = .ok (.if_icmp .eq 12, 3) := dk_159 0 12 (dk_at dksX6_skipBlanks_0 6 rfl rfl)
theorem dX6_skipBlanks_9 : decode cX6_skipBlanks 9 = .ok (.aload_n 0, 1) := dk_42 (dk_at dksX6_skipBlanks_0 9 rfl rfl)
theorem dX6_skipBlanks_10 : decode cX6_skipBlanks 10 = .ok (.invokevirtual 40, 3) := dk_182 0 40 (dk_at dksX6_skipBlanks_0 10 rfl rfl)
theorem dX6_skipBlanks_13 : decode cX6_skipBlanks 13 = .ok (.bipush 10, 2) := dk_16 10 (dk_at dksX6_skipBlanks_0 13 rfl rfl)
theorem dX6_skipBlanks_15 : decode cX6_skipBlanks 15 = .ok (.if_icmp .ne 16, 3) := dk_160 0 16 (dk_at dksX6_skipBlanks_0 15 rfl rfl)
theorem dX6_skipBlanks_18 : decode cX6_skipBlanks 18 = .ok (.aload_n 0, 1) := dk_42 (dk_at dksX6_skipBlanks_0 18 rfl rfl)
theorem dX6_skipBlanks_19 : decode cX6_skipBlanks 19 = .ok (.dup, 1) := dk_89 (dk_at dksX6_skipBlanks_0 19 rfl rfl)
theorem dX6_skipBlanks_20 : decode cX6_skipBlanks 20 = .ok (.getfield 29, 3) := dk_180 0 29 (dk_at dksX6_skipBlanks_0 20 rfl rfl)
theorem dX6_skipBlanks_23 : decode cX6_skipBlanks 23 = .ok (.iconst 1, 1) := dk_4 (dk_at dksX6_skipBlanks_0 23 rfl rfl)
theorem dX6_skipBlanks_24 : decode cX6_skipBlanks 24 = .ok (.iadd, 1) := dk_96 (dk_at dksX6_skipBlanks_1 0 rfl rfl)
theorem dX6_skipBlanks_25 : decode cX6_skipBlanks 25 = .ok (.putfield 29, 3) := dk_181 0 29 (dk_at dksX6_skipBlanks_1 1 rfl rfl)
theorem dX6_skipBlanks_28 : decode cX6_skipBlanks 28 = .ok (.goto (-28), 3) := dk_167 255 228 (dk_at dksX6_skipBlanks_1 4 rfl rfl)
theorem dX6_skipBlanks_31 : decode cX6_skipBlanks 31 = .ok (.return_, 1) := dk_177 (dk_at dksX6_skipBlanks_1 7 rfl rfl)
abbrev cX6_current : ByteArray := prog_12_method_2_code
def yX6_current : MethodName := ⟨RX6, "current", "()I"⟩
def dkwX6_current_1 : List UInt8 := [180, 0, 29, 51, 17, 0, 255, 126, 167, 0, 4, 2, 172]
abbrev dktX6_current_1 : List UInt8 := dkwX6_current_1 ++ []
def dkwX6_current_0 : List UInt8 := [42, 180, 0, 29, 42, 180, 0, 3, 180, 0, 33, 162, 0, 22, 42, 180, 0, 3, 180, 0, 36, 42]
abbrev dktX6_current_0 : List UInt8 := dkwX6_current_0 ++ dktX6_current_1
theorem dksX6_current_0 : cX6_current.data.toList.drop 0 = dktX6_current_0 := by decide +kernel
theorem dksX6_current_1 : cX6_current.data.toList.drop 22 = dktX6_current_1 := dk_seg dksX6_current_0 22 rfl rfl
theorem dX6_current_0 : decode cX6_current 0 = .ok (.aload_n 0, 1) := dk_42 (dk_at dksX6_current_0 0 rfl rfl)
theorem dX6_current_1 : decode cX6_current 1 = .ok (.getfield 29, 3) := dk_180 0 29 (dk_at dksX6_current_0 1 rfl rfl)
theorem dX6_current_4 : decode cX6_current 4 = .ok (.aload_n 0, 1) := dk_42 (dk_at dksX6_current_0 4 rfl rfl)
theorem dX6_current_5 : decode cX6_current 5 = .ok (.getfield 3, 3) := dk_180 0 3 (dk_at dksX6_current_0 5 rfl rfl)
theorem dX6_current_8 : decode cX6_current 8 = .ok (.getfield 33, 3) := dk_180 0 33 (dk_at dksX6_current_0 8 rfl rfl)
theorem dX6_current_11 : decode cX6_current 11 = .ok (.if_icmp .ge 22, 3) := dk_162 0 22 (dk_at dksX6_current_0 11 rfl rfl)
theorem dX6_current_14 : decode cX6_current 14 = .ok (.aload_n 0, 1) := dk_42 (dk_at dksX6_current_0 14 rfl rfl)
theorem dX6_current_15 : decode cX6_current 15 = .ok (.getfield 3, 3) := dk_180 0 3 (dk_at dksX6_current_0 15 rfl rfl)
theorem dX6_current_18 : decode cX6_current 18 = .ok (.getfield 36, 3) := dk_180 0 36 (dk_at dksX6_current_0 18 rfl rfl)
theorem dX6_current_21 : decode cX6_current 21 = .ok (.aload_n 0, 1) := dk_42 (dk_at dksX6_current_0 21 rfl rfl)
theorem dX6_current_22 : decode cX6_current 22 = .ok (.getfield 29, 3) := dk_180 0 29 (dk_at dksX6_current_1 0 rfl rfl)
theorem dX6_current_25 : decode cX6_current 25 = .ok (.baload, 1) := dk_51 (dk_at dksX6_current_1 3 rfl rfl)
theorem dX6_current_26 : decode cX6_current 26 = .ok (.sipush 255, 3) := dk_17 0 255 (dk_at dksX6_current_1 4 rfl rfl)
theorem dX6_current_29 : decode cX6_current 29 = .ok (.iand, 1) := dk_126 (dk_at dksX6_current_1 7 rfl rfl)
theorem dX6_current_30 : decode cX6_current 30 = .ok (.goto 4, 3) := dk_167 0 4 (dk_at dksX6_current_1 8 rfl rfl)
theorem dX6_current_33 : decode cX6_current 33 = .ok (.iconst (-1), 1) := dk_2 (dk_at dksX6_current_1 11 rfl rfl)
theorem dX6_current_34 : decode cX6_current 34 = .ok (.ireturn, 1) := dk_172 (dk_at dksX6_current_1 12 rfl rfl)
abbrev cX6_map : ByteArray := prog_12_method_14_code
def yX6_map : MethodName := ⟨RX6, "map", "()V"⟩
def dkwX6_map_2 : List UInt8 := [182, 0, 126, 181, 0, 132, 42, 182, 0, 135, 177]
abbrev dktX6_map_2 : List UInt8 := dkwX6_map_2 ++ []
def dkwX6_map_1 : List UInt8 := [42, 180, 0, 18, 42, 5, 16, 12, 182, 0, 126, 181, 0, 129, 42, 180, 0, 18, 42, 5, 16, 12]
abbrev dktX6_map_1 : List UInt8 := dkwX6_map_1 ++ dktX6_map_2
def dkwX6_map_0 : List UInt8 := [42, 42, 182, 0, 92, 18, 120, 182, 0, 122, 4, 42, 180, 0, 29, 182, 0, 88, 42, 18, 120, 182, 0, 106]
abbrev dktX6_map_0 : List UInt8 := dkwX6_map_0 ++ dktX6_map_1
theorem dksX6_map_0 : cX6_map.data.toList.drop 0 = dktX6_map_0 := by decide +kernel
theorem dksX6_map_1 : cX6_map.data.toList.drop 24 = dktX6_map_1 := dk_seg dksX6_map_0 24 rfl rfl
theorem dksX6_map_2 : cX6_map.data.toList.drop 46 = dktX6_map_2 := dk_seg dksX6_map_1 22 rfl rfl
theorem dX6_map_0 : decode cX6_map 0 = .ok (.aload_n 0, 1) := dk_42 (dk_at dksX6_map_0 0 rfl rfl)
theorem dX6_map_1 : decode cX6_map 1 = .ok (.aload_n 0, 1) := dk_42 (dk_at dksX6_map_0 1 rfl rfl)
theorem dX6_map_2 : decode cX6_map 2 = .ok (.invokevirtual 92, 3) := dk_182 0 92 (dk_at dksX6_map_0 2 rfl rfl)
theorem dX6_map_5 : decode cX6_map 5 = .ok (.ldc 120, 2) := dk_18 120 (dk_at dksX6_map_0 5 rfl rfl)
theorem dX6_map_7 : decode cX6_map 7 = .ok (.invokevirtual 122, 3) := dk_182 0 122 (dk_at dksX6_map_0 7 rfl rfl)
theorem dX6_map_10 : decode cX6_map 10 = .ok (.iconst 1, 1) := dk_4 (dk_at dksX6_map_0 10 rfl rfl)
theorem dX6_map_11 : decode cX6_map 11 = .ok (.aload_n 0, 1) := dk_42 (dk_at dksX6_map_0 11 rfl rfl)
theorem dX6_map_12 : decode cX6_map 12 = .ok (.getfield 29, 3) := dk_180 0 29 (dk_at dksX6_map_0 12 rfl rfl)
theorem dX6_map_15 : decode cX6_map 15 = .ok (.invokevirtual 88, 3) := dk_182 0 88 (dk_at dksX6_map_0 15 rfl rfl)
theorem dX6_map_18 : decode cX6_map 18 = .ok (.aload_n 0, 1) := dk_42 (dk_at dksX6_map_0 18 rfl rfl)
theorem dX6_map_19 : decode cX6_map 19 = .ok (.ldc 120, 2) := dk_18 120 (dk_at dksX6_map_0 19 rfl rfl)
theorem dX6_map_21 : decode cX6_map 21 = .ok (.invokevirtual 106, 3) := dk_182 0 106 (dk_at dksX6_map_0 21 rfl rfl)
theorem dX6_map_24 : decode cX6_map 24 = .ok (.aload_n 0, 1) := dk_42 (dk_at dksX6_map_1 0 rfl rfl)
theorem dX6_map_25 : decode cX6_map 25 = .ok (.getfield 18, 3) := dk_180 0 18 (dk_at dksX6_map_1 1 rfl rfl)
theorem dX6_map_28 : decode cX6_map 28 = .ok (.aload_n 0, 1) := dk_42 (dk_at dksX6_map_1 4 rfl rfl)
theorem dX6_map_29 : decode cX6_map 29 = .ok (.iconst 2, 1) := dk_5 (dk_at dksX6_map_1 5 rfl rfl)
theorem dX6_map_30 : decode cX6_map 30 = .ok (.bipush 12, 2) := dk_16 12 (dk_at dksX6_map_1 6 rfl rfl)
theorem dX6_map_32 : decode cX6_map 32 = .ok (.invokevirtual 126, 3) := dk_182 0 126 (dk_at dksX6_map_1 8 rfl rfl)
theorem dX6_map_35 : decode cX6_map 35 = .ok (.putfield 129, 3) := dk_181 0 129 (dk_at dksX6_map_1 11 rfl rfl)
theorem dX6_map_38 : decode cX6_map 38 = .ok (.aload_n 0, 1) := dk_42 (dk_at dksX6_map_1 14 rfl rfl)
theorem dX6_map_39 : decode cX6_map 39 = .ok (.getfield 18, 3) := dk_180 0 18 (dk_at dksX6_map_1 15 rfl rfl)
theorem dX6_map_42 : decode cX6_map 42 = .ok (.aload_n 0, 1) := dk_42 (dk_at dksX6_map_1 18 rfl rfl)
theorem dX6_map_43 : decode cX6_map 43 = .ok (.iconst 2, 1) := dk_5 (dk_at dksX6_map_1 19 rfl rfl)
theorem dX6_map_44 : decode cX6_map 44 = .ok (.bipush 12, 2) := dk_16 12 (dk_at dksX6_map_1 20 rfl rfl)
theorem dX6_map_46 : decode cX6_map 46 = .ok (.invokevirtual 126, 3) := dk_182 0 126 (dk_at dksX6_map_2 0 rfl rfl)
theorem dX6_map_49 : decode cX6_map 49 = .ok (.putfield 132, 3) := dk_181 0 132 (dk_at dksX6_map_2 3 rfl rfl)
theorem dX6_map_52 : decode cX6_map 52 = .ok (.aload_n 0, 1) := dk_42 (dk_at dksX6_map_2 6 rfl rfl)
theorem dX6_map_53 : decode cX6_map 53 = .ok (.invokevirtual 135, 3) := dk_182 0 135 (dk_at dksX6_map_2 7 rfl rfl)
theorem dX6_map_56 : decode cX6_map 56 = .ok (.return_, 1) := dk_177 (dk_at dksX6_map_2 10 rfl rfl)
abbrev cX6_word : ByteArray := prog_12_method_5_code
def yX6_word : MethodName := ⟨RX6, "word", "()Ljava/lang/String;"⟩
def dkwX6_word_2 : List UInt8 := [180, 0, 3, 180, 0, 36, 28, 51, 146, 182, 0, 60, 87, 132, 2, 1, 167, 255, 205, 43, 182, 0, 64, 176]
abbrev dktX6_word_2 : List UInt8 := dkwX6_word_2 ++ []
def dkwX6_word_1 : List UInt8 := [42, 180, 0, 3, 180, 0, 36, 28, 51, 133, 20, 0, 52, 20, 0, 54, 184, 0, 56, 153, 0, 24, 43, 42]
abbrev dktX6_word_1 : List UInt8 := dkwX6_word_1 ++ dktX6_word_2
def dkwX6_word_0 : List UInt8 := [187, 0, 49, 89, 183, 0, 51, 76, 42, 180, 0, 29, 61, 28, 42, 180, 0, 3, 180, 0, 33, 162, 0, 46]
abbrev dktX6_word_0 : List UInt8 := dkwX6_word_0 ++ dktX6_word_1
theorem dksX6_word_0 : cX6_word.data.toList.drop 0 = dktX6_word_0 := by decide +kernel
theorem dksX6_word_1 : cX6_word.data.toList.drop 24 = dktX6_word_1 := dk_seg dksX6_word_0 24 rfl rfl
theorem dksX6_word_2 : cX6_word.data.toList.drop 48 = dktX6_word_2 := dk_seg dksX6_word_1 24 rfl rfl
theorem dX6_word_0 : decode cX6_word 0 = .ok (.new 49, 3) := dk_187 0 49 (dk_at dksX6_word_0 0 rfl rfl)
theorem dX6_word_3 : decode cX6_word 3 = .ok (.dup, 1) := dk_89 (dk_at dksX6_word_0 3 rfl rfl)
theorem dX6_word_4 : decode cX6_word 4 = .ok (.invokespecial 51, 3) := dk_183 0 51 (dk_at dksX6_word_0 4 rfl rfl)
theorem dX6_word_7 : decode cX6_word 7 = .ok (.astore_n 1, 1) := dk_76 (dk_at dksX6_word_0 7 rfl rfl)
theorem dX6_word_8 : decode cX6_word 8 = .ok (.aload_n 0, 1) := dk_42 (dk_at dksX6_word_0 8 rfl rfl)
theorem dX6_word_9 : decode cX6_word 9 = .ok (.getfield 29, 3) := dk_180 0 29 (dk_at dksX6_word_0 9 rfl rfl)
theorem dX6_word_12 : decode cX6_word 12 = .ok (.istore_n 2, 1) := dk_61 (dk_at dksX6_word_0 12 rfl rfl)
theorem dX6_word_13 : decode cX6_word 13 = .ok (.iload_n 2, 1) := dk_28 (dk_at dksX6_word_0 13 rfl rfl)
theorem dX6_word_14 : decode cX6_word 14 = .ok (.aload_n 0, 1) := dk_42 (dk_at dksX6_word_0 14 rfl rfl)
theorem dX6_word_15 : decode cX6_word 15 = .ok (.getfield 3, 3) := dk_180 0 3 (dk_at dksX6_word_0 15 rfl rfl)
theorem dX6_word_18 : decode cX6_word 18 = .ok (.getfield 33, 3) := dk_180 0 33 (dk_at dksX6_word_0 18 rfl rfl)
theorem dX6_word_21 : decode cX6_word 21 = .ok (.if_icmp .ge 46, 3) := dk_162 0 46 (dk_at dksX6_word_0 21 rfl rfl)
theorem dX6_word_24 : decode cX6_word 24 = .ok (.aload_n 0, 1) := dk_42 (dk_at dksX6_word_1 0 rfl rfl)
theorem dX6_word_25 : decode cX6_word 25 = .ok (.getfield 3, 3) := dk_180 0 3 (dk_at dksX6_word_1 1 rfl rfl)
theorem dX6_word_28 : decode cX6_word 28 = .ok (.getfield 36, 3) := dk_180 0 36 (dk_at dksX6_word_1 4 rfl rfl)
theorem dX6_word_31 : decode cX6_word 31 = .ok (.iload_n 2, 1) := dk_28 (dk_at dksX6_word_1 7 rfl rfl)
theorem dX6_word_32 : decode cX6_word 32 = .ok (.baload, 1) := dk_51 (dk_at dksX6_word_1 8 rfl rfl)
theorem dX6_word_33 : decode cX6_word 33 = .ok (.i2l, 1) := dk_133 (dk_at dksX6_word_1 9 rfl rfl)
theorem dX6_word_34 : decode cX6_word 34 = .ok (.ldc2_w 52, 3) := dk_20 0 52 (dk_at dksX6_word_1 10 rfl rfl)
theorem dX6_word_37 : decode cX6_word 37 = .ok (.ldc2_w 54, 3) := dk_20 0 54 (dk_at dksX6_word_1 13 rfl rfl)
theorem dX6_word_40 : decode cX6_word 40 = .ok (.invokestatic 56, 3) := dk_184 0 56 (dk_at dksX6_word_1 16 rfl rfl)
theorem dX6_word_43 : decode cX6_word 43 = .ok (.ifCond .eq 24, 3) := dk_153 0 24 (dk_at dksX6_word_1 19 rfl rfl)
theorem dX6_word_46 : decode cX6_word 46 = .ok (.aload_n 1, 1) := dk_43 (dk_at dksX6_word_1 22 rfl rfl)
theorem dX6_word_47 : decode cX6_word 47 = .ok (.aload_n 0, 1) := dk_42 (dk_at dksX6_word_1 23 rfl rfl)
theorem dX6_word_48 : decode cX6_word 48 = .ok (.getfield 3, 3) := dk_180 0 3 (dk_at dksX6_word_2 0 rfl rfl)
theorem dX6_word_51 : decode cX6_word 51 = .ok (.getfield 36, 3) := dk_180 0 36 (dk_at dksX6_word_2 3 rfl rfl)
theorem dX6_word_54 : decode cX6_word 54 = .ok (.iload_n 2, 1) := dk_28 (dk_at dksX6_word_2 6 rfl rfl)
theorem dX6_word_55 : decode cX6_word 55 = .ok (.baload, 1) := dk_51 (dk_at dksX6_word_2 7 rfl rfl)
theorem dX6_word_56 : decode cX6_word 56 = .ok (.i2c, 1) := dk_146 (dk_at dksX6_word_2 8 rfl rfl)
theorem dX6_word_57 : decode cX6_word 57 = .ok (.invokevirtual 60, 3) := dk_182 0 60 (dk_at dksX6_word_2 9 rfl rfl)
theorem dX6_word_60 : decode cX6_word 60 = .ok (.pop, 1) := dk_87 (dk_at dksX6_word_2 12 rfl rfl)
theorem dX6_word_61 : decode cX6_word 61 = .ok (.iinc 2 1, 3) := dk_132 2 1 (dk_at dksX6_word_2 13 rfl rfl)
theorem dX6_word_64 : decode cX6_word 64 = .ok (.goto (-51), 3) := dk_167 255 205 (dk_at dksX6_word_2 16 rfl rfl)
theorem dX6_word_67 : decode cX6_word 67 = .ok (.aload_n 1, 1) := dk_43 (dk_at dksX6_word_2 19 rfl rfl)
theorem dX6_word_68 : decode cX6_word 68 = .ok (.invokevirtual 64, 3) := dk_182 0 64 (dk_at dksX6_word_2 20 rfl rfl)
theorem dX6_word_71 : decode cX6_word 71 = .ok (.areturn, 1) := dk_176 (dk_at dksX6_word_2 23 rfl rfl)
abbrev cX6_expect : ByteArray := prog_12_method_4_code
def yX6_expect : MethodName := ⟨RX6, "expect", "(ZII)V"⟩
def dkwX6_expect_0 : List UInt8 := [27, 154, 0, 13, 187, 0, 44, 89, 28, 29, 183, 0, 46, 191, 177]
abbrev dktX6_expect_0 : List UInt8 := dkwX6_expect_0 ++ []
theorem dksX6_expect_0 : cX6_expect.data.toList.drop 0 = dktX6_expect_0 := by decide +kernel
theorem dX6_expect_0 : decode cX6_expect 0 = .ok (.iload_n 1, 1) := dk_27 (dk_at dksX6_expect_0 0 rfl rfl)
theorem dX6_expect_1 : decode cX6_expect 1 = .ok (.ifCond .ne 13, 3) := dk_154 0 13 (dk_at dksX6_expect_0 1 rfl rfl)
theorem dX6_expect_4 : decode cX6_expect 4 = .ok (.new 44, 3) := dk_187 0 44 (dk_at dksX6_expect_0 4 rfl rfl)
theorem dX6_expect_7 : decode cX6_expect 7 = .ok (.dup, 1) := dk_89 (dk_at dksX6_expect_0 7 rfl rfl)
theorem dX6_expect_8 : decode cX6_expect 8 = .ok (.iload_n 2, 1) := dk_28 (dk_at dksX6_expect_0 8 rfl rfl)
theorem dX6_expect_9 : decode cX6_expect 9 = .ok (.iload_n 3, 1) := dk_29 (dk_at dksX6_expect_0 9 rfl rfl)
theorem dX6_expect_10 : decode cX6_expect 10 = .ok (.invokespecial 46, 3) := dk_183 0 46 (dk_at dksX6_expect_0 10 rfl rfl)
theorem dX6_expect_13 : decode cX6_expect 13 = .ok (.athrow, 1) := dk_191 (dk_at dksX6_expect_0 13 rfl rfl)
theorem dX6_expect_14 : decode cX6_expect 14 = .ok (.return_, 1) := dk_177 (dk_at dksX6_expect_0 14 rfl rfl)
abbrev cX6_pass : ByteArray := prog_12_method_6_code
def yX6_pass : MethodName := ⟨RX6, "pass", "(Ljava/lang/String;)V"⟩
def dkwX6_pass_0 : List UInt8 := [42, 89, 180, 0, 29, 43, 182, 0, 68, 96, 181, 0, 29, 42, 182, 0, 73, 177]
abbrev dktX6_pass_0 : List UInt8 := dkwX6_pass_0 ++ []
theorem dksX6_pass_0 : cX6_pass.data.toList.drop 0 = dktX6_pass_0 := by decide +kernel
theorem dX6_pass_0 : decode cX6_pass 0 = .ok (.aload_n 0, 1) := dk_42 (dk_at dksX6_pass_0 0 rfl rfl)
theorem dX6_pass_1 : decode cX6_pass 1 = .ok (.dup, 1) := dk_89 (dk_at dksX6_pass_0 1 rfl rfl)
theorem dX6_pass_2 : decode cX6_pass 2 = .ok (.getfield 29, 3) := dk_180 0 29 (dk_at dksX6_pass_0 2 rfl rfl)
theorem dX6_pass_5 : decode cX6_pass 5 = .ok (.aload_n 1, 1) := dk_43 (dk_at dksX6_pass_0 5 rfl rfl)
theorem dX6_pass_6 : decode cX6_pass 6 = .ok (.invokevirtual 68, 3) := dk_182 0 68 (dk_at dksX6_pass_0 6 rfl rfl)
theorem dX6_pass_9 : decode cX6_pass 9 = .ok (.iadd, 1) := dk_96 (dk_at dksX6_pass_0 9 rfl rfl)
theorem dX6_pass_10 : decode cX6_pass 10 = .ok (.putfield 29, 3) := dk_181 0 29 (dk_at dksX6_pass_0 10 rfl rfl)
theorem dX6_pass_13 : decode cX6_pass 13 = .ok (.aload_n 0, 1) := dk_42 (dk_at dksX6_pass_0 13 rfl rfl)
theorem dX6_pass_14 : decode cX6_pass 14 = .ok (.invokevirtual 73, 3) := dk_182 0 73 (dk_at dksX6_pass_0 14 rfl rfl)
theorem dX6_pass_17 : decode cX6_pass 17 = .ok (.return_, 1) := dk_177 (dk_at dksX6_pass_0 17 rfl rfl)
abbrev cX6_number : ByteArray := prog_12_method_7_code
def yX6_number : MethodName := ⟨RX6, "number", "(II)I"⟩
def dkwX6_number_4 : List UInt8 := [182, 0, 88, 42, 182, 0, 73, 21, 4, 172]
abbrev dktX6_number_4 : List UInt8 := dkwX6_number_4 ++ []
def dkwX6_number_3 : List UInt8 := [20, 0, 86, 184, 0, 56, 4, 29, 182, 0, 88, 42, 21, 4, 133, 27, 133, 28, 133, 184, 0, 56, 5, 29]
abbrev dktX6_number_3 : List UInt8 := dkwX6_number_3 ++ dktX6_number_4
def dkwX6_number_2 : List UInt8 := [42, 89, 180, 0, 29, 4, 96, 181, 0, 29, 167, 255, 208, 42, 42, 180, 0, 29, 29, 100, 133, 10]
abbrev dktX6_number_2 : List UInt8 := dkwX6_number_2 ++ dktX6_number_3
def dkwX6_number_1 : List UInt8 := [153, 0, 37, 17, 3, 232, 16, 10, 21, 4, 104, 42, 182, 0, 40, 96, 16, 48, 100, 184, 0, 80, 54, 4]
abbrev dktX6_number_1 : List UInt8 := dkwX6_number_1 ++ dktX6_number_2
def dkwX6_number_0 : List UInt8 := [42, 180, 0, 29, 62, 3, 54, 4, 42, 182, 0, 40, 133, 20, 0, 76, 20, 0, 78, 184, 0, 56]
abbrev dktX6_number_0 : List UInt8 := dkwX6_number_0 ++ dktX6_number_1
theorem dksX6_number_0 : cX6_number.data.toList.drop 0 = dktX6_number_0 := by decide +kernel
theorem dksX6_number_1 : cX6_number.data.toList.drop 22 = dktX6_number_1 := dk_seg dksX6_number_0 22 rfl rfl
theorem dksX6_number_2 : cX6_number.data.toList.drop 46 = dktX6_number_2 := dk_seg dksX6_number_1 24 rfl rfl
theorem dksX6_number_3 : cX6_number.data.toList.drop 68 = dktX6_number_3 := dk_seg dksX6_number_2 22 rfl rfl
theorem dksX6_number_4 : cX6_number.data.toList.drop 92 = dktX6_number_4 := dk_seg dksX6_number_3 24 rfl rfl
theorem dX6_number_0 : decode cX6_number 0 = .ok (.aload_n 0, 1) := dk_42 (dk_at dksX6_number_0 0 rfl rfl)
theorem dX6_number_1 : decode cX6_number 1 = .ok (.getfield 29, 3) := dk_180 0 29 (dk_at dksX6_number_0 1 rfl rfl)
theorem dX6_number_4 : decode cX6_number 4 = .ok (.istore_n 3, 1) := dk_62 (dk_at dksX6_number_0 4 rfl rfl)
theorem dX6_number_5 : decode cX6_number 5 = .ok (.iconst 0, 1) := dk_3 (dk_at dksX6_number_0 5 rfl rfl)
theorem dX6_number_6 : decode cX6_number 6 = .ok (.istore 4, 2) := dk_54 4 (dk_at dksX6_number_0 6 rfl rfl)
theorem dX6_number_8 : decode cX6_number 8 = .ok (.aload_n 0, 1) := dk_42 (dk_at dksX6_number_0 8 rfl rfl)
theorem dX6_number_9 : decode cX6_number 9 = .ok (.invokevirtual 40, 3) := dk_182 0 40 (dk_at dksX6_number_0 9 rfl rfl)
theorem dX6_number_12 : decode cX6_number 12 = .ok (.i2l, 1) := dk_133 (dk_at dksX6_number_0 12 rfl rfl)
theorem dX6_number_13 : decode cX6_number 13 = .ok (.ldc2_w 76, 3) := dk_20 0 76 (dk_at dksX6_number_0 13 rfl rfl)
theorem dX6_number_16 : decode cX6_number 16 = .ok (.ldc2_w 78, 3) := dk_20 0 78 (dk_at dksX6_number_0 16 rfl rfl)
theorem dX6_number_19 : decode cX6_number 19 = .ok (.invokestatic 56, 3) := dk_184 0 56 (dk_at dksX6_number_0 19 rfl rfl)
theorem dX6_number_22 : decode cX6_number 22 = .ok (.ifCond .eq 37, 3) := dk_153 0 37 (dk_at dksX6_number_1 0 rfl rfl)
theorem dX6_number_25 : decode cX6_number 25 = .ok (.sipush 1000, 3) := dk_17 3 232 (dk_at dksX6_number_1 3 rfl rfl)
theorem dX6_number_28 : decode cX6_number 28 = .ok (.bipush 10, 2) := dk_16 10 (dk_at dksX6_number_1 6 rfl rfl)
theorem dX6_number_30 : decode cX6_number 30 = .ok (.iload 4, 2) := dk_21 4 (dk_at dksX6_number_1 8 rfl rfl)
theorem dX6_number_32 : decode cX6_number 32 = .ok (.imul, 1) := dk_104 (dk_at dksX6_number_1 10 rfl rfl)
theorem dX6_number_33 : decode cX6_number 33 = .ok (.aload_n 0, 1) := dk_42 (dk_at dksX6_number_1 11 rfl rfl)
theorem dX6_number_34 : decode cX6_number 34 = .ok (.invokevirtual 40, 3) := dk_182 0 40 (dk_at dksX6_number_1 12 rfl rfl)
theorem dX6_number_37 : decode cX6_number 37 = .ok (.iadd, 1) := dk_96 (dk_at dksX6_number_1 15 rfl rfl)
theorem dX6_number_38 : decode cX6_number 38 = .ok (.bipush 48, 2) := dk_16 48 (dk_at dksX6_number_1 16 rfl rfl)
theorem dX6_number_40 : decode cX6_number 40 = .ok (.isub, 1) := dk_100 (dk_at dksX6_number_1 18 rfl rfl)
theorem dX6_number_41 : decode cX6_number 41 = .ok (.invokestatic 80, 3) := dk_184 0 80 (dk_at dksX6_number_1 19 rfl rfl)
theorem dX6_number_44 : decode cX6_number 44 = .ok (.istore 4, 2) := dk_54 4 (dk_at dksX6_number_1 22 rfl rfl)
theorem dX6_number_46 : decode cX6_number 46 = .ok (.aload_n 0, 1) := dk_42 (dk_at dksX6_number_2 0 rfl rfl)
theorem dX6_number_47 : decode cX6_number 47 = .ok (.dup, 1) := dk_89 (dk_at dksX6_number_2 1 rfl rfl)
theorem dX6_number_48 : decode cX6_number 48 = .ok (.getfield 29, 3) := dk_180 0 29 (dk_at dksX6_number_2 2 rfl rfl)
theorem dX6_number_51 : decode cX6_number 51 = .ok (.iconst 1, 1) := dk_4 (dk_at dksX6_number_2 5 rfl rfl)
theorem dX6_number_52 : decode cX6_number 52 = .ok (.iadd, 1) := dk_96 (dk_at dksX6_number_2 6 rfl rfl)
theorem dX6_number_53 : decode cX6_number 53 = .ok (.putfield 29, 3) := dk_181 0 29 (dk_at dksX6_number_2 7 rfl rfl)
theorem dX6_number_56 : decode cX6_number 56 = .ok (.goto (-48), 3) := dk_167 255 208 (dk_at dksX6_number_2 10 rfl rfl)
theorem dX6_number_59 : decode cX6_number 59 = .ok (.aload_n 0, 1) := dk_42 (dk_at dksX6_number_2 13 rfl rfl)
theorem dX6_number_60 : decode cX6_number 60 = .ok (.aload_n 0, 1) := dk_42 (dk_at dksX6_number_2 14 rfl rfl)
theorem dX6_number_61 : decode cX6_number 61 = .ok (.getfield 29, 3) := dk_180 0 29 (dk_at dksX6_number_2 15 rfl rfl)
theorem dX6_number_64 : decode cX6_number 64 = .ok (.iload_n 3, 1) := dk_29 (dk_at dksX6_number_2 18 rfl rfl)
theorem dX6_number_65 : decode cX6_number 65 = .ok (.isub, 1) := dk_100 (dk_at dksX6_number_2 19 rfl rfl)
theorem dX6_number_66 : decode cX6_number 66 = .ok (.i2l, 1) := dk_133 (dk_at dksX6_number_2 20 rfl rfl)
theorem dX6_number_67 : decode cX6_number 67 = .ok (.lconst 1, 1) := dk_10 (dk_at dksX6_number_2 21 rfl rfl)
theorem dX6_number_68 : decode cX6_number 68 = .ok (.ldc2_w 86, 3) := dk_20 0 86 (dk_at dksX6_number_3 0 rfl rfl)
theorem dX6_number_71 : decode cX6_number 71 = .ok (.invokestatic 56, 3) := dk_184 0 56 (dk_at dksX6_number_3 3 rfl rfl)
theorem dX6_number_74 : decode cX6_number 74 = .ok (.iconst 1, 1) := dk_4 (dk_at dksX6_number_3 6 rfl rfl)
theorem dX6_number_75 : decode cX6_number 75 = .ok (.iload_n 3, 1) := dk_29 (dk_at dksX6_number_3 7 rfl rfl)
theorem dX6_number_76 : decode cX6_number 76 = .ok (.invokevirtual 88, 3) := dk_182 0 88 (dk_at dksX6_number_3 8 rfl rfl)
theorem dX6_number_79 : decode cX6_number 79 = .ok (.aload_n 0, 1) := dk_42 (dk_at dksX6_number_3 11 rfl rfl)
theorem dX6_number_80 : decode cX6_number 80 = .ok (.iload 4, 2) := dk_21 4 (dk_at dksX6_number_3 12 rfl rfl)
theorem dX6_number_82 : decode cX6_number 82 = .ok (.i2l, 1) := dk_133 (dk_at dksX6_number_3 14 rfl rfl)
theorem dX6_number_83 : decode cX6_number 83 = .ok (.iload_n 1, 1) := dk_27 (dk_at dksX6_number_3 15 rfl rfl)
theorem dX6_number_84 : decode cX6_number 84 = .ok (.i2l, 1) := dk_133 (dk_at dksX6_number_3 16 rfl rfl)
theorem dX6_number_85 : decode cX6_number 85 = .ok (.iload_n 2, 1) := dk_28 (dk_at dksX6_number_3 17 rfl rfl)
theorem dX6_number_86 : decode cX6_number 86 = .ok (.i2l, 1) := dk_133 (dk_at dksX6_number_3 18 rfl rfl)
theorem dX6_number_87 : decode cX6_number 87 = .ok (.invokestatic 56, 3) := dk_184 0 56 (dk_at dksX6_number_3 19 rfl rfl)
theorem dX6_number_90 : decode cX6_number 90 = .ok (.iconst 2, 1) := dk_5 (dk_at dksX6_number_3 22 rfl rfl)
theorem dX6_number_91 : decode cX6_number 91 = .ok (.iload_n 3, 1) := dk_29 (dk_at dksX6_number_3 23 rfl rfl)
theorem dX6_number_92 : decode cX6_number 92 = .ok (.invokevirtual 88, 3) := dk_182 0 88 (dk_at dksX6_number_4 0 rfl rfl)
theorem dX6_number_95 : decode cX6_number 95 = .ok (.aload_n 0, 1) := dk_42 (dk_at dksX6_number_4 3 rfl rfl)
theorem dX6_number_96 : decode cX6_number 96 = .ok (.invokevirtual 73, 3) := dk_182 0 73 (dk_at dksX6_number_4 4 rfl rfl)
theorem dX6_number_99 : decode cX6_number 99 = .ok (.iload 4, 2) := dk_21 4 (dk_at dksX6_number_4 7 rfl rfl)
theorem dX6_number_101 : decode cX6_number 101 = .ok (.ireturn, 1) := dk_172 (dk_at dksX6_number_4 9 rfl rfl)
abbrev cX6_end : ByteArray := prog_12_method_13_code
def yX6_end : MethodName := ⟨RX6, "end", "()V"⟩
def dkwX6_end_1 : List UInt8 := [18, 118, 182, 0, 106, 177]
abbrev dktX6_end_1 : List UInt8 := dkwX6_end_1 ++ []
def dkwX6_end_0 : List UInt8 := [42, 42, 182, 0, 40, 16, 59, 160, 0, 7, 4, 167, 0, 4, 3, 4, 42, 180, 0, 29, 182, 0, 88, 42]
abbrev dktX6_end_0 : List UInt8 := dkwX6_end_0 ++ dktX6_end_1
theorem dksX6_end_0 : cX6_end.data.toList.drop 0 = dktX6_end_0 := by decide +kernel
theorem dksX6_end_1 : cX6_end.data.toList.drop 24 = dktX6_end_1 := dk_seg dksX6_end_0 24 rfl rfl
theorem dX6_end_0 : decode cX6_end 0 = .ok (.aload_n 0, 1) := dk_42 (dk_at dksX6_end_0 0 rfl rfl)
theorem dX6_end_1 : decode cX6_end 1 = .ok (.aload_n 0, 1) := dk_42 (dk_at dksX6_end_0 1 rfl rfl)
theorem dX6_end_2 : decode cX6_end 2 = .ok (.invokevirtual 40, 3) := dk_182 0 40 (dk_at dksX6_end_0 2 rfl rfl)
theorem dX6_end_5 : decode cX6_end 5 = .ok (.bipush 59, 2) := dk_16 59 (dk_at dksX6_end_0 5 rfl rfl)
theorem dX6_end_7 : decode cX6_end 7 = .ok (.if_icmp .ne 7, 3) := dk_160 0 7 (dk_at dksX6_end_0 7 rfl rfl)
theorem dX6_end_10 : decode cX6_end 10 = .ok (.iconst 1, 1) := dk_4 (dk_at dksX6_end_0 10 rfl rfl)
theorem dX6_end_11 : decode cX6_end 11 = .ok (.goto 4, 3) := dk_167 0 4 (dk_at dksX6_end_0 11 rfl rfl)
theorem dX6_end_14 : decode cX6_end 14 = .ok (.iconst 0, 1) := dk_3 (dk_at dksX6_end_0 14 rfl rfl)
theorem dX6_end_15 : decode cX6_end 15 = .ok (.iconst 1, 1) := dk_4 (dk_at dksX6_end_0 15 rfl rfl)
theorem dX6_end_16 : decode cX6_end 16 = .ok (.aload_n 0, 1) := dk_42 (dk_at dksX6_end_0 16 rfl rfl)
theorem dX6_end_17 : decode cX6_end 17 = .ok (.getfield 29, 3) := dk_180 0 29 (dk_at dksX6_end_0 17 rfl rfl)
theorem dX6_end_20 : decode cX6_end 20 = .ok (.invokevirtual 88, 3) := dk_182 0 88 (dk_at dksX6_end_0 20 rfl rfl)
theorem dX6_end_23 : decode cX6_end 23 = .ok (.aload_n 0, 1) := dk_42 (dk_at dksX6_end_0 23 rfl rfl)
theorem dX6_end_24 : decode cX6_end 24 = .ok (.ldc 118, 2) := dk_18 118 (dk_at dksX6_end_1 0 rfl rfl)
theorem dX6_end_26 : decode cX6_end 26 = .ok (.invokevirtual 106, 3) := dk_182 0 106 (dk_at dksX6_end_1 2 rfl rfl)
theorem dX6_end_29 : decode cX6_end 29 = .ok (.return_, 1) := dk_177 (dk_at dksX6_end_1 5 rfl rfl)
abbrev cX6_statement : ByteArray := prog_12_method_19_code
def yX6_statement : MethodName := ⟨RX6, "statement", "()V"⟩
def dkwX6_statement_18 : List UInt8 := [42, 182, 0, 135, 177]
abbrev dktX6_statement_18 : List UInt8 := dkwX6_statement_18 ++ []
def dkwX6_statement_17 : List UInt8 := [182, 0, 229, 167, 0, 21, 42, 182, 0, 231, 167, 0, 14, 42, 182, 0, 233, 167, 0, 7, 42, 182, 0, 235]
abbrev dktX6_statement_17 : List UInt8 := dkwX6_statement_17 ++ dktX6_statement_18
def dkwX6_statement_16 : List UInt8 := [180, 0, 18, 180, 0, 174, 182, 0, 150, 183, 0, 227, 185, 0, 166, 2, 0, 87, 167, 0, 28, 42]
abbrev dktX6_statement_16 : List UInt8 := dkwX6_statement_16 ++ dktX6_statement_17
def dkwX6_statement_15 : List UInt8 := [185, 0, 142, 1, 0, 16, 8, 182, 0, 147, 42, 180, 0, 18, 180, 0, 174, 187, 0, 225, 89, 42, 42]
abbrev dktX6_statement_15 : List UInt8 := dkwX6_statement_15 ++ dktX6_statement_16
def dkwX6_statement_14 : List UInt8 := [182, 0, 214, 42, 180, 0, 18, 4, 181, 0, 221, 167, 0, 80, 42, 42, 180, 0, 18, 180, 0, 174]
abbrev dktX6_statement_14 : List UInt8 := dkwX6_statement_14 ++ dktX6_statement_15
def dkwX6_statement_13 : List UInt8 := [182, 0, 214, 42, 180, 0, 18, 42, 3, 17, 3, 231, 182, 0, 126, 181, 0, 219, 167, 0, 96, 42, 27]
abbrev dktX6_statement_13 : List UInt8 := dkwX6_statement_13 ++ dktX6_statement_14
def dkwX6_statement_12 : List UInt8 := [42, 27, 182, 0, 214, 42, 180, 0, 18, 42, 7, 16, 30, 182, 0, 126, 181, 0, 217, 167, 0, 119, 42, 27]
abbrev dktX6_statement_12 : List UInt8 := dkwX6_statement_12 ++ dktX6_statement_13
def dkwX6_statement_11 : List UInt8 := [170, 0, 0, 0, 0, 0, 0, 178, 0, 0, 0, 0, 0, 0, 0, 6, 0, 0, 0, 44, 0, 0, 0, 66, 0, 0, 0, 89, 0, 0, 0, 105, 0, 0, 0, 157, 0, 0, 0, 164, 0, 0, 0, 171]
abbrev dktX6_statement_11 : List UInt8 := dkwX6_statement_11 ++ dktX6_statement_12
def dkwX6_statement_10 : List UInt8 := [42, 180, 0, 29, 182, 0, 88, 27]
abbrev dktX6_statement_10 : List UInt8 := dkwX6_statement_10 ++ dktX6_statement_11
def dkwX6_statement_9 : List UInt8 := [16, 6, 167, 0, 9, 16, 7, 167, 0, 4, 2, 60, 42, 27, 2, 159, 0, 7, 4, 167, 0, 4, 3, 4]
abbrev dktX6_statement_9 : List UInt8 := dkwX6_statement_9 ++ dktX6_statement_10
def dkwX6_statement_8 : List UInt8 := [3, 167, 0, 34, 4, 167, 0, 30, 5, 167, 0, 26, 6, 167, 0, 22, 7, 167, 0, 18, 8, 167, 0, 14]
abbrev dktX6_statement_8 : List UInt8 := dkwX6_statement_8 ++ dktX6_statement_9
def dkwX6_statement_7 : List UInt8 := [170, 0, 0, 0, 0, 0, 0, 82, 0, 0, 0, 0, 0, 0, 0, 7, 0, 0, 0, 48, 0, 0, 0, 52, 0, 0, 0, 56, 0, 0, 0, 60, 0, 0, 0, 64, 0, 0, 0, 68, 0, 0, 0, 72, 0, 0, 0, 77]
abbrev dktX6_statement_7 : List UInt8 := dkwX6_statement_7 ++ dktX6_statement_8
def dkwX6_statement_6 : List UInt8 := [62, 167, 0, 15, 44, 18, 212, 182, 0, 122, 153, 0, 6, 16, 7, 62, 29]
abbrev dktX6_statement_6 : List UInt8 := dkwX6_statement_6 ++ dktX6_statement_7
def dkwX6_statement_5 : List UInt8 := [18, 208, 182, 0, 122, 153, 0, 35, 8, 62, 167, 0, 30, 44, 18, 210, 182, 0, 122, 153, 0, 21, 16, 6]
abbrev dktX6_statement_5 : List UInt8 := dkwX6_statement_5 ++ dktX6_statement_6
def dkwX6_statement_4 : List UInt8 := [153, 0, 63, 6, 62, 167, 0, 58, 44, 18, 206, 182, 0, 122, 153, 0, 49, 7, 62, 167, 0, 44, 44]
abbrev dktX6_statement_4 : List UInt8 := dkwX6_statement_4 ++ dktX6_statement_5
def dkwX6_statement_3 : List UInt8 := [62, 167, 0, 86, 44, 18, 202, 182, 0, 122, 153, 0, 77, 5, 62, 167, 0, 72, 44, 18, 204, 182, 0, 122]
abbrev dktX6_statement_3 : List UInt8 := dkwX6_statement_3 ++ dktX6_statement_4
def dkwX6_statement_2 : List UInt8 := [44, 18, 198, 182, 0, 122, 153, 0, 105, 3, 62, 167, 0, 100, 44, 18, 200, 182, 0, 122, 153, 0, 91, 4]
abbrev dktX6_statement_2 : List UInt8 := dkwX6_statement_2 ++ dktX6_statement_3
def dkwX6_statement_1 : List UInt8 := [171, 0, 0, 0, 184, 0, 0, 0, 8, 175, 66, 209, 74, 0, 0, 0, 115, 200, 70, 233, 247, 0, 0, 0, 143, 200, 75, 55, 62, 0, 0, 0, 172, 0, 49, 221, 42, 0, 0, 0, 157, 0, 56, 136, 61, 0, 0, 0, 87, 5, 210, 185, 46, 0, 0, 0, 101, 6, 35, 78, 255, 0, 0, 0, 73, 27, 112, 164, 172, 0, 0, 0, 129]
abbrev dktX6_statement_1 : List UInt8 := dkwX6_statement_1 ++ dktX6_statement_2
def dkwX6_statement_0 : List UInt8 := [42, 182, 0, 92, 77, 2, 62, 44, 182, 0, 195]
abbrev dktX6_statement_0 : List UInt8 := dkwX6_statement_0 ++ dktX6_statement_1
theorem dksX6_statement_0 : cX6_statement.data.toList.drop 0 = dktX6_statement_0 := by decide +kernel
theorem dksX6_statement_1 : cX6_statement.data.toList.drop 11 = dktX6_statement_1 := dk_seg dksX6_statement_0 11 rfl rfl
theorem dksX6_statement_2 : cX6_statement.data.toList.drop 84 = dktX6_statement_2 := dk_seg dksX6_statement_1 73 rfl rfl
theorem dksX6_statement_3 : cX6_statement.data.toList.drop 108 = dktX6_statement_3 := dk_seg dksX6_statement_2 24 rfl rfl
theorem dksX6_statement_4 : cX6_statement.data.toList.drop 132 = dktX6_statement_4 := dk_seg dksX6_statement_3 24 rfl rfl
theorem dksX6_statement_5 : cX6_statement.data.toList.drop 155 = dktX6_statement_5 := dk_seg dksX6_statement_4 23 rfl rfl
theorem dksX6_statement_6 : cX6_statement.data.toList.drop 179 = dktX6_statement_6 := dk_seg dksX6_statement_5 24 rfl rfl
theorem dksX6_statement_7 : cX6_statement.data.toList.drop 196 = dktX6_statement_7 := dk_seg dksX6_statement_6 17 rfl rfl
theorem dksX6_statement_8 : cX6_statement.data.toList.drop 244 = dktX6_statement_8 := dk_seg dksX6_statement_7 48 rfl rfl
theorem dksX6_statement_9 : cX6_statement.data.toList.drop 268 = dktX6_statement_9 := dk_seg dksX6_statement_8 24 rfl rfl
theorem dksX6_statement_10 : cX6_statement.data.toList.drop 292 = dktX6_statement_10 := dk_seg dksX6_statement_9 24 rfl rfl
theorem dksX6_statement_11 : cX6_statement.data.toList.drop 300 = dktX6_statement_11 := dk_seg dksX6_statement_10 8 rfl rfl
theorem dksX6_statement_12 : cX6_statement.data.toList.drop 344 = dktX6_statement_12 := dk_seg dksX6_statement_11 44 rfl rfl
theorem dksX6_statement_13 : cX6_statement.data.toList.drop 368 = dktX6_statement_13 := dk_seg dksX6_statement_12 24 rfl rfl
theorem dksX6_statement_14 : cX6_statement.data.toList.drop 391 = dktX6_statement_14 := dk_seg dksX6_statement_13 23 rfl rfl
theorem dksX6_statement_15 : cX6_statement.data.toList.drop 413 = dktX6_statement_15 := dk_seg dksX6_statement_14 22 rfl rfl
theorem dksX6_statement_16 : cX6_statement.data.toList.drop 436 = dktX6_statement_16 := dk_seg dksX6_statement_15 23 rfl rfl
theorem dksX6_statement_17 : cX6_statement.data.toList.drop 458 = dktX6_statement_17 := dk_seg dksX6_statement_16 22 rfl rfl
theorem dksX6_statement_18 : cX6_statement.data.toList.drop 482 = dktX6_statement_18 := dk_seg dksX6_statement_17 24 rfl rfl
theorem dX6_statement_0 : decode cX6_statement 0 = .ok (.aload_n 0, 1) := dk_42 (dk_at dksX6_statement_0 0 rfl rfl)
theorem dX6_statement_1 : decode cX6_statement 1 = .ok (.invokevirtual 92, 3) := dk_182 0 92 (dk_at dksX6_statement_0 1 rfl rfl)
theorem dX6_statement_4 : decode cX6_statement 4 = .ok (.astore_n 2, 1) := dk_77 (dk_at dksX6_statement_0 4 rfl rfl)
theorem dX6_statement_5 : decode cX6_statement 5 = .ok (.iconst (-1), 1) := dk_2 (dk_at dksX6_statement_0 5 rfl rfl)
theorem dX6_statement_6 : decode cX6_statement 6 = .ok (.istore_n 3, 1) := dk_62 (dk_at dksX6_statement_0 6 rfl rfl)
theorem dX6_statement_7 : decode cX6_statement 7 = .ok (.aload_n 2, 1) := dk_44 (dk_at dksX6_statement_0 7 rfl rfl)
theorem dX6_statement_8 : decode cX6_statement 8 = .ok (.invokevirtual 195, 3) := dk_182 0 195 (dk_at dksX6_statement_0 8 rfl rfl)
theorem dX6_statement_11 : decode cX6_statement 11 = .ok (.lookupswitch 184 #[(-1354575542, 115), (-934876681, 143), (-934594754, 172), (3267882, 157), (3704893, 87), (97696046, 101), (102977279, 73), (460367020, 129)], 73) := by decide +kernel
theorem dX6_statement_84 : decode cX6_statement 84 = .ok (.aload_n 2, 1) := dk_44 (dk_at dksX6_statement_2 0 rfl rfl)
theorem dX6_statement_85 : decode cX6_statement 85 = .ok (.ldc 198, 2) := dk_18 198 (dk_at dksX6_statement_2 1 rfl rfl)
theorem dX6_statement_87 : decode cX6_statement 87 = .ok (.invokevirtual 122, 3) := dk_182 0 122 (dk_at dksX6_statement_2 3 rfl rfl)
theorem dX6_statement_90 : decode cX6_statement 90 = .ok (.ifCond .eq 105, 3) := dk_153 0 105 (dk_at dksX6_statement_2 6 rfl rfl)
theorem dX6_statement_93 : decode cX6_statement 93 = .ok (.iconst 0, 1) := dk_3 (dk_at dksX6_statement_2 9 rfl rfl)
theorem dX6_statement_94 : decode cX6_statement 94 = .ok (.istore_n 3, 1) := dk_62 (dk_at dksX6_statement_2 10 rfl rfl)
theorem dX6_statement_95 : decode cX6_statement 95 = .ok (.goto 100, 3) := dk_167 0 100 (dk_at dksX6_statement_2 11 rfl rfl)
theorem dX6_statement_98 : decode cX6_statement 98 = .ok (.aload_n 2, 1) := dk_44 (dk_at dksX6_statement_2 14 rfl rfl)
theorem dX6_statement_99 : decode cX6_statement 99 = .ok (.ldc 200, 2) := dk_18 200 (dk_at dksX6_statement_2 15 rfl rfl)
theorem dX6_statement_101 : decode cX6_statement 101 = .ok (.invokevirtual 122, 3) := dk_182 0 122 (dk_at dksX6_statement_2 17 rfl rfl)
theorem dX6_statement_104 : decode cX6_statement 104 = .ok (.ifCond .eq 91, 3) := dk_153 0 91 (dk_at dksX6_statement_2 20 rfl rfl)
theorem dX6_statement_107 : decode cX6_statement 107 = .ok (.iconst 1, 1) := dk_4 (dk_at dksX6_statement_2 23 rfl rfl)
theorem dX6_statement_108 : decode cX6_statement 108 = .ok (.istore_n 3, 1) := dk_62 (dk_at dksX6_statement_3 0 rfl rfl)
theorem dX6_statement_109 : decode cX6_statement 109 = .ok (.goto 86, 3) := dk_167 0 86 (dk_at dksX6_statement_3 1 rfl rfl)
theorem dX6_statement_112 : decode cX6_statement 112 = .ok (.aload_n 2, 1) := dk_44 (dk_at dksX6_statement_3 4 rfl rfl)
theorem dX6_statement_113 : decode cX6_statement 113 = .ok (.ldc 202, 2) := dk_18 202 (dk_at dksX6_statement_3 5 rfl rfl)
theorem dX6_statement_115 : decode cX6_statement 115 = .ok (.invokevirtual 122, 3) := dk_182 0 122 (dk_at dksX6_statement_3 7 rfl rfl)
theorem dX6_statement_118 : decode cX6_statement 118 = .ok (.ifCond .eq 77, 3) := dk_153 0 77 (dk_at dksX6_statement_3 10 rfl rfl)
theorem dX6_statement_121 : decode cX6_statement 121 = .ok (.iconst 2, 1) := dk_5 (dk_at dksX6_statement_3 13 rfl rfl)
theorem dX6_statement_122 : decode cX6_statement 122 = .ok (.istore_n 3, 1) := dk_62 (dk_at dksX6_statement_3 14 rfl rfl)
theorem dX6_statement_123 : decode cX6_statement 123 = .ok (.goto 72, 3) := dk_167 0 72 (dk_at dksX6_statement_3 15 rfl rfl)
theorem dX6_statement_126 : decode cX6_statement 126 = .ok (.aload_n 2, 1) := dk_44 (dk_at dksX6_statement_3 18 rfl rfl)
theorem dX6_statement_127 : decode cX6_statement 127 = .ok (.ldc 204, 2) := dk_18 204 (dk_at dksX6_statement_3 19 rfl rfl)
theorem dX6_statement_129 : decode cX6_statement 129 = .ok (.invokevirtual 122, 3) := dk_182 0 122 (dk_at dksX6_statement_3 21 rfl rfl)
theorem dX6_statement_132 : decode cX6_statement 132 = .ok (.ifCond .eq 63, 3) := dk_153 0 63 (dk_at dksX6_statement_4 0 rfl rfl)
theorem dX6_statement_135 : decode cX6_statement 135 = .ok (.iconst 3, 1) := dk_6 (dk_at dksX6_statement_4 3 rfl rfl)
theorem dX6_statement_136 : decode cX6_statement 136 = .ok (.istore_n 3, 1) := dk_62 (dk_at dksX6_statement_4 4 rfl rfl)
theorem dX6_statement_137 : decode cX6_statement 137 = .ok (.goto 58, 3) := dk_167 0 58 (dk_at dksX6_statement_4 5 rfl rfl)
theorem dX6_statement_140 : decode cX6_statement 140 = .ok (.aload_n 2, 1) := dk_44 (dk_at dksX6_statement_4 8 rfl rfl)
theorem dX6_statement_141 : decode cX6_statement 141 = .ok (.ldc 206, 2) := dk_18 206 (dk_at dksX6_statement_4 9 rfl rfl)
theorem dX6_statement_143 : decode cX6_statement 143 = .ok (.invokevirtual 122, 3) := dk_182 0 122 (dk_at dksX6_statement_4 11 rfl rfl)
theorem dX6_statement_146 : decode cX6_statement 146 = .ok (.ifCond .eq 49, 3) := dk_153 0 49 (dk_at dksX6_statement_4 14 rfl rfl)
theorem dX6_statement_149 : decode cX6_statement 149 = .ok (.iconst 4, 1) := dk_7 (dk_at dksX6_statement_4 17 rfl rfl)
theorem dX6_statement_150 : decode cX6_statement 150 = .ok (.istore_n 3, 1) := dk_62 (dk_at dksX6_statement_4 18 rfl rfl)
theorem dX6_statement_151 : decode cX6_statement 151 = .ok (.goto 44, 3) := dk_167 0 44 (dk_at dksX6_statement_4 19 rfl rfl)
theorem dX6_statement_154 : decode cX6_statement 154 = .ok (.aload_n 2, 1) := dk_44 (dk_at dksX6_statement_4 22 rfl rfl)
theorem dX6_statement_155 : decode cX6_statement 155 = .ok (.ldc 208, 2) := dk_18 208 (dk_at dksX6_statement_5 0 rfl rfl)
theorem dX6_statement_157 : decode cX6_statement 157 = .ok (.invokevirtual 122, 3) := dk_182 0 122 (dk_at dksX6_statement_5 2 rfl rfl)
theorem dX6_statement_160 : decode cX6_statement 160 = .ok (.ifCond .eq 35, 3) := dk_153 0 35 (dk_at dksX6_statement_5 5 rfl rfl)
theorem dX6_statement_163 : decode cX6_statement 163 = .ok (.iconst 5, 1) := dk_8 (dk_at dksX6_statement_5 8 rfl rfl)
theorem dX6_statement_164 : decode cX6_statement 164 = .ok (.istore_n 3, 1) := dk_62 (dk_at dksX6_statement_5 9 rfl rfl)
theorem dX6_statement_165 : decode cX6_statement 165 = .ok (.goto 30, 3) := dk_167 0 30 (dk_at dksX6_statement_5 10 rfl rfl)
theorem dX6_statement_168 : decode cX6_statement 168 = .ok (.aload_n 2, 1) := dk_44 (dk_at dksX6_statement_5 13 rfl rfl)
theorem dX6_statement_169 : decode cX6_statement 169 = .ok (.ldc 210, 2) := dk_18 210 (dk_at dksX6_statement_5 14 rfl rfl)
theorem dX6_statement_171 : decode cX6_statement 171 = .ok (.invokevirtual 122, 3) := dk_182 0 122 (dk_at dksX6_statement_5 16 rfl rfl)
theorem dX6_statement_174 : decode cX6_statement 174 = .ok (.ifCond .eq 21, 3) := dk_153 0 21 (dk_at dksX6_statement_5 19 rfl rfl)
theorem dX6_statement_177 : decode cX6_statement 177 = .ok (.bipush 6, 2) := dk_16 6 (dk_at dksX6_statement_5 22 rfl rfl)
theorem dX6_statement_179 : decode cX6_statement 179 = .ok (.istore_n 3, 1) := dk_62 (dk_at dksX6_statement_6 0 rfl rfl)
theorem dX6_statement_180 : decode cX6_statement 180 = .ok (.goto 15, 3) := dk_167 0 15 (dk_at dksX6_statement_6 1 rfl rfl)
theorem dX6_statement_183 : decode cX6_statement 183 = .ok (.aload_n 2, 1) := dk_44 (dk_at dksX6_statement_6 4 rfl rfl)
theorem dX6_statement_184 : decode cX6_statement 184 = .ok (.ldc 212, 2) := dk_18 212 (dk_at dksX6_statement_6 5 rfl rfl)
theorem dX6_statement_186 : decode cX6_statement 186 = .ok (.invokevirtual 122, 3) := dk_182 0 122 (dk_at dksX6_statement_6 7 rfl rfl)
theorem dX6_statement_189 : decode cX6_statement 189 = .ok (.ifCond .eq 6, 3) := dk_153 0 6 (dk_at dksX6_statement_6 10 rfl rfl)
theorem dX6_statement_192 : decode cX6_statement 192 = .ok (.bipush 7, 2) := dk_16 7 (dk_at dksX6_statement_6 13 rfl rfl)
theorem dX6_statement_194 : decode cX6_statement 194 = .ok (.istore_n 3, 1) := dk_62 (dk_at dksX6_statement_6 15 rfl rfl)
theorem dX6_statement_195 : decode cX6_statement 195 = .ok (.iload_n 3, 1) := dk_29 (dk_at dksX6_statement_6 16 rfl rfl)
theorem dX6_statement_196 : decode cX6_statement 196 = .ok (.tableswitch 82 0 7 #[48, 52, 56, 60, 64, 68, 72, 77], 48) := by decide +kernel
theorem dX6_statement_244 : decode cX6_statement 244 = .ok (.iconst 0, 1) := dk_3 (dk_at dksX6_statement_8 0 rfl rfl)
theorem dX6_statement_245 : decode cX6_statement 245 = .ok (.goto 34, 3) := dk_167 0 34 (dk_at dksX6_statement_8 1 rfl rfl)
theorem dX6_statement_248 : decode cX6_statement 248 = .ok (.iconst 1, 1) := dk_4 (dk_at dksX6_statement_8 4 rfl rfl)
theorem dX6_statement_249 : decode cX6_statement 249 = .ok (.goto 30, 3) := dk_167 0 30 (dk_at dksX6_statement_8 5 rfl rfl)
theorem dX6_statement_252 : decode cX6_statement 252 = .ok (.iconst 2, 1) := dk_5 (dk_at dksX6_statement_8 8 rfl rfl)
theorem dX6_statement_253 : decode cX6_statement 253 = .ok (.goto 26, 3) := dk_167 0 26 (dk_at dksX6_statement_8 9 rfl rfl)
theorem dX6_statement_256 : decode cX6_statement 256 = .ok (.iconst 3, 1) := dk_6 (dk_at dksX6_statement_8 12 rfl rfl)
theorem dX6_statement_257 : decode cX6_statement 257 = .ok (.goto 22, 3) := dk_167 0 22 (dk_at dksX6_statement_8 13 rfl rfl)
theorem dX6_statement_260 : decode cX6_statement 260 = .ok (.iconst 4, 1) := dk_7 (dk_at dksX6_statement_8 16 rfl rfl)
theorem dX6_statement_261 : decode cX6_statement 261 = .ok (.goto 18, 3) := dk_167 0 18 (dk_at dksX6_statement_8 17 rfl rfl)
theorem dX6_statement_264 : decode cX6_statement 264 = .ok (.iconst 5, 1) := dk_8 (dk_at dksX6_statement_8 20 rfl rfl)
theorem dX6_statement_265 : decode cX6_statement 265 = .ok (.goto 14, 3) := dk_167 0 14 (dk_at dksX6_statement_8 21 rfl rfl)
theorem dX6_statement_268 : decode cX6_statement 268 = .ok (.bipush 6, 2) := dk_16 6 (dk_at dksX6_statement_9 0 rfl rfl)
theorem dX6_statement_270 : decode cX6_statement 270 = .ok (.goto 9, 3) := dk_167 0 9 (dk_at dksX6_statement_9 2 rfl rfl)
theorem dX6_statement_273 : decode cX6_statement 273 = .ok (.bipush 7, 2) := dk_16 7 (dk_at dksX6_statement_9 5 rfl rfl)
theorem dX6_statement_275 : decode cX6_statement 275 = .ok (.goto 4, 3) := dk_167 0 4 (dk_at dksX6_statement_9 7 rfl rfl)
theorem dX6_statement_278 : decode cX6_statement 278 = .ok (.iconst (-1), 1) := dk_2 (dk_at dksX6_statement_9 10 rfl rfl)
theorem dX6_statement_279 : decode cX6_statement 279 = .ok (.istore_n 1, 1) := dk_60 (dk_at dksX6_statement_9 11 rfl rfl)
theorem dX6_statement_280 : decode cX6_statement 280 = .ok (.aload_n 0, 1) := dk_42 (dk_at dksX6_statement_9 12 rfl rfl)
theorem dX6_statement_281 : decode cX6_statement 281 = .ok (.iload_n 1, 1) := dk_27 (dk_at dksX6_statement_9 13 rfl rfl)
theorem dX6_statement_282 : decode cX6_statement 282 = .ok (.iconst (-1), 1) := dk_2 (dk_at dksX6_statement_9 14 rfl rfl)
theorem dX6_statement_283 : decode cX6_statement 283 = .ok (.if_icmp .eq 7, 3) := dk_159 0 7 (dk_at dksX6_statement_9 15 rfl rfl)
theorem dX6_statement_286 : decode cX6_statement 286 = .ok (.iconst 1, 1) := dk_4 (dk_at dksX6_statement_9 18 rfl rfl)
theorem dX6_statement_287 : decode cX6_statement 287 = .ok (.goto 4, 3) := dk_167 0 4 (dk_at dksX6_statement_9 19 rfl rfl)
theorem dX6_statement_290 : decode cX6_statement 290 = .ok (.iconst 0, 1) := dk_3 (dk_at dksX6_statement_9 22 rfl rfl)
theorem dX6_statement_291 : decode cX6_statement 291 = .ok (.iconst 1, 1) := dk_4 (dk_at dksX6_statement_9 23 rfl rfl)
theorem dX6_statement_292 : decode cX6_statement 292 = .ok (.aload_n 0, 1) := dk_42 (dk_at dksX6_statement_10 0 rfl rfl)
theorem dX6_statement_293 : decode cX6_statement 293 = .ok (.getfield 29, 3) := dk_180 0 29 (dk_at dksX6_statement_10 1 rfl rfl)
theorem dX6_statement_296 : decode cX6_statement 296 = .ok (.invokevirtual 88, 3) := dk_182 0 88 (dk_at dksX6_statement_10 4 rfl rfl)
theorem dX6_statement_299 : decode cX6_statement 299 = .ok (.iload_n 1, 1) := dk_27 (dk_at dksX6_statement_10 7 rfl rfl)
theorem dX6_statement_300 : decode cX6_statement 300 = .ok (.tableswitch 178 0 6 #[44, 66, 89, 105, 157, 164, 171], 44) := by decide +kernel
theorem dX6_statement_344 : decode cX6_statement 344 = .ok (.aload_n 0, 1) := dk_42 (dk_at dksX6_statement_12 0 rfl rfl)
theorem dX6_statement_345 : decode cX6_statement 345 = .ok (.iload_n 1, 1) := dk_27 (dk_at dksX6_statement_12 1 rfl rfl)
theorem dX6_statement_346 : decode cX6_statement 346 = .ok (.invokevirtual 214, 3) := dk_182 0 214 (dk_at dksX6_statement_12 2 rfl rfl)
theorem dX6_statement_349 : decode cX6_statement 349 = .ok (.aload_n 0, 1) := dk_42 (dk_at dksX6_statement_12 5 rfl rfl)
theorem dX6_statement_350 : decode cX6_statement 350 = .ok (.getfield 18, 3) := dk_180 0 18 (dk_at dksX6_statement_12 6 rfl rfl)
theorem dX6_statement_353 : decode cX6_statement 353 = .ok (.aload_n 0, 1) := dk_42 (dk_at dksX6_statement_12 9 rfl rfl)
theorem dX6_statement_354 : decode cX6_statement 354 = .ok (.iconst 4, 1) := dk_7 (dk_at dksX6_statement_12 10 rfl rfl)
theorem dX6_statement_355 : decode cX6_statement 355 = .ok (.bipush 30, 2) := dk_16 30 (dk_at dksX6_statement_12 11 rfl rfl)
theorem dX6_statement_357 : decode cX6_statement 357 = .ok (.invokevirtual 126, 3) := dk_182 0 126 (dk_at dksX6_statement_12 13 rfl rfl)
theorem dX6_statement_360 : decode cX6_statement 360 = .ok (.putfield 217, 3) := dk_181 0 217 (dk_at dksX6_statement_12 16 rfl rfl)
theorem dX6_statement_363 : decode cX6_statement 363 = .ok (.goto 119, 3) := dk_167 0 119 (dk_at dksX6_statement_12 19 rfl rfl)
theorem dX6_statement_366 : decode cX6_statement 366 = .ok (.aload_n 0, 1) := dk_42 (dk_at dksX6_statement_12 22 rfl rfl)
theorem dX6_statement_367 : decode cX6_statement 367 = .ok (.iload_n 1, 1) := dk_27 (dk_at dksX6_statement_12 23 rfl rfl)
theorem dX6_statement_368 : decode cX6_statement 368 = .ok (.invokevirtual 214, 3) := dk_182 0 214 (dk_at dksX6_statement_13 0 rfl rfl)
theorem dX6_statement_371 : decode cX6_statement 371 = .ok (.aload_n 0, 1) := dk_42 (dk_at dksX6_statement_13 3 rfl rfl)
theorem dX6_statement_372 : decode cX6_statement 372 = .ok (.getfield 18, 3) := dk_180 0 18 (dk_at dksX6_statement_13 4 rfl rfl)
theorem dX6_statement_375 : decode cX6_statement 375 = .ok (.aload_n 0, 1) := dk_42 (dk_at dksX6_statement_13 7 rfl rfl)
theorem dX6_statement_376 : decode cX6_statement 376 = .ok (.iconst 0, 1) := dk_3 (dk_at dksX6_statement_13 8 rfl rfl)
theorem dX6_statement_377 : decode cX6_statement 377 = .ok (.sipush 999, 3) := dk_17 3 231 (dk_at dksX6_statement_13 9 rfl rfl)
theorem dX6_statement_380 : decode cX6_statement 380 = .ok (.invokevirtual 126, 3) := dk_182 0 126 (dk_at dksX6_statement_13 12 rfl rfl)
theorem dX6_statement_383 : decode cX6_statement 383 = .ok (.putfield 219, 3) := dk_181 0 219 (dk_at dksX6_statement_13 15 rfl rfl)
theorem dX6_statement_386 : decode cX6_statement 386 = .ok (.goto 96, 3) := dk_167 0 96 (dk_at dksX6_statement_13 18 rfl rfl)
theorem dX6_statement_389 : decode cX6_statement 389 = .ok (.aload_n 0, 1) := dk_42 (dk_at dksX6_statement_13 21 rfl rfl)
theorem dX6_statement_390 : decode cX6_statement 390 = .ok (.iload_n 1, 1) := dk_27 (dk_at dksX6_statement_13 22 rfl rfl)
theorem dX6_statement_391 : decode cX6_statement 391 = .ok (.invokevirtual 214, 3) := dk_182 0 214 (dk_at dksX6_statement_14 0 rfl rfl)
theorem dX6_statement_394 : decode cX6_statement 394 = .ok (.aload_n 0, 1) := dk_42 (dk_at dksX6_statement_14 3 rfl rfl)
theorem dX6_statement_395 : decode cX6_statement 395 = .ok (.getfield 18, 3) := dk_180 0 18 (dk_at dksX6_statement_14 4 rfl rfl)
theorem dX6_statement_398 : decode cX6_statement 398 = .ok (.iconst 1, 1) := dk_4 (dk_at dksX6_statement_14 7 rfl rfl)
theorem dX6_statement_399 : decode cX6_statement 399 = .ok (.putfield 221, 3) := dk_181 0 221 (dk_at dksX6_statement_14 8 rfl rfl)
theorem dX6_statement_402 : decode cX6_statement 402 = .ok (.goto 80, 3) := dk_167 0 80 (dk_at dksX6_statement_14 11 rfl rfl)
theorem dX6_statement_405 : decode cX6_statement 405 = .ok (.aload_n 0, 1) := dk_42 (dk_at dksX6_statement_14 14 rfl rfl)
theorem dX6_statement_406 : decode cX6_statement 406 = .ok (.aload_n 0, 1) := dk_42 (dk_at dksX6_statement_14 15 rfl rfl)
theorem dX6_statement_407 : decode cX6_statement 407 = .ok (.getfield 18, 3) := dk_180 0 18 (dk_at dksX6_statement_14 16 rfl rfl)
theorem dX6_statement_410 : decode cX6_statement 410 = .ok (.getfield 174, 3) := dk_180 0 174 (dk_at dksX6_statement_14 19 rfl rfl)
theorem dX6_statement_413 : decode cX6_statement 413 = .ok (.invokeinterface 142 1, 5) := by decide +kernel
theorem dX6_statement_418 : decode cX6_statement 418 = .ok (.bipush 8, 2) := dk_16 8 (dk_at dksX6_statement_15 5 rfl rfl)
theorem dX6_statement_420 : decode cX6_statement 420 = .ok (.invokevirtual 147, 3) := dk_182 0 147 (dk_at dksX6_statement_15 7 rfl rfl)
theorem dX6_statement_423 : decode cX6_statement 423 = .ok (.aload_n 0, 1) := dk_42 (dk_at dksX6_statement_15 10 rfl rfl)
theorem dX6_statement_424 : decode cX6_statement 424 = .ok (.getfield 18, 3) := dk_180 0 18 (dk_at dksX6_statement_15 11 rfl rfl)
theorem dX6_statement_427 : decode cX6_statement 427 = .ok (.getfield 174, 3) := dk_180 0 174 (dk_at dksX6_statement_15 14 rfl rfl)
theorem dX6_statement_430 : decode cX6_statement 430 = .ok (.new 225, 3) := dk_187 0 225 (dk_at dksX6_statement_15 17 rfl rfl)
theorem dX6_statement_433 : decode cX6_statement 433 = .ok (.dup, 1) := dk_89 (dk_at dksX6_statement_15 20 rfl rfl)
theorem dX6_statement_434 : decode cX6_statement 434 = .ok (.aload_n 0, 1) := dk_42 (dk_at dksX6_statement_15 21 rfl rfl)
theorem dX6_statement_435 : decode cX6_statement 435 = .ok (.aload_n 0, 1) := dk_42 (dk_at dksX6_statement_15 22 rfl rfl)
theorem dX6_statement_436 : decode cX6_statement 436 = .ok (.getfield 18, 3) := dk_180 0 18 (dk_at dksX6_statement_16 0 rfl rfl)
theorem dX6_statement_439 : decode cX6_statement 439 = .ok (.getfield 174, 3) := dk_180 0 174 (dk_at dksX6_statement_16 3 rfl rfl)
theorem dX6_statement_442 : decode cX6_statement 442 = .ok (.invokevirtual 150, 3) := dk_182 0 150 (dk_at dksX6_statement_16 6 rfl rfl)
theorem dX6_statement_445 : decode cX6_statement 445 = .ok (.invokespecial 227, 3) := dk_183 0 227 (dk_at dksX6_statement_16 9 rfl rfl)
theorem dX6_statement_448 : decode cX6_statement 448 = .ok (.invokeinterface 166 2, 5) := by decide +kernel
theorem dX6_statement_453 : decode cX6_statement 453 = .ok (.pop, 1) := dk_87 (dk_at dksX6_statement_16 17 rfl rfl)
theorem dX6_statement_454 : decode cX6_statement 454 = .ok (.goto 28, 3) := dk_167 0 28 (dk_at dksX6_statement_16 18 rfl rfl)
theorem dX6_statement_457 : decode cX6_statement 457 = .ok (.aload_n 0, 1) := dk_42 (dk_at dksX6_statement_16 21 rfl rfl)
theorem dX6_statement_458 : decode cX6_statement 458 = .ok (.invokevirtual 229, 3) := dk_182 0 229 (dk_at dksX6_statement_17 0 rfl rfl)
theorem dX6_statement_461 : decode cX6_statement 461 = .ok (.goto 21, 3) := dk_167 0 21 (dk_at dksX6_statement_17 3 rfl rfl)
theorem dX6_statement_464 : decode cX6_statement 464 = .ok (.aload_n 0, 1) := dk_42 (dk_at dksX6_statement_17 6 rfl rfl)
theorem dX6_statement_465 : decode cX6_statement 465 = .ok (.invokevirtual 231, 3) := dk_182 0 231 (dk_at dksX6_statement_17 7 rfl rfl)
theorem dX6_statement_468 : decode cX6_statement 468 = .ok (.goto 14, 3) := dk_167 0 14 (dk_at dksX6_statement_17 10 rfl rfl)
theorem dX6_statement_471 : decode cX6_statement 471 = .ok (.aload_n 0, 1) := dk_42 (dk_at dksX6_statement_17 13 rfl rfl)
theorem dX6_statement_472 : decode cX6_statement 472 = .ok (.invokevirtual 233, 3) := dk_182 0 233 (dk_at dksX6_statement_17 14 rfl rfl)
theorem dX6_statement_475 : decode cX6_statement 475 = .ok (.goto 7, 3) := dk_167 0 7 (dk_at dksX6_statement_17 17 rfl rfl)
theorem dX6_statement_478 : decode cX6_statement 478 = .ok (.aload_n 0, 1) := dk_42 (dk_at dksX6_statement_17 20 rfl rfl)
theorem dX6_statement_479 : decode cX6_statement 479 = .ok (.invokevirtual 235, 3) := dk_182 0 235 (dk_at dksX6_statement_17 21 rfl rfl)
theorem dX6_statement_482 : decode cX6_statement 482 = .ok (.aload_n 0, 1) := dk_42 (dk_at dksX6_statement_18 0 rfl rfl)
theorem dX6_statement_483 : decode cX6_statement 483 = .ok (.invokevirtual 135, 3) := dk_182 0 135 (dk_at dksX6_statement_18 1 rfl rfl)
theorem dX6_statement_486 : decode cX6_statement 486 = .ok (.return_, 1) := dk_177 (dk_at dksX6_statement_18 4 rfl rfl)
abbrev cX6_once : ByteArray := prog_12_method_11_code
def yX6_once : MethodName := ⟨RX6, "once", "(I)V"⟩
def dkwX6_once_1 : List UInt8 := [182, 0, 88, 42, 180, 0, 25, 27, 182, 0, 114, 42, 42, 182, 0, 92, 182, 0, 106, 177]
abbrev dktX6_once_1 : List UInt8 := dkwX6_once_1 ++ []
def dkwX6_once_0 : List UInt8 := [42, 42, 180, 0, 25, 27, 182, 0, 110, 154, 0, 7, 4, 167, 0, 4, 3, 6, 42, 180, 0, 29]
abbrev dktX6_once_0 : List UInt8 := dkwX6_once_0 ++ dktX6_once_1
theorem dksX6_once_0 : cX6_once.data.toList.drop 0 = dktX6_once_0 := by decide +kernel
theorem dksX6_once_1 : cX6_once.data.toList.drop 22 = dktX6_once_1 := dk_seg dksX6_once_0 22 rfl rfl
theorem dX6_once_0 : decode cX6_once 0 = .ok (.aload_n 0, 1) := dk_42 (dk_at dksX6_once_0 0 rfl rfl)
theorem dX6_once_1 : decode cX6_once 1 = .ok (.aload_n 0, 1) := dk_42 (dk_at dksX6_once_0 1 rfl rfl)
theorem dX6_once_2 : decode cX6_once 2 = .ok (.getfield 25, 3) := dk_180 0 25 (dk_at dksX6_once_0 2 rfl rfl)
theorem dX6_once_5 : decode cX6_once 5 = .ok (.iload_n 1, 1) := dk_27 (dk_at dksX6_once_0 5 rfl rfl)
theorem dX6_once_6 : decode cX6_once 6 = .ok (.invokevirtual 110, 3) := dk_182 0 110 (dk_at dksX6_once_0 6 rfl rfl)
theorem dX6_once_9 : decode cX6_once 9 = .ok (.ifCond .ne 7, 3) := dk_154 0 7 (dk_at dksX6_once_0 9 rfl rfl)
theorem dX6_once_12 : decode cX6_once 12 = .ok (.iconst 1, 1) := dk_4 (dk_at dksX6_once_0 12 rfl rfl)
theorem dX6_once_13 : decode cX6_once 13 = .ok (.goto 4, 3) := dk_167 0 4 (dk_at dksX6_once_0 13 rfl rfl)
theorem dX6_once_16 : decode cX6_once 16 = .ok (.iconst 0, 1) := dk_3 (dk_at dksX6_once_0 16 rfl rfl)
theorem dX6_once_17 : decode cX6_once 17 = .ok (.iconst 3, 1) := dk_6 (dk_at dksX6_once_0 17 rfl rfl)
theorem dX6_once_18 : decode cX6_once 18 = .ok (.aload_n 0, 1) := dk_42 (dk_at dksX6_once_0 18 rfl rfl)
theorem dX6_once_19 : decode cX6_once 19 = .ok (.getfield 29, 3) := dk_180 0 29 (dk_at dksX6_once_0 19 rfl rfl)
theorem dX6_once_22 : decode cX6_once 22 = .ok (.invokevirtual 88, 3) := dk_182 0 88 (dk_at dksX6_once_1 0 rfl rfl)
theorem dX6_once_25 : decode cX6_once 25 = .ok (.aload_n 0, 1) := dk_42 (dk_at dksX6_once_1 3 rfl rfl)
theorem dX6_once_26 : decode cX6_once 26 = .ok (.getfield 25, 3) := dk_180 0 25 (dk_at dksX6_once_1 4 rfl rfl)
theorem dX6_once_29 : decode cX6_once 29 = .ok (.iload_n 1, 1) := dk_27 (dk_at dksX6_once_1 7 rfl rfl)
theorem dX6_once_30 : decode cX6_once 30 = .ok (.invokevirtual 114, 3) := dk_182 0 114 (dk_at dksX6_once_1 8 rfl rfl)
theorem dX6_once_33 : decode cX6_once 33 = .ok (.aload_n 0, 1) := dk_42 (dk_at dksX6_once_1 11 rfl rfl)
theorem dX6_once_34 : decode cX6_once 34 = .ok (.aload_n 0, 1) := dk_42 (dk_at dksX6_once_1 12 rfl rfl)
theorem dX6_once_35 : decode cX6_once 35 = .ok (.invokevirtual 92, 3) := dk_182 0 92 (dk_at dksX6_once_1 13 rfl rfl)
theorem dX6_once_38 : decode cX6_once 38 = .ok (.invokevirtual 106, 3) := dk_182 0 106 (dk_at dksX6_once_1 16 rfl rfl)
theorem dX6_once_41 : decode cX6_once 41 = .ok (.return_, 1) := dk_177 (dk_at dksX6_once_1 19 rfl rfl)
abbrev cX6_room : ByteArray := prog_12_method_12_code
def yX6_room : MethodName := ⟨RX6, "room", "(II)V"⟩
def dkwX6_room_1 : List UInt8 := [182, 0, 106, 177]
abbrev dktX6_room_1 : List UInt8 := dkwX6_room_1 ++ []
def dkwX6_room_0 : List UInt8 := [42, 27, 28, 162, 0, 7, 4, 167, 0, 4, 3, 8, 42, 180, 0, 29, 182, 0, 88, 42, 42, 182, 0, 92]
abbrev dktX6_room_0 : List UInt8 := dkwX6_room_0 ++ dktX6_room_1
theorem dksX6_room_0 : cX6_room.data.toList.drop 0 = dktX6_room_0 := by decide +kernel
theorem dksX6_room_1 : cX6_room.data.toList.drop 24 = dktX6_room_1 := dk_seg dksX6_room_0 24 rfl rfl
theorem dX6_room_0 : decode cX6_room 0 = .ok (.aload_n 0, 1) := dk_42 (dk_at dksX6_room_0 0 rfl rfl)
theorem dX6_room_1 : decode cX6_room 1 = .ok (.iload_n 1, 1) := dk_27 (dk_at dksX6_room_0 1 rfl rfl)
theorem dX6_room_2 : decode cX6_room 2 = .ok (.iload_n 2, 1) := dk_28 (dk_at dksX6_room_0 2 rfl rfl)
theorem dX6_room_3 : decode cX6_room 3 = .ok (.if_icmp .ge 7, 3) := dk_162 0 7 (dk_at dksX6_room_0 3 rfl rfl)
theorem dX6_room_6 : decode cX6_room 6 = .ok (.iconst 1, 1) := dk_4 (dk_at dksX6_room_0 6 rfl rfl)
theorem dX6_room_7 : decode cX6_room 7 = .ok (.goto 4, 3) := dk_167 0 4 (dk_at dksX6_room_0 7 rfl rfl)
theorem dX6_room_10 : decode cX6_room 10 = .ok (.iconst 0, 1) := dk_3 (dk_at dksX6_room_0 10 rfl rfl)
theorem dX6_room_11 : decode cX6_room 11 = .ok (.iconst 5, 1) := dk_8 (dk_at dksX6_room_0 11 rfl rfl)
theorem dX6_room_12 : decode cX6_room 12 = .ok (.aload_n 0, 1) := dk_42 (dk_at dksX6_room_0 12 rfl rfl)
theorem dX6_room_13 : decode cX6_room 13 = .ok (.getfield 29, 3) := dk_180 0 29 (dk_at dksX6_room_0 13 rfl rfl)
theorem dX6_room_16 : decode cX6_room 16 = .ok (.invokevirtual 88, 3) := dk_182 0 88 (dk_at dksX6_room_0 16 rfl rfl)
theorem dX6_room_19 : decode cX6_room 19 = .ok (.aload_n 0, 1) := dk_42 (dk_at dksX6_room_0 19 rfl rfl)
theorem dX6_room_20 : decode cX6_room 20 = .ok (.aload_n 0, 1) := dk_42 (dk_at dksX6_room_0 20 rfl rfl)
theorem dX6_room_21 : decode cX6_room 21 = .ok (.invokevirtual 92, 3) := dk_182 0 92 (dk_at dksX6_room_0 21 rfl rfl)
theorem dX6_room_24 : decode cX6_room 24 = .ok (.invokevirtual 106, 3) := dk_182 0 106 (dk_at dksX6_room_1 0 rfl rfl)
theorem dX6_room_27 : decode cX6_room 27 = .ok (.return_, 1) := dk_177 (dk_at dksX6_room_1 3 rfl rfl)
abbrev cX6_newName : ByteArray := prog_12_method_9_code
def yX6_newName : MethodName := ⟨RX6, "newName", "(Ljava/util/List;)Ljava/lang/String;"⟩
def dkwX6_newName_1 : List UInt8 := [180, 0, 29, 182, 0, 88, 42, 44, 182, 0, 106, 44, 176]
abbrev dktX6_newName_1 : List UInt8 := dkwX6_newName_1 ++ []
def dkwX6_newName_0 : List UInt8 := [42, 182, 0, 97, 77, 42, 43, 44, 184, 0, 100, 2, 160, 0, 7, 4, 167, 0, 4, 3, 6, 42]
abbrev dktX6_newName_0 : List UInt8 := dkwX6_newName_0 ++ dktX6_newName_1
theorem dksX6_newName_0 : cX6_newName.data.toList.drop 0 = dktX6_newName_0 := by decide +kernel
theorem dksX6_newName_1 : cX6_newName.data.toList.drop 22 = dktX6_newName_1 := dk_seg dksX6_newName_0 22 rfl rfl
theorem dX6_newName_0 : decode cX6_newName 0 = .ok (.aload_n 0, 1) := dk_42 (dk_at dksX6_newName_0 0 rfl rfl)
theorem dX6_newName_1 : decode cX6_newName 1 = .ok (.invokevirtual 97, 3) := dk_182 0 97 (dk_at dksX6_newName_0 1 rfl rfl)
theorem dX6_newName_4 : decode cX6_newName 4 = .ok (.astore_n 2, 1) := dk_77 (dk_at dksX6_newName_0 4 rfl rfl)
theorem dX6_newName_5 : decode cX6_newName 5 = .ok (.aload_n 0, 1) := dk_42 (dk_at dksX6_newName_0 5 rfl rfl)
theorem dX6_newName_6 : decode cX6_newName 6 = .ok (.aload_n 1, 1) := dk_43 (dk_at dksX6_newName_0 6 rfl rfl)
theorem dX6_newName_7 : decode cX6_newName 7 = .ok (.aload_n 2, 1) := dk_44 (dk_at dksX6_newName_0 7 rfl rfl)
theorem dX6_newName_8 : decode cX6_newName 8 = .ok (.invokestatic 100, 3) := dk_184 0 100 (dk_at dksX6_newName_0 8 rfl rfl)
theorem dX6_newName_11 : decode cX6_newName 11 = .ok (.iconst (-1), 1) := dk_2 (dk_at dksX6_newName_0 11 rfl rfl)
theorem dX6_newName_12 : decode cX6_newName 12 = .ok (.if_icmp .ne 7, 3) := dk_160 0 7 (dk_at dksX6_newName_0 12 rfl rfl)
theorem dX6_newName_15 : decode cX6_newName 15 = .ok (.iconst 1, 1) := dk_4 (dk_at dksX6_newName_0 15 rfl rfl)
theorem dX6_newName_16 : decode cX6_newName 16 = .ok (.goto 4, 3) := dk_167 0 4 (dk_at dksX6_newName_0 16 rfl rfl)
theorem dX6_newName_19 : decode cX6_newName 19 = .ok (.iconst 0, 1) := dk_3 (dk_at dksX6_newName_0 19 rfl rfl)
theorem dX6_newName_20 : decode cX6_newName 20 = .ok (.iconst 3, 1) := dk_6 (dk_at dksX6_newName_0 20 rfl rfl)
theorem dX6_newName_21 : decode cX6_newName 21 = .ok (.aload_n 0, 1) := dk_42 (dk_at dksX6_newName_0 21 rfl rfl)
theorem dX6_newName_22 : decode cX6_newName 22 = .ok (.getfield 29, 3) := dk_180 0 29 (dk_at dksX6_newName_1 0 rfl rfl)
theorem dX6_newName_25 : decode cX6_newName 25 = .ok (.invokevirtual 88, 3) := dk_182 0 88 (dk_at dksX6_newName_1 3 rfl rfl)
theorem dX6_newName_28 : decode cX6_newName 28 = .ok (.aload_n 0, 1) := dk_42 (dk_at dksX6_newName_1 6 rfl rfl)
theorem dX6_newName_29 : decode cX6_newName 29 = .ok (.aload_n 2, 1) := dk_44 (dk_at dksX6_newName_1 7 rfl rfl)
theorem dX6_newName_30 : decode cX6_newName 30 = .ok (.invokevirtual 106, 3) := dk_182 0 106 (dk_at dksX6_newName_1 8 rfl rfl)
theorem dX6_newName_33 : decode cX6_newName 33 = .ok (.aload_n 2, 1) := dk_44 (dk_at dksX6_newName_1 11 rfl rfl)
theorem dX6_newName_34 : decode cX6_newName 34 = .ok (.areturn, 1) := dk_176 (dk_at dksX6_newName_1 12 rfl rfl)
abbrev cX6_name : ByteArray := prog_12_method_8_code
def yX6_name : MethodName := ⟨RX6, "name", "()Ljava/lang/String;"⟩
def dkwX6_name_1 : List UInt8 := [182, 0, 88, 43, 176]
abbrev dktX6_name_1 : List UInt8 := dkwX6_name_1 ++ []
def dkwX6_name_0 : List UInt8 := [42, 182, 0, 92, 76, 42, 43, 182, 0, 68, 133, 10, 20, 0, 95, 184, 0, 56, 4, 42, 180, 0, 29]
abbrev dktX6_name_0 : List UInt8 := dkwX6_name_0 ++ dktX6_name_1
theorem dksX6_name_0 : cX6_name.data.toList.drop 0 = dktX6_name_0 := by decide +kernel
theorem dksX6_name_1 : cX6_name.data.toList.drop 23 = dktX6_name_1 := dk_seg dksX6_name_0 23 rfl rfl
theorem dX6_name_0 : decode cX6_name 0 = .ok (.aload_n 0, 1) := dk_42 (dk_at dksX6_name_0 0 rfl rfl)
theorem dX6_name_1 : decode cX6_name 1 = .ok (.invokevirtual 92, 3) := dk_182 0 92 (dk_at dksX6_name_0 1 rfl rfl)
theorem dX6_name_4 : decode cX6_name 4 = .ok (.astore_n 1, 1) := dk_76 (dk_at dksX6_name_0 4 rfl rfl)
theorem dX6_name_5 : decode cX6_name 5 = .ok (.aload_n 0, 1) := dk_42 (dk_at dksX6_name_0 5 rfl rfl)
theorem dX6_name_6 : decode cX6_name 6 = .ok (.aload_n 1, 1) := dk_43 (dk_at dksX6_name_0 6 rfl rfl)
theorem dX6_name_7 : decode cX6_name 7 = .ok (.invokevirtual 68, 3) := dk_182 0 68 (dk_at dksX6_name_0 7 rfl rfl)
theorem dX6_name_10 : decode cX6_name 10 = .ok (.i2l, 1) := dk_133 (dk_at dksX6_name_0 10 rfl rfl)
theorem dX6_name_11 : decode cX6_name 11 = .ok (.lconst 1, 1) := dk_10 (dk_at dksX6_name_0 11 rfl rfl)
theorem dX6_name_12 : decode cX6_name 12 = .ok (.ldc2_w 95, 3) := dk_20 0 95 (dk_at dksX6_name_0 12 rfl rfl)
theorem dX6_name_15 : decode cX6_name 15 = .ok (.invokestatic 56, 3) := dk_184 0 56 (dk_at dksX6_name_0 15 rfl rfl)
theorem dX6_name_18 : decode cX6_name 18 = .ok (.iconst 1, 1) := dk_4 (dk_at dksX6_name_0 18 rfl rfl)
theorem dX6_name_19 : decode cX6_name 19 = .ok (.aload_n 0, 1) := dk_42 (dk_at dksX6_name_0 19 rfl rfl)
theorem dX6_name_20 : decode cX6_name 20 = .ok (.getfield 29, 3) := dk_180 0 29 (dk_at dksX6_name_0 20 rfl rfl)
theorem dX6_name_23 : decode cX6_name 23 = .ok (.invokevirtual 88, 3) := dk_182 0 88 (dk_at dksX6_name_1 0 rfl rfl)
theorem dX6_name_26 : decode cX6_name 26 = .ok (.aload_n 1, 1) := dk_43 (dk_at dksX6_name_1 3 rfl rfl)
theorem dX6_name_27 : decode cX6_name 27 = .ok (.areturn, 1) := dk_176 (dk_at dksX6_name_1 4 rfl rfl)
abbrev cX6_village : ByteArray := prog_12_method_15_code
def yX6_village : MethodName := ⟨RX6, "village", "()V"⟩
def dkwX6_village_6 : List UInt8 := [185, 0, 166, 2, 0, 87, 177]
abbrev dktX6_village_6 : List UInt8 := dkwX6_village_6 ++ []
def dkwX6_village_5 : List UInt8 := [180, 0, 161, 4, 96, 17, 3, 231, 182, 0, 126, 181, 0, 164, 42, 180, 0, 18, 180, 0, 138, 25, 4]
abbrev dktX6_village_5 : List UInt8 := dkwX6_village_5 ++ dktX6_village_6
def dkwX6_village_4 : List UInt8 := [182, 0, 92, 18, 159, 182, 0, 122, 153, 0, 28, 42, 18, 159, 182, 0, 106, 25, 4, 42, 25, 4]
abbrev dktX6_village_4 : List UInt8 := dkwX6_village_4 ++ dktX6_village_5
def dkwX6_village_3 : List UInt8 := [185, 0, 142, 1, 0, 43, 28, 29, 42, 3, 17, 3, 231, 182, 0, 126, 183, 0, 156, 58, 4, 42]
abbrev dktX6_village_3 : List UInt8 := dkwX6_village_3 ++ dktX6_village_4
def dkwX6_village_2 : List UInt8 := [42, 180, 0, 18, 180, 0, 132, 4, 100, 182, 0, 126, 62, 187, 0, 154, 89, 42, 180, 0, 18, 180, 0, 138]
abbrev dktX6_village_2 : List UInt8 := dkwX6_village_2 ++ dktX6_village_3
def dkwX6_village_1 : List UInt8 := [180, 0, 138, 182, 0, 150, 76, 42, 3, 42, 180, 0, 18, 180, 0, 129, 4, 100, 182, 0, 126, 61, 42, 3]
abbrev dktX6_village_1 : List UInt8 := dkwX6_village_1 ++ dktX6_village_2
def dkwX6_village_0 : List UInt8 := [42, 42, 180, 0, 18, 180, 0, 138, 185, 0, 142, 1, 0, 16, 24, 182, 0, 147, 42, 42, 180, 0, 18]
abbrev dktX6_village_0 : List UInt8 := dkwX6_village_0 ++ dktX6_village_1
theorem dksX6_village_0 : cX6_village.data.toList.drop 0 = dktX6_village_0 := by decide +kernel
theorem dksX6_village_1 : cX6_village.data.toList.drop 23 = dktX6_village_1 := dk_seg dksX6_village_0 23 rfl rfl
theorem dksX6_village_2 : cX6_village.data.toList.drop 47 = dktX6_village_2 := dk_seg dksX6_village_1 24 rfl rfl
theorem dksX6_village_3 : cX6_village.data.toList.drop 71 = dktX6_village_3 := dk_seg dksX6_village_2 24 rfl rfl
theorem dksX6_village_4 : cX6_village.data.toList.drop 93 = dktX6_village_4 := dk_seg dksX6_village_3 22 rfl rfl
theorem dksX6_village_5 : cX6_village.data.toList.drop 115 = dktX6_village_5 := dk_seg dksX6_village_4 22 rfl rfl
theorem dksX6_village_6 : cX6_village.data.toList.drop 138 = dktX6_village_6 := dk_seg dksX6_village_5 23 rfl rfl
theorem dX6_village_0 : decode cX6_village 0 = .ok (.aload_n 0, 1) := dk_42 (dk_at dksX6_village_0 0 rfl rfl)
theorem dX6_village_1 : decode cX6_village 1 = .ok (.aload_n 0, 1) := dk_42 (dk_at dksX6_village_0 1 rfl rfl)
theorem dX6_village_2 : decode cX6_village 2 = .ok (.getfield 18, 3) := dk_180 0 18 (dk_at dksX6_village_0 2 rfl rfl)
theorem dX6_village_5 : decode cX6_village 5 = .ok (.getfield 138, 3) := dk_180 0 138 (dk_at dksX6_village_0 5 rfl rfl)
theorem dX6_village_8 : decode cX6_village 8 = .ok (.invokeinterface 142 1, 5) := by decide +kernel
theorem dX6_village_13 : decode cX6_village 13 = .ok (.bipush 24, 2) := dk_16 24 (dk_at dksX6_village_0 13 rfl rfl)
theorem dX6_village_15 : decode cX6_village 15 = .ok (.invokevirtual 147, 3) := dk_182 0 147 (dk_at dksX6_village_0 15 rfl rfl)
theorem dX6_village_18 : decode cX6_village 18 = .ok (.aload_n 0, 1) := dk_42 (dk_at dksX6_village_0 18 rfl rfl)
theorem dX6_village_19 : decode cX6_village 19 = .ok (.aload_n 0, 1) := dk_42 (dk_at dksX6_village_0 19 rfl rfl)
theorem dX6_village_20 : decode cX6_village 20 = .ok (.getfield 18, 3) := dk_180 0 18 (dk_at dksX6_village_0 20 rfl rfl)
theorem dX6_village_23 : decode cX6_village 23 = .ok (.getfield 138, 3) := dk_180 0 138 (dk_at dksX6_village_1 0 rfl rfl)
theorem dX6_village_26 : decode cX6_village 26 = .ok (.invokevirtual 150, 3) := dk_182 0 150 (dk_at dksX6_village_1 3 rfl rfl)
theorem dX6_village_29 : decode cX6_village 29 = .ok (.astore_n 1, 1) := dk_76 (dk_at dksX6_village_1 6 rfl rfl)
theorem dX6_village_30 : decode cX6_village 30 = .ok (.aload_n 0, 1) := dk_42 (dk_at dksX6_village_1 7 rfl rfl)
theorem dX6_village_31 : decode cX6_village 31 = .ok (.iconst 0, 1) := dk_3 (dk_at dksX6_village_1 8 rfl rfl)
theorem dX6_village_32 : decode cX6_village 32 = .ok (.aload_n 0, 1) := dk_42 (dk_at dksX6_village_1 9 rfl rfl)
theorem dX6_village_33 : decode cX6_village 33 = .ok (.getfield 18, 3) := dk_180 0 18 (dk_at dksX6_village_1 10 rfl rfl)
theorem dX6_village_36 : decode cX6_village 36 = .ok (.getfield 129, 3) := dk_180 0 129 (dk_at dksX6_village_1 13 rfl rfl)
theorem dX6_village_39 : decode cX6_village 39 = .ok (.iconst 1, 1) := dk_4 (dk_at dksX6_village_1 16 rfl rfl)
theorem dX6_village_40 : decode cX6_village 40 = .ok (.isub, 1) := dk_100 (dk_at dksX6_village_1 17 rfl rfl)
theorem dX6_village_41 : decode cX6_village 41 = .ok (.invokevirtual 126, 3) := dk_182 0 126 (dk_at dksX6_village_1 18 rfl rfl)
theorem dX6_village_44 : decode cX6_village 44 = .ok (.istore_n 2, 1) := dk_61 (dk_at dksX6_village_1 21 rfl rfl)
theorem dX6_village_45 : decode cX6_village 45 = .ok (.aload_n 0, 1) := dk_42 (dk_at dksX6_village_1 22 rfl rfl)
theorem dX6_village_46 : decode cX6_village 46 = .ok (.iconst 0, 1) := dk_3 (dk_at dksX6_village_1 23 rfl rfl)
theorem dX6_village_47 : decode cX6_village 47 = .ok (.aload_n 0, 1) := dk_42 (dk_at dksX6_village_2 0 rfl rfl)
theorem dX6_village_48 : decode cX6_village 48 = .ok (.getfield 18, 3) := dk_180 0 18 (dk_at dksX6_village_2 1 rfl rfl)
theorem dX6_village_51 : decode cX6_village 51 = .ok (.getfield 132, 3) := dk_180 0 132 (dk_at dksX6_village_2 4 rfl rfl)
theorem dX6_village_54 : decode cX6_village 54 = .ok (.iconst 1, 1) := dk_4 (dk_at dksX6_village_2 7 rfl rfl)
theorem dX6_village_55 : decode cX6_village 55 = .ok (.isub, 1) := dk_100 (dk_at dksX6_village_2 8 rfl rfl)
theorem dX6_village_56 : decode cX6_village 56 = .ok (.invokevirtual 126, 3) := dk_182 0 126 (dk_at dksX6_village_2 9 rfl rfl)
theorem dX6_village_59 : decode cX6_village 59 = .ok (.istore_n 3, 1) := dk_62 (dk_at dksX6_village_2 12 rfl rfl)
theorem dX6_village_60 : decode cX6_village 60 = .ok (.new 154, 3) := dk_187 0 154 (dk_at dksX6_village_2 13 rfl rfl)
theorem dX6_village_63 : decode cX6_village 63 = .ok (.dup, 1) := dk_89 (dk_at dksX6_village_2 16 rfl rfl)
theorem dX6_village_64 : decode cX6_village 64 = .ok (.aload_n 0, 1) := dk_42 (dk_at dksX6_village_2 17 rfl rfl)
theorem dX6_village_65 : decode cX6_village 65 = .ok (.getfield 18, 3) := dk_180 0 18 (dk_at dksX6_village_2 18 rfl rfl)
theorem dX6_village_68 : decode cX6_village 68 = .ok (.getfield 138, 3) := dk_180 0 138 (dk_at dksX6_village_2 21 rfl rfl)
theorem dX6_village_71 : decode cX6_village 71 = .ok (.invokeinterface 142 1, 5) := by decide +kernel
theorem dX6_village_76 : decode cX6_village 76 = .ok (.aload_n 1, 1) := dk_43 (dk_at dksX6_village_3 5 rfl rfl)
theorem dX6_village_77 : decode cX6_village 77 = .ok (.iload_n 2, 1) := dk_28 (dk_at dksX6_village_3 6 rfl rfl)
theorem dX6_village_78 : decode cX6_village 78 = .ok (.iload_n 3, 1) := dk_29 (dk_at dksX6_village_3 7 rfl rfl)
theorem dX6_village_79 : decode cX6_village 79 = .ok (.aload_n 0, 1) := dk_42 (dk_at dksX6_village_3 8 rfl rfl)
theorem dX6_village_80 : decode cX6_village 80 = .ok (.iconst 0, 1) := dk_3 (dk_at dksX6_village_3 9 rfl rfl)
theorem dX6_village_81 : decode cX6_village 81 = .ok (.sipush 999, 3) := dk_17 3 231 (dk_at dksX6_village_3 10 rfl rfl)
theorem dX6_village_84 : decode cX6_village 84 = .ok (.invokevirtual 126, 3) := dk_182 0 126 (dk_at dksX6_village_3 13 rfl rfl)
theorem dX6_village_87 : decode cX6_village 87 = .ok (.invokespecial 156, 3) := dk_183 0 156 (dk_at dksX6_village_3 16 rfl rfl)
theorem dX6_village_90 : decode cX6_village 90 = .ok (.astore 4, 2) := dk_58 4 (dk_at dksX6_village_3 19 rfl rfl)
theorem dX6_village_92 : decode cX6_village 92 = .ok (.aload_n 0, 1) := dk_42 (dk_at dksX6_village_3 21 rfl rfl)
theorem dX6_village_93 : decode cX6_village 93 = .ok (.invokevirtual 92, 3) := dk_182 0 92 (dk_at dksX6_village_4 0 rfl rfl)
theorem dX6_village_96 : decode cX6_village 96 = .ok (.ldc 159, 2) := dk_18 159 (dk_at dksX6_village_4 3 rfl rfl)
theorem dX6_village_98 : decode cX6_village 98 = .ok (.invokevirtual 122, 3) := dk_182 0 122 (dk_at dksX6_village_4 5 rfl rfl)
theorem dX6_village_101 : decode cX6_village 101 = .ok (.ifCond .eq 28, 3) := dk_153 0 28 (dk_at dksX6_village_4 8 rfl rfl)
theorem dX6_village_104 : decode cX6_village 104 = .ok (.aload_n 0, 1) := dk_42 (dk_at dksX6_village_4 11 rfl rfl)
theorem dX6_village_105 : decode cX6_village 105 = .ok (.ldc 159, 2) := dk_18 159 (dk_at dksX6_village_4 12 rfl rfl)
theorem dX6_village_107 : decode cX6_village 107 = .ok (.invokevirtual 106, 3) := dk_182 0 106 (dk_at dksX6_village_4 14 rfl rfl)
theorem dX6_village_110 : decode cX6_village 110 = .ok (.aload 4, 2) := dk_25 4 (dk_at dksX6_village_4 17 rfl rfl)
theorem dX6_village_112 : decode cX6_village 112 = .ok (.aload_n 0, 1) := dk_42 (dk_at dksX6_village_4 19 rfl rfl)
theorem dX6_village_113 : decode cX6_village 113 = .ok (.aload 4, 2) := dk_25 4 (dk_at dksX6_village_4 20 rfl rfl)
theorem dX6_village_115 : decode cX6_village 115 = .ok (.getfield 161, 3) := dk_180 0 161 (dk_at dksX6_village_5 0 rfl rfl)
theorem dX6_village_118 : decode cX6_village 118 = .ok (.iconst 1, 1) := dk_4 (dk_at dksX6_village_5 3 rfl rfl)
theorem dX6_village_119 : decode cX6_village 119 = .ok (.iadd, 1) := dk_96 (dk_at dksX6_village_5 4 rfl rfl)
theorem dX6_village_120 : decode cX6_village 120 = .ok (.sipush 999, 3) := dk_17 3 231 (dk_at dksX6_village_5 5 rfl rfl)
theorem dX6_village_123 : decode cX6_village 123 = .ok (.invokevirtual 126, 3) := dk_182 0 126 (dk_at dksX6_village_5 8 rfl rfl)
theorem dX6_village_126 : decode cX6_village 126 = .ok (.putfield 164, 3) := dk_181 0 164 (dk_at dksX6_village_5 11 rfl rfl)
theorem dX6_village_129 : decode cX6_village 129 = .ok (.aload_n 0, 1) := dk_42 (dk_at dksX6_village_5 14 rfl rfl)
theorem dX6_village_130 : decode cX6_village 130 = .ok (.getfield 18, 3) := dk_180 0 18 (dk_at dksX6_village_5 15 rfl rfl)
theorem dX6_village_133 : decode cX6_village 133 = .ok (.getfield 138, 3) := dk_180 0 138 (dk_at dksX6_village_5 18 rfl rfl)
theorem dX6_village_136 : decode cX6_village 136 = .ok (.aload 4, 2) := dk_25 4 (dk_at dksX6_village_5 21 rfl rfl)
theorem dX6_village_138 : decode cX6_village 138 = .ok (.invokeinterface 166 2, 5) := by decide +kernel
theorem dX6_village_143 : decode cX6_village 143 = .ok (.pop, 1) := dk_87 (dk_at dksX6_village_6 5 rfl rfl)
theorem dX6_village_144 : decode cX6_village 144 = .ok (.return_, 1) := dk_177 (dk_at dksX6_village_6 6 rfl rfl)
abbrev cX6_redraw : ByteArray := prog_12_method_16_code
def yX6_redraw : MethodName := ⟨RX6, "redraw", "()V"⟩
def dkwX6_redraw_5 : List UInt8 := [180, 0, 174, 182, 0, 177, 183, 0, 181, 185, 0, 166, 2, 0, 87, 177]
abbrev dktX6_redraw_5 : List UInt8 := dkwX6_redraw_5 ++ []
def dkwX6_redraw_4 : List UInt8 := [180, 0, 18, 180, 0, 169, 187, 0, 172, 89, 27, 28, 29, 21, 4, 21, 5, 42, 42, 180, 0, 18]
abbrev dktX6_redraw_4 : List UInt8 := dkwX6_redraw_4 ++ dktX6_redraw_5
def dkwX6_redraw_3 : List UInt8 := [182, 0, 126, 54, 4, 42, 4, 42, 180, 0, 18, 180, 0, 132, 29, 100, 182, 0, 126, 54, 5, 42]
abbrev dktX6_redraw_3 : List UInt8 := dkwX6_redraw_3 ++ dktX6_redraw_4
def dkwX6_redraw_2 : List UInt8 := [180, 0, 18, 180, 0, 132, 4, 100, 182, 0, 126, 62, 42, 4, 42, 180, 0, 18, 180, 0, 129, 28, 100]
abbrev dktX6_redraw_2 : List UInt8 := dkwX6_redraw_2 ++ dktX6_redraw_3
def dkwX6_redraw_1 : List UInt8 := [182, 0, 126, 60, 42, 3, 42, 180, 0, 18, 180, 0, 129, 4, 100, 182, 0, 126, 61, 42, 3, 42]
abbrev dktX6_redraw_1 : List UInt8 := dkwX6_redraw_1 ++ dktX6_redraw_2
def dkwX6_redraw_0 : List UInt8 := [42, 42, 180, 0, 18, 180, 0, 169, 185, 0, 142, 1, 0, 16, 16, 182, 0, 147, 42, 3, 17, 3, 231]
abbrev dktX6_redraw_0 : List UInt8 := dkwX6_redraw_0 ++ dktX6_redraw_1
theorem dksX6_redraw_0 : cX6_redraw.data.toList.drop 0 = dktX6_redraw_0 := by decide +kernel
theorem dksX6_redraw_1 : cX6_redraw.data.toList.drop 23 = dktX6_redraw_1 := dk_seg dksX6_redraw_0 23 rfl rfl
theorem dksX6_redraw_2 : cX6_redraw.data.toList.drop 45 = dktX6_redraw_2 := dk_seg dksX6_redraw_1 22 rfl rfl
theorem dksX6_redraw_3 : cX6_redraw.data.toList.drop 68 = dktX6_redraw_3 := dk_seg dksX6_redraw_2 23 rfl rfl
theorem dksX6_redraw_4 : cX6_redraw.data.toList.drop 90 = dktX6_redraw_4 := dk_seg dksX6_redraw_3 22 rfl rfl
theorem dksX6_redraw_5 : cX6_redraw.data.toList.drop 112 = dktX6_redraw_5 := dk_seg dksX6_redraw_4 22 rfl rfl
theorem dX6_redraw_0 : decode cX6_redraw 0 = .ok (.aload_n 0, 1) := dk_42 (dk_at dksX6_redraw_0 0 rfl rfl)
theorem dX6_redraw_1 : decode cX6_redraw 1 = .ok (.aload_n 0, 1) := dk_42 (dk_at dksX6_redraw_0 1 rfl rfl)
theorem dX6_redraw_2 : decode cX6_redraw 2 = .ok (.getfield 18, 3) := dk_180 0 18 (dk_at dksX6_redraw_0 2 rfl rfl)
theorem dX6_redraw_5 : decode cX6_redraw 5 = .ok (.getfield 169, 3) := dk_180 0 169 (dk_at dksX6_redraw_0 5 rfl rfl)
theorem dX6_redraw_8 : decode cX6_redraw 8 = .ok (.invokeinterface 142 1, 5) := by decide +kernel
theorem dX6_redraw_13 : decode cX6_redraw 13 = .ok (.bipush 16, 2) := dk_16 16 (dk_at dksX6_redraw_0 13 rfl rfl)
theorem dX6_redraw_15 : decode cX6_redraw 15 = .ok (.invokevirtual 147, 3) := dk_182 0 147 (dk_at dksX6_redraw_0 15 rfl rfl)
theorem dX6_redraw_18 : decode cX6_redraw 18 = .ok (.aload_n 0, 1) := dk_42 (dk_at dksX6_redraw_0 18 rfl rfl)
theorem dX6_redraw_19 : decode cX6_redraw 19 = .ok (.iconst 0, 1) := dk_3 (dk_at dksX6_redraw_0 19 rfl rfl)
theorem dX6_redraw_20 : decode cX6_redraw 20 = .ok (.sipush 999, 3) := dk_17 3 231 (dk_at dksX6_redraw_0 20 rfl rfl)
theorem dX6_redraw_23 : decode cX6_redraw 23 = .ok (.invokevirtual 126, 3) := dk_182 0 126 (dk_at dksX6_redraw_1 0 rfl rfl)
theorem dX6_redraw_26 : decode cX6_redraw 26 = .ok (.istore_n 1, 1) := dk_60 (dk_at dksX6_redraw_1 3 rfl rfl)
theorem dX6_redraw_27 : decode cX6_redraw 27 = .ok (.aload_n 0, 1) := dk_42 (dk_at dksX6_redraw_1 4 rfl rfl)
theorem dX6_redraw_28 : decode cX6_redraw 28 = .ok (.iconst 0, 1) := dk_3 (dk_at dksX6_redraw_1 5 rfl rfl)
theorem dX6_redraw_29 : decode cX6_redraw 29 = .ok (.aload_n 0, 1) := dk_42 (dk_at dksX6_redraw_1 6 rfl rfl)
theorem dX6_redraw_30 : decode cX6_redraw 30 = .ok (.getfield 18, 3) := dk_180 0 18 (dk_at dksX6_redraw_1 7 rfl rfl)
theorem dX6_redraw_33 : decode cX6_redraw 33 = .ok (.getfield 129, 3) := dk_180 0 129 (dk_at dksX6_redraw_1 10 rfl rfl)
theorem dX6_redraw_36 : decode cX6_redraw 36 = .ok (.iconst 1, 1) := dk_4 (dk_at dksX6_redraw_1 13 rfl rfl)
theorem dX6_redraw_37 : decode cX6_redraw 37 = .ok (.isub, 1) := dk_100 (dk_at dksX6_redraw_1 14 rfl rfl)
theorem dX6_redraw_38 : decode cX6_redraw 38 = .ok (.invokevirtual 126, 3) := dk_182 0 126 (dk_at dksX6_redraw_1 15 rfl rfl)
theorem dX6_redraw_41 : decode cX6_redraw 41 = .ok (.istore_n 2, 1) := dk_61 (dk_at dksX6_redraw_1 18 rfl rfl)
theorem dX6_redraw_42 : decode cX6_redraw 42 = .ok (.aload_n 0, 1) := dk_42 (dk_at dksX6_redraw_1 19 rfl rfl)
theorem dX6_redraw_43 : decode cX6_redraw 43 = .ok (.iconst 0, 1) := dk_3 (dk_at dksX6_redraw_1 20 rfl rfl)
theorem dX6_redraw_44 : decode cX6_redraw 44 = .ok (.aload_n 0, 1) := dk_42 (dk_at dksX6_redraw_1 21 rfl rfl)
theorem dX6_redraw_45 : decode cX6_redraw 45 = .ok (.getfield 18, 3) := dk_180 0 18 (dk_at dksX6_redraw_2 0 rfl rfl)
theorem dX6_redraw_48 : decode cX6_redraw 48 = .ok (.getfield 132, 3) := dk_180 0 132 (dk_at dksX6_redraw_2 3 rfl rfl)
theorem dX6_redraw_51 : decode cX6_redraw 51 = .ok (.iconst 1, 1) := dk_4 (dk_at dksX6_redraw_2 6 rfl rfl)
theorem dX6_redraw_52 : decode cX6_redraw 52 = .ok (.isub, 1) := dk_100 (dk_at dksX6_redraw_2 7 rfl rfl)
theorem dX6_redraw_53 : decode cX6_redraw 53 = .ok (.invokevirtual 126, 3) := dk_182 0 126 (dk_at dksX6_redraw_2 8 rfl rfl)
theorem dX6_redraw_56 : decode cX6_redraw 56 = .ok (.istore_n 3, 1) := dk_62 (dk_at dksX6_redraw_2 11 rfl rfl)
theorem dX6_redraw_57 : decode cX6_redraw 57 = .ok (.aload_n 0, 1) := dk_42 (dk_at dksX6_redraw_2 12 rfl rfl)
theorem dX6_redraw_58 : decode cX6_redraw 58 = .ok (.iconst 1, 1) := dk_4 (dk_at dksX6_redraw_2 13 rfl rfl)
theorem dX6_redraw_59 : decode cX6_redraw 59 = .ok (.aload_n 0, 1) := dk_42 (dk_at dksX6_redraw_2 14 rfl rfl)
theorem dX6_redraw_60 : decode cX6_redraw 60 = .ok (.getfield 18, 3) := dk_180 0 18 (dk_at dksX6_redraw_2 15 rfl rfl)
theorem dX6_redraw_63 : decode cX6_redraw 63 = .ok (.getfield 129, 3) := dk_180 0 129 (dk_at dksX6_redraw_2 18 rfl rfl)
theorem dX6_redraw_66 : decode cX6_redraw 66 = .ok (.iload_n 2, 1) := dk_28 (dk_at dksX6_redraw_2 21 rfl rfl)
theorem dX6_redraw_67 : decode cX6_redraw 67 = .ok (.isub, 1) := dk_100 (dk_at dksX6_redraw_2 22 rfl rfl)
theorem dX6_redraw_68 : decode cX6_redraw 68 = .ok (.invokevirtual 126, 3) := dk_182 0 126 (dk_at dksX6_redraw_3 0 rfl rfl)
theorem dX6_redraw_71 : decode cX6_redraw 71 = .ok (.istore 4, 2) := dk_54 4 (dk_at dksX6_redraw_3 3 rfl rfl)
theorem dX6_redraw_73 : decode cX6_redraw 73 = .ok (.aload_n 0, 1) := dk_42 (dk_at dksX6_redraw_3 5 rfl rfl)
theorem dX6_redraw_74 : decode cX6_redraw 74 = .ok (.iconst 1, 1) := dk_4 (dk_at dksX6_redraw_3 6 rfl rfl)
theorem dX6_redraw_75 : decode cX6_redraw 75 = .ok (.aload_n 0, 1) := dk_42 (dk_at dksX6_redraw_3 7 rfl rfl)
theorem dX6_redraw_76 : decode cX6_redraw 76 = .ok (.getfield 18, 3) := dk_180 0 18 (dk_at dksX6_redraw_3 8 rfl rfl)
theorem dX6_redraw_79 : decode cX6_redraw 79 = .ok (.getfield 132, 3) := dk_180 0 132 (dk_at dksX6_redraw_3 11 rfl rfl)
theorem dX6_redraw_82 : decode cX6_redraw 82 = .ok (.iload_n 3, 1) := dk_29 (dk_at dksX6_redraw_3 14 rfl rfl)
theorem dX6_redraw_83 : decode cX6_redraw 83 = .ok (.isub, 1) := dk_100 (dk_at dksX6_redraw_3 15 rfl rfl)
theorem dX6_redraw_84 : decode cX6_redraw 84 = .ok (.invokevirtual 126, 3) := dk_182 0 126 (dk_at dksX6_redraw_3 16 rfl rfl)
theorem dX6_redraw_87 : decode cX6_redraw 87 = .ok (.istore 5, 2) := dk_54 5 (dk_at dksX6_redraw_3 19 rfl rfl)
theorem dX6_redraw_89 : decode cX6_redraw 89 = .ok (.aload_n 0, 1) := dk_42 (dk_at dksX6_redraw_3 21 rfl rfl)
theorem dX6_redraw_90 : decode cX6_redraw 90 = .ok (.getfield 18, 3) := dk_180 0 18 (dk_at dksX6_redraw_4 0 rfl rfl)
theorem dX6_redraw_93 : decode cX6_redraw 93 = .ok (.getfield 169, 3) := dk_180 0 169 (dk_at dksX6_redraw_4 3 rfl rfl)
theorem dX6_redraw_96 : decode cX6_redraw 96 = .ok (.new 172, 3) := dk_187 0 172 (dk_at dksX6_redraw_4 6 rfl rfl)
theorem dX6_redraw_99 : decode cX6_redraw 99 = .ok (.dup, 1) := dk_89 (dk_at dksX6_redraw_4 9 rfl rfl)
theorem dX6_redraw_100 : decode cX6_redraw 100 = .ok (.iload_n 1, 1) := dk_27 (dk_at dksX6_redraw_4 10 rfl rfl)
theorem dX6_redraw_101 : decode cX6_redraw 101 = .ok (.iload_n 2, 1) := dk_28 (dk_at dksX6_redraw_4 11 rfl rfl)
theorem dX6_redraw_102 : decode cX6_redraw 102 = .ok (.iload_n 3, 1) := dk_29 (dk_at dksX6_redraw_4 12 rfl rfl)
theorem dX6_redraw_103 : decode cX6_redraw 103 = .ok (.iload 4, 2) := dk_21 4 (dk_at dksX6_redraw_4 13 rfl rfl)
theorem dX6_redraw_105 : decode cX6_redraw 105 = .ok (.iload 5, 2) := dk_21 5 (dk_at dksX6_redraw_4 15 rfl rfl)
theorem dX6_redraw_107 : decode cX6_redraw 107 = .ok (.aload_n 0, 1) := dk_42 (dk_at dksX6_redraw_4 17 rfl rfl)
theorem dX6_redraw_108 : decode cX6_redraw 108 = .ok (.aload_n 0, 1) := dk_42 (dk_at dksX6_redraw_4 18 rfl rfl)
theorem dX6_redraw_109 : decode cX6_redraw 109 = .ok (.getfield 18, 3) := dk_180 0 18 (dk_at dksX6_redraw_4 19 rfl rfl)
theorem dX6_redraw_112 : decode cX6_redraw 112 = .ok (.getfield 174, 3) := dk_180 0 174 (dk_at dksX6_redraw_5 0 rfl rfl)
theorem dX6_redraw_115 : decode cX6_redraw 115 = .ok (.invokevirtual 177, 3) := dk_182 0 177 (dk_at dksX6_redraw_5 3 rfl rfl)
theorem dX6_redraw_118 : decode cX6_redraw 118 = .ok (.invokespecial 181, 3) := dk_183 0 181 (dk_at dksX6_redraw_5 6 rfl rfl)
theorem dX6_redraw_121 : decode cX6_redraw 121 = .ok (.invokeinterface 166 2, 5) := by decide +kernel
theorem dX6_redraw_126 : decode cX6_redraw 126 = .ok (.pop, 1) := dk_87 (dk_at dksX6_redraw_5 14 rfl rfl)
theorem dX6_redraw_127 : decode cX6_redraw 127 = .ok (.return_, 1) := dk_177 (dk_at dksX6_redraw_5 15 rfl rfl)
abbrev cX6_known : ByteArray := prog_12_method_10_code
def yX6_known : MethodName := ⟨RX6, "known", "(Ljava/util/List;)I"⟩
def dkwX6_known_1 : List UInt8 := [180, 0, 29, 182, 0, 88, 42, 44, 182, 0, 106, 29, 172]
abbrev dktX6_known_1 : List UInt8 := dkwX6_known_1 ++ []
def dkwX6_known_0 : List UInt8 := [42, 182, 0, 97, 77, 43, 44, 184, 0, 100, 62, 42, 29, 2, 159, 0, 7, 4, 167, 0, 4, 3, 7, 42]
abbrev dktX6_known_0 : List UInt8 := dkwX6_known_0 ++ dktX6_known_1
theorem dksX6_known_0 : cX6_known.data.toList.drop 0 = dktX6_known_0 := by decide +kernel
theorem dksX6_known_1 : cX6_known.data.toList.drop 24 = dktX6_known_1 := dk_seg dksX6_known_0 24 rfl rfl
theorem dX6_known_0 : decode cX6_known 0 = .ok (.aload_n 0, 1) := dk_42 (dk_at dksX6_known_0 0 rfl rfl)
theorem dX6_known_1 : decode cX6_known 1 = .ok (.invokevirtual 97, 3) := dk_182 0 97 (dk_at dksX6_known_0 1 rfl rfl)
theorem dX6_known_4 : decode cX6_known 4 = .ok (.astore_n 2, 1) := dk_77 (dk_at dksX6_known_0 4 rfl rfl)
theorem dX6_known_5 : decode cX6_known 5 = .ok (.aload_n 1, 1) := dk_43 (dk_at dksX6_known_0 5 rfl rfl)
theorem dX6_known_6 : decode cX6_known 6 = .ok (.aload_n 2, 1) := dk_44 (dk_at dksX6_known_0 6 rfl rfl)
theorem dX6_known_7 : decode cX6_known 7 = .ok (.invokestatic 100, 3) := dk_184 0 100 (dk_at dksX6_known_0 7 rfl rfl)
theorem dX6_known_10 : decode cX6_known 10 = .ok (.istore_n 3, 1) := dk_62 (dk_at dksX6_known_0 10 rfl rfl)
theorem dX6_known_11 : decode cX6_known 11 = .ok (.aload_n 0, 1) := dk_42 (dk_at dksX6_known_0 11 rfl rfl)
theorem dX6_known_12 : decode cX6_known 12 = .ok (.iload_n 3, 1) := dk_29 (dk_at dksX6_known_0 12 rfl rfl)
theorem dX6_known_13 : decode cX6_known 13 = .ok (.iconst (-1), 1) := dk_2 (dk_at dksX6_known_0 13 rfl rfl)
theorem dX6_known_14 : decode cX6_known 14 = .ok (.if_icmp .eq 7, 3) := dk_159 0 7 (dk_at dksX6_known_0 14 rfl rfl)
theorem dX6_known_17 : decode cX6_known 17 = .ok (.iconst 1, 1) := dk_4 (dk_at dksX6_known_0 17 rfl rfl)
theorem dX6_known_18 : decode cX6_known 18 = .ok (.goto 4, 3) := dk_167 0 4 (dk_at dksX6_known_0 18 rfl rfl)
theorem dX6_known_21 : decode cX6_known 21 = .ok (.iconst 0, 1) := dk_3 (dk_at dksX6_known_0 21 rfl rfl)
theorem dX6_known_22 : decode cX6_known 22 = .ok (.iconst 4, 1) := dk_7 (dk_at dksX6_known_0 22 rfl rfl)
theorem dX6_known_23 : decode cX6_known 23 = .ok (.aload_n 0, 1) := dk_42 (dk_at dksX6_known_0 23 rfl rfl)
theorem dX6_known_24 : decode cX6_known 24 = .ok (.getfield 29, 3) := dk_180 0 29 (dk_at dksX6_known_1 0 rfl rfl)
theorem dX6_known_27 : decode cX6_known 27 = .ok (.invokevirtual 88, 3) := dk_182 0 88 (dk_at dksX6_known_1 3 rfl rfl)
theorem dX6_known_30 : decode cX6_known 30 = .ok (.aload_n 0, 1) := dk_42 (dk_at dksX6_known_1 6 rfl rfl)
theorem dX6_known_31 : decode cX6_known 31 = .ok (.aload_n 2, 1) := dk_44 (dk_at dksX6_known_1 7 rfl rfl)
theorem dX6_known_32 : decode cX6_known 32 = .ok (.invokevirtual 106, 3) := dk_182 0 106 (dk_at dksX6_known_1 8 rfl rfl)
theorem dX6_known_35 : decode cX6_known 35 = .ok (.iload_n 3, 1) := dk_29 (dk_at dksX6_known_1 11 rfl rfl)
theorem dX6_known_36 : decode cX6_known 36 = .ok (.ireturn, 1) := dk_172 (dk_at dksX6_known_1 12 rfl rfl)
abbrev cX6_join : ByteArray := prog_12_method_17_code
def yX6_join : MethodName := ⟨RX6, "join", "()V"⟩
def dkwX6_join_4 : List UInt8 := [183, 0, 186, 185, 0, 166, 2, 0, 87, 177]
abbrev dktX6_join_4 : List UInt8 := dkwX6_join_4 ++ []
def dkwX6_join_3 : List UInt8 := [180, 0, 18, 180, 0, 169, 187, 0, 184, 89, 27, 29, 42, 42, 180, 0, 18, 180, 0, 174, 182, 0, 177]
abbrev dktX6_join_3 : List UInt8 := dkwX6_join_3 ++ dktX6_join_4
def dkwX6_join_2 : List UInt8 := [182, 0, 92, 44, 182, 0, 122, 154, 0, 7, 4, 167, 0, 4, 3, 6, 42, 180, 0, 29, 182, 0, 88, 42]
abbrev dktX6_join_2 : List UInt8 := dkwX6_join_2 ++ dktX6_join_3
def dkwX6_join_1 : List UInt8 := [182, 0, 126, 60, 42, 182, 0, 97, 77, 42, 42, 180, 0, 18, 180, 0, 174, 182, 0, 177, 62, 42, 42]
abbrev dktX6_join_1 : List UInt8 := dkwX6_join_1 ++ dktX6_join_2
def dkwX6_join_0 : List UInt8 := [42, 42, 180, 0, 18, 180, 0, 169, 185, 0, 142, 1, 0, 16, 16, 182, 0, 147, 42, 3, 17, 3, 231]
abbrev dktX6_join_0 : List UInt8 := dkwX6_join_0 ++ dktX6_join_1
theorem dksX6_join_0 : cX6_join.data.toList.drop 0 = dktX6_join_0 := by decide +kernel
theorem dksX6_join_1 : cX6_join.data.toList.drop 23 = dktX6_join_1 := dk_seg dksX6_join_0 23 rfl rfl
theorem dksX6_join_2 : cX6_join.data.toList.drop 46 = dktX6_join_2 := dk_seg dksX6_join_1 23 rfl rfl
theorem dksX6_join_3 : cX6_join.data.toList.drop 70 = dktX6_join_3 := dk_seg dksX6_join_2 24 rfl rfl
theorem dksX6_join_4 : cX6_join.data.toList.drop 93 = dktX6_join_4 := dk_seg dksX6_join_3 23 rfl rfl
theorem dX6_join_0 : decode cX6_join 0 = .ok (.aload_n 0, 1) := dk_42 (dk_at dksX6_join_0 0 rfl rfl)
theorem dX6_join_1 : decode cX6_join 1 = .ok (.aload_n 0, 1) := dk_42 (dk_at dksX6_join_0 1 rfl rfl)
theorem dX6_join_2 : decode cX6_join 2 = .ok (.getfield 18, 3) := dk_180 0 18 (dk_at dksX6_join_0 2 rfl rfl)
theorem dX6_join_5 : decode cX6_join 5 = .ok (.getfield 169, 3) := dk_180 0 169 (dk_at dksX6_join_0 5 rfl rfl)
theorem dX6_join_8 : decode cX6_join 8 = .ok (.invokeinterface 142 1, 5) := by decide +kernel
theorem dX6_join_13 : decode cX6_join 13 = .ok (.bipush 16, 2) := dk_16 16 (dk_at dksX6_join_0 13 rfl rfl)
theorem dX6_join_15 : decode cX6_join 15 = .ok (.invokevirtual 147, 3) := dk_182 0 147 (dk_at dksX6_join_0 15 rfl rfl)
theorem dX6_join_18 : decode cX6_join 18 = .ok (.aload_n 0, 1) := dk_42 (dk_at dksX6_join_0 18 rfl rfl)
theorem dX6_join_19 : decode cX6_join 19 = .ok (.iconst 0, 1) := dk_3 (dk_at dksX6_join_0 19 rfl rfl)
theorem dX6_join_20 : decode cX6_join 20 = .ok (.sipush 999, 3) := dk_17 3 231 (dk_at dksX6_join_0 20 rfl rfl)
theorem dX6_join_23 : decode cX6_join 23 = .ok (.invokevirtual 126, 3) := dk_182 0 126 (dk_at dksX6_join_1 0 rfl rfl)
theorem dX6_join_26 : decode cX6_join 26 = .ok (.istore_n 1, 1) := dk_60 (dk_at dksX6_join_1 3 rfl rfl)
theorem dX6_join_27 : decode cX6_join 27 = .ok (.aload_n 0, 1) := dk_42 (dk_at dksX6_join_1 4 rfl rfl)
theorem dX6_join_28 : decode cX6_join 28 = .ok (.invokevirtual 97, 3) := dk_182 0 97 (dk_at dksX6_join_1 5 rfl rfl)
theorem dX6_join_31 : decode cX6_join 31 = .ok (.astore_n 2, 1) := dk_77 (dk_at dksX6_join_1 8 rfl rfl)
theorem dX6_join_32 : decode cX6_join 32 = .ok (.aload_n 0, 1) := dk_42 (dk_at dksX6_join_1 9 rfl rfl)
theorem dX6_join_33 : decode cX6_join 33 = .ok (.aload_n 0, 1) := dk_42 (dk_at dksX6_join_1 10 rfl rfl)
theorem dX6_join_34 : decode cX6_join 34 = .ok (.getfield 18, 3) := dk_180 0 18 (dk_at dksX6_join_1 11 rfl rfl)
theorem dX6_join_37 : decode cX6_join 37 = .ok (.getfield 174, 3) := dk_180 0 174 (dk_at dksX6_join_1 14 rfl rfl)
theorem dX6_join_40 : decode cX6_join 40 = .ok (.invokevirtual 177, 3) := dk_182 0 177 (dk_at dksX6_join_1 17 rfl rfl)
theorem dX6_join_43 : decode cX6_join 43 = .ok (.istore_n 3, 1) := dk_62 (dk_at dksX6_join_1 20 rfl rfl)
theorem dX6_join_44 : decode cX6_join 44 = .ok (.aload_n 0, 1) := dk_42 (dk_at dksX6_join_1 21 rfl rfl)
theorem dX6_join_45 : decode cX6_join 45 = .ok (.aload_n 0, 1) := dk_42 (dk_at dksX6_join_1 22 rfl rfl)
theorem dX6_join_46 : decode cX6_join 46 = .ok (.invokevirtual 92, 3) := dk_182 0 92 (dk_at dksX6_join_2 0 rfl rfl)
theorem dX6_join_49 : decode cX6_join 49 = .ok (.aload_n 2, 1) := dk_44 (dk_at dksX6_join_2 3 rfl rfl)
theorem dX6_join_50 : decode cX6_join 50 = .ok (.invokevirtual 122, 3) := dk_182 0 122 (dk_at dksX6_join_2 4 rfl rfl)
theorem dX6_join_53 : decode cX6_join 53 = .ok (.ifCond .ne 7, 3) := dk_154 0 7 (dk_at dksX6_join_2 7 rfl rfl)
theorem dX6_join_56 : decode cX6_join 56 = .ok (.iconst 1, 1) := dk_4 (dk_at dksX6_join_2 10 rfl rfl)
theorem dX6_join_57 : decode cX6_join 57 = .ok (.goto 4, 3) := dk_167 0 4 (dk_at dksX6_join_2 11 rfl rfl)
theorem dX6_join_60 : decode cX6_join 60 = .ok (.iconst 0, 1) := dk_3 (dk_at dksX6_join_2 14 rfl rfl)
theorem dX6_join_61 : decode cX6_join 61 = .ok (.iconst 3, 1) := dk_6 (dk_at dksX6_join_2 15 rfl rfl)
theorem dX6_join_62 : decode cX6_join 62 = .ok (.aload_n 0, 1) := dk_42 (dk_at dksX6_join_2 16 rfl rfl)
theorem dX6_join_63 : decode cX6_join 63 = .ok (.getfield 29, 3) := dk_180 0 29 (dk_at dksX6_join_2 17 rfl rfl)
theorem dX6_join_66 : decode cX6_join 66 = .ok (.invokevirtual 88, 3) := dk_182 0 88 (dk_at dksX6_join_2 20 rfl rfl)
theorem dX6_join_69 : decode cX6_join 69 = .ok (.aload_n 0, 1) := dk_42 (dk_at dksX6_join_2 23 rfl rfl)
theorem dX6_join_70 : decode cX6_join 70 = .ok (.getfield 18, 3) := dk_180 0 18 (dk_at dksX6_join_3 0 rfl rfl)
theorem dX6_join_73 : decode cX6_join 73 = .ok (.getfield 169, 3) := dk_180 0 169 (dk_at dksX6_join_3 3 rfl rfl)
theorem dX6_join_76 : decode cX6_join 76 = .ok (.new 184, 3) := dk_187 0 184 (dk_at dksX6_join_3 6 rfl rfl)
theorem dX6_join_79 : decode cX6_join 79 = .ok (.dup, 1) := dk_89 (dk_at dksX6_join_3 9 rfl rfl)
theorem dX6_join_80 : decode cX6_join 80 = .ok (.iload_n 1, 1) := dk_27 (dk_at dksX6_join_3 10 rfl rfl)
theorem dX6_join_81 : decode cX6_join 81 = .ok (.iload_n 3, 1) := dk_29 (dk_at dksX6_join_3 11 rfl rfl)
theorem dX6_join_82 : decode cX6_join 82 = .ok (.aload_n 0, 1) := dk_42 (dk_at dksX6_join_3 12 rfl rfl)
theorem dX6_join_83 : decode cX6_join 83 = .ok (.aload_n 0, 1) := dk_42 (dk_at dksX6_join_3 13 rfl rfl)
theorem dX6_join_84 : decode cX6_join 84 = .ok (.getfield 18, 3) := dk_180 0 18 (dk_at dksX6_join_3 14 rfl rfl)
theorem dX6_join_87 : decode cX6_join 87 = .ok (.getfield 174, 3) := dk_180 0 174 (dk_at dksX6_join_3 17 rfl rfl)
theorem dX6_join_90 : decode cX6_join 90 = .ok (.invokevirtual 177, 3) := dk_182 0 177 (dk_at dksX6_join_3 20 rfl rfl)
theorem dX6_join_93 : decode cX6_join 93 = .ok (.invokespecial 186, 3) := dk_183 0 186 (dk_at dksX6_join_4 0 rfl rfl)
theorem dX6_join_96 : decode cX6_join 96 = .ok (.invokeinterface 166 2, 5) := by decide +kernel
theorem dX6_join_101 : decode cX6_join 101 = .ok (.pop, 1) := dk_87 (dk_at dksX6_join_4 8 rfl rfl)
theorem dX6_join_102 : decode cX6_join 102 = .ok (.return_, 1) := dk_177 (dk_at dksX6_join_4 9 rfl rfl)
abbrev cX6_rename : ByteArray := prog_12_method_18_code
def yX6_rename : MethodName := ⟨RX6, "rename", "()V"⟩
def dkwX6_rename_2 : List UInt8 := [27, 28, 45, 182, 0, 192, 177]
abbrev dktX6_rename_2 : List UInt8 := dkwX6_rename_2 ++ []
def dkwX6_rename_1 : List UInt8 := [60, 42, 3, 17, 3, 231, 182, 0, 126, 61, 42, 182, 0, 97, 78, 42, 45, 182, 0, 106, 42, 180, 0, 18]
abbrev dktX6_rename_1 : List UInt8 := dkwX6_rename_1 ++ dktX6_rename_2
def dkwX6_rename_0 : List UInt8 := [42, 42, 180, 0, 18, 180, 0, 189, 16, 16, 182, 0, 147, 42, 42, 180, 0, 18, 180, 0, 138, 182, 0, 177]
abbrev dktX6_rename_0 : List UInt8 := dkwX6_rename_0 ++ dktX6_rename_1
theorem dksX6_rename_0 : cX6_rename.data.toList.drop 0 = dktX6_rename_0 := by decide +kernel
theorem dksX6_rename_1 : cX6_rename.data.toList.drop 24 = dktX6_rename_1 := dk_seg dksX6_rename_0 24 rfl rfl
theorem dksX6_rename_2 : cX6_rename.data.toList.drop 48 = dktX6_rename_2 := dk_seg dksX6_rename_1 24 rfl rfl
theorem dX6_rename_0 : decode cX6_rename 0 = .ok (.aload_n 0, 1) := dk_42 (dk_at dksX6_rename_0 0 rfl rfl)
theorem dX6_rename_1 : decode cX6_rename 1 = .ok (.aload_n 0, 1) := dk_42 (dk_at dksX6_rename_0 1 rfl rfl)
theorem dX6_rename_2 : decode cX6_rename 2 = .ok (.getfield 18, 3) := dk_180 0 18 (dk_at dksX6_rename_0 2 rfl rfl)
theorem dX6_rename_5 : decode cX6_rename 5 = .ok (.getfield 189, 3) := dk_180 0 189 (dk_at dksX6_rename_0 5 rfl rfl)
theorem dX6_rename_8 : decode cX6_rename 8 = .ok (.bipush 16, 2) := dk_16 16 (dk_at dksX6_rename_0 8 rfl rfl)
theorem dX6_rename_10 : decode cX6_rename 10 = .ok (.invokevirtual 147, 3) := dk_182 0 147 (dk_at dksX6_rename_0 10 rfl rfl)
theorem dX6_rename_13 : decode cX6_rename 13 = .ok (.aload_n 0, 1) := dk_42 (dk_at dksX6_rename_0 13 rfl rfl)
theorem dX6_rename_14 : decode cX6_rename 14 = .ok (.aload_n 0, 1) := dk_42 (dk_at dksX6_rename_0 14 rfl rfl)
theorem dX6_rename_15 : decode cX6_rename 15 = .ok (.getfield 18, 3) := dk_180 0 18 (dk_at dksX6_rename_0 15 rfl rfl)
theorem dX6_rename_18 : decode cX6_rename 18 = .ok (.getfield 138, 3) := dk_180 0 138 (dk_at dksX6_rename_0 18 rfl rfl)
theorem dX6_rename_21 : decode cX6_rename 21 = .ok (.invokevirtual 177, 3) := dk_182 0 177 (dk_at dksX6_rename_0 21 rfl rfl)
theorem dX6_rename_24 : decode cX6_rename 24 = .ok (.istore_n 1, 1) := dk_60 (dk_at dksX6_rename_1 0 rfl rfl)
theorem dX6_rename_25 : decode cX6_rename 25 = .ok (.aload_n 0, 1) := dk_42 (dk_at dksX6_rename_1 1 rfl rfl)
theorem dX6_rename_26 : decode cX6_rename 26 = .ok (.iconst 0, 1) := dk_3 (dk_at dksX6_rename_1 2 rfl rfl)
theorem dX6_rename_27 : decode cX6_rename 27 = .ok (.sipush 999, 3) := dk_17 3 231 (dk_at dksX6_rename_1 3 rfl rfl)
theorem dX6_rename_30 : decode cX6_rename 30 = .ok (.invokevirtual 126, 3) := dk_182 0 126 (dk_at dksX6_rename_1 6 rfl rfl)
theorem dX6_rename_33 : decode cX6_rename 33 = .ok (.istore_n 2, 1) := dk_61 (dk_at dksX6_rename_1 9 rfl rfl)
theorem dX6_rename_34 : decode cX6_rename 34 = .ok (.aload_n 0, 1) := dk_42 (dk_at dksX6_rename_1 10 rfl rfl)
theorem dX6_rename_35 : decode cX6_rename 35 = .ok (.invokevirtual 97, 3) := dk_182 0 97 (dk_at dksX6_rename_1 11 rfl rfl)
theorem dX6_rename_38 : decode cX6_rename 38 = .ok (.astore_n 3, 1) := dk_78 (dk_at dksX6_rename_1 14 rfl rfl)
theorem dX6_rename_39 : decode cX6_rename 39 = .ok (.aload_n 0, 1) := dk_42 (dk_at dksX6_rename_1 15 rfl rfl)
theorem dX6_rename_40 : decode cX6_rename 40 = .ok (.aload_n 3, 1) := dk_45 (dk_at dksX6_rename_1 16 rfl rfl)
theorem dX6_rename_41 : decode cX6_rename 41 = .ok (.invokevirtual 106, 3) := dk_182 0 106 (dk_at dksX6_rename_1 17 rfl rfl)
theorem dX6_rename_44 : decode cX6_rename 44 = .ok (.aload_n 0, 1) := dk_42 (dk_at dksX6_rename_1 20 rfl rfl)
theorem dX6_rename_45 : decode cX6_rename 45 = .ok (.getfield 18, 3) := dk_180 0 18 (dk_at dksX6_rename_1 21 rfl rfl)
theorem dX6_rename_48 : decode cX6_rename 48 = .ok (.iload_n 1, 1) := dk_27 (dk_at dksX6_rename_2 0 rfl rfl)
theorem dX6_rename_49 : decode cX6_rename 49 = .ok (.iload_n 2, 1) := dk_28 (dk_at dksX6_rename_2 1 rfl rfl)
theorem dX6_rename_50 : decode cX6_rename 50 = .ok (.aload_n 3, 1) := dk_45 (dk_at dksX6_rename_2 2 rfl rfl)
theorem dX6_rename_51 : decode cX6_rename 51 = .ok (.invokevirtual 192, 3) := dk_182 0 192 (dk_at dksX6_rename_2 3 rfl rfl)
theorem dX6_rename_54 : decode cX6_rename 54 = .ok (.return_, 1) := dk_177 (dk_at dksX6_rename_2 6 rfl rfl)
theorem q195 : (Jvm.Cond.initialized "CountyGazetteer$Parser") ∈ lw_all := lw_g (lw_at lw_m1 19 rfl) rfl
theorem q298 : (Jvm.Cond.fieldLinkNest "CountyGazetteer$Parser" (129 : Nat) "CountyGazetteer$State" "width" "I" "CountyGazetteer") ∈ lw_tbl := lw_at lw_m1 122 rfl
theorem q301 : (Jvm.Cond.fieldLinkNest "CountyGazetteer$Parser" (132 : Nat) "CountyGazetteer$State" "height" "I" "CountyGazetteer") ∈ lw_tbl := lw_at lw_m1 125 rfl
theorem q304 : (Jvm.Cond.fieldLinkNest "CountyGazetteer$Parser" (217 : Nat) "CountyGazetteer$State" "lines" "I" "CountyGazetteer") ∈ lw_tbl := lw_at lw_m1 128 rfl
theorem q309 : (Jvm.Cond.fieldLinkNest "CountyGazetteer$Parser" (219 : Nat) "CountyGazetteer$State" "year" "I" "CountyGazetteer") ∈ lw_tbl := lw_at lw_m1 133 rfl
theorem q314 : (Jvm.Cond.fieldLinkNest "CountyGazetteer$Parser" (189 : Nat) "CountyGazetteer$State" "renames" "I" "CountyGazetteer") ∈ lw_tbl := lw_at lw_m1 138 rfl
theorem q318 : (Jvm.Cond.fieldLinkNest "CountyGazetteer$Parser" (221 : Nat) "CountyGazetteer$State" "isFresh" "Z" "CountyGazetteer") ∈ lw_tbl := lw_at lw_m1 142 rfl
theorem q323 : (Jvm.Cond.fieldLinkNest "CountyGazetteer$Parser" (174 : Nat) "CountyGazetteer$State" "counties" "Ljava/util/List;" "CountyGazetteer") ∈ lw_tbl := lw_at lw_m1 147 rfl
theorem q327 : (Jvm.Cond.fieldLinkNest "CountyGazetteer$Parser" (138 : Nat) "CountyGazetteer$State" "villages" "Ljava/util/List;" "CountyGazetteer") ∈ lw_tbl := lw_at lw_m1 151 rfl
theorem q329 : (Jvm.Cond.fieldLinkNest "CountyGazetteer$Parser" (169 : Nat) "CountyGazetteer$State" "reforms" "Ljava/util/List;" "CountyGazetteer") ∈ lw_tbl := lw_at lw_m1 153 rfl
theorem q410 : (Jvm.Cond.selects "CountyGazetteer$Parser" ({ cls := "java/lang/Object", name := "getClass", desc := "()Ljava/lang/Class;" } : Jvm.MethodName) ({ cls := "java/lang/Object", name := "getClass", desc := "()Ljava/lang/Class;" } : Jvm.MethodName)) ∈ lw_all := lw_g (lw_at lw_m1 234 rfl) rfl
theorem q559 : (Jvm.Cond.fieldLinkNest "CountyGazetteer$Parser" (36 : Nat) "CountyGazetteer" "input" "[B" "CountyGazetteer") ∈ lw_tbl := lw_at lw_m2 143 rfl
theorem q561 : (Jvm.Cond.fieldLinkNest "CountyGazetteer$Parser" (33 : Nat) "CountyGazetteer" "inputLength" "I" "CountyGazetteer") ∈ lw_tbl := lw_at lw_m2 145 rfl
theorem q612 : (Jvm.Cond.instantiable "CountyGazetteer$Parser" (4 : Nat)) ∈ lw_all := lw_g (lw_at lw_m2 196 rfl) rfl
theorem q614 : (Jvm.Cond.instanceMethod ({ cls := "CountyGazetteer$Parser", name := "<init>", desc := "(LCountyGazetteer;)V" } : Jvm.MethodName)) ∈ lw_all := lw_g (lw_at lw_m2 198 rfl) rfl
theorem q615 : (Jvm.Cond.code ({ cls := "CountyGazetteer$Parser", name := "<init>", desc := "(LCountyGazetteer;)V" } : Jvm.MethodName) prog_12_method_1_code (2 : Nat) (Option.none : Option Jvm.ClassFile.FieldType)) ∈ lw_all := lw_g (lw_at lw_m2 199 rfl) rfl
theorem q616 : (Jvm.Cond.methodLink "CountyGazetteer$Parser" (9 : Nat) ({ cls := "java/lang/Object", name := "<init>", desc := "()V" } : Jvm.MethodName)) ∈ lw_all := lw_g (lw_at lw_m2 200 rfl) rfl
theorem q617 : (Jvm.Cond.classLink "CountyGazetteer$Parser" (15 : Nat) "CountyGazetteer$State") ∈ lw_all := lw_g (lw_at lw_m2 201 rfl) rfl
theorem q618 : (Jvm.Cond.methodLinkNest "CountyGazetteer$Parser" (17 : Nat) ({ cls := "CountyGazetteer$State", name := "<init>", desc := "()V" } : Jvm.MethodName) "CountyGazetteer") ∈ lw_tbl := lw_at lw_m2 202 rfl
theorem q619 : (Jvm.Cond.classLink "CountyGazetteer$Parser" (22 : Nat) "java/util/BitSet") ∈ lw_all := lw_g (lw_at lw_m2 203 rfl) rfl
theorem q621 : (Jvm.Cond.methodLink "CountyGazetteer$Parser" (24 : Nat) ({ cls := "java/util/BitSet", name := "<init>", desc := "()V" } : Jvm.MethodName)) ∈ lw_all := lw_g (lw_at lw_m2 205 rfl) rfl
theorem q643 : (Jvm.Cond.fieldLink "CountyGazetteer$Parser" (18 : Nat) "CountyGazetteer$Parser" "made" "LCountyGazetteer$State;") ∈ lw_all := lw_g (lw_at lw_m2 227 rfl) rfl
theorem q644 : (Jvm.Cond.fieldLink "CountyGazetteer$Parser" (25 : Nat) "CountyGazetteer$Parser" "told" "Ljava/util/BitSet;") ∈ lw_all := lw_g (lw_at lw_m2 228 rfl) rfl
theorem q645 : (Jvm.Cond.fieldLink "CountyGazetteer$Parser" (29 : Nat) "CountyGazetteer$Parser" "at" "I") ∈ lw_all := lw_g (lw_at lw_m2 229 rfl) rfl
theorem q646 : (Jvm.Cond.fieldLink "CountyGazetteer$Parser" (3 : Nat) "CountyGazetteer$Parser" "this$0" "LCountyGazetteer;") ∈ lw_all := lw_g (lw_at lw_m2 230 rfl) rfl
theorem q647 : (Jvm.Cond.laysFinal "CountyGazetteer$Parser" "CountyGazetteer$Parser" "made" "LCountyGazetteer$State;") ∈ lw_all := lw_g (lw_at lw_m2 231 rfl) rfl
theorem q648 : (Jvm.Cond.soleField "CountyGazetteer$Parser" "made") ∈ lw_all := lw_g (lw_at lw_m2 232 rfl) rfl
theorem q649 : (Jvm.Cond.laysFinal "CountyGazetteer$Parser" "CountyGazetteer$Parser" "told" "Ljava/util/BitSet;") ∈ lw_all := lw_g (lw_at lw_m2 233 rfl) rfl
theorem q650 : (Jvm.Cond.soleField "CountyGazetteer$Parser" "told") ∈ lw_all := lw_g (lw_at lw_m2 234 rfl) rfl
theorem q651 : (Jvm.Cond.lays "CountyGazetteer$Parser" "CountyGazetteer$Parser" "at" "I") ∈ lw_all := lw_g (lw_at lw_m2 235 rfl) rfl
theorem q652 : (Jvm.Cond.soleField "CountyGazetteer$Parser" "at") ∈ lw_all := lw_g (lw_at lw_m2 236 rfl) rfl
theorem q653 : (Jvm.Cond.laysFinal "CountyGazetteer$Parser" "CountyGazetteer$Parser" "this$0" "LCountyGazetteer;") ∈ lw_all := lw_g (lw_at lw_m2 237 rfl) rfl
theorem q654 : (Jvm.Cond.soleField "CountyGazetteer$Parser" "this$0") ∈ lw_all := lw_g (lw_at lw_m2 238 rfl) rfl
theorem q655 : (Jvm.Cond.superclass "CountyGazetteer$Parser" "java/lang/Object") ∈ lw_all := lw_g (lw_at lw_m2 239 rfl) rfl
theorem q657 : (Jvm.Cond.instanceMethod ({ cls := "CountyGazetteer$Parser", name := "read", desc := "()LCountyGazetteer$State;" } : Jvm.MethodName)) ∈ lw_all := lw_g (lw_at lw_m3 1 rfl) rfl
theorem q658 : (Jvm.Cond.selects "CountyGazetteer$Parser" ({ cls := "CountyGazetteer$Parser", name := "read", desc := "()LCountyGazetteer$State;" } : Jvm.MethodName) ({ cls := "CountyGazetteer$Parser", name := "read", desc := "()LCountyGazetteer$State;" } : Jvm.MethodName)) ∈ lw_all := lw_g (lw_at lw_m3 2 rfl) rfl
theorem q659 : (Jvm.Cond.code ({ cls := "CountyGazetteer$Parser", name := "read", desc := "()LCountyGazetteer$State;" } : Jvm.MethodName) prog_12_method_20_code (1 : Nat) (Option.some (Jvm.ClassFile.FieldType.object "CountyGazetteer$State"))) ∈ lw_all := lw_g (lw_at lw_m3 3 rfl) rfl
theorem q660 : (Jvm.Cond.methodLink "CountyGazetteer$Parser" (73 : Nat) ({ cls := "CountyGazetteer$Parser", name := "skipBlanks", desc := "()V" } : Jvm.MethodName)) ∈ lw_all := lw_g (lw_at lw_m3 4 rfl) rfl
theorem q661 : (Jvm.Cond.privateMethod ({ cls := "CountyGazetteer$Parser", name := "skipBlanks", desc := "()V" } : Jvm.MethodName)) ∈ lw_tbl := lw_at lw_m3 5 rfl
theorem q662 : (Jvm.Cond.instanceMethod ({ cls := "CountyGazetteer$Parser", name := "skipBlanks", desc := "()V" } : Jvm.MethodName)) ∈ lw_all := lw_g (lw_at lw_m3 6 rfl) rfl
theorem q663 : (Jvm.Cond.code ({ cls := "CountyGazetteer$Parser", name := "skipBlanks", desc := "()V" } : Jvm.MethodName) prog_12_method_3_code (1 : Nat) (Option.none : Option Jvm.ClassFile.FieldType)) ∈ lw_all := lw_g (lw_at lw_m3 7 rfl) rfl
theorem q664 : (Jvm.Cond.methodLink "CountyGazetteer$Parser" (40 : Nat) ({ cls := "CountyGazetteer$Parser", name := "current", desc := "()I" } : Jvm.MethodName)) ∈ lw_all := lw_g (lw_at lw_m3 8 rfl) rfl
theorem q665 : (Jvm.Cond.privateMethod ({ cls := "CountyGazetteer$Parser", name := "current", desc := "()I" } : Jvm.MethodName)) ∈ lw_tbl := lw_at lw_m3 9 rfl
theorem q666 : (Jvm.Cond.instanceMethod ({ cls := "CountyGazetteer$Parser", name := "current", desc := "()I" } : Jvm.MethodName)) ∈ lw_all := lw_g (lw_at lw_m3 10 rfl) rfl
theorem q667 : (Jvm.Cond.code ({ cls := "CountyGazetteer$Parser", name := "current", desc := "()I" } : Jvm.MethodName) prog_12_method_2_code (1 : Nat) (Option.some Jvm.ClassFile.FieldType.int)) ∈ lw_all := lw_g (lw_at lw_m3 11 rfl) rfl
theorem q668 : (Jvm.Cond.methodLink "CountyGazetteer$Parser" (237 : Nat) ({ cls := "CountyGazetteer$Parser", name := "map", desc := "()V" } : Jvm.MethodName)) ∈ lw_all := lw_g (lw_at lw_m3 12 rfl) rfl
theorem q669 : (Jvm.Cond.privateMethod ({ cls := "CountyGazetteer$Parser", name := "map", desc := "()V" } : Jvm.MethodName)) ∈ lw_tbl := lw_at lw_m3 13 rfl
theorem q670 : (Jvm.Cond.instanceMethod ({ cls := "CountyGazetteer$Parser", name := "map", desc := "()V" } : Jvm.MethodName)) ∈ lw_all := lw_g (lw_at lw_m3 14 rfl) rfl
theorem q671 : (Jvm.Cond.code ({ cls := "CountyGazetteer$Parser", name := "map", desc := "()V" } : Jvm.MethodName) prog_12_method_14_code (1 : Nat) (Option.none : Option Jvm.ClassFile.FieldType)) ∈ lw_all := lw_g (lw_at lw_m3 15 rfl) rfl
theorem q672 : (Jvm.Cond.methodLink "CountyGazetteer$Parser" (92 : Nat) ({ cls := "CountyGazetteer$Parser", name := "word", desc := "()Ljava/lang/String;" } : Jvm.MethodName)) ∈ lw_all := lw_g (lw_at lw_m3 16 rfl) rfl
theorem q673 : (Jvm.Cond.privateMethod ({ cls := "CountyGazetteer$Parser", name := "word", desc := "()Ljava/lang/String;" } : Jvm.MethodName)) ∈ lw_tbl := lw_at lw_m3 17 rfl
theorem q674 : (Jvm.Cond.instanceMethod ({ cls := "CountyGazetteer$Parser", name := "word", desc := "()Ljava/lang/String;" } : Jvm.MethodName)) ∈ lw_all := lw_g (lw_at lw_m3 18 rfl) rfl
theorem q675 : (Jvm.Cond.code ({ cls := "CountyGazetteer$Parser", name := "word", desc := "()Ljava/lang/String;" } : Jvm.MethodName) prog_12_method_5_code (3 : Nat) (Option.some (Jvm.ClassFile.FieldType.object "java/lang/String"))) ∈ lw_all := lw_g (lw_at lw_m3 19 rfl) rfl
theorem q676 : (Jvm.Cond.classLink "CountyGazetteer$Parser" (49 : Nat) "java/lang/StringBuilder") ∈ lw_all := lw_g (lw_at lw_m3 20 rfl) rfl
theorem q677 : (Jvm.Cond.methodLink "CountyGazetteer$Parser" (51 : Nat) ({ cls := "java/lang/StringBuilder", name := "<init>", desc := "()V" } : Jvm.MethodName)) ∈ lw_all := lw_g (lw_at lw_m3 21 rfl) rfl
theorem q678 : (Jvm.Cond.constantLong "CountyGazetteer$Parser" (52 : Nat) (97 : Int64)) ∈ lw_all := lw_g (lw_at lw_m3 22 rfl) rfl
theorem q679 : (Jvm.Cond.constantLong "CountyGazetteer$Parser" (54 : Nat) (122 : Int64)) ∈ lw_all := lw_g (lw_at lw_m3 23 rfl) rfl
theorem q680 : (Jvm.Cond.methodLinkNest "CountyGazetteer$Parser" (56 : Nat) ({ cls := "CountyGazetteer", name := "isIn", desc := "(JJJ)Z" } : Jvm.MethodName) "CountyGazetteer") ∈ lw_tbl := lw_at lw_m3 24 rfl
theorem q681 : (Jvm.Cond.methodLink "CountyGazetteer$Parser" (60 : Nat) ({ cls := "java/lang/StringBuilder", name := "append", desc := "(C)Ljava/lang/StringBuilder;" } : Jvm.MethodName)) ∈ lw_all := lw_g (lw_at lw_m3 25 rfl) rfl
theorem q761 : (Jvm.Cond.methodLink "CountyGazetteer$Parser" (64 : Nat) ({ cls := "java/lang/StringBuilder", name := "toString", desc := "()Ljava/lang/String;" } : Jvm.MethodName)) ∈ lw_all := lw_g (lw_at lw_m3 105 rfl) rfl
theorem q969 : (Jvm.Cond.stringRef "CountyGazetteer$Parser" (120 : Nat) "map") ∈ lw_tbl := lw_at lw_m4 73 rfl
theorem q970 : (Jvm.Cond.methodLink "CountyGazetteer$Parser" (122 : Nat) ({ cls := "java/lang/String", name := "equals", desc := "(Ljava/lang/Object;)Z" } : Jvm.MethodName)) ∈ lw_all := lw_g (lw_at lw_m4 74 rfl) rfl
theorem q978 : (Jvm.Cond.methodLink "CountyGazetteer$Parser" (88 : Nat) ({ cls := "CountyGazetteer$Parser", name := "expect", desc := "(ZII)V" } : Jvm.MethodName)) ∈ lw_all := lw_g (lw_at lw_m4 82 rfl) rfl
theorem q979 : (Jvm.Cond.privateMethod ({ cls := "CountyGazetteer$Parser", name := "expect", desc := "(ZII)V" } : Jvm.MethodName)) ∈ lw_tbl := lw_at lw_m4 83 rfl
theorem q980 : (Jvm.Cond.instanceMethod ({ cls := "CountyGazetteer$Parser", name := "expect", desc := "(ZII)V" } : Jvm.MethodName)) ∈ lw_all := lw_g (lw_at lw_m4 84 rfl) rfl
theorem q981 : (Jvm.Cond.code ({ cls := "CountyGazetteer$Parser", name := "expect", desc := "(ZII)V" } : Jvm.MethodName) prog_12_method_4_code (4 : Nat) (Option.none : Option Jvm.ClassFile.FieldType)) ∈ lw_all := lw_g (lw_at lw_m4 85 rfl) rfl
theorem q982 : (Jvm.Cond.classLink "CountyGazetteer$Parser" (44 : Nat) "CountyGazetteer$ParseException") ∈ lw_all := lw_g (lw_at lw_m4 86 rfl) rfl
theorem q991 : (Jvm.Cond.methodLink "CountyGazetteer$Parser" (46 : Nat) ({ cls := "CountyGazetteer$ParseException", name := "<init>", desc := "(II)V" } : Jvm.MethodName)) ∈ lw_all := lw_g (lw_at lw_m4 95 rfl) rfl
theorem q1010 : (Jvm.Cond.methodLink "CountyGazetteer$Parser" (106 : Nat) ({ cls := "CountyGazetteer$Parser", name := "pass", desc := "(Ljava/lang/String;)V" } : Jvm.MethodName)) ∈ lw_all := lw_g (lw_at lw_m4 114 rfl) rfl
theorem q1011 : (Jvm.Cond.privateMethod ({ cls := "CountyGazetteer$Parser", name := "pass", desc := "(Ljava/lang/String;)V" } : Jvm.MethodName)) ∈ lw_tbl := lw_at lw_m4 115 rfl
theorem q1012 : (Jvm.Cond.instanceMethod ({ cls := "CountyGazetteer$Parser", name := "pass", desc := "(Ljava/lang/String;)V" } : Jvm.MethodName)) ∈ lw_all := lw_g (lw_at lw_m4 116 rfl) rfl
theorem q1013 : (Jvm.Cond.code ({ cls := "CountyGazetteer$Parser", name := "pass", desc := "(Ljava/lang/String;)V" } : Jvm.MethodName) prog_12_method_6_code (2 : Nat) (Option.none : Option Jvm.ClassFile.FieldType)) ∈ lw_all := lw_g (lw_at lw_m4 117 rfl) rfl
theorem q1014 : (Jvm.Cond.methodLink "CountyGazetteer$Parser" (68 : Nat) ({ cls := "java/lang/String", name := "length", desc := "()I" } : Jvm.MethodName)) ∈ lw_all := lw_g (lw_at lw_m4 118 rfl) rfl
theorem q1015 : (Jvm.Cond.methodLink "CountyGazetteer$Parser" (126 : Nat) ({ cls := "CountyGazetteer$Parser", name := "number", desc := "(II)I" } : Jvm.MethodName)) ∈ lw_all := lw_g (lw_at lw_m4 119 rfl) rfl
theorem q1016 : (Jvm.Cond.privateMethod ({ cls := "CountyGazetteer$Parser", name := "number", desc := "(II)I" } : Jvm.MethodName)) ∈ lw_tbl := lw_at lw_m4 120 rfl
theorem q1017 : (Jvm.Cond.instanceMethod ({ cls := "CountyGazetteer$Parser", name := "number", desc := "(II)I" } : Jvm.MethodName)) ∈ lw_all := lw_g (lw_at lw_m4 121 rfl) rfl
theorem q1018 : (Jvm.Cond.code ({ cls := "CountyGazetteer$Parser", name := "number", desc := "(II)I" } : Jvm.MethodName) prog_12_method_7_code (5 : Nat) (Option.some Jvm.ClassFile.FieldType.int)) ∈ lw_all := lw_g (lw_at lw_m4 122 rfl) rfl
theorem q1019 : (Jvm.Cond.constantLong "CountyGazetteer$Parser" (76 : Nat) (48 : Int64)) ∈ lw_all := lw_g (lw_at lw_m4 123 rfl) rfl
theorem q1020 : (Jvm.Cond.constantLong "CountyGazetteer$Parser" (78 : Nat) (57 : Int64)) ∈ lw_all := lw_g (lw_at lw_m4 124 rfl) rfl
theorem q1021 : (Jvm.Cond.methodLink "CountyGazetteer$Parser" (80 : Nat) ({ cls := "java/lang/Math", name := "min", desc := "(II)I" } : Jvm.MethodName)) ∈ lw_all := lw_g (lw_at lw_m4 125 rfl) rfl
theorem q1022 : (Jvm.Cond.constantLong "CountyGazetteer$Parser" (86 : Nat) (3 : Int64)) ∈ lw_all := lw_g (lw_at lw_m4 126 rfl) rfl
theorem q1023 : (Jvm.Cond.methodLink "CountyGazetteer$Parser" (135 : Nat) ({ cls := "CountyGazetteer$Parser", name := "end", desc := "()V" } : Jvm.MethodName)) ∈ lw_all := lw_g (lw_at lw_m4 127 rfl) rfl
theorem q1024 : (Jvm.Cond.privateMethod ({ cls := "CountyGazetteer$Parser", name := "end", desc := "()V" } : Jvm.MethodName)) ∈ lw_tbl := lw_at lw_m4 128 rfl
theorem q1025 : (Jvm.Cond.instanceMethod ({ cls := "CountyGazetteer$Parser", name := "end", desc := "()V" } : Jvm.MethodName)) ∈ lw_all := lw_g (lw_at lw_m4 129 rfl) rfl
theorem q1026 : (Jvm.Cond.code ({ cls := "CountyGazetteer$Parser", name := "end", desc := "()V" } : Jvm.MethodName) prog_12_method_13_code (1 : Nat) (Option.none : Option Jvm.ClassFile.FieldType)) ∈ lw_all := lw_g (lw_at lw_m4 130 rfl) rfl
theorem q1027 : (Jvm.Cond.stringRef "CountyGazetteer$Parser" (118 : Nat) ";") ∈ lw_tbl := lw_at lw_m4 131 rfl
theorem q1028 : (Jvm.Cond.methodLink "CountyGazetteer$Parser" (239 : Nat) ({ cls := "CountyGazetteer$Parser", name := "statement", desc := "()V" } : Jvm.MethodName)) ∈ lw_all := lw_g (lw_at lw_m4 132 rfl) rfl
theorem q1029 : (Jvm.Cond.privateMethod ({ cls := "CountyGazetteer$Parser", name := "statement", desc := "()V" } : Jvm.MethodName)) ∈ lw_tbl := lw_at lw_m4 133 rfl
theorem q1030 : (Jvm.Cond.instanceMethod ({ cls := "CountyGazetteer$Parser", name := "statement", desc := "()V" } : Jvm.MethodName)) ∈ lw_all := lw_g (lw_at lw_m4 134 rfl) rfl
theorem q1031 : (Jvm.Cond.code ({ cls := "CountyGazetteer$Parser", name := "statement", desc := "()V" } : Jvm.MethodName) prog_12_method_19_code (4 : Nat) (Option.none : Option Jvm.ClassFile.FieldType)) ∈ lw_all := lw_g (lw_at lw_m4 135 rfl) rfl
theorem q1032 : (Jvm.Cond.methodLink "CountyGazetteer$Parser" (195 : Nat) ({ cls := "java/lang/String", name := "hashCode", desc := "()I" } : Jvm.MethodName)) ∈ lw_all := lw_g (lw_at lw_m4 136 rfl) rfl
theorem q1093 : (Jvm.Cond.stringRef "CountyGazetteer$Parser" (198 : Nat) "lines") ∈ lw_tbl := lw_at lw_m4 197 rfl
theorem q1094 : (Jvm.Cond.stringRef "CountyGazetteer$Parser" (200 : Nat) "year") ∈ lw_tbl := lw_at lw_m4 198 rfl
theorem q1095 : (Jvm.Cond.stringRef "CountyGazetteer$Parser" (202 : Nat) "fresh") ∈ lw_tbl := lw_at lw_m4 199 rfl
theorem q1096 : (Jvm.Cond.stringRef "CountyGazetteer$Parser" (204 : Nat) "county") ∈ lw_tbl := lw_at lw_m4 200 rfl
theorem q1097 : (Jvm.Cond.stringRef "CountyGazetteer$Parser" (206 : Nat) "village") ∈ lw_tbl := lw_at lw_m4 201 rfl
theorem q1098 : (Jvm.Cond.stringRef "CountyGazetteer$Parser" (208 : Nat) "redraw") ∈ lw_tbl := lw_at lw_m4 202 rfl
theorem q1099 : (Jvm.Cond.stringRef "CountyGazetteer$Parser" (210 : Nat) "join") ∈ lw_tbl := lw_at lw_m4 203 rfl
theorem q1100 : (Jvm.Cond.stringRef "CountyGazetteer$Parser" (212 : Nat) "rename") ∈ lw_tbl := lw_at lw_m4 204 rfl
theorem q1101 : (Jvm.Cond.methodLink "CountyGazetteer$Parser" (214 : Nat) ({ cls := "CountyGazetteer$Parser", name := "once", desc := "(I)V" } : Jvm.MethodName)) ∈ lw_all := lw_g (lw_at lw_m4 205 rfl) rfl
theorem q1102 : (Jvm.Cond.privateMethod ({ cls := "CountyGazetteer$Parser", name := "once", desc := "(I)V" } : Jvm.MethodName)) ∈ lw_tbl := lw_at lw_m4 206 rfl
theorem q1103 : (Jvm.Cond.instanceMethod ({ cls := "CountyGazetteer$Parser", name := "once", desc := "(I)V" } : Jvm.MethodName)) ∈ lw_all := lw_g (lw_at lw_m4 207 rfl) rfl
theorem q1104 : (Jvm.Cond.code ({ cls := "CountyGazetteer$Parser", name := "once", desc := "(I)V" } : Jvm.MethodName) prog_12_method_11_code (2 : Nat) (Option.none : Option Jvm.ClassFile.FieldType)) ∈ lw_all := lw_g (lw_at lw_m4 208 rfl) rfl
theorem q1105 : (Jvm.Cond.methodLink "CountyGazetteer$Parser" (110 : Nat) ({ cls := "java/util/BitSet", name := "get", desc := "(I)Z" } : Jvm.MethodName)) ∈ lw_all := lw_g (lw_at lw_m4 209 rfl) rfl
theorem q1136 : (Jvm.Cond.methodLink "CountyGazetteer$Parser" (114 : Nat) ({ cls := "java/util/BitSet", name := "set", desc := "(I)V" } : Jvm.MethodName)) ∈ lw_all := lw_g (lw_at lw_m5 0 rfl) rfl
theorem q1157 : (Jvm.Cond.interfaceEntry "CountyGazetteer$Parser" (142 : Nat)) ∈ lw_tbl := lw_at lw_m5 21 rfl
theorem q1158 : (Jvm.Cond.methodLink "CountyGazetteer$Parser" (142 : Nat) ({ cls := "java/util/List", name := "size", desc := "()I" } : Jvm.MethodName)) ∈ lw_all := lw_g (lw_at lw_m5 22 rfl) rfl
theorem q1171 : (Jvm.Cond.methodLink "CountyGazetteer$Parser" (147 : Nat) ({ cls := "CountyGazetteer$Parser", name := "room", desc := "(II)V" } : Jvm.MethodName)) ∈ lw_all := lw_g (lw_at lw_m5 35 rfl) rfl
theorem q1172 : (Jvm.Cond.privateMethod ({ cls := "CountyGazetteer$Parser", name := "room", desc := "(II)V" } : Jvm.MethodName)) ∈ lw_tbl := lw_at lw_m5 36 rfl
theorem q1173 : (Jvm.Cond.instanceMethod ({ cls := "CountyGazetteer$Parser", name := "room", desc := "(II)V" } : Jvm.MethodName)) ∈ lw_all := lw_g (lw_at lw_m5 37 rfl) rfl
theorem q1174 : (Jvm.Cond.code ({ cls := "CountyGazetteer$Parser", name := "room", desc := "(II)V" } : Jvm.MethodName) prog_12_method_12_code (3 : Nat) (Option.none : Option Jvm.ClassFile.FieldType)) ∈ lw_all := lw_g (lw_at lw_m5 38 rfl) rfl
theorem q1175 : (Jvm.Cond.classLink "CountyGazetteer$Parser" (225 : Nat) "CountyGazetteer$County") ∈ lw_all := lw_g (lw_at lw_m5 39 rfl) rfl
theorem q1176 : (Jvm.Cond.methodLink "CountyGazetteer$Parser" (150 : Nat) ({ cls := "CountyGazetteer$Parser", name := "newName", desc := "(Ljava/util/List;)Ljava/lang/String;" } : Jvm.MethodName)) ∈ lw_all := lw_g (lw_at lw_m5 40 rfl) rfl
theorem q1177 : (Jvm.Cond.privateMethod ({ cls := "CountyGazetteer$Parser", name := "newName", desc := "(Ljava/util/List;)Ljava/lang/String;" } : Jvm.MethodName)) ∈ lw_tbl := lw_at lw_m5 41 rfl
theorem q1178 : (Jvm.Cond.instanceMethod ({ cls := "CountyGazetteer$Parser", name := "newName", desc := "(Ljava/util/List;)Ljava/lang/String;" } : Jvm.MethodName)) ∈ lw_all := lw_g (lw_at lw_m5 42 rfl) rfl
theorem q1179 : (Jvm.Cond.code ({ cls := "CountyGazetteer$Parser", name := "newName", desc := "(Ljava/util/List;)Ljava/lang/String;" } : Jvm.MethodName) prog_12_method_9_code (3 : Nat) (Option.some (Jvm.ClassFile.FieldType.object "java/lang/String"))) ∈ lw_all := lw_g (lw_at lw_m5 43 rfl) rfl
theorem q1180 : (Jvm.Cond.methodLink "CountyGazetteer$Parser" (97 : Nat) ({ cls := "CountyGazetteer$Parser", name := "name", desc := "()Ljava/lang/String;" } : Jvm.MethodName)) ∈ lw_all := lw_g (lw_at lw_m5 44 rfl) rfl
theorem q1181 : (Jvm.Cond.privateMethod ({ cls := "CountyGazetteer$Parser", name := "name", desc := "()Ljava/lang/String;" } : Jvm.MethodName)) ∈ lw_tbl := lw_at lw_m5 45 rfl
theorem q1182 : (Jvm.Cond.instanceMethod ({ cls := "CountyGazetteer$Parser", name := "name", desc := "()Ljava/lang/String;" } : Jvm.MethodName)) ∈ lw_all := lw_g (lw_at lw_m5 46 rfl) rfl
theorem q1183 : (Jvm.Cond.code ({ cls := "CountyGazetteer$Parser", name := "name", desc := "()Ljava/lang/String;" } : Jvm.MethodName) prog_12_method_8_code (2 : Nat) (Option.some (Jvm.ClassFile.FieldType.object "java/lang/String"))) ∈ lw_all := lw_g (lw_at lw_m5 47 rfl) rfl
theorem q1184 : (Jvm.Cond.constantLong "CountyGazetteer$Parser" (95 : Nat) (7 : Int64)) ∈ lw_all := lw_g (lw_at lw_m5 48 rfl) rfl
theorem q1185 : (Jvm.Cond.methodLink "CountyGazetteer$Parser" (100 : Nat) ({ cls := "CountyGazetteer$Named", name := "find", desc := "(Ljava/util/List;Ljava/lang/CharSequence;)I" } : Jvm.MethodName)) ∈ lw_all := lw_g (lw_at lw_m5 49 rfl) rfl
theorem q1306 : (Jvm.Cond.methodLink "CountyGazetteer$Parser" (227 : Nat) ({ cls := "CountyGazetteer$County", name := "<init>", desc := "(Ljava/lang/String;)V" } : Jvm.MethodName)) ∈ lw_all := lw_g (lw_at lw_m5 170 rfl) rfl
theorem q1307 : (Jvm.Cond.interfaceEntry "CountyGazetteer$Parser" (166 : Nat)) ∈ lw_tbl := lw_at lw_m5 171 rfl
theorem q1308 : (Jvm.Cond.methodLink "CountyGazetteer$Parser" (166 : Nat) ({ cls := "java/util/List", name := "add", desc := "(Ljava/lang/Object;)Z" } : Jvm.MethodName)) ∈ lw_all := lw_g (lw_at lw_m5 172 rfl) rfl
theorem q1309 : (Jvm.Cond.methodLink "CountyGazetteer$Parser" (229 : Nat) ({ cls := "CountyGazetteer$Parser", name := "village", desc := "()V" } : Jvm.MethodName)) ∈ lw_all := lw_g (lw_at lw_m5 173 rfl) rfl
theorem q1310 : (Jvm.Cond.privateMethod ({ cls := "CountyGazetteer$Parser", name := "village", desc := "()V" } : Jvm.MethodName)) ∈ lw_tbl := lw_at lw_m5 174 rfl
theorem q1311 : (Jvm.Cond.instanceMethod ({ cls := "CountyGazetteer$Parser", name := "village", desc := "()V" } : Jvm.MethodName)) ∈ lw_all := lw_g (lw_at lw_m5 175 rfl) rfl
theorem q1312 : (Jvm.Cond.code ({ cls := "CountyGazetteer$Parser", name := "village", desc := "()V" } : Jvm.MethodName) prog_12_method_15_code (5 : Nat) (Option.none : Option Jvm.ClassFile.FieldType)) ∈ lw_all := lw_g (lw_at lw_m5 176 rfl) rfl
theorem q1313 : (Jvm.Cond.classLink "CountyGazetteer$Parser" (154 : Nat) "CountyGazetteer$Village") ∈ lw_all := lw_g (lw_at lw_m5 177 rfl) rfl
theorem q1315 : (Jvm.Cond.methodLink "CountyGazetteer$Parser" (156 : Nat) ({ cls := "CountyGazetteer$Village", name := "<init>", desc := "(ILjava/lang/String;III)V" } : Jvm.MethodName)) ∈ lw_all := lw_g (lw_at lw_m5 179 rfl) rfl
theorem q1366 : (Jvm.Cond.fieldLinkNest "CountyGazetteer$Parser" (161 : Nat) "CountyGazetteer$Village" "founded" "I" "CountyGazetteer") ∈ lw_tbl := lw_at lw_m5 230 rfl
theorem q1369 : (Jvm.Cond.fieldLinkNest "CountyGazetteer$Parser" (164 : Nat) "CountyGazetteer$Village" "gone" "I" "CountyGazetteer") ∈ lw_tbl := lw_at lw_m5 233 rfl
theorem q1391 : (Jvm.Cond.stringRef "CountyGazetteer$Parser" (159 : Nat) "gone") ∈ lw_tbl := lw_at lw_m6 15 rfl
theorem q1392 : (Jvm.Cond.methodLink "CountyGazetteer$Parser" (231 : Nat) ({ cls := "CountyGazetteer$Parser", name := "redraw", desc := "()V" } : Jvm.MethodName)) ∈ lw_all := lw_g (lw_at lw_m6 16 rfl) rfl
theorem q1393 : (Jvm.Cond.privateMethod ({ cls := "CountyGazetteer$Parser", name := "redraw", desc := "()V" } : Jvm.MethodName)) ∈ lw_tbl := lw_at lw_m6 17 rfl
theorem q1394 : (Jvm.Cond.instanceMethod ({ cls := "CountyGazetteer$Parser", name := "redraw", desc := "()V" } : Jvm.MethodName)) ∈ lw_all := lw_g (lw_at lw_m6 18 rfl) rfl
theorem q1395 : (Jvm.Cond.code ({ cls := "CountyGazetteer$Parser", name := "redraw", desc := "()V" } : Jvm.MethodName) prog_12_method_16_code (6 : Nat) (Option.none : Option Jvm.ClassFile.FieldType)) ∈ lw_all := lw_g (lw_at lw_m6 19 rfl) rfl
theorem q1396 : (Jvm.Cond.classLink "CountyGazetteer$Parser" (172 : Nat) "CountyGazetteer$Redraw") ∈ lw_all := lw_g (lw_at lw_m6 20 rfl) rfl
theorem q1398 : (Jvm.Cond.methodLink "CountyGazetteer$Parser" (177 : Nat) ({ cls := "CountyGazetteer$Parser", name := "known", desc := "(Ljava/util/List;)I" } : Jvm.MethodName)) ∈ lw_all := lw_g (lw_at lw_m6 22 rfl) rfl
theorem q1399 : (Jvm.Cond.privateMethod ({ cls := "CountyGazetteer$Parser", name := "known", desc := "(Ljava/util/List;)I" } : Jvm.MethodName)) ∈ lw_tbl := lw_at lw_m6 23 rfl
theorem q1400 : (Jvm.Cond.instanceMethod ({ cls := "CountyGazetteer$Parser", name := "known", desc := "(Ljava/util/List;)I" } : Jvm.MethodName)) ∈ lw_all := lw_g (lw_at lw_m6 24 rfl) rfl
theorem q1401 : (Jvm.Cond.code ({ cls := "CountyGazetteer$Parser", name := "known", desc := "(Ljava/util/List;)I" } : Jvm.MethodName) prog_12_method_10_code (4 : Nat) (Option.some Jvm.ClassFile.FieldType.int)) ∈ lw_all := lw_g (lw_at lw_m6 25 rfl) rfl
theorem q1402 : (Jvm.Cond.methodLink "CountyGazetteer$Parser" (181 : Nat) ({ cls := "CountyGazetteer$Redraw", name := "<init>", desc := "(IIIIII)V" } : Jvm.MethodName)) ∈ lw_all := lw_g (lw_at lw_m6 26 rfl) rfl
theorem q1425 : (Jvm.Cond.methodLink "CountyGazetteer$Parser" (233 : Nat) ({ cls := "CountyGazetteer$Parser", name := "join", desc := "()V" } : Jvm.MethodName)) ∈ lw_all := lw_g (lw_at lw_m6 49 rfl) rfl
theorem q1426 : (Jvm.Cond.privateMethod ({ cls := "CountyGazetteer$Parser", name := "join", desc := "()V" } : Jvm.MethodName)) ∈ lw_tbl := lw_at lw_m6 50 rfl
theorem q1427 : (Jvm.Cond.instanceMethod ({ cls := "CountyGazetteer$Parser", name := "join", desc := "()V" } : Jvm.MethodName)) ∈ lw_all := lw_g (lw_at lw_m6 51 rfl) rfl
theorem q1428 : (Jvm.Cond.code ({ cls := "CountyGazetteer$Parser", name := "join", desc := "()V" } : Jvm.MethodName) prog_12_method_17_code (4 : Nat) (Option.none : Option Jvm.ClassFile.FieldType)) ∈ lw_all := lw_g (lw_at lw_m6 52 rfl) rfl
theorem q1429 : (Jvm.Cond.classLink "CountyGazetteer$Parser" (184 : Nat) "CountyGazetteer$Join") ∈ lw_all := lw_g (lw_at lw_m6 53 rfl) rfl
theorem q1431 : (Jvm.Cond.methodLink "CountyGazetteer$Parser" (186 : Nat) ({ cls := "CountyGazetteer$Join", name := "<init>", desc := "(III)V" } : Jvm.MethodName)) ∈ lw_all := lw_g (lw_at lw_m6 55 rfl) rfl
theorem q1445 : (Jvm.Cond.methodLink "CountyGazetteer$Parser" (235 : Nat) ({ cls := "CountyGazetteer$Parser", name := "rename", desc := "()V" } : Jvm.MethodName)) ∈ lw_all := lw_g (lw_at lw_m6 69 rfl) rfl
theorem q1446 : (Jvm.Cond.privateMethod ({ cls := "CountyGazetteer$Parser", name := "rename", desc := "()V" } : Jvm.MethodName)) ∈ lw_tbl := lw_at lw_m6 70 rfl
theorem q1447 : (Jvm.Cond.instanceMethod ({ cls := "CountyGazetteer$Parser", name := "rename", desc := "()V" } : Jvm.MethodName)) ∈ lw_all := lw_g (lw_at lw_m6 71 rfl) rfl
theorem q1448 : (Jvm.Cond.code ({ cls := "CountyGazetteer$Parser", name := "rename", desc := "()V" } : Jvm.MethodName) prog_12_method_18_code (4 : Nat) (Option.none : Option Jvm.ClassFile.FieldType)) ∈ lw_all := lw_g (lw_at lw_m6 72 rfl) rfl
theorem q1449 : (Jvm.Cond.methodLink "CountyGazetteer$Parser" (192 : Nat) ({ cls := "CountyGazetteer$State", name := "renames", desc := "(IILjava/lang/String;)V" } : Jvm.MethodName)) ∈ lw_all := lw_g (lw_at lw_m6 73 rfl) rfl
theorem q1785 : (Jvm.Cond.interfaceEntry "CountyGazetteer$Parser" (242 : Nat)) ∈ lw_tbl := lw_at lw_m7 169 rfl
theorem q1786 : (Jvm.Cond.methodLink "CountyGazetteer$Parser" (242 : Nat) ({ cls := "java/util/List", name := "isEmpty", desc := "()Z" } : Jvm.MethodName)) ∈ lw_all := lw_g (lw_at lw_m7 170 rfl) rfl
theorem q2817 : (Jvm.Cond.selects "CountyGazetteer$Parser" ({ cls := "java/lang/Object", name := "equals", desc := "(Ljava/lang/Object;)Z" } : Jvm.MethodName) ({ cls := "java/lang/Object", name := "equals", desc := "(Ljava/lang/Object;)Z" } : Jvm.MethodName)) ∈ lw_all := lw_g (lw_at lw_m12 1 rfl) rfl
theorem q4488 : (Jvm.Cond.castable "CountyGazetteer$Parser" "java/lang/Object") ∈ lw_tbl := lw_at lw_m18 232 rfl
theorem in_X6 : ∀ w ∈ wsX60, w ∈ lw_all := lw_in wsX60 [647, 649, 651, 653] (by decide +kernel) (by decide +kernel)

/-! CountyGazetteer$ParseException -/
set_option maxRecDepth 100000
def RX7 : String := "CountyGazetteer$ParseException"
def TX7 : u_T := fun k => match k with
  | 0 => ("java/lang/Throwable", "cause", "Ljava/lang/Throwable;", false)
  | 1 => ("java/lang/Throwable", "stackTrace", "[Ljava/lang/StackTraceElement;", false)
  | 2 => ("java/lang/Throwable", "suppressedExceptions", "Ljava/util/List;", false)
  | 3 => ("java/lang/Throwable", "detailMessage", "Ljava/lang/String;", false)
  | 4 => ("java/lang/Throwable", "backtrace", "Ljava/lang/Object;", false)
  | 5 => ("java/lang/Throwable", "depth", "I", false)
  | 6 => ("CountyGazetteer$ParseException", "code", "I", true)
  | _ => ("CountyGazetteer$ParseException", "offset", "I", true)
def tyX7 : Nat → FieldType := fun k => match k with
  | 0 => .object "java/lang/Throwable"
  | 1 => .array (.object "java/lang/StackTraceElement")
  | 2 => .object "java/util/List"
  | 3 => .object "java/lang/String"
  | 4 => .object "java/lang/Object"
  | 5 => .int
  | 6 => .int
  | _ => .int
abbrev wsX70 : List Cond := u_ws RX7 TX7 8
theorem nmX7 : ∀ a, a < 8 → ∀ b, b < 8 → a ≠ b → (TX7 a).2.1 ≠ (TX7 b).2.1 := by decide +kernel
theorem tyX7_ok : ∀ k, k < 8 → parseFieldDescriptor (TX7 k).2.2.1 = some (tyX7 k) := by decide +kernel
abbrev cX7_init : ByteArray := prog_11_method_1_code
def yX7_init : MethodName := ⟨RX7, "<init>", "(II)V"⟩
def dkwX7_init_0 : List UInt8 := [42, 1, 1, 3, 3, 183, 0, 1, 42, 27, 181, 0, 7, 42, 28, 181, 0, 13, 177]
abbrev dktX7_init_0 : List UInt8 := dkwX7_init_0 ++ []
theorem dksX7_init_0 : cX7_init.data.toList.drop 0 = dktX7_init_0 := by decide +kernel
theorem dX7_init_0 : decode cX7_init 0 = .ok (.aload_n 0, 1) := dk_42 (dk_at dksX7_init_0 0 rfl rfl)
theorem dX7_init_1 : decode cX7_init 1 = .ok (.aconst_null, 1) := dk_1 (dk_at dksX7_init_0 1 rfl rfl)
theorem dX7_init_2 : decode cX7_init 2 = .ok (.aconst_null, 1) := dk_1 (dk_at dksX7_init_0 2 rfl rfl)
theorem dX7_init_3 : decode cX7_init 3 = .ok (.iconst 0, 1) := dk_3 (dk_at dksX7_init_0 3 rfl rfl)
theorem dX7_init_4 : decode cX7_init 4 = .ok (.iconst 0, 1) := dk_3 (dk_at dksX7_init_0 4 rfl rfl)
theorem dX7_init_5 : decode cX7_init 5 = .ok (.invokespecial 1, 3) := dk_183 0 1 (dk_at dksX7_init_0 5 rfl rfl)
theorem dX7_init_8 : decode cX7_init 8 = .ok (.aload_n 0, 1) := dk_42 (dk_at dksX7_init_0 8 rfl rfl)
theorem dX7_init_9 : decode cX7_init 9 = .ok (.iload_n 1, 1) := dk_27 (dk_at dksX7_init_0 9 rfl rfl)
theorem dX7_init_10 : decode cX7_init 10 = .ok (.putfield 7, 3) := dk_181 0 7 (dk_at dksX7_init_0 10 rfl rfl)
theorem dX7_init_13 : decode cX7_init 13 = .ok (.aload_n 0, 1) := dk_42 (dk_at dksX7_init_0 13 rfl rfl)
theorem dX7_init_14 : decode cX7_init 14 = .ok (.iload_n 2, 1) := dk_28 (dk_at dksX7_init_0 14 rfl rfl)
theorem dX7_init_15 : decode cX7_init 15 = .ok (.putfield 13, 3) := dk_181 0 13 (dk_at dksX7_init_0 15 rfl rfl)
theorem dX7_init_18 : decode cX7_init 18 = .ok (.return_, 1) := dk_177 (dk_at dksX7_init_0 18 rfl rfl)
theorem q205 : (Jvm.Cond.initialized "CountyGazetteer$ParseException") ∈ lw_all := lw_g (lw_at lw_m1 29 rfl) rfl
theorem q409 : (Jvm.Cond.selects "CountyGazetteer$ParseException" ({ cls := "java/lang/Object", name := "getClass", desc := "()Ljava/lang/Class;" } : Jvm.MethodName) ({ cls := "java/lang/Object", name := "getClass", desc := "()Ljava/lang/Class;" } : Jvm.MethodName)) ∈ lw_all := lw_g (lw_at lw_m1 233 rfl) rfl
theorem q830 : (Jvm.Cond.selects "CountyGazetteer$ParseException" ({ cls := "java/lang/Throwable", name := "fillInStackTrace", desc := "()Ljava/lang/Throwable;" } : Jvm.MethodName) ({ cls := "java/lang/Throwable", name := "fillInStackTrace", desc := "()Ljava/lang/Throwable;" } : Jvm.MethodName)) ∈ lw_all := lw_g (lw_at lw_m3 174 rfl) rfl
theorem q983 : (Jvm.Cond.instantiable "CountyGazetteer$ParseException" (8 : Nat)) ∈ lw_all := lw_g (lw_at lw_m4 87 rfl) rfl
theorem q984 : (Jvm.Cond.castable "CountyGazetteer$ParseException" "CountyGazetteer$ParseException") ∈ lw_tbl := lw_at lw_m4 88 rfl
theorem q985 : (Jvm.Cond.selects "CountyGazetteer$ParseException" ({ cls := "java/lang/Throwable", name := "fillInStackTrace", desc := "(I)Ljava/lang/Throwable;" } : Jvm.MethodName) ({ cls := "java/lang/Throwable", name := "fillInStackTrace", desc := "(I)Ljava/lang/Throwable;" } : Jvm.MethodName)) ∈ lw_all := lw_g (lw_at lw_m4 89 rfl) rfl
theorem q986 : (Jvm.Cond.lays "CountyGazetteer$ParseException" "java/lang/Throwable" "cause" "Ljava/lang/Throwable;") ∈ lw_all := lw_g (lw_at lw_m4 90 rfl) rfl
theorem q987 : (Jvm.Cond.lays "CountyGazetteer$ParseException" "java/lang/Throwable" "stackTrace" "[Ljava/lang/StackTraceElement;") ∈ lw_all := lw_g (lw_at lw_m4 91 rfl) rfl
theorem q988 : (Jvm.Cond.lays "CountyGazetteer$ParseException" "java/lang/Throwable" "suppressedExceptions" "Ljava/util/List;") ∈ lw_all := lw_g (lw_at lw_m4 92 rfl) rfl
theorem q989 : (Jvm.Cond.lays "CountyGazetteer$ParseException" "java/lang/Throwable" "detailMessage" "Ljava/lang/String;") ∈ lw_all := lw_g (lw_at lw_m4 93 rfl) rfl
theorem q990 : (Jvm.Cond.lays "CountyGazetteer$ParseException" "java/lang/Throwable" "backtrace" "Ljava/lang/Object;") ∈ lw_all := lw_g (lw_at lw_m4 94 rfl) rfl
theorem q992 : (Jvm.Cond.instanceMethod ({ cls := "CountyGazetteer$ParseException", name := "<init>", desc := "(II)V" } : Jvm.MethodName)) ∈ lw_all := lw_g (lw_at lw_m4 96 rfl) rfl
theorem q993 : (Jvm.Cond.code ({ cls := "CountyGazetteer$ParseException", name := "<init>", desc := "(II)V" } : Jvm.MethodName) prog_11_method_1_code (3 : Nat) (Option.none : Option Jvm.ClassFile.FieldType)) ∈ lw_all := lw_g (lw_at lw_m4 97 rfl) rfl
theorem q994 : (Jvm.Cond.methodLink "CountyGazetteer$ParseException" (1 : Nat) ({ cls := "java/lang/Exception", name := "<init>", desc := "(Ljava/lang/String;Ljava/lang/Throwable;ZZ)V" } : Jvm.MethodName)) ∈ lw_all := lw_g (lw_at lw_m4 98 rfl) rfl
theorem q1000 : (Jvm.Cond.fieldLink "CountyGazetteer$ParseException" (7 : Nat) "CountyGazetteer$ParseException" "code" "I") ∈ lw_all := lw_g (lw_at lw_m4 104 rfl) rfl
theorem q1002 : (Jvm.Cond.fieldLink "CountyGazetteer$ParseException" (13 : Nat) "CountyGazetteer$ParseException" "offset" "I") ∈ lw_all := lw_g (lw_at lw_m4 106 rfl) rfl
theorem q1004 : (Jvm.Cond.laysFinal "CountyGazetteer$ParseException" "CountyGazetteer$ParseException" "code" "I") ∈ lw_all := lw_g (lw_at lw_m4 108 rfl) rfl
theorem q1005 : (Jvm.Cond.soleField "CountyGazetteer$ParseException" "code") ∈ lw_all := lw_g (lw_at lw_m4 109 rfl) rfl
theorem q1006 : (Jvm.Cond.laysFinal "CountyGazetteer$ParseException" "CountyGazetteer$ParseException" "offset" "I") ∈ lw_all := lw_g (lw_at lw_m4 110 rfl) rfl
theorem q1007 : (Jvm.Cond.soleField "CountyGazetteer$ParseException" "offset") ∈ lw_all := lw_g (lw_at lw_m4 111 rfl) rfl
theorem q1008 : (Jvm.Cond.lays "CountyGazetteer$ParseException" "java/lang/Throwable" "depth" "I") ∈ lw_all := lw_g (lw_at lw_m4 112 rfl) rfl
theorem q1009 : (Jvm.Cond.superclass "CountyGazetteer$ParseException" "java/lang/Exception") ∈ lw_all := lw_g (lw_at lw_m4 113 rfl) rfl
theorem q2257 : (Jvm.Cond.selects "CountyGazetteer$ParseException" ({ cls := "java/lang/Throwable", name := "toString", desc := "()Ljava/lang/String;" } : Jvm.MethodName) ({ cls := "java/lang/Throwable", name := "toString", desc := "()Ljava/lang/String;" } : Jvm.MethodName)) ∈ lw_all := lw_g (lw_at lw_m9 161 rfl) rfl
theorem q2269 : (Jvm.Cond.selects "CountyGazetteer$ParseException" ({ cls := "java/lang/Throwable", name := "getLocalizedMessage", desc := "()Ljava/lang/String;" } : Jvm.MethodName) ({ cls := "java/lang/Throwable", name := "getLocalizedMessage", desc := "()Ljava/lang/String;" } : Jvm.MethodName)) ∈ lw_all := lw_g (lw_at lw_m9 173 rfl) rfl
theorem q2280 : (Jvm.Cond.selects "CountyGazetteer$ParseException" ({ cls := "java/lang/Throwable", name := "getMessage", desc := "()Ljava/lang/String;" } : Jvm.MethodName) ({ cls := "java/lang/Throwable", name := "getMessage", desc := "()Ljava/lang/String;" } : Jvm.MethodName)) ∈ lw_all := lw_g (lw_at lw_m9 184 rfl) rfl
theorem q2816 : (Jvm.Cond.selects "CountyGazetteer$ParseException" ({ cls := "java/lang/Object", name := "equals", desc := "(Ljava/lang/Object;)Z" } : Jvm.MethodName) ({ cls := "java/lang/Object", name := "equals", desc := "(Ljava/lang/Object;)Z" } : Jvm.MethodName)) ∈ lw_all := lw_g (lw_at lw_m12 0 rfl) rfl
theorem q4492 : (Jvm.Cond.castable "CountyGazetteer$ParseException" "java/lang/Object") ∈ lw_tbl := lw_at lw_m18 236 rfl
theorem in_X7 : ∀ w ∈ wsX70, w ∈ lw_all := lw_in wsX70 [986, 987, 988, 989, 990, 1008, 1004, 1006] (by decide +kernel) (by decide +kernel)

/-! CountyGazetteer$Named -/
set_option maxRecDepth 100000
def RX8 : String := "CountyGazetteer$Named"
abbrev cX8_find : ByteArray := prog_10_method_4_code
def yX8_find : MethodName := ⟨RX8, "find", "(Ljava/util/List;Ljava/lang/CharSequence;)I"⟩
def dkwX8_find_1 : List UInt8 := [185, 0, 32, 2, 0, 153, 0, 5, 28, 172, 132, 2, 1, 167, 255, 222, 2, 172]
abbrev dktX8_find_1 : List UInt8 := dkwX8_find_1 ++ []
def dkwX8_find_0 : List UInt8 := [3, 61, 28, 42, 185, 0, 23, 1, 0, 162, 0, 30, 42, 28, 185, 0, 28, 2, 0, 192, 0, 4, 43]
abbrev dktX8_find_0 : List UInt8 := dkwX8_find_0 ++ dktX8_find_1
theorem dksX8_find_0 : cX8_find.data.toList.drop 0 = dktX8_find_0 := by decide +kernel
theorem dksX8_find_1 : cX8_find.data.toList.drop 23 = dktX8_find_1 := dk_seg dksX8_find_0 23 rfl rfl
theorem dX8_find_0 : decode cX8_find 0 = .ok (.iconst 0, 1) := dk_3 (dk_at dksX8_find_0 0 rfl rfl)
theorem dX8_find_1 : decode cX8_find 1 = .ok (.istore_n 2, 1) := dk_61 (dk_at dksX8_find_0 1 rfl rfl)
theorem dX8_find_2 : decode cX8_find 2 = .ok (.iload_n 2, 1) := dk_28 (dk_at dksX8_find_0 2 rfl rfl)
theorem dX8_find_3 : decode cX8_find 3 = .ok (.aload_n 0, 1) := dk_42 (dk_at dksX8_find_0 3 rfl rfl)
theorem dX8_find_4 : decode cX8_find 4 = .ok (.invokeinterface 23 1, 5) := by decide +kernel
theorem dX8_find_9 : decode cX8_find 9 = .ok (.if_icmp .ge 30, 3) := dk_162 0 30 (dk_at dksX8_find_0 9 rfl rfl)
theorem dX8_find_12 : decode cX8_find 12 = .ok (.aload_n 0, 1) := dk_42 (dk_at dksX8_find_0 12 rfl rfl)
theorem dX8_find_13 : decode cX8_find 13 = .ok (.iload_n 2, 1) := dk_28 (dk_at dksX8_find_0 13 rfl rfl)
theorem dX8_find_14 : decode cX8_find 14 = .ok (.invokeinterface 28 2, 5) := by decide +kernel
theorem dX8_find_19 : decode cX8_find 19 = .ok (.checkcast 4, 3) := dk_192 0 4 (dk_at dksX8_find_0 19 rfl rfl)
theorem dX8_find_22 : decode cX8_find 22 = .ok (.aload_n 1, 1) := dk_43 (dk_at dksX8_find_0 22 rfl rfl)
theorem dX8_find_23 : decode cX8_find 23 = .ok (.invokeinterface 32 2, 5) := by decide +kernel
theorem dX8_find_28 : decode cX8_find 28 = .ok (.ifCond .eq 5, 3) := dk_153 0 5 (dk_at dksX8_find_1 5 rfl rfl)
theorem dX8_find_31 : decode cX8_find 31 = .ok (.iload_n 2, 1) := dk_28 (dk_at dksX8_find_1 8 rfl rfl)
theorem dX8_find_32 : decode cX8_find 32 = .ok (.ireturn, 1) := dk_172 (dk_at dksX8_find_1 9 rfl rfl)
theorem dX8_find_33 : decode cX8_find 33 = .ok (.iinc 2 1, 3) := dk_132 2 1 (dk_at dksX8_find_1 10 rfl rfl)
theorem dX8_find_36 : decode cX8_find 36 = .ok (.goto (-34), 3) := dk_167 255 222 (dk_at dksX8_find_1 13 rfl rfl)
theorem dX8_find_39 : decode cX8_find 39 = .ok (.iconst (-1), 1) := dk_2 (dk_at dksX8_find_1 16 rfl rfl)
theorem dX8_find_40 : decode cX8_find 40 = .ok (.ireturn, 1) := dk_172 (dk_at dksX8_find_1 17 rfl rfl)
abbrev cX8_isNamed : ByteArray := prog_10_method_2_code
def yX8_isNamed : MethodName := ⟨RX8, "isNamed", "(Ljava/lang/CharSequence;)Z"⟩
def dkwX8_isNamed_0 : List UInt8 := [42, 185, 0, 3, 1, 0, 43, 184, 0, 9, 154, 0, 7, 4, 167, 0, 4, 3, 172]
abbrev dktX8_isNamed_0 : List UInt8 := dkwX8_isNamed_0 ++ []
theorem dksX8_isNamed_0 : cX8_isNamed.data.toList.drop 0 = dktX8_isNamed_0 := by decide +kernel
theorem dX8_isNamed_0 : decode cX8_isNamed 0 = .ok (.aload_n 0, 1) := dk_42 (dk_at dksX8_isNamed_0 0 rfl rfl)
theorem dX8_isNamed_1 : decode cX8_isNamed 1 = .ok (.invokeinterface 3 1, 5) := by decide +kernel
theorem dX8_isNamed_6 : decode cX8_isNamed 6 = .ok (.aload_n 1, 1) := dk_43 (dk_at dksX8_isNamed_0 6 rfl rfl)
theorem dX8_isNamed_7 : decode cX8_isNamed 7 = .ok (.invokestatic 9, 3) := dk_184 0 9 (dk_at dksX8_isNamed_0 7 rfl rfl)
theorem dX8_isNamed_10 : decode cX8_isNamed 10 = .ok (.ifCond .ne 7, 3) := dk_154 0 7 (dk_at dksX8_isNamed_0 10 rfl rfl)
theorem dX8_isNamed_13 : decode cX8_isNamed 13 = .ok (.iconst 1, 1) := dk_4 (dk_at dksX8_isNamed_0 13 rfl rfl)
theorem dX8_isNamed_14 : decode cX8_isNamed 14 = .ok (.goto 4, 3) := dk_167 0 4 (dk_at dksX8_isNamed_0 14 rfl rfl)
theorem dX8_isNamed_17 : decode cX8_isNamed 17 = .ok (.iconst 0, 1) := dk_3 (dk_at dksX8_isNamed_0 17 rfl rfl)
theorem dX8_isNamed_18 : decode cX8_isNamed 18 = .ok (.ireturn, 1) := dk_172 (dk_at dksX8_isNamed_0 18 rfl rfl)
abbrev cX8_compare : ByteArray := prog_10_method_3_code
def yX8_compare : MethodName := ⟨RX8, "compare", "(Ljava/lang/CharSequence;Ljava/lang/CharSequence;)I"⟩
def dkwX8_compare_3 : List UInt8 := [185, 0, 13, 1, 0, 100, 172]
abbrev dktX8_compare_3 : List UInt8 := dkwX8_compare_3 ++ []
def dkwX8_compare_2 : List UInt8 := [185, 0, 19, 2, 0, 100, 172, 132, 2, 1, 167, 255, 200, 42, 185, 0, 13, 1, 0, 43]
abbrev dktX8_compare_2 : List UInt8 := dkwX8_compare_2 ++ dktX8_compare_3
def dkwX8_compare_1 : List UInt8 := [185, 0, 19, 2, 0, 43, 28, 185, 0, 19, 2, 0, 159, 0, 19, 42, 28, 185, 0, 19, 2, 0, 43, 28]
abbrev dktX8_compare_1 : List UInt8 := dkwX8_compare_1 ++ dktX8_compare_2
def dkwX8_compare_0 : List UInt8 := [3, 61, 28, 42, 185, 0, 13, 1, 0, 162, 0, 52, 28, 43, 185, 0, 13, 1, 0, 162, 0, 42, 42, 28]
abbrev dktX8_compare_0 : List UInt8 := dkwX8_compare_0 ++ dktX8_compare_1
theorem dksX8_compare_0 : cX8_compare.data.toList.drop 0 = dktX8_compare_0 := by decide +kernel
theorem dksX8_compare_1 : cX8_compare.data.toList.drop 24 = dktX8_compare_1 := dk_seg dksX8_compare_0 24 rfl rfl
theorem dksX8_compare_2 : cX8_compare.data.toList.drop 48 = dktX8_compare_2 := dk_seg dksX8_compare_1 24 rfl rfl
theorem dksX8_compare_3 : cX8_compare.data.toList.drop 68 = dktX8_compare_3 := dk_seg dksX8_compare_2 20 rfl rfl
theorem dX8_compare_0 : decode cX8_compare 0 = .ok (.iconst 0, 1) := dk_3 (dk_at dksX8_compare_0 0 rfl rfl)
theorem dX8_compare_1 : decode cX8_compare 1 = .ok (.istore_n 2, 1) := dk_61 (dk_at dksX8_compare_0 1 rfl rfl)
theorem dX8_compare_2 : decode cX8_compare 2 = .ok (.iload_n 2, 1) := dk_28 (dk_at dksX8_compare_0 2 rfl rfl)
theorem dX8_compare_3 : decode cX8_compare 3 = .ok (.aload_n 0, 1) := dk_42 (dk_at dksX8_compare_0 3 rfl rfl)
theorem dX8_compare_4 : decode cX8_compare 4 = .ok (.invokeinterface 13 1, 5) := by decide +kernel
theorem dX8_compare_9 : decode cX8_compare 9 = .ok (.if_icmp .ge 52, 3) := dk_162 0 52 (dk_at dksX8_compare_0 9 rfl rfl)
theorem dX8_compare_12 : decode cX8_compare 12 = .ok (.iload_n 2, 1) := dk_28 (dk_at dksX8_compare_0 12 rfl rfl)
theorem dX8_compare_13 : decode cX8_compare 13 = .ok (.aload_n 1, 1) := dk_43 (dk_at dksX8_compare_0 13 rfl rfl)
theorem dX8_compare_14 : decode cX8_compare 14 = .ok (.invokeinterface 13 1, 5) := by decide +kernel
theorem dX8_compare_19 : decode cX8_compare 19 = .ok (.if_icmp .ge 42, 3) := dk_162 0 42 (dk_at dksX8_compare_0 19 rfl rfl)
theorem dX8_compare_22 : decode cX8_compare 22 = .ok (.aload_n 0, 1) := dk_42 (dk_at dksX8_compare_0 22 rfl rfl)
theorem dX8_compare_23 : decode cX8_compare 23 = .ok (.iload_n 2, 1) := dk_28 (dk_at dksX8_compare_0 23 rfl rfl)
theorem dX8_compare_24 : decode cX8_compare 24 = .ok (.invokeinterface 19 2, 5) := by decide +kernel
theorem dX8_compare_29 : decode cX8_compare 29 = .ok (.aload_n 1, 1) := dk_43 (dk_at dksX8_compare_1 5 rfl rfl)
theorem dX8_compare_30 : decode cX8_compare 30 = .ok (.iload_n 2, 1) := dk_28 (dk_at dksX8_compare_1 6 rfl rfl)
theorem dX8_compare_31 : decode cX8_compare 31 = .ok (.invokeinterface 19 2, 5) := by decide +kernel
theorem dX8_compare_36 : decode cX8_compare 36 = .ok (.if_icmp .eq 19, 3) := dk_159 0 19 (dk_at dksX8_compare_1 12 rfl rfl)
theorem dX8_compare_39 : decode cX8_compare 39 = .ok (.aload_n 0, 1) := dk_42 (dk_at dksX8_compare_1 15 rfl rfl)
theorem dX8_compare_40 : decode cX8_compare 40 = .ok (.iload_n 2, 1) := dk_28 (dk_at dksX8_compare_1 16 rfl rfl)
theorem dX8_compare_41 : decode cX8_compare 41 = .ok (.invokeinterface 19 2, 5) := by decide +kernel
theorem dX8_compare_46 : decode cX8_compare 46 = .ok (.aload_n 1, 1) := dk_43 (dk_at dksX8_compare_1 22 rfl rfl)
theorem dX8_compare_47 : decode cX8_compare 47 = .ok (.iload_n 2, 1) := dk_28 (dk_at dksX8_compare_1 23 rfl rfl)
theorem dX8_compare_48 : decode cX8_compare 48 = .ok (.invokeinterface 19 2, 5) := by decide +kernel
theorem dX8_compare_53 : decode cX8_compare 53 = .ok (.isub, 1) := dk_100 (dk_at dksX8_compare_2 5 rfl rfl)
theorem dX8_compare_54 : decode cX8_compare 54 = .ok (.ireturn, 1) := dk_172 (dk_at dksX8_compare_2 6 rfl rfl)
theorem dX8_compare_55 : decode cX8_compare 55 = .ok (.iinc 2 1, 3) := dk_132 2 1 (dk_at dksX8_compare_2 7 rfl rfl)
theorem dX8_compare_58 : decode cX8_compare 58 = .ok (.goto (-56), 3) := dk_167 255 200 (dk_at dksX8_compare_2 10 rfl rfl)
theorem dX8_compare_61 : decode cX8_compare 61 = .ok (.aload_n 0, 1) := dk_42 (dk_at dksX8_compare_2 13 rfl rfl)
theorem dX8_compare_62 : decode cX8_compare 62 = .ok (.invokeinterface 13 1, 5) := by decide +kernel
theorem dX8_compare_67 : decode cX8_compare 67 = .ok (.aload_n 1, 1) := dk_43 (dk_at dksX8_compare_2 19 rfl rfl)
theorem dX8_compare_68 : decode cX8_compare 68 = .ok (.invokeinterface 13 1, 5) := by decide +kernel
theorem dX8_compare_73 : decode cX8_compare 73 = .ok (.isub, 1) := dk_100 (dk_at dksX8_compare_3 5 rfl rfl)
theorem dX8_compare_74 : decode cX8_compare 74 = .ok (.ireturn, 1) := dk_172 (dk_at dksX8_compare_3 6 rfl rfl)
theorem q207 : (Jvm.Cond.initialized "CountyGazetteer$Named") ∈ lw_all := lw_g (lw_at lw_m1 31 rfl) rfl
theorem q1186 : (Jvm.Cond.static ({ cls := "CountyGazetteer$Named", name := "find", desc := "(Ljava/util/List;Ljava/lang/CharSequence;)I" } : Jvm.MethodName)) ∈ lw_all := lw_g (lw_at lw_m5 50 rfl) rfl
theorem q1187 : (Jvm.Cond.code ({ cls := "CountyGazetteer$Named", name := "find", desc := "(Ljava/util/List;Ljava/lang/CharSequence;)I" } : Jvm.MethodName) prog_10_method_4_code (3 : Nat) (Option.some Jvm.ClassFile.FieldType.int)) ∈ lw_all := lw_g (lw_at lw_m5 51 rfl) rfl
theorem q1188 : (Jvm.Cond.interfaceEntry "CountyGazetteer$Named" (23 : Nat)) ∈ lw_tbl := lw_at lw_m5 52 rfl
theorem q1189 : (Jvm.Cond.methodLink "CountyGazetteer$Named" (23 : Nat) ({ cls := "java/util/List", name := "size", desc := "()I" } : Jvm.MethodName)) ∈ lw_all := lw_g (lw_at lw_m5 53 rfl) rfl
theorem q1190 : (Jvm.Cond.interfaceEntry "CountyGazetteer$Named" (28 : Nat)) ∈ lw_tbl := lw_at lw_m5 54 rfl
theorem q1191 : (Jvm.Cond.methodLink "CountyGazetteer$Named" (28 : Nat) ({ cls := "java/util/List", name := "get", desc := "(I)Ljava/lang/Object;" } : Jvm.MethodName)) ∈ lw_all := lw_g (lw_at lw_m5 55 rfl) rfl
theorem q1238 : (Jvm.Cond.classLink "CountyGazetteer$Named" (4 : Nat) "CountyGazetteer$Named") ∈ lw_all := lw_g (lw_at lw_m5 102 rfl) rfl
theorem q1239 : (Jvm.Cond.interfaceEntry "CountyGazetteer$Named" (32 : Nat)) ∈ lw_tbl := lw_at lw_m5 103 rfl
theorem q1240 : (Jvm.Cond.methodLink "CountyGazetteer$Named" (32 : Nat) ({ cls := "CountyGazetteer$Named", name := "isNamed", desc := "(Ljava/lang/CharSequence;)Z" } : Jvm.MethodName)) ∈ lw_all := lw_g (lw_at lw_m5 104 rfl) rfl
theorem q1241 : (Jvm.Cond.interfaceMethod "CountyGazetteer$Named" "CountyGazetteer$Named" "isNamed" "(Ljava/lang/CharSequence;)Z") ∈ lw_tbl := lw_at lw_m5 105 rfl
theorem q1242 : (Jvm.Cond.declares ({ cls := "CountyGazetteer$Named", name := "isNamed", desc := "(Ljava/lang/CharSequence;)Z" } : Jvm.MethodName)) ∈ lw_tbl := lw_at lw_m5 106 rfl
theorem q1245 : (Jvm.Cond.instanceMethod ({ cls := "CountyGazetteer$Named", name := "isNamed", desc := "(Ljava/lang/CharSequence;)Z" } : Jvm.MethodName)) ∈ lw_all := lw_g (lw_at lw_m5 109 rfl) rfl
theorem q1246 : (Jvm.Cond.publicMethod ({ cls := "CountyGazetteer$Named", name := "isNamed", desc := "(Ljava/lang/CharSequence;)Z" } : Jvm.MethodName)) ∈ lw_tbl := lw_at lw_m5 110 rfl
theorem q1247 : (Jvm.Cond.code ({ cls := "CountyGazetteer$Named", name := "isNamed", desc := "(Ljava/lang/CharSequence;)Z" } : Jvm.MethodName) prog_10_method_2_code (2 : Nat) (Option.some Jvm.ClassFile.FieldType.boolean)) ∈ lw_all := lw_g (lw_at lw_m5 111 rfl) rfl
theorem q1248 : (Jvm.Cond.interfaceEntry "CountyGazetteer$Named" (3 : Nat)) ∈ lw_tbl := lw_at lw_m5 112 rfl
theorem q1249 : (Jvm.Cond.methodLink "CountyGazetteer$Named" (3 : Nat) ({ cls := "CountyGazetteer$Named", name := "name", desc := "()Ljava/lang/String;" } : Jvm.MethodName)) ∈ lw_all := lw_g (lw_at lw_m5 113 rfl) rfl
theorem q1250 : (Jvm.Cond.interfaceMethod "CountyGazetteer$Named" "CountyGazetteer$Named" "name" "()Ljava/lang/String;") ∈ lw_tbl := lw_at lw_m5 114 rfl
theorem q1251 : (Jvm.Cond.declares ({ cls := "CountyGazetteer$Named", name := "name", desc := "()Ljava/lang/String;" } : Jvm.MethodName)) ∈ lw_tbl := lw_at lw_m5 115 rfl
theorem q1263 : (Jvm.Cond.methodLink "CountyGazetteer$Named" (9 : Nat) ({ cls := "CountyGazetteer$Named", name := "compare", desc := "(Ljava/lang/CharSequence;Ljava/lang/CharSequence;)I" } : Jvm.MethodName)) ∈ lw_all := lw_g (lw_at lw_m5 127 rfl) rfl
theorem q1264 : (Jvm.Cond.static ({ cls := "CountyGazetteer$Named", name := "compare", desc := "(Ljava/lang/CharSequence;Ljava/lang/CharSequence;)I" } : Jvm.MethodName)) ∈ lw_all := lw_g (lw_at lw_m5 128 rfl) rfl
theorem q1265 : (Jvm.Cond.code ({ cls := "CountyGazetteer$Named", name := "compare", desc := "(Ljava/lang/CharSequence;Ljava/lang/CharSequence;)I" } : Jvm.MethodName) prog_10_method_3_code (3 : Nat) (Option.some Jvm.ClassFile.FieldType.int)) ∈ lw_all := lw_g (lw_at lw_m5 129 rfl) rfl
theorem q1266 : (Jvm.Cond.interfaceEntry "CountyGazetteer$Named" (13 : Nat)) ∈ lw_tbl := lw_at lw_m5 130 rfl
theorem q1267 : (Jvm.Cond.methodLink "CountyGazetteer$Named" (13 : Nat) ({ cls := "java/lang/CharSequence", name := "length", desc := "()I" } : Jvm.MethodName)) ∈ lw_all := lw_g (lw_at lw_m5 131 rfl) rfl
theorem q1278 : (Jvm.Cond.interfaceEntry "CountyGazetteer$Named" (19 : Nat)) ∈ lw_tbl := lw_at lw_m5 142 rfl
theorem q1279 : (Jvm.Cond.methodLink "CountyGazetteer$Named" (19 : Nat) ({ cls := "java/lang/CharSequence", name := "charAt", desc := "(I)C" } : Jvm.MethodName)) ∈ lw_all := lw_g (lw_at lw_m5 143 rfl) rfl

/-! CountyGazetteer$Village -/
set_option maxRecDepth 100000
def RX9 : String := "CountyGazetteer$Village"
def TX9 : u_T := fun k => match k with
  | 0 => ("CountyGazetteer$Village", "name", "Ljava/lang/String;", true)
  | 1 => ("CountyGazetteer$Village", "number", "I", true)
  | 2 => ("CountyGazetteer$Village", "x", "I", true)
  | 3 => ("CountyGazetteer$Village", "y", "I", true)
  | 4 => ("CountyGazetteer$Village", "founded", "I", true)
  | 5 => ("CountyGazetteer$Village", "gone", "I", false)
  | 6 => ("CountyGazetteer$Village", "renames", "Ljava/util/TreeMap;", true)
  | _ => ("CountyGazetteer$Village", "renamed", "I", false)
def tyX9 : Nat → FieldType := fun k => match k with
  | 0 => .object "java/lang/String"
  | 1 => .int
  | 2 => .int
  | 3 => .int
  | 4 => .int
  | 5 => .int
  | 6 => .object "java/util/TreeMap"
  | _ => .int
abbrev wsX90 : List Cond := u_ws RX9 TX9 8
theorem nmX9 : ∀ a, a < 8 → ∀ b, b < 8 → a ≠ b → (TX9 a).2.1 ≠ (TX9 b).2.1 := by decide +kernel
theorem tyX9_ok : ∀ k, k < 8 → parseFieldDescriptor (TX9 k).2.2.1 = some (tyX9 k) := by decide +kernel
abbrev cX9_name : ByteArray := prog_17_method_3_code
def yX9_name : MethodName := ⟨RX9, "name", "()Ljava/lang/String;"⟩
theorem dX9_name_0 : decode cX9_name 0 = .ok (.aload_n 0, 1) := by decide +kernel
theorem dX9_name_1 : decode cX9_name 1 = .ok (.getfield 25, 3) := by decide +kernel
theorem dX9_name_4 : decode cX9_name 4 = .ok (.areturn, 1) := by decide +kernel
abbrev cX9_init : ByteArray := prog_17_method_1_code
def yX9_init : MethodName := ⟨RX9, "<init>", "(ILjava/lang/String;III)V"⟩
def dkwX9_init_2 : List UInt8 := [181, 0, 35, 177]
abbrev dktX9_init_2 : List UInt8 := dkwX9_init_2 ++ []
def dkwX9_init_1 : List UInt8 := [181, 0, 22, 42, 44, 181, 0, 25, 42, 29, 181, 0, 29, 42, 21, 4, 181, 0, 32, 42, 21, 5]
abbrev dktX9_init_1 : List UInt8 := dkwX9_init_1 ++ dktX9_init_2
def dkwX9_init_0 : List UInt8 := [42, 183, 0, 3, 42, 17, 3, 232, 181, 0, 9, 42, 187, 0, 15, 89, 183, 0, 17, 181, 0, 18, 42, 27]
abbrev dktX9_init_0 : List UInt8 := dkwX9_init_0 ++ dktX9_init_1
theorem dksX9_init_0 : cX9_init.data.toList.drop 0 = dktX9_init_0 := by decide +kernel
theorem dksX9_init_1 : cX9_init.data.toList.drop 24 = dktX9_init_1 := dk_seg dksX9_init_0 24 rfl rfl
theorem dksX9_init_2 : cX9_init.data.toList.drop 46 = dktX9_init_2 := dk_seg dksX9_init_1 22 rfl rfl
theorem dX9_init_0 : decode cX9_init 0 = .ok (.aload_n 0, 1) := dk_42 (dk_at dksX9_init_0 0 rfl rfl)
theorem dX9_init_1 : decode cX9_init 1 = .ok (.invokespecial 3, 3) := dk_183 0 3 (dk_at dksX9_init_0 1 rfl rfl)
theorem dX9_init_4 : decode cX9_init 4 = .ok (.aload_n 0, 1) := dk_42 (dk_at dksX9_init_0 4 rfl rfl)
theorem dX9_init_5 : decode cX9_init 5 = .ok (.sipush 1000, 3) := dk_17 3 232 (dk_at dksX9_init_0 5 rfl rfl)
theorem dX9_init_8 : decode cX9_init 8 = .ok (.putfield 9, 3) := dk_181 0 9 (dk_at dksX9_init_0 8 rfl rfl)
theorem dX9_init_11 : decode cX9_init 11 = .ok (.aload_n 0, 1) := dk_42 (dk_at dksX9_init_0 11 rfl rfl)
theorem dX9_init_12 : decode cX9_init 12 = .ok (.new 15, 3) := dk_187 0 15 (dk_at dksX9_init_0 12 rfl rfl)
theorem dX9_init_15 : decode cX9_init 15 = .ok (.dup, 1) := dk_89 (dk_at dksX9_init_0 15 rfl rfl)
theorem dX9_init_16 : decode cX9_init 16 = .ok (.invokespecial 17, 3) := dk_183 0 17 (dk_at dksX9_init_0 16 rfl rfl)
theorem dX9_init_19 : decode cX9_init 19 = .ok (.putfield 18, 3) := dk_181 0 18 (dk_at dksX9_init_0 19 rfl rfl)
theorem dX9_init_22 : decode cX9_init 22 = .ok (.aload_n 0, 1) := dk_42 (dk_at dksX9_init_0 22 rfl rfl)
theorem dX9_init_23 : decode cX9_init 23 = .ok (.iload_n 1, 1) := dk_27 (dk_at dksX9_init_0 23 rfl rfl)
theorem dX9_init_24 : decode cX9_init 24 = .ok (.putfield 22, 3) := dk_181 0 22 (dk_at dksX9_init_1 0 rfl rfl)
theorem dX9_init_27 : decode cX9_init 27 = .ok (.aload_n 0, 1) := dk_42 (dk_at dksX9_init_1 3 rfl rfl)
theorem dX9_init_28 : decode cX9_init 28 = .ok (.aload_n 2, 1) := dk_44 (dk_at dksX9_init_1 4 rfl rfl)
theorem dX9_init_29 : decode cX9_init 29 = .ok (.putfield 25, 3) := dk_181 0 25 (dk_at dksX9_init_1 5 rfl rfl)
theorem dX9_init_32 : decode cX9_init 32 = .ok (.aload_n 0, 1) := dk_42 (dk_at dksX9_init_1 8 rfl rfl)
theorem dX9_init_33 : decode cX9_init 33 = .ok (.iload_n 3, 1) := dk_29 (dk_at dksX9_init_1 9 rfl rfl)
theorem dX9_init_34 : decode cX9_init 34 = .ok (.putfield 29, 3) := dk_181 0 29 (dk_at dksX9_init_1 10 rfl rfl)
theorem dX9_init_37 : decode cX9_init 37 = .ok (.aload_n 0, 1) := dk_42 (dk_at dksX9_init_1 13 rfl rfl)
theorem dX9_init_38 : decode cX9_init 38 = .ok (.iload 4, 2) := dk_21 4 (dk_at dksX9_init_1 14 rfl rfl)
theorem dX9_init_40 : decode cX9_init 40 = .ok (.putfield 32, 3) := dk_181 0 32 (dk_at dksX9_init_1 16 rfl rfl)
theorem dX9_init_43 : decode cX9_init 43 = .ok (.aload_n 0, 1) := dk_42 (dk_at dksX9_init_1 19 rfl rfl)
theorem dX9_init_44 : decode cX9_init 44 = .ok (.iload 5, 2) := dk_21 5 (dk_at dksX9_init_1 20 rfl rfl)
theorem dX9_init_46 : decode cX9_init 46 = .ok (.putfield 35, 3) := dk_181 0 35 (dk_at dksX9_init_2 0 rfl rfl)
theorem dX9_init_49 : decode cX9_init 49 = .ok (.return_, 1) := dk_177 (dk_at dksX9_init_2 3 rfl rfl)
abbrev cX9_takes : ByteArray := prog_17_method_5_code
def yX9_takes : MethodName := ⟨RX9, "takes", "(ILjava/lang/String;)V"⟩
def dkwX9_takes_1 : List UInt8 := [181, 0, 45, 177]
abbrev dktX9_takes_1 : List UInt8 := dkwX9_takes_1 ++ []
def dkwX9_takes_0 : List UInt8 := [42, 180, 0, 18, 27, 184, 0, 52, 44, 182, 0, 58, 192, 0, 62, 78, 42, 89, 180, 0, 45, 4, 96]
abbrev dktX9_takes_0 : List UInt8 := dkwX9_takes_0 ++ dktX9_takes_1
theorem dksX9_takes_0 : cX9_takes.data.toList.drop 0 = dktX9_takes_0 := by decide +kernel
theorem dksX9_takes_1 : cX9_takes.data.toList.drop 23 = dktX9_takes_1 := dk_seg dksX9_takes_0 23 rfl rfl
theorem dX9_takes_0 : decode cX9_takes 0 = .ok (.aload_n 0, 1) := dk_42 (dk_at dksX9_takes_0 0 rfl rfl)
theorem dX9_takes_1 : decode cX9_takes 1 = .ok (.getfield 18, 3) := dk_180 0 18 (dk_at dksX9_takes_0 1 rfl rfl)
theorem dX9_takes_4 : decode cX9_takes 4 = .ok (.iload_n 1, 1) := dk_27 (dk_at dksX9_takes_0 4 rfl rfl)
theorem dX9_takes_5 : decode cX9_takes 5 = .ok (.invokestatic 52, 3) := dk_184 0 52 (dk_at dksX9_takes_0 5 rfl rfl)
theorem dX9_takes_8 : decode cX9_takes 8 = .ok (.aload_n 2, 1) := dk_44 (dk_at dksX9_takes_0 8 rfl rfl)
theorem dX9_takes_9 : decode cX9_takes 9 = .ok (.invokevirtual 58, 3) := dk_182 0 58 (dk_at dksX9_takes_0 9 rfl rfl)
theorem dX9_takes_12 : decode cX9_takes 12 = .ok (.checkcast 62, 3) := dk_192 0 62 (dk_at dksX9_takes_0 12 rfl rfl)
theorem dX9_takes_15 : decode cX9_takes 15 = .ok (.astore_n 3, 1) := dk_78 (dk_at dksX9_takes_0 15 rfl rfl)
theorem dX9_takes_16 : decode cX9_takes 16 = .ok (.aload_n 0, 1) := dk_42 (dk_at dksX9_takes_0 16 rfl rfl)
theorem dX9_takes_17 : decode cX9_takes 17 = .ok (.dup, 1) := dk_89 (dk_at dksX9_takes_0 17 rfl rfl)
theorem dX9_takes_18 : decode cX9_takes 18 = .ok (.getfield 45, 3) := dk_180 0 45 (dk_at dksX9_takes_0 18 rfl rfl)
theorem dX9_takes_21 : decode cX9_takes 21 = .ok (.iconst 1, 1) := dk_4 (dk_at dksX9_takes_0 21 rfl rfl)
theorem dX9_takes_22 : decode cX9_takes 22 = .ok (.iadd, 1) := dk_96 (dk_at dksX9_takes_0 22 rfl rfl)
theorem dX9_takes_23 : decode cX9_takes 23 = .ok (.putfield 45, 3) := dk_181 0 45 (dk_at dksX9_takes_1 0 rfl rfl)
theorem dX9_takes_26 : decode cX9_takes 26 = .ok (.return_, 1) := dk_177 (dk_at dksX9_takes_1 3 rfl rfl)
abbrev cX9_livesIn : ByteArray := prog_17_method_4_code
def yX9_livesIn : MethodName := ⟨RX9, "livesIn", "(I)Z"⟩
def dkwX9_livesIn_0 : List UInt8 := [27, 133, 42, 180, 0, 35, 133, 42, 180, 0, 9, 4, 100, 133, 184, 0, 48, 172]
abbrev dktX9_livesIn_0 : List UInt8 := dkwX9_livesIn_0 ++ []
theorem dksX9_livesIn_0 : cX9_livesIn.data.toList.drop 0 = dktX9_livesIn_0 := by decide +kernel
theorem dX9_livesIn_0 : decode cX9_livesIn 0 = .ok (.iload_n 1, 1) := dk_27 (dk_at dksX9_livesIn_0 0 rfl rfl)
theorem dX9_livesIn_1 : decode cX9_livesIn 1 = .ok (.i2l, 1) := dk_133 (dk_at dksX9_livesIn_0 1 rfl rfl)
theorem dX9_livesIn_2 : decode cX9_livesIn 2 = .ok (.aload_n 0, 1) := dk_42 (dk_at dksX9_livesIn_0 2 rfl rfl)
theorem dX9_livesIn_3 : decode cX9_livesIn 3 = .ok (.getfield 35, 3) := dk_180 0 35 (dk_at dksX9_livesIn_0 3 rfl rfl)
theorem dX9_livesIn_6 : decode cX9_livesIn 6 = .ok (.i2l, 1) := dk_133 (dk_at dksX9_livesIn_0 6 rfl rfl)
theorem dX9_livesIn_7 : decode cX9_livesIn 7 = .ok (.aload_n 0, 1) := dk_42 (dk_at dksX9_livesIn_0 7 rfl rfl)
theorem dX9_livesIn_8 : decode cX9_livesIn 8 = .ok (.getfield 9, 3) := dk_180 0 9 (dk_at dksX9_livesIn_0 8 rfl rfl)
theorem dX9_livesIn_11 : decode cX9_livesIn 11 = .ok (.iconst 1, 1) := dk_4 (dk_at dksX9_livesIn_0 11 rfl rfl)
theorem dX9_livesIn_12 : decode cX9_livesIn 12 = .ok (.isub, 1) := dk_100 (dk_at dksX9_livesIn_0 12 rfl rfl)
theorem dX9_livesIn_13 : decode cX9_livesIn 13 = .ok (.i2l, 1) := dk_133 (dk_at dksX9_livesIn_0 13 rfl rfl)
theorem dX9_livesIn_14 : decode cX9_livesIn 14 = .ok (.invokestatic 48, 3) := dk_184 0 48 (dk_at dksX9_livesIn_0 14 rfl rfl)
theorem dX9_livesIn_17 : decode cX9_livesIn 17 = .ok (.ireturn, 1) := dk_172 (dk_at dksX9_livesIn_0 17 rfl rfl)
abbrev cX9_nameIn : ByteArray := prog_17_method_6_code
def yX9_nameIn : MethodName := ⟨RX9, "nameIn", "(I)Ljava/lang/String;"⟩
def dkwX9_nameIn_1 : List UInt8 := [167, 0, 14, 42, 180, 0, 18, 44, 182, 0, 68, 192, 0, 62, 176]
abbrev dktX9_nameIn_1 : List UInt8 := dkwX9_nameIn_1 ++ []
def dkwX9_nameIn_0 : List UInt8 := [42, 180, 0, 18, 27, 184, 0, 52, 182, 0, 64, 192, 0, 53, 77, 44, 199, 0, 10, 42, 180, 0, 25]
abbrev dktX9_nameIn_0 : List UInt8 := dkwX9_nameIn_0 ++ dktX9_nameIn_1
theorem dksX9_nameIn_0 : cX9_nameIn.data.toList.drop 0 = dktX9_nameIn_0 := by decide +kernel
theorem dksX9_nameIn_1 : cX9_nameIn.data.toList.drop 23 = dktX9_nameIn_1 := dk_seg dksX9_nameIn_0 23 rfl rfl
theorem dX9_nameIn_0 : decode cX9_nameIn 0 = .ok (.aload_n 0, 1) := dk_42 (dk_at dksX9_nameIn_0 0 rfl rfl)
theorem dX9_nameIn_1 : decode cX9_nameIn 1 = .ok (.getfield 18, 3) := dk_180 0 18 (dk_at dksX9_nameIn_0 1 rfl rfl)
theorem dX9_nameIn_4 : decode cX9_nameIn 4 = .ok (.iload_n 1, 1) := dk_27 (dk_at dksX9_nameIn_0 4 rfl rfl)
theorem dX9_nameIn_5 : decode cX9_nameIn 5 = .ok (.invokestatic 52, 3) := dk_184 0 52 (dk_at dksX9_nameIn_0 5 rfl rfl)
theorem dX9_nameIn_8 : decode cX9_nameIn 8 = .ok (.invokevirtual 64, 3) := dk_182 0 64 (dk_at dksX9_nameIn_0 8 rfl rfl)
theorem dX9_nameIn_11 : decode cX9_nameIn 11 = .ok (.checkcast 53, 3) := dk_192 0 53 (dk_at dksX9_nameIn_0 11 rfl rfl)
theorem dX9_nameIn_14 : decode cX9_nameIn 14 = .ok (.astore_n 2, 1) := dk_77 (dk_at dksX9_nameIn_0 14 rfl rfl)
theorem dX9_nameIn_15 : decode cX9_nameIn 15 = .ok (.aload_n 2, 1) := dk_44 (dk_at dksX9_nameIn_0 15 rfl rfl)
theorem dX9_nameIn_16 : decode cX9_nameIn 16 = .ok (.ifnonnull 10, 3) := dk_199 0 10 (dk_at dksX9_nameIn_0 16 rfl rfl)
theorem dX9_nameIn_19 : decode cX9_nameIn 19 = .ok (.aload_n 0, 1) := dk_42 (dk_at dksX9_nameIn_0 19 rfl rfl)
theorem dX9_nameIn_20 : decode cX9_nameIn 20 = .ok (.getfield 25, 3) := dk_180 0 25 (dk_at dksX9_nameIn_0 20 rfl rfl)
theorem dX9_nameIn_23 : decode cX9_nameIn 23 = .ok (.goto 14, 3) := dk_167 0 14 (dk_at dksX9_nameIn_1 0 rfl rfl)
theorem dX9_nameIn_26 : decode cX9_nameIn 26 = .ok (.aload_n 0, 1) := dk_42 (dk_at dksX9_nameIn_1 3 rfl rfl)
theorem dX9_nameIn_27 : decode cX9_nameIn 27 = .ok (.getfield 18, 3) := dk_180 0 18 (dk_at dksX9_nameIn_1 4 rfl rfl)
theorem dX9_nameIn_30 : decode cX9_nameIn 30 = .ok (.aload_n 2, 1) := dk_44 (dk_at dksX9_nameIn_1 7 rfl rfl)
theorem dX9_nameIn_31 : decode cX9_nameIn 31 = .ok (.invokevirtual 68, 3) := dk_182 0 68 (dk_at dksX9_nameIn_1 8 rfl rfl)
theorem dX9_nameIn_34 : decode cX9_nameIn 34 = .ok (.checkcast 62, 3) := dk_192 0 62 (dk_at dksX9_nameIn_1 11 rfl rfl)
theorem dX9_nameIn_37 : decode cX9_nameIn 37 = .ok (.areturn, 1) := dk_176 (dk_at dksX9_nameIn_1 14 rfl rfl)
abbrev cX9_oldNames : ByteArray := prog_17_method_7_code
def yX9_oldNames : MethodName := ⟨RX9, "oldNames", "(I)Ljava/util/TreeSet;"⟩
def dkwX9_oldNames_4 : List UInt8 := [167, 255, 211, 44, 42, 27, 182, 0, 74, 182, 0, 89, 54, 5, 44, 176]
abbrev dktX9_oldNames_4 : List UInt8 := dkwX9_oldNames_4 ++ []
def dkwX9_oldNames_3 : List UInt8 := [182, 0, 68, 192, 0, 62, 182, 0, 78, 62, 42, 180, 0, 18, 25, 4, 182, 0, 82, 192, 0, 53, 58, 4]
abbrev dktX9_oldNames_3 : List UInt8 := dkwX9_oldNames_3 ++ dktX9_oldNames_4
def dkwX9_oldNames_2 : List UInt8 := [58, 4, 25, 4, 198, 0, 46, 25, 4, 182, 0, 85, 27, 163, 0, 37, 44, 42, 180, 0, 18, 25, 4]
abbrev dktX9_oldNames_2 : List UInt8 := dkwX9_oldNames_2 ++ dktX9_oldNames_3
def dkwX9_oldNames_1 : List UInt8 := [182, 0, 74, 182, 0, 78, 62, 42, 180, 0, 18, 42, 180, 0, 35, 184, 0, 52, 182, 0, 82, 192, 0, 53]
abbrev dktX9_oldNames_1 : List UInt8 := dkwX9_oldNames_1 ++ dktX9_oldNames_2
def dkwX9_oldNames_0 : List UInt8 := [187, 0, 71, 89, 183, 0, 73, 77, 27, 42, 180, 0, 35, 162, 0, 5, 44, 176, 44, 42, 42, 180, 0, 35]
abbrev dktX9_oldNames_0 : List UInt8 := dkwX9_oldNames_0 ++ dktX9_oldNames_1
theorem dksX9_oldNames_0 : cX9_oldNames.data.toList.drop 0 = dktX9_oldNames_0 := by decide +kernel
theorem dksX9_oldNames_1 : cX9_oldNames.data.toList.drop 24 = dktX9_oldNames_1 := dk_seg dksX9_oldNames_0 24 rfl rfl
theorem dksX9_oldNames_2 : cX9_oldNames.data.toList.drop 48 = dktX9_oldNames_2 := dk_seg dksX9_oldNames_1 24 rfl rfl
theorem dksX9_oldNames_3 : cX9_oldNames.data.toList.drop 71 = dktX9_oldNames_3 := dk_seg dksX9_oldNames_2 23 rfl rfl
theorem dksX9_oldNames_4 : cX9_oldNames.data.toList.drop 95 = dktX9_oldNames_4 := dk_seg dksX9_oldNames_3 24 rfl rfl
theorem dX9_oldNames_0 : decode cX9_oldNames 0 = .ok (.new 71, 3) := dk_187 0 71 (dk_at dksX9_oldNames_0 0 rfl rfl)
theorem dX9_oldNames_3 : decode cX9_oldNames 3 = .ok (.dup, 1) := dk_89 (dk_at dksX9_oldNames_0 3 rfl rfl)
theorem dX9_oldNames_4 : decode cX9_oldNames 4 = .ok (.invokespecial 73, 3) := dk_183 0 73 (dk_at dksX9_oldNames_0 4 rfl rfl)
theorem dX9_oldNames_7 : decode cX9_oldNames 7 = .ok (.astore_n 2, 1) := dk_77 (dk_at dksX9_oldNames_0 7 rfl rfl)
theorem dX9_oldNames_8 : decode cX9_oldNames 8 = .ok (.iload_n 1, 1) := dk_27 (dk_at dksX9_oldNames_0 8 rfl rfl)
theorem dX9_oldNames_9 : decode cX9_oldNames 9 = .ok (.aload_n 0, 1) := dk_42 (dk_at dksX9_oldNames_0 9 rfl rfl)
theorem dX9_oldNames_10 : decode cX9_oldNames 10 = .ok (.getfield 35, 3) := dk_180 0 35 (dk_at dksX9_oldNames_0 10 rfl rfl)
theorem dX9_oldNames_13 : decode cX9_oldNames 13 = .ok (.if_icmp .ge 5, 3) := dk_162 0 5 (dk_at dksX9_oldNames_0 13 rfl rfl)
theorem dX9_oldNames_16 : decode cX9_oldNames 16 = .ok (.aload_n 2, 1) := dk_44 (dk_at dksX9_oldNames_0 16 rfl rfl)
theorem dX9_oldNames_17 : decode cX9_oldNames 17 = .ok (.areturn, 1) := dk_176 (dk_at dksX9_oldNames_0 17 rfl rfl)
theorem dX9_oldNames_18 : decode cX9_oldNames 18 = .ok (.aload_n 2, 1) := dk_44 (dk_at dksX9_oldNames_0 18 rfl rfl)
theorem dX9_oldNames_19 : decode cX9_oldNames 19 = .ok (.aload_n 0, 1) := dk_42 (dk_at dksX9_oldNames_0 19 rfl rfl)
theorem dX9_oldNames_20 : decode cX9_oldNames 20 = .ok (.aload_n 0, 1) := dk_42 (dk_at dksX9_oldNames_0 20 rfl rfl)
theorem dX9_oldNames_21 : decode cX9_oldNames 21 = .ok (.getfield 35, 3) := dk_180 0 35 (dk_at dksX9_oldNames_0 21 rfl rfl)
theorem dX9_oldNames_24 : decode cX9_oldNames 24 = .ok (.invokevirtual 74, 3) := dk_182 0 74 (dk_at dksX9_oldNames_1 0 rfl rfl)
theorem dX9_oldNames_27 : decode cX9_oldNames 27 = .ok (.invokevirtual 78, 3) := dk_182 0 78 (dk_at dksX9_oldNames_1 3 rfl rfl)
theorem dX9_oldNames_30 : decode cX9_oldNames 30 = .ok (.istore_n 3, 1) := dk_62 (dk_at dksX9_oldNames_1 6 rfl rfl)
theorem dX9_oldNames_31 : decode cX9_oldNames 31 = .ok (.aload_n 0, 1) := dk_42 (dk_at dksX9_oldNames_1 7 rfl rfl)
theorem dX9_oldNames_32 : decode cX9_oldNames 32 = .ok (.getfield 18, 3) := dk_180 0 18 (dk_at dksX9_oldNames_1 8 rfl rfl)
theorem dX9_oldNames_35 : decode cX9_oldNames 35 = .ok (.aload_n 0, 1) := dk_42 (dk_at dksX9_oldNames_1 11 rfl rfl)
theorem dX9_oldNames_36 : decode cX9_oldNames 36 = .ok (.getfield 35, 3) := dk_180 0 35 (dk_at dksX9_oldNames_1 12 rfl rfl)
theorem dX9_oldNames_39 : decode cX9_oldNames 39 = .ok (.invokestatic 52, 3) := dk_184 0 52 (dk_at dksX9_oldNames_1 15 rfl rfl)
theorem dX9_oldNames_42 : decode cX9_oldNames 42 = .ok (.invokevirtual 82, 3) := dk_182 0 82 (dk_at dksX9_oldNames_1 18 rfl rfl)
theorem dX9_oldNames_45 : decode cX9_oldNames 45 = .ok (.checkcast 53, 3) := dk_192 0 53 (dk_at dksX9_oldNames_1 21 rfl rfl)
theorem dX9_oldNames_48 : decode cX9_oldNames 48 = .ok (.astore 4, 2) := dk_58 4 (dk_at dksX9_oldNames_2 0 rfl rfl)
theorem dX9_oldNames_50 : decode cX9_oldNames 50 = .ok (.aload 4, 2) := dk_25 4 (dk_at dksX9_oldNames_2 2 rfl rfl)
theorem dX9_oldNames_52 : decode cX9_oldNames 52 = .ok (.ifnull 46, 3) := dk_198 0 46 (dk_at dksX9_oldNames_2 4 rfl rfl)
theorem dX9_oldNames_55 : decode cX9_oldNames 55 = .ok (.aload 4, 2) := dk_25 4 (dk_at dksX9_oldNames_2 7 rfl rfl)
theorem dX9_oldNames_57 : decode cX9_oldNames 57 = .ok (.invokevirtual 85, 3) := dk_182 0 85 (dk_at dksX9_oldNames_2 9 rfl rfl)
theorem dX9_oldNames_60 : decode cX9_oldNames 60 = .ok (.iload_n 1, 1) := dk_27 (dk_at dksX9_oldNames_2 12 rfl rfl)
theorem dX9_oldNames_61 : decode cX9_oldNames 61 = .ok (.if_icmp .gt 37, 3) := dk_163 0 37 (dk_at dksX9_oldNames_2 13 rfl rfl)
theorem dX9_oldNames_64 : decode cX9_oldNames 64 = .ok (.aload_n 2, 1) := dk_44 (dk_at dksX9_oldNames_2 16 rfl rfl)
theorem dX9_oldNames_65 : decode cX9_oldNames 65 = .ok (.aload_n 0, 1) := dk_42 (dk_at dksX9_oldNames_2 17 rfl rfl)
theorem dX9_oldNames_66 : decode cX9_oldNames 66 = .ok (.getfield 18, 3) := dk_180 0 18 (dk_at dksX9_oldNames_2 18 rfl rfl)
theorem dX9_oldNames_69 : decode cX9_oldNames 69 = .ok (.aload 4, 2) := dk_25 4 (dk_at dksX9_oldNames_2 21 rfl rfl)
theorem dX9_oldNames_71 : decode cX9_oldNames 71 = .ok (.invokevirtual 68, 3) := dk_182 0 68 (dk_at dksX9_oldNames_3 0 rfl rfl)
theorem dX9_oldNames_74 : decode cX9_oldNames 74 = .ok (.checkcast 62, 3) := dk_192 0 62 (dk_at dksX9_oldNames_3 3 rfl rfl)
theorem dX9_oldNames_77 : decode cX9_oldNames 77 = .ok (.invokevirtual 78, 3) := dk_182 0 78 (dk_at dksX9_oldNames_3 6 rfl rfl)
theorem dX9_oldNames_80 : decode cX9_oldNames 80 = .ok (.istore_n 3, 1) := dk_62 (dk_at dksX9_oldNames_3 9 rfl rfl)
theorem dX9_oldNames_81 : decode cX9_oldNames 81 = .ok (.aload_n 0, 1) := dk_42 (dk_at dksX9_oldNames_3 10 rfl rfl)
theorem dX9_oldNames_82 : decode cX9_oldNames 82 = .ok (.getfield 18, 3) := dk_180 0 18 (dk_at dksX9_oldNames_3 11 rfl rfl)
theorem dX9_oldNames_85 : decode cX9_oldNames 85 = .ok (.aload 4, 2) := dk_25 4 (dk_at dksX9_oldNames_3 14 rfl rfl)
theorem dX9_oldNames_87 : decode cX9_oldNames 87 = .ok (.invokevirtual 82, 3) := dk_182 0 82 (dk_at dksX9_oldNames_3 16 rfl rfl)
theorem dX9_oldNames_90 : decode cX9_oldNames 90 = .ok (.checkcast 53, 3) := dk_192 0 53 (dk_at dksX9_oldNames_3 19 rfl rfl)
theorem dX9_oldNames_93 : decode cX9_oldNames 93 = .ok (.astore 4, 2) := dk_58 4 (dk_at dksX9_oldNames_3 22 rfl rfl)
theorem dX9_oldNames_95 : decode cX9_oldNames 95 = .ok (.goto (-45), 3) := dk_167 255 211 (dk_at dksX9_oldNames_4 0 rfl rfl)
theorem dX9_oldNames_98 : decode cX9_oldNames 98 = .ok (.aload_n 2, 1) := dk_44 (dk_at dksX9_oldNames_4 3 rfl rfl)
theorem dX9_oldNames_99 : decode cX9_oldNames 99 = .ok (.aload_n 0, 1) := dk_42 (dk_at dksX9_oldNames_4 4 rfl rfl)
theorem dX9_oldNames_100 : decode cX9_oldNames 100 = .ok (.iload_n 1, 1) := dk_27 (dk_at dksX9_oldNames_4 5 rfl rfl)
theorem dX9_oldNames_101 : decode cX9_oldNames 101 = .ok (.invokevirtual 74, 3) := dk_182 0 74 (dk_at dksX9_oldNames_4 6 rfl rfl)
theorem dX9_oldNames_104 : decode cX9_oldNames 104 = .ok (.invokevirtual 89, 3) := dk_182 0 89 (dk_at dksX9_oldNames_4 9 rfl rfl)
theorem dX9_oldNames_107 : decode cX9_oldNames 107 = .ok (.istore 5, 2) := dk_54 5 (dk_at dksX9_oldNames_4 12 rfl rfl)
theorem dX9_oldNames_109 : decode cX9_oldNames 109 = .ok (.aload_n 2, 1) := dk_44 (dk_at dksX9_oldNames_4 14 rfl rfl)
theorem dX9_oldNames_110 : decode cX9_oldNames 110 = .ok (.areturn, 1) := dk_176 (dk_at dksX9_oldNames_4 15 rfl rfl)
abbrev cX9_copy : ByteArray := prog_17_method_2_code
def yX9_copy : MethodName := ⟨RX9, "copy", "()LCountyGazetteer$Village;"⟩
def dkwX9_copy_2 : List UInt8 := [42, 180, 0, 45, 181, 0, 45, 43, 176]
abbrev dktX9_copy_2 : List UInt8 := dkwX9_copy_2 ++ []
def dkwX9_copy_1 : List UInt8 := [183, 0, 38, 76, 43, 42, 180, 0, 9, 181, 0, 9, 43, 180, 0, 18, 42, 180, 0, 18, 182, 0, 41, 43]
abbrev dktX9_copy_1 : List UInt8 := dkwX9_copy_1 ++ dktX9_copy_2
def dkwX9_copy_0 : List UInt8 := [187, 0, 10, 89, 42, 180, 0, 22, 42, 180, 0, 25, 42, 180, 0, 29, 42, 180, 0, 32, 42, 180, 0, 35]
abbrev dktX9_copy_0 : List UInt8 := dkwX9_copy_0 ++ dktX9_copy_1
theorem dksX9_copy_0 : cX9_copy.data.toList.drop 0 = dktX9_copy_0 := by decide +kernel
theorem dksX9_copy_1 : cX9_copy.data.toList.drop 24 = dktX9_copy_1 := dk_seg dksX9_copy_0 24 rfl rfl
theorem dksX9_copy_2 : cX9_copy.data.toList.drop 48 = dktX9_copy_2 := dk_seg dksX9_copy_1 24 rfl rfl
theorem dX9_copy_0 : decode cX9_copy 0 = .ok (.new 10, 3) := dk_187 0 10 (dk_at dksX9_copy_0 0 rfl rfl)
theorem dX9_copy_3 : decode cX9_copy 3 = .ok (.dup, 1) := dk_89 (dk_at dksX9_copy_0 3 rfl rfl)
theorem dX9_copy_4 : decode cX9_copy 4 = .ok (.aload_n 0, 1) := dk_42 (dk_at dksX9_copy_0 4 rfl rfl)
theorem dX9_copy_5 : decode cX9_copy 5 = .ok (.getfield 22, 3) := dk_180 0 22 (dk_at dksX9_copy_0 5 rfl rfl)
theorem dX9_copy_8 : decode cX9_copy 8 = .ok (.aload_n 0, 1) := dk_42 (dk_at dksX9_copy_0 8 rfl rfl)
theorem dX9_copy_9 : decode cX9_copy 9 = .ok (.getfield 25, 3) := dk_180 0 25 (dk_at dksX9_copy_0 9 rfl rfl)
theorem dX9_copy_12 : decode cX9_copy 12 = .ok (.aload_n 0, 1) := dk_42 (dk_at dksX9_copy_0 12 rfl rfl)
theorem dX9_copy_13 : decode cX9_copy 13 = .ok (.getfield 29, 3) := dk_180 0 29 (dk_at dksX9_copy_0 13 rfl rfl)
theorem dX9_copy_16 : decode cX9_copy 16 = .ok (.aload_n 0, 1) := dk_42 (dk_at dksX9_copy_0 16 rfl rfl)
theorem dX9_copy_17 : decode cX9_copy 17 = .ok (.getfield 32, 3) := dk_180 0 32 (dk_at dksX9_copy_0 17 rfl rfl)
theorem dX9_copy_20 : decode cX9_copy 20 = .ok (.aload_n 0, 1) := dk_42 (dk_at dksX9_copy_0 20 rfl rfl)
theorem dX9_copy_21 : decode cX9_copy 21 = .ok (.getfield 35, 3) := dk_180 0 35 (dk_at dksX9_copy_0 21 rfl rfl)
theorem dX9_copy_24 : decode cX9_copy 24 = .ok (.invokespecial 38, 3) := dk_183 0 38 (dk_at dksX9_copy_1 0 rfl rfl)
theorem dX9_copy_27 : decode cX9_copy 27 = .ok (.astore_n 1, 1) := dk_76 (dk_at dksX9_copy_1 3 rfl rfl)
theorem dX9_copy_28 : decode cX9_copy 28 = .ok (.aload_n 1, 1) := dk_43 (dk_at dksX9_copy_1 4 rfl rfl)
theorem dX9_copy_29 : decode cX9_copy 29 = .ok (.aload_n 0, 1) := dk_42 (dk_at dksX9_copy_1 5 rfl rfl)
theorem dX9_copy_30 : decode cX9_copy 30 = .ok (.getfield 9, 3) := dk_180 0 9 (dk_at dksX9_copy_1 6 rfl rfl)
theorem dX9_copy_33 : decode cX9_copy 33 = .ok (.putfield 9, 3) := dk_181 0 9 (dk_at dksX9_copy_1 9 rfl rfl)
theorem dX9_copy_36 : decode cX9_copy 36 = .ok (.aload_n 1, 1) := dk_43 (dk_at dksX9_copy_1 12 rfl rfl)
theorem dX9_copy_37 : decode cX9_copy 37 = .ok (.getfield 18, 3) := dk_180 0 18 (dk_at dksX9_copy_1 13 rfl rfl)
theorem dX9_copy_40 : decode cX9_copy 40 = .ok (.aload_n 0, 1) := dk_42 (dk_at dksX9_copy_1 16 rfl rfl)
theorem dX9_copy_41 : decode cX9_copy 41 = .ok (.getfield 18, 3) := dk_180 0 18 (dk_at dksX9_copy_1 17 rfl rfl)
theorem dX9_copy_44 : decode cX9_copy 44 = .ok (.invokevirtual 41, 3) := dk_182 0 41 (dk_at dksX9_copy_1 20 rfl rfl)
theorem dX9_copy_47 : decode cX9_copy 47 = .ok (.aload_n 1, 1) := dk_43 (dk_at dksX9_copy_1 23 rfl rfl)
theorem dX9_copy_48 : decode cX9_copy 48 = .ok (.aload_n 0, 1) := dk_42 (dk_at dksX9_copy_2 0 rfl rfl)
theorem dX9_copy_49 : decode cX9_copy 49 = .ok (.getfield 45, 3) := dk_180 0 45 (dk_at dksX9_copy_2 1 rfl rfl)
theorem dX9_copy_52 : decode cX9_copy 52 = .ok (.putfield 45, 3) := dk_181 0 45 (dk_at dksX9_copy_2 4 rfl rfl)
theorem dX9_copy_55 : decode cX9_copy 55 = .ok (.aload_n 1, 1) := dk_43 (dk_at dksX9_copy_2 7 rfl rfl)
theorem dX9_copy_56 : decode cX9_copy 56 = .ok (.areturn, 1) := dk_176 (dk_at dksX9_copy_2 8 rfl rfl)
theorem q209 : (Jvm.Cond.initialized "CountyGazetteer$Village") ∈ lw_all := lw_g (lw_at lw_m1 33 rfl) rfl
theorem q414 : (Jvm.Cond.selects "CountyGazetteer$Village" ({ cls := "java/lang/Object", name := "getClass", desc := "()Ljava/lang/Class;" } : Jvm.MethodName) ({ cls := "java/lang/Object", name := "getClass", desc := "()Ljava/lang/Class;" } : Jvm.MethodName)) ∈ lw_all := lw_g (lw_at lw_m1 238 rfl) rfl
theorem q1257 : (Jvm.Cond.castable "CountyGazetteer$Village" "CountyGazetteer$Named") ∈ lw_tbl := lw_at lw_m5 121 rfl
theorem q1258 : (Jvm.Cond.selects "CountyGazetteer$Village" ({ cls := "CountyGazetteer$Named", name := "name", desc := "()Ljava/lang/String;" } : Jvm.MethodName) ({ cls := "CountyGazetteer$Village", name := "name", desc := "()Ljava/lang/String;" } : Jvm.MethodName)) ∈ lw_all := lw_g (lw_at lw_m5 122 rfl) rfl
theorem q1259 : (Jvm.Cond.unhidden "CountyGazetteer$Village" "name" "()Ljava/lang/String;") ∈ lw_tbl := lw_at lw_m5 123 rfl
theorem q1260 : (Jvm.Cond.instanceMethod ({ cls := "CountyGazetteer$Village", name := "name", desc := "()Ljava/lang/String;" } : Jvm.MethodName)) ∈ lw_all := lw_g (lw_at lw_m5 124 rfl) rfl
theorem q1261 : (Jvm.Cond.publicMethod ({ cls := "CountyGazetteer$Village", name := "name", desc := "()Ljava/lang/String;" } : Jvm.MethodName)) ∈ lw_tbl := lw_at lw_m5 125 rfl
theorem q1262 : (Jvm.Cond.code ({ cls := "CountyGazetteer$Village", name := "name", desc := "()Ljava/lang/String;" } : Jvm.MethodName) prog_17_method_3_code (1 : Nat) (Option.some (Jvm.ClassFile.FieldType.object "java/lang/String"))) ∈ lw_all := lw_g (lw_at lw_m5 126 rfl) rfl
theorem q1305 : (Jvm.Cond.unhidden "CountyGazetteer$Village" "isNamed" "(Ljava/lang/CharSequence;)Z") ∈ lw_tbl := lw_at lw_m5 169 rfl
theorem q1314 : (Jvm.Cond.instantiable "CountyGazetteer$Village" (8 : Nat)) ∈ lw_all := lw_g (lw_at lw_m5 178 rfl) rfl
theorem q1316 : (Jvm.Cond.instanceMethod ({ cls := "CountyGazetteer$Village", name := "<init>", desc := "(ILjava/lang/String;III)V" } : Jvm.MethodName)) ∈ lw_all := lw_g (lw_at lw_m5 180 rfl) rfl
theorem q1317 : (Jvm.Cond.code ({ cls := "CountyGazetteer$Village", name := "<init>", desc := "(ILjava/lang/String;III)V" } : Jvm.MethodName) prog_17_method_1_code (6 : Nat) (Option.none : Option Jvm.ClassFile.FieldType)) ∈ lw_all := lw_g (lw_at lw_m5 181 rfl) rfl
theorem q1318 : (Jvm.Cond.methodLink "CountyGazetteer$Village" (3 : Nat) ({ cls := "java/lang/Object", name := "<init>", desc := "()V" } : Jvm.MethodName)) ∈ lw_all := lw_g (lw_at lw_m5 182 rfl) rfl
theorem q1319 : (Jvm.Cond.classLink "CountyGazetteer$Village" (15 : Nat) "java/util/TreeMap") ∈ lw_all := lw_g (lw_at lw_m5 183 rfl) rfl
theorem q1321 : (Jvm.Cond.methodLink "CountyGazetteer$Village" (17 : Nat) ({ cls := "java/util/TreeMap", name := "<init>", desc := "()V" } : Jvm.MethodName)) ∈ lw_all := lw_g (lw_at lw_m5 185 rfl) rfl
theorem q1354 : (Jvm.Cond.fieldLink "CountyGazetteer$Village" (25 : Nat) "CountyGazetteer$Village" "name" "Ljava/lang/String;") ∈ lw_all := lw_g (lw_at lw_m5 218 rfl) rfl
theorem q1355 : (Jvm.Cond.fieldLink "CountyGazetteer$Village" (22 : Nat) "CountyGazetteer$Village" "number" "I") ∈ lw_all := lw_g (lw_at lw_m5 219 rfl) rfl
theorem q1359 : (Jvm.Cond.fieldLink "CountyGazetteer$Village" (29 : Nat) "CountyGazetteer$Village" "x" "I") ∈ lw_all := lw_g (lw_at lw_m5 223 rfl) rfl
theorem q1362 : (Jvm.Cond.fieldLink "CountyGazetteer$Village" (32 : Nat) "CountyGazetteer$Village" "y" "I") ∈ lw_all := lw_g (lw_at lw_m5 226 rfl) rfl
theorem q1365 : (Jvm.Cond.fieldLink "CountyGazetteer$Village" (35 : Nat) "CountyGazetteer$Village" "founded" "I") ∈ lw_all := lw_g (lw_at lw_m5 229 rfl) rfl
theorem q1368 : (Jvm.Cond.fieldLink "CountyGazetteer$Village" (9 : Nat) "CountyGazetteer$Village" "gone" "I") ∈ lw_all := lw_g (lw_at lw_m5 232 rfl) rfl
theorem q1371 : (Jvm.Cond.fieldLink "CountyGazetteer$Village" (18 : Nat) "CountyGazetteer$Village" "renames" "Ljava/util/TreeMap;") ∈ lw_all := lw_g (lw_at lw_m5 235 rfl) rfl
theorem q1372 : (Jvm.Cond.fieldLink "CountyGazetteer$Village" (45 : Nat) "CountyGazetteer$Village" "renamed" "I") ∈ lw_all := lw_g (lw_at lw_m5 236 rfl) rfl
theorem q1374 : (Jvm.Cond.laysFinal "CountyGazetteer$Village" "CountyGazetteer$Village" "name" "Ljava/lang/String;") ∈ lw_all := lw_g (lw_at lw_m5 238 rfl) rfl
theorem q1375 : (Jvm.Cond.soleField "CountyGazetteer$Village" "name") ∈ lw_all := lw_g (lw_at lw_m5 239 rfl) rfl
theorem q1376 : (Jvm.Cond.laysFinal "CountyGazetteer$Village" "CountyGazetteer$Village" "number" "I") ∈ lw_all := lw_g (lw_at lw_m6 0 rfl) rfl
theorem q1377 : (Jvm.Cond.soleField "CountyGazetteer$Village" "number") ∈ lw_all := lw_g (lw_at lw_m6 1 rfl) rfl
theorem q1378 : (Jvm.Cond.laysFinal "CountyGazetteer$Village" "CountyGazetteer$Village" "x" "I") ∈ lw_all := lw_g (lw_at lw_m6 2 rfl) rfl
theorem q1379 : (Jvm.Cond.soleField "CountyGazetteer$Village" "x") ∈ lw_all := lw_g (lw_at lw_m6 3 rfl) rfl
theorem q1380 : (Jvm.Cond.laysFinal "CountyGazetteer$Village" "CountyGazetteer$Village" "y" "I") ∈ lw_all := lw_g (lw_at lw_m6 4 rfl) rfl
theorem q1381 : (Jvm.Cond.soleField "CountyGazetteer$Village" "y") ∈ lw_all := lw_g (lw_at lw_m6 5 rfl) rfl
theorem q1382 : (Jvm.Cond.laysFinal "CountyGazetteer$Village" "CountyGazetteer$Village" "founded" "I") ∈ lw_all := lw_g (lw_at lw_m6 6 rfl) rfl
theorem q1383 : (Jvm.Cond.soleField "CountyGazetteer$Village" "founded") ∈ lw_all := lw_g (lw_at lw_m6 7 rfl) rfl
theorem q1384 : (Jvm.Cond.lays "CountyGazetteer$Village" "CountyGazetteer$Village" "gone" "I") ∈ lw_all := lw_g (lw_at lw_m6 8 rfl) rfl
theorem q1385 : (Jvm.Cond.soleField "CountyGazetteer$Village" "gone") ∈ lw_all := lw_g (lw_at lw_m6 9 rfl) rfl
theorem q1386 : (Jvm.Cond.laysFinal "CountyGazetteer$Village" "CountyGazetteer$Village" "renames" "Ljava/util/TreeMap;") ∈ lw_all := lw_g (lw_at lw_m6 10 rfl) rfl
theorem q1387 : (Jvm.Cond.soleField "CountyGazetteer$Village" "renames") ∈ lw_all := lw_g (lw_at lw_m6 11 rfl) rfl
theorem q1388 : (Jvm.Cond.lays "CountyGazetteer$Village" "CountyGazetteer$Village" "renamed" "I") ∈ lw_all := lw_g (lw_at lw_m6 12 rfl) rfl
theorem q1389 : (Jvm.Cond.soleField "CountyGazetteer$Village" "renamed") ∈ lw_all := lw_g (lw_at lw_m6 13 rfl) rfl
theorem q1390 : (Jvm.Cond.superclass "CountyGazetteer$Village" "java/lang/Object") ∈ lw_all := lw_g (lw_at lw_m6 14 rfl) rfl
theorem q1457 : (Jvm.Cond.instanceMethod ({ cls := "CountyGazetteer$Village", name := "takes", desc := "(ILjava/lang/String;)V" } : Jvm.MethodName)) ∈ lw_all := lw_g (lw_at lw_m6 81 rfl) rfl
theorem q1458 : (Jvm.Cond.selects "CountyGazetteer$Village" ({ cls := "CountyGazetteer$Village", name := "takes", desc := "(ILjava/lang/String;)V" } : Jvm.MethodName) ({ cls := "CountyGazetteer$Village", name := "takes", desc := "(ILjava/lang/String;)V" } : Jvm.MethodName)) ∈ lw_all := lw_g (lw_at lw_m6 82 rfl) rfl
theorem q1459 : (Jvm.Cond.code ({ cls := "CountyGazetteer$Village", name := "takes", desc := "(ILjava/lang/String;)V" } : Jvm.MethodName) prog_17_method_5_code (4 : Nat) (Option.none : Option Jvm.ClassFile.FieldType)) ∈ lw_all := lw_g (lw_at lw_m6 83 rfl) rfl
theorem q1460 : (Jvm.Cond.methodLink "CountyGazetteer$Village" (52 : Nat) ({ cls := "java/lang/Integer", name := "valueOf", desc := "(I)Ljava/lang/Integer;" } : Jvm.MethodName)) ∈ lw_all := lw_g (lw_at lw_m6 84 rfl) rfl
theorem q1480 : (Jvm.Cond.methodLink "CountyGazetteer$Village" (58 : Nat) ({ cls := "java/util/TreeMap", name := "put", desc := "(Ljava/lang/Object;Ljava/lang/Object;)Ljava/lang/Object;" } : Jvm.MethodName)) ∈ lw_all := lw_g (lw_at lw_m6 104 rfl) rfl
theorem q1784 : (Jvm.Cond.classLink "CountyGazetteer$Village" (62 : Nat) "java/lang/String") ∈ lw_all := lw_g (lw_at lw_m7 168 rfl) rfl
theorem q1865 : (Jvm.Cond.instanceMethod ({ cls := "CountyGazetteer$Village", name := "livesIn", desc := "(I)Z" } : Jvm.MethodName)) ∈ lw_all := lw_g (lw_at lw_m8 9 rfl) rfl
theorem q1866 : (Jvm.Cond.selects "CountyGazetteer$Village" ({ cls := "CountyGazetteer$Village", name := "livesIn", desc := "(I)Z" } : Jvm.MethodName) ({ cls := "CountyGazetteer$Village", name := "livesIn", desc := "(I)Z" } : Jvm.MethodName)) ∈ lw_all := lw_g (lw_at lw_m8 10 rfl) rfl
theorem q1867 : (Jvm.Cond.code ({ cls := "CountyGazetteer$Village", name := "livesIn", desc := "(I)Z" } : Jvm.MethodName) prog_17_method_4_code (2 : Nat) (Option.some Jvm.ClassFile.FieldType.boolean)) ∈ lw_all := lw_g (lw_at lw_m8 11 rfl) rfl
theorem q1868 : (Jvm.Cond.methodLinkNest "CountyGazetteer$Village" (48 : Nat) ({ cls := "CountyGazetteer", name := "isIn", desc := "(JJJ)Z" } : Jvm.MethodName) "CountyGazetteer") ∈ lw_tbl := lw_at lw_m8 12 rfl
theorem q1870 : (Jvm.Cond.instanceMethod ({ cls := "CountyGazetteer$Village", name := "nameIn", desc := "(I)Ljava/lang/String;" } : Jvm.MethodName)) ∈ lw_all := lw_g (lw_at lw_m8 14 rfl) rfl
theorem q1871 : (Jvm.Cond.selects "CountyGazetteer$Village" ({ cls := "CountyGazetteer$Village", name := "nameIn", desc := "(I)Ljava/lang/String;" } : Jvm.MethodName) ({ cls := "CountyGazetteer$Village", name := "nameIn", desc := "(I)Ljava/lang/String;" } : Jvm.MethodName)) ∈ lw_all := lw_g (lw_at lw_m8 15 rfl) rfl
theorem q1872 : (Jvm.Cond.code ({ cls := "CountyGazetteer$Village", name := "nameIn", desc := "(I)Ljava/lang/String;" } : Jvm.MethodName) prog_17_method_6_code (3 : Nat) (Option.some (Jvm.ClassFile.FieldType.object "java/lang/String"))) ∈ lw_all := lw_g (lw_at lw_m8 16 rfl) rfl
theorem q1873 : (Jvm.Cond.methodLink "CountyGazetteer$Village" (64 : Nat) ({ cls := "java/util/TreeMap", name := "floorKey", desc := "(Ljava/lang/Object;)Ljava/lang/Object;" } : Jvm.MethodName)) ∈ lw_all := lw_g (lw_at lw_m8 17 rfl) rfl
theorem q1884 : (Jvm.Cond.classLink "CountyGazetteer$Village" (53 : Nat) "java/lang/Integer") ∈ lw_all := lw_g (lw_at lw_m8 28 rfl) rfl
theorem q1885 : (Jvm.Cond.methodLink "CountyGazetteer$Village" (68 : Nat) ({ cls := "java/util/TreeMap", name := "get", desc := "(Ljava/lang/Object;)Ljava/lang/Object;" } : Jvm.MethodName)) ∈ lw_all := lw_g (lw_at lw_m8 29 rfl) rfl
theorem q1917 : (Jvm.Cond.instanceMethod ({ cls := "CountyGazetteer$Village", name := "oldNames", desc := "(I)Ljava/util/TreeSet;" } : Jvm.MethodName)) ∈ lw_all := lw_g (lw_at lw_m8 61 rfl) rfl
theorem q1918 : (Jvm.Cond.selects "CountyGazetteer$Village" ({ cls := "CountyGazetteer$Village", name := "oldNames", desc := "(I)Ljava/util/TreeSet;" } : Jvm.MethodName) ({ cls := "CountyGazetteer$Village", name := "oldNames", desc := "(I)Ljava/util/TreeSet;" } : Jvm.MethodName)) ∈ lw_all := lw_g (lw_at lw_m8 62 rfl) rfl
theorem q1919 : (Jvm.Cond.code ({ cls := "CountyGazetteer$Village", name := "oldNames", desc := "(I)Ljava/util/TreeSet;" } : Jvm.MethodName) prog_17_method_7_code (6 : Nat) (Option.some (Jvm.ClassFile.FieldType.object "java/util/TreeSet"))) ∈ lw_all := lw_g (lw_at lw_m8 63 rfl) rfl
theorem q1920 : (Jvm.Cond.classLink "CountyGazetteer$Village" (71 : Nat) "java/util/TreeSet") ∈ lw_all := lw_g (lw_at lw_m8 64 rfl) rfl
theorem q1922 : (Jvm.Cond.methodLink "CountyGazetteer$Village" (73 : Nat) ({ cls := "java/util/TreeSet", name := "<init>", desc := "()V" } : Jvm.MethodName)) ∈ lw_all := lw_g (lw_at lw_m8 66 rfl) rfl
theorem q1938 : (Jvm.Cond.methodLink "CountyGazetteer$Village" (74 : Nat) ({ cls := "CountyGazetteer$Village", name := "nameIn", desc := "(I)Ljava/lang/String;" } : Jvm.MethodName)) ∈ lw_all := lw_g (lw_at lw_m8 82 rfl) rfl
theorem q1939 : (Jvm.Cond.methodLink "CountyGazetteer$Village" (78 : Nat) ({ cls := "java/util/TreeSet", name := "add", desc := "(Ljava/lang/Object;)Z" } : Jvm.MethodName)) ∈ lw_all := lw_g (lw_at lw_m8 83 rfl) rfl
theorem q1951 : (Jvm.Cond.methodLink "CountyGazetteer$Village" (82 : Nat) ({ cls := "java/util/TreeMap", name := "higherKey", desc := "(Ljava/lang/Object;)Ljava/lang/Object;" } : Jvm.MethodName)) ∈ lw_all := lw_g (lw_at lw_m8 95 rfl) rfl
theorem q1959 : (Jvm.Cond.methodLink "CountyGazetteer$Village" (85 : Nat) ({ cls := "java/lang/Integer", name := "intValue", desc := "()I" } : Jvm.MethodName)) ∈ lw_all := lw_g (lw_at lw_m8 103 rfl) rfl
theorem q1963 : (Jvm.Cond.methodLink "CountyGazetteer$Village" (89 : Nat) ({ cls := "java/util/TreeSet", name := "remove", desc := "(Ljava/lang/Object;)Z" } : Jvm.MethodName)) ∈ lw_all := lw_g (lw_at lw_m8 107 rfl) rfl
theorem q2777 : (Jvm.Cond.instanceMethod ({ cls := "CountyGazetteer$Village", name := "copy", desc := "()LCountyGazetteer$Village;" } : Jvm.MethodName)) ∈ lw_all := lw_g (lw_at lw_m11 201 rfl) rfl
theorem q2778 : (Jvm.Cond.selects "CountyGazetteer$Village" ({ cls := "CountyGazetteer$Village", name := "copy", desc := "()LCountyGazetteer$Village;" } : Jvm.MethodName) ({ cls := "CountyGazetteer$Village", name := "copy", desc := "()LCountyGazetteer$Village;" } : Jvm.MethodName)) ∈ lw_all := lw_g (lw_at lw_m11 202 rfl) rfl
theorem q2779 : (Jvm.Cond.code ({ cls := "CountyGazetteer$Village", name := "copy", desc := "()LCountyGazetteer$Village;" } : Jvm.MethodName) prog_17_method_2_code (2 : Nat) (Option.some (Jvm.ClassFile.FieldType.object "CountyGazetteer$Village"))) ∈ lw_all := lw_g (lw_at lw_m11 203 rfl) rfl
theorem q2780 : (Jvm.Cond.classLink "CountyGazetteer$Village" (10 : Nat) "CountyGazetteer$Village") ∈ lw_all := lw_g (lw_at lw_m11 204 rfl) rfl
theorem q2781 : (Jvm.Cond.methodLink "CountyGazetteer$Village" (38 : Nat) ({ cls := "CountyGazetteer$Village", name := "<init>", desc := "(ILjava/lang/String;III)V" } : Jvm.MethodName)) ∈ lw_all := lw_g (lw_at lw_m11 205 rfl) rfl
theorem q2782 : (Jvm.Cond.methodLink "CountyGazetteer$Village" (41 : Nat) ({ cls := "java/util/TreeMap", name := "putAll", desc := "(Ljava/util/Map;)V" } : Jvm.MethodName)) ∈ lw_all := lw_g (lw_at lw_m11 206 rfl) rfl
theorem q2821 : (Jvm.Cond.selects "CountyGazetteer$Village" ({ cls := "java/lang/Object", name := "equals", desc := "(Ljava/lang/Object;)Z" } : Jvm.MethodName) ({ cls := "java/lang/Object", name := "equals", desc := "(Ljava/lang/Object;)Z" } : Jvm.MethodName)) ∈ lw_all := lw_g (lw_at lw_m12 5 rfl) rfl
theorem q4495 : (Jvm.Cond.castable "CountyGazetteer$Village" "java/lang/Object") ∈ lw_tbl := lw_at lw_m18 239 rfl
theorem in_X9 : ∀ w ∈ wsX90, w ∈ lw_all := lw_in wsX90 [1374, 1376, 1378, 1380, 1382, 1384, 1386, 1388] (by decide +kernel) (by decide +kernel)

/-! CountyGazetteer$Redraw -/
set_option maxRecDepth 100000
def RX10 : String := "CountyGazetteer$Redraw"
def TX10 : u_T := fun k => match k with
  | 0 => ("CountyGazetteer$Redraw", "year", "I", true)
  | 1 => ("CountyGazetteer$Redraw", "x", "I", true)
  | 2 => ("CountyGazetteer$Redraw", "y", "I", true)
  | 3 => ("CountyGazetteer$Redraw", "width", "I", true)
  | 4 => ("CountyGazetteer$Redraw", "height", "I", true)
  | _ => ("CountyGazetteer$Redraw", "county", "I", true)
def tyX10 : Nat → FieldType := fun k => match k with
  | 0 => .int
  | 1 => .int
  | 2 => .int
  | 3 => .int
  | 4 => .int
  | _ => .int
abbrev wsX100 : List Cond := u_ws RX10 TX10 6
theorem nmX10 : ∀ a, a < 6 → ∀ b, b < 6 → a ≠ b → (TX10 a).2.1 ≠ (TX10 b).2.1 := by decide +kernel
theorem tyX10_ok : ∀ k, k < 6 → parseFieldDescriptor (TX10 k).2.2.1 = some (tyX10 k) := by decide +kernel
abbrev cX10_init : ByteArray := prog_13_method_1_code
def yX10_init : MethodName := ⟨RX10, "<init>", "(IIIIII)V"⟩
def dkwX10_init_1 : List UInt8 := [181, 0, 19, 42, 21, 5, 181, 0, 22, 42, 21, 6, 181, 0, 25, 177]
abbrev dktX10_init_1 : List UInt8 := dkwX10_init_1 ++ []
def dkwX10_init_0 : List UInt8 := [42, 183, 0, 1, 42, 27, 181, 0, 7, 42, 28, 181, 0, 13, 42, 29, 181, 0, 16, 42, 21, 4]
abbrev dktX10_init_0 : List UInt8 := dkwX10_init_0 ++ dktX10_init_1
theorem dksX10_init_0 : cX10_init.data.toList.drop 0 = dktX10_init_0 := by decide +kernel
theorem dksX10_init_1 : cX10_init.data.toList.drop 22 = dktX10_init_1 := dk_seg dksX10_init_0 22 rfl rfl
theorem dX10_init_0 : decode cX10_init 0 = .ok (.aload_n 0, 1) := dk_42 (dk_at dksX10_init_0 0 rfl rfl)
theorem dX10_init_1 : decode cX10_init 1 = .ok (.invokespecial 1, 3) := dk_183 0 1 (dk_at dksX10_init_0 1 rfl rfl)
theorem dX10_init_4 : decode cX10_init 4 = .ok (.aload_n 0, 1) := dk_42 (dk_at dksX10_init_0 4 rfl rfl)
theorem dX10_init_5 : decode cX10_init 5 = .ok (.iload_n 1, 1) := dk_27 (dk_at dksX10_init_0 5 rfl rfl)
theorem dX10_init_6 : decode cX10_init 6 = .ok (.putfield 7, 3) := dk_181 0 7 (dk_at dksX10_init_0 6 rfl rfl)
theorem dX10_init_9 : decode cX10_init 9 = .ok (.aload_n 0, 1) := dk_42 (dk_at dksX10_init_0 9 rfl rfl)
theorem dX10_init_10 : decode cX10_init 10 = .ok (.iload_n 2, 1) := dk_28 (dk_at dksX10_init_0 10 rfl rfl)
theorem dX10_init_11 : decode cX10_init 11 = .ok (.putfield 13, 3) := dk_181 0 13 (dk_at dksX10_init_0 11 rfl rfl)
theorem dX10_init_14 : decode cX10_init 14 = .ok (.aload_n 0, 1) := dk_42 (dk_at dksX10_init_0 14 rfl rfl)
theorem dX10_init_15 : decode cX10_init 15 = .ok (.iload_n 3, 1) := dk_29 (dk_at dksX10_init_0 15 rfl rfl)
theorem dX10_init_16 : decode cX10_init 16 = .ok (.putfield 16, 3) := dk_181 0 16 (dk_at dksX10_init_0 16 rfl rfl)
theorem dX10_init_19 : decode cX10_init 19 = .ok (.aload_n 0, 1) := dk_42 (dk_at dksX10_init_0 19 rfl rfl)
theorem dX10_init_20 : decode cX10_init 20 = .ok (.iload 4, 2) := dk_21 4 (dk_at dksX10_init_0 20 rfl rfl)
theorem dX10_init_22 : decode cX10_init 22 = .ok (.putfield 19, 3) := dk_181 0 19 (dk_at dksX10_init_1 0 rfl rfl)
theorem dX10_init_25 : decode cX10_init 25 = .ok (.aload_n 0, 1) := dk_42 (dk_at dksX10_init_1 3 rfl rfl)
theorem dX10_init_26 : decode cX10_init 26 = .ok (.iload 5, 2) := dk_21 5 (dk_at dksX10_init_1 4 rfl rfl)
theorem dX10_init_28 : decode cX10_init 28 = .ok (.putfield 22, 3) := dk_181 0 22 (dk_at dksX10_init_1 6 rfl rfl)
theorem dX10_init_31 : decode cX10_init 31 = .ok (.aload_n 0, 1) := dk_42 (dk_at dksX10_init_1 9 rfl rfl)
theorem dX10_init_32 : decode cX10_init 32 = .ok (.iload 6, 2) := dk_21 6 (dk_at dksX10_init_1 10 rfl rfl)
theorem dX10_init_34 : decode cX10_init 34 = .ok (.putfield 25, 3) := dk_181 0 25 (dk_at dksX10_init_1 12 rfl rfl)
theorem dX10_init_37 : decode cX10_init 37 = .ok (.return_, 1) := dk_177 (dk_at dksX10_init_1 15 rfl rfl)
abbrev cX10_year : ByteArray := prog_13_method_2_code
def yX10_year : MethodName := ⟨RX10, "year", "()I"⟩
theorem dX10_year_0 : decode cX10_year 0 = .ok (.aload_n 0, 1) := by decide +kernel
theorem dX10_year_1 : decode cX10_year 1 = .ok (.getfield 7, 3) := by decide +kernel
theorem dX10_year_4 : decode cX10_year 4 = .ok (.ireturn, 1) := by decide +kernel
abbrev cX10_changes : ByteArray := prog_13_method_4_code
def yX10_changes : MethodName := ⟨RX10, "changes", "(LCountyGazetteer$Board;)I"⟩
def dkwX10_changes_0 : List UInt8 := [43, 42, 43, 186, 0, 28, 0, 0, 42, 180, 0, 25, 182, 0, 32, 172]
abbrev dktX10_changes_0 : List UInt8 := dkwX10_changes_0 ++ []
theorem dksX10_changes_0 : cX10_changes.data.toList.drop 0 = dktX10_changes_0 := by decide +kernel
theorem dX10_changes_0 : decode cX10_changes 0 = .ok (.aload_n 1, 1) := dk_43 (dk_at dksX10_changes_0 0 rfl rfl)
theorem dX10_changes_1 : decode cX10_changes 1 = .ok (.aload_n 0, 1) := dk_42 (dk_at dksX10_changes_0 1 rfl rfl)
theorem dX10_changes_2 : decode cX10_changes 2 = .ok (.aload_n 1, 1) := dk_43 (dk_at dksX10_changes_0 2 rfl rfl)
theorem dX10_changes_3 : decode cX10_changes 3 = .ok (.invokedynamic 28, 5) := by decide +kernel
theorem dX10_changes_8 : decode cX10_changes 8 = .ok (.aload_n 0, 1) := dk_42 (dk_at dksX10_changes_0 8 rfl rfl)
theorem dX10_changes_9 : decode cX10_changes 9 = .ok (.getfield 25, 3) := dk_180 0 25 (dk_at dksX10_changes_0 9 rfl rfl)
theorem dX10_changes_12 : decode cX10_changes 12 = .ok (.invokevirtual 32, 3) := dk_182 0 32 (dk_at dksX10_changes_0 12 rfl rfl)
theorem dX10_changes_15 : decode cX10_changes 15 = .ok (.ireturn, 1) := dk_172 (dk_at dksX10_changes_0 15 rfl rfl)
abbrev cX10_lambda_changes_0 : ByteArray := prog_13_method_5_code
def yX10_lambda_changes_0 : MethodName := ⟨RX10, "lambda$changes$0", "(LCountyGazetteer$Board;I)Z"⟩
def dkwX10_lambda_changes_0_2 : List UInt8 := [180, 0, 22, 96, 4, 100, 133, 184, 0, 41, 153, 0, 7, 4, 167, 0, 4, 3, 172]
abbrev dktX10_lambda_changes_0_2 : List UInt8 := dkwX10_lambda_changes_0_2 ++ []
def dkwX10_lambda_changes_0_1 : List UInt8 := [184, 0, 41, 153, 0, 36, 43, 28, 182, 0, 47, 133, 42, 180, 0, 16, 133, 42, 180, 0, 16, 42]
abbrev dktX10_lambda_changes_0_1 : List UInt8 := dkwX10_lambda_changes_0_1 ++ dktX10_lambda_changes_0_2
def dkwX10_lambda_changes_0_0 : List UInt8 := [43, 28, 182, 0, 38, 133, 42, 180, 0, 13, 133, 42, 180, 0, 13, 42, 180, 0, 19, 96, 4, 100, 133]
abbrev dktX10_lambda_changes_0_0 : List UInt8 := dkwX10_lambda_changes_0_0 ++ dktX10_lambda_changes_0_1
theorem dksX10_lambda_changes_0_0 : cX10_lambda_changes_0.data.toList.drop 0 = dktX10_lambda_changes_0_0 := by decide +kernel
theorem dksX10_lambda_changes_0_1 : cX10_lambda_changes_0.data.toList.drop 23 = dktX10_lambda_changes_0_1 := dk_seg dksX10_lambda_changes_0_0 23 rfl rfl
theorem dksX10_lambda_changes_0_2 : cX10_lambda_changes_0.data.toList.drop 45 = dktX10_lambda_changes_0_2 := dk_seg dksX10_lambda_changes_0_1 22 rfl rfl
theorem dX10_lambda_changes_0_0 : decode cX10_lambda_changes_0 0 = .ok (.aload_n 1, 1) := dk_43 (dk_at dksX10_lambda_changes_0_0 0 rfl rfl)
theorem dX10_lambda_changes_0_1 : decode cX10_lambda_changes_0 1 = .ok (.iload_n 2, 1) := dk_28 (dk_at dksX10_lambda_changes_0_0 1 rfl rfl)
theorem dX10_lambda_changes_0_2 : decode cX10_lambda_changes_0 2 = .ok (.invokevirtual 38, 3) := dk_182 0 38 (dk_at dksX10_lambda_changes_0_0 2 rfl rfl)
theorem dX10_lambda_changes_0_5 : decode cX10_lambda_changes_0 5 = .ok (.i2l, 1) := dk_133 (dk_at dksX10_lambda_changes_0_0 5 rfl rfl)
theorem dX10_lambda_changes_0_6 : decode cX10_lambda_changes_0 6 = .ok (.aload_n 0, 1) := dk_42 (dk_at dksX10_lambda_changes_0_0 6 rfl rfl)
theorem dX10_lambda_changes_0_7 : decode cX10_lambda_changes_0 7 = .ok (.getfield 13, 3) := dk_180 0 13 (dk_at dksX10_lambda_changes_0_0 7 rfl rfl)
theorem dX10_lambda_changes_0_10 : decode cX10_lambda_changes_0 10 = .ok (.i2l, 1) := dk_133 (dk_at dksX10_lambda_changes_0_0 10 rfl rfl)
theorem dX10_lambda_changes_0_11 : decode cX10_lambda_changes_0 11 = .ok (.aload_n 0, 1) := dk_42 (dk_at dksX10_lambda_changes_0_0 11 rfl rfl)
theorem dX10_lambda_changes_0_12 : decode cX10_lambda_changes_0 12 = .ok (.getfield 13, 3) := dk_180 0 13 (dk_at dksX10_lambda_changes_0_0 12 rfl rfl)
theorem dX10_lambda_changes_0_15 : decode cX10_lambda_changes_0 15 = .ok (.aload_n 0, 1) := dk_42 (dk_at dksX10_lambda_changes_0_0 15 rfl rfl)
theorem dX10_lambda_changes_0_16 : decode cX10_lambda_changes_0 16 = .ok (.getfield 19, 3) := dk_180 0 19 (dk_at dksX10_lambda_changes_0_0 16 rfl rfl)
theorem dX10_lambda_changes_0_19 : decode cX10_lambda_changes_0 19 = .ok (.iadd, 1) := dk_96 (dk_at dksX10_lambda_changes_0_0 19 rfl rfl)
theorem dX10_lambda_changes_0_20 : decode cX10_lambda_changes_0 20 = .ok (.iconst 1, 1) := dk_4 (dk_at dksX10_lambda_changes_0_0 20 rfl rfl)
theorem dX10_lambda_changes_0_21 : decode cX10_lambda_changes_0 21 = .ok (.isub, 1) := dk_100 (dk_at dksX10_lambda_changes_0_0 21 rfl rfl)
theorem dX10_lambda_changes_0_22 : decode cX10_lambda_changes_0 22 = .ok (.i2l, 1) := dk_133 (dk_at dksX10_lambda_changes_0_0 22 rfl rfl)
theorem dX10_lambda_changes_0_23 : decode cX10_lambda_changes_0 23 = .ok (.invokestatic 41, 3) := dk_184 0 41 (dk_at dksX10_lambda_changes_0_1 0 rfl rfl)
theorem dX10_lambda_changes_0_26 : decode cX10_lambda_changes_0 26 = .ok (.ifCond .eq 36, 3) := dk_153 0 36 (dk_at dksX10_lambda_changes_0_1 3 rfl rfl)
theorem dX10_lambda_changes_0_29 : decode cX10_lambda_changes_0 29 = .ok (.aload_n 1, 1) := dk_43 (dk_at dksX10_lambda_changes_0_1 6 rfl rfl)
theorem dX10_lambda_changes_0_30 : decode cX10_lambda_changes_0 30 = .ok (.iload_n 2, 1) := dk_28 (dk_at dksX10_lambda_changes_0_1 7 rfl rfl)
theorem dX10_lambda_changes_0_31 : decode cX10_lambda_changes_0 31 = .ok (.invokevirtual 47, 3) := dk_182 0 47 (dk_at dksX10_lambda_changes_0_1 8 rfl rfl)
theorem dX10_lambda_changes_0_34 : decode cX10_lambda_changes_0 34 = .ok (.i2l, 1) := dk_133 (dk_at dksX10_lambda_changes_0_1 11 rfl rfl)
theorem dX10_lambda_changes_0_35 : decode cX10_lambda_changes_0 35 = .ok (.aload_n 0, 1) := dk_42 (dk_at dksX10_lambda_changes_0_1 12 rfl rfl)
theorem dX10_lambda_changes_0_36 : decode cX10_lambda_changes_0 36 = .ok (.getfield 16, 3) := dk_180 0 16 (dk_at dksX10_lambda_changes_0_1 13 rfl rfl)
theorem dX10_lambda_changes_0_39 : decode cX10_lambda_changes_0 39 = .ok (.i2l, 1) := dk_133 (dk_at dksX10_lambda_changes_0_1 16 rfl rfl)
theorem dX10_lambda_changes_0_40 : decode cX10_lambda_changes_0 40 = .ok (.aload_n 0, 1) := dk_42 (dk_at dksX10_lambda_changes_0_1 17 rfl rfl)
theorem dX10_lambda_changes_0_41 : decode cX10_lambda_changes_0 41 = .ok (.getfield 16, 3) := dk_180 0 16 (dk_at dksX10_lambda_changes_0_1 18 rfl rfl)
theorem dX10_lambda_changes_0_44 : decode cX10_lambda_changes_0 44 = .ok (.aload_n 0, 1) := dk_42 (dk_at dksX10_lambda_changes_0_1 21 rfl rfl)
theorem dX10_lambda_changes_0_45 : decode cX10_lambda_changes_0 45 = .ok (.getfield 22, 3) := dk_180 0 22 (dk_at dksX10_lambda_changes_0_2 0 rfl rfl)
theorem dX10_lambda_changes_0_48 : decode cX10_lambda_changes_0 48 = .ok (.iadd, 1) := dk_96 (dk_at dksX10_lambda_changes_0_2 3 rfl rfl)
theorem dX10_lambda_changes_0_49 : decode cX10_lambda_changes_0 49 = .ok (.iconst 1, 1) := dk_4 (dk_at dksX10_lambda_changes_0_2 4 rfl rfl)
theorem dX10_lambda_changes_0_50 : decode cX10_lambda_changes_0 50 = .ok (.isub, 1) := dk_100 (dk_at dksX10_lambda_changes_0_2 5 rfl rfl)
theorem dX10_lambda_changes_0_51 : decode cX10_lambda_changes_0 51 = .ok (.i2l, 1) := dk_133 (dk_at dksX10_lambda_changes_0_2 6 rfl rfl)
theorem dX10_lambda_changes_0_52 : decode cX10_lambda_changes_0 52 = .ok (.invokestatic 41, 3) := dk_184 0 41 (dk_at dksX10_lambda_changes_0_2 7 rfl rfl)
theorem dX10_lambda_changes_0_55 : decode cX10_lambda_changes_0 55 = .ok (.ifCond .eq 7, 3) := dk_153 0 7 (dk_at dksX10_lambda_changes_0_2 10 rfl rfl)
theorem dX10_lambda_changes_0_58 : decode cX10_lambda_changes_0 58 = .ok (.iconst 1, 1) := dk_4 (dk_at dksX10_lambda_changes_0_2 13 rfl rfl)
theorem dX10_lambda_changes_0_59 : decode cX10_lambda_changes_0 59 = .ok (.goto 4, 3) := dk_167 0 4 (dk_at dksX10_lambda_changes_0_2 14 rfl rfl)
theorem dX10_lambda_changes_0_62 : decode cX10_lambda_changes_0 62 = .ok (.iconst 0, 1) := dk_3 (dk_at dksX10_lambda_changes_0_2 17 rfl rfl)
theorem dX10_lambda_changes_0_63 : decode cX10_lambda_changes_0 63 = .ok (.ireturn, 1) := dk_172 (dk_at dksX10_lambda_changes_0_2 18 rfl rfl)
abbrev cX10_gets : ByteArray := prog_13_method_3_code
def yX10_gets : MethodName := ⟨RX10, "gets", "()I"⟩
theorem dX10_gets_0 : decode cX10_gets 0 = .ok (.aload_n 0, 1) := by decide +kernel
theorem dX10_gets_1 : decode cX10_gets 1 = .ok (.getfield 25, 3) := by decide +kernel
theorem dX10_gets_4 : decode cX10_gets 4 = .ok (.ireturn, 1) := by decide +kernel
theorem q212 : (Jvm.Cond.initialized "CountyGazetteer$Redraw") ∈ lw_all := lw_g (lw_at lw_m1 36 rfl) rfl
theorem q411 : (Jvm.Cond.selects "CountyGazetteer$Redraw" ({ cls := "java/lang/Object", name := "getClass", desc := "()Ljava/lang/Class;" } : Jvm.MethodName) ({ cls := "java/lang/Object", name := "getClass", desc := "()Ljava/lang/Class;" } : Jvm.MethodName)) ∈ lw_all := lw_g (lw_at lw_m1 235 rfl) rfl
theorem q1397 : (Jvm.Cond.instantiable "CountyGazetteer$Redraw" (6 : Nat)) ∈ lw_all := lw_g (lw_at lw_m6 21 rfl) rfl
theorem q1403 : (Jvm.Cond.instanceMethod ({ cls := "CountyGazetteer$Redraw", name := "<init>", desc := "(IIIIII)V" } : Jvm.MethodName)) ∈ lw_all := lw_g (lw_at lw_m6 27 rfl) rfl
theorem q1404 : (Jvm.Cond.code ({ cls := "CountyGazetteer$Redraw", name := "<init>", desc := "(IIIIII)V" } : Jvm.MethodName) prog_13_method_1_code (7 : Nat) (Option.none : Option Jvm.ClassFile.FieldType)) ∈ lw_all := lw_g (lw_at lw_m6 28 rfl) rfl
theorem q1405 : (Jvm.Cond.methodLink "CountyGazetteer$Redraw" (1 : Nat) ({ cls := "java/lang/Object", name := "<init>", desc := "()V" } : Jvm.MethodName)) ∈ lw_all := lw_g (lw_at lw_m6 29 rfl) rfl
theorem q1406 : (Jvm.Cond.fieldLink "CountyGazetteer$Redraw" (7 : Nat) "CountyGazetteer$Redraw" "year" "I") ∈ lw_all := lw_g (lw_at lw_m6 30 rfl) rfl
theorem q1407 : (Jvm.Cond.fieldLink "CountyGazetteer$Redraw" (13 : Nat) "CountyGazetteer$Redraw" "x" "I") ∈ lw_all := lw_g (lw_at lw_m6 31 rfl) rfl
theorem q1408 : (Jvm.Cond.fieldLink "CountyGazetteer$Redraw" (16 : Nat) "CountyGazetteer$Redraw" "y" "I") ∈ lw_all := lw_g (lw_at lw_m6 32 rfl) rfl
theorem q1409 : (Jvm.Cond.fieldLink "CountyGazetteer$Redraw" (19 : Nat) "CountyGazetteer$Redraw" "width" "I") ∈ lw_all := lw_g (lw_at lw_m6 33 rfl) rfl
theorem q1410 : (Jvm.Cond.fieldLink "CountyGazetteer$Redraw" (22 : Nat) "CountyGazetteer$Redraw" "height" "I") ∈ lw_all := lw_g (lw_at lw_m6 34 rfl) rfl
theorem q1411 : (Jvm.Cond.fieldLink "CountyGazetteer$Redraw" (25 : Nat) "CountyGazetteer$Redraw" "county" "I") ∈ lw_all := lw_g (lw_at lw_m6 35 rfl) rfl
theorem q1412 : (Jvm.Cond.laysFinal "CountyGazetteer$Redraw" "CountyGazetteer$Redraw" "year" "I") ∈ lw_all := lw_g (lw_at lw_m6 36 rfl) rfl
theorem q1413 : (Jvm.Cond.soleField "CountyGazetteer$Redraw" "year") ∈ lw_all := lw_g (lw_at lw_m6 37 rfl) rfl
theorem q1414 : (Jvm.Cond.laysFinal "CountyGazetteer$Redraw" "CountyGazetteer$Redraw" "x" "I") ∈ lw_all := lw_g (lw_at lw_m6 38 rfl) rfl
theorem q1415 : (Jvm.Cond.soleField "CountyGazetteer$Redraw" "x") ∈ lw_all := lw_g (lw_at lw_m6 39 rfl) rfl
theorem q1416 : (Jvm.Cond.laysFinal "CountyGazetteer$Redraw" "CountyGazetteer$Redraw" "y" "I") ∈ lw_all := lw_g (lw_at lw_m6 40 rfl) rfl
theorem q1417 : (Jvm.Cond.soleField "CountyGazetteer$Redraw" "y") ∈ lw_all := lw_g (lw_at lw_m6 41 rfl) rfl
theorem q1418 : (Jvm.Cond.laysFinal "CountyGazetteer$Redraw" "CountyGazetteer$Redraw" "width" "I") ∈ lw_all := lw_g (lw_at lw_m6 42 rfl) rfl
theorem q1419 : (Jvm.Cond.soleField "CountyGazetteer$Redraw" "width") ∈ lw_all := lw_g (lw_at lw_m6 43 rfl) rfl
theorem q1420 : (Jvm.Cond.laysFinal "CountyGazetteer$Redraw" "CountyGazetteer$Redraw" "height" "I") ∈ lw_all := lw_g (lw_at lw_m6 44 rfl) rfl
theorem q1421 : (Jvm.Cond.soleField "CountyGazetteer$Redraw" "height") ∈ lw_all := lw_g (lw_at lw_m6 45 rfl) rfl
theorem q1422 : (Jvm.Cond.laysFinal "CountyGazetteer$Redraw" "CountyGazetteer$Redraw" "county" "I") ∈ lw_all := lw_g (lw_at lw_m6 46 rfl) rfl
theorem q1423 : (Jvm.Cond.soleField "CountyGazetteer$Redraw" "county") ∈ lw_all := lw_g (lw_at lw_m6 47 rfl) rfl
theorem q1424 : (Jvm.Cond.superclass "CountyGazetteer$Redraw" "java/lang/Object") ∈ lw_all := lw_g (lw_at lw_m6 48 rfl) rfl
theorem q2041 : (Jvm.Cond.castable "CountyGazetteer$Redraw" "CountyGazetteer$Reform") ∈ lw_tbl := lw_at lw_m8 185 rfl
theorem q2042 : (Jvm.Cond.selects "CountyGazetteer$Redraw" ({ cls := "CountyGazetteer$Reform", name := "year", desc := "()I" } : Jvm.MethodName) ({ cls := "CountyGazetteer$Redraw", name := "year", desc := "()I" } : Jvm.MethodName)) ∈ lw_all := lw_g (lw_at lw_m8 186 rfl) rfl
theorem q2043 : (Jvm.Cond.unhidden "CountyGazetteer$Redraw" "year" "()I") ∈ lw_tbl := lw_at lw_m8 187 rfl
theorem q2044 : (Jvm.Cond.instanceMethod ({ cls := "CountyGazetteer$Redraw", name := "year", desc := "()I" } : Jvm.MethodName)) ∈ lw_all := lw_g (lw_at lw_m8 188 rfl) rfl
theorem q2045 : (Jvm.Cond.publicMethod ({ cls := "CountyGazetteer$Redraw", name := "year", desc := "()I" } : Jvm.MethodName)) ∈ lw_tbl := lw_at lw_m8 189 rfl
theorem q2046 : (Jvm.Cond.code ({ cls := "CountyGazetteer$Redraw", name := "year", desc := "()I" } : Jvm.MethodName) prog_13_method_2_code (1 : Nat) (Option.some Jvm.ClassFile.FieldType.int)) ∈ lw_all := lw_g (lw_at lw_m8 190 rfl) rfl
theorem q2483 : (Jvm.Cond.selects "CountyGazetteer$Redraw" ({ cls := "CountyGazetteer$Reform", name := "changes", desc := "(LCountyGazetteer$Board;)I" } : Jvm.MethodName) ({ cls := "CountyGazetteer$Redraw", name := "changes", desc := "(LCountyGazetteer$Board;)I" } : Jvm.MethodName)) ∈ lw_all := lw_g (lw_at lw_m10 147 rfl) rfl
theorem q2484 : (Jvm.Cond.unhidden "CountyGazetteer$Redraw" "changes" "(LCountyGazetteer$Board;)I") ∈ lw_tbl := lw_at lw_m10 148 rfl
theorem q2485 : (Jvm.Cond.instanceMethod ({ cls := "CountyGazetteer$Redraw", name := "changes", desc := "(LCountyGazetteer$Board;)I" } : Jvm.MethodName)) ∈ lw_all := lw_g (lw_at lw_m10 149 rfl) rfl
theorem q2486 : (Jvm.Cond.publicMethod ({ cls := "CountyGazetteer$Redraw", name := "changes", desc := "(LCountyGazetteer$Board;)I" } : Jvm.MethodName)) ∈ lw_tbl := lw_at lw_m10 150 rfl
theorem q2487 : (Jvm.Cond.code ({ cls := "CountyGazetteer$Redraw", name := "changes", desc := "(LCountyGazetteer$Board;)I" } : Jvm.MethodName) prog_13_method_4_code (2 : Nat) (Option.some Jvm.ClassFile.FieldType.int)) ∈ lw_all := lw_g (lw_at lw_m10 151 rfl) rfl
theorem q2488 : (Jvm.Cond.privateMethod ({ cls := "CountyGazetteer$Redraw", name := "lambda$changes$0", desc := "(LCountyGazetteer$Board;I)Z" } : Jvm.MethodName)) ∈ lw_tbl := lw_at lw_m10 152 rfl
theorem q2489 : (Jvm.Cond.instanceMethod ({ cls := "CountyGazetteer$Redraw", name := "lambda$changes$0", desc := "(LCountyGazetteer$Board;I)Z" } : Jvm.MethodName)) ∈ lw_all := lw_g (lw_at lw_m10 153 rfl) rfl
theorem q2490 : (Jvm.Cond.code ({ cls := "CountyGazetteer$Redraw", name := "lambda$changes$0", desc := "(LCountyGazetteer$Board;I)Z" } : Jvm.MethodName) prog_13_method_5_code (3 : Nat) (Option.some Jvm.ClassFile.FieldType.boolean)) ∈ lw_all := lw_g (lw_at lw_m10 154 rfl) rfl
theorem q2491 : (Jvm.Cond.methodLink "CountyGazetteer$Redraw" (38 : Nat) ({ cls := "CountyGazetteer$Board", name := "x", desc := "(I)I" } : Jvm.MethodName)) ∈ lw_all := lw_g (lw_at lw_m10 155 rfl) rfl
theorem q2495 : (Jvm.Cond.methodLinkNest "CountyGazetteer$Redraw" (41 : Nat) ({ cls := "CountyGazetteer", name := "isIn", desc := "(JJJ)Z" } : Jvm.MethodName) "CountyGazetteer") ∈ lw_tbl := lw_at lw_m10 159 rfl
theorem q2496 : (Jvm.Cond.methodLink "CountyGazetteer$Redraw" (47 : Nat) ({ cls := "CountyGazetteer$Board", name := "y", desc := "(I)I" } : Jvm.MethodName)) ∈ lw_all := lw_g (lw_at lw_m10 160 rfl) rfl
theorem q2500 : (Jvm.Cond.methodLink "CountyGazetteer$Redraw" (32 : Nat) ({ cls := "CountyGazetteer$Board", name := "gives", desc := "(LCountyGazetteer$CellAsker;I)I" } : Jvm.MethodName)) ∈ lw_all := lw_g (lw_at lw_m10 164 rfl) rfl
theorem q2818 : (Jvm.Cond.selects "CountyGazetteer$Redraw" ({ cls := "java/lang/Object", name := "equals", desc := "(Ljava/lang/Object;)Z" } : Jvm.MethodName) ({ cls := "java/lang/Object", name := "equals", desc := "(Ljava/lang/Object;)Z" } : Jvm.MethodName)) ∈ lw_all := lw_g (lw_at lw_m12 2 rfl) rfl
theorem q3157 : (Jvm.Cond.unhidden "CountyGazetteer$Redraw" "loses" "()I") ∈ lw_tbl := lw_at lw_m13 101 rfl
theorem q3170 : (Jvm.Cond.selects "CountyGazetteer$Redraw" ({ cls := "CountyGazetteer$Reform", name := "gets", desc := "()I" } : Jvm.MethodName) ({ cls := "CountyGazetteer$Redraw", name := "gets", desc := "()I" } : Jvm.MethodName)) ∈ lw_all := lw_g (lw_at lw_m13 114 rfl) rfl
theorem q3171 : (Jvm.Cond.unhidden "CountyGazetteer$Redraw" "gets" "()I") ∈ lw_tbl := lw_at lw_m13 115 rfl
theorem q3172 : (Jvm.Cond.instanceMethod ({ cls := "CountyGazetteer$Redraw", name := "gets", desc := "()I" } : Jvm.MethodName)) ∈ lw_all := lw_g (lw_at lw_m13 116 rfl) rfl
theorem q3173 : (Jvm.Cond.publicMethod ({ cls := "CountyGazetteer$Redraw", name := "gets", desc := "()I" } : Jvm.MethodName)) ∈ lw_tbl := lw_at lw_m13 117 rfl
theorem q3174 : (Jvm.Cond.code ({ cls := "CountyGazetteer$Redraw", name := "gets", desc := "()I" } : Jvm.MethodName) prog_13_method_3_code (1 : Nat) (Option.some Jvm.ClassFile.FieldType.int)) ∈ lw_all := lw_g (lw_at lw_m13 118 rfl) rfl
theorem q4497 : (Jvm.Cond.castable "CountyGazetteer$Redraw" "java/lang/Object") ∈ lw_tbl := lw_at lw_m19 1 rfl
theorem in_X10 : ∀ w ∈ wsX100, w ∈ lw_all := lw_in wsX100 [1412, 1414, 1416, 1418, 1420, 1422] (by decide +kernel) (by decide +kernel)

/-! CountyGazetteer$Join -/
set_option maxRecDepth 100000
def RX11 : String := "CountyGazetteer$Join"
def TX11 : u_T := fun k => match k with
  | 0 => ("CountyGazetteer$Join", "year", "I", true)
  | 1 => ("CountyGazetteer$Join", "county", "I", true)
  | _ => ("CountyGazetteer$Join", "other", "I", true)
def tyX11 : Nat → FieldType := fun k => match k with
  | 0 => .int
  | 1 => .int
  | _ => .int
abbrev wsX110 : List Cond := u_ws RX11 TX11 3
theorem nmX11 : ∀ a, a < 3 → ∀ b, b < 3 → a ≠ b → (TX11 a).2.1 ≠ (TX11 b).2.1 := by decide +kernel
theorem tyX11_ok : ∀ k, k < 3 → parseFieldDescriptor (TX11 k).2.2.1 = some (tyX11 k) := by decide +kernel
abbrev cX11_init : ByteArray := prog_9_method_1_code
def yX11_init : MethodName := ⟨RX11, "<init>", "(III)V"⟩
def dkwX11_init_0 : List UInt8 := [42, 183, 0, 1, 42, 27, 181, 0, 7, 42, 28, 181, 0, 13, 42, 29, 181, 0, 16, 177]
abbrev dktX11_init_0 : List UInt8 := dkwX11_init_0 ++ []
theorem dksX11_init_0 : cX11_init.data.toList.drop 0 = dktX11_init_0 := by decide +kernel
theorem dX11_init_0 : decode cX11_init 0 = .ok (.aload_n 0, 1) := dk_42 (dk_at dksX11_init_0 0 rfl rfl)
theorem dX11_init_1 : decode cX11_init 1 = .ok (.invokespecial 1, 3) := dk_183 0 1 (dk_at dksX11_init_0 1 rfl rfl)
theorem dX11_init_4 : decode cX11_init 4 = .ok (.aload_n 0, 1) := dk_42 (dk_at dksX11_init_0 4 rfl rfl)
theorem dX11_init_5 : decode cX11_init 5 = .ok (.iload_n 1, 1) := dk_27 (dk_at dksX11_init_0 5 rfl rfl)
theorem dX11_init_6 : decode cX11_init 6 = .ok (.putfield 7, 3) := dk_181 0 7 (dk_at dksX11_init_0 6 rfl rfl)
theorem dX11_init_9 : decode cX11_init 9 = .ok (.aload_n 0, 1) := dk_42 (dk_at dksX11_init_0 9 rfl rfl)
theorem dX11_init_10 : decode cX11_init 10 = .ok (.iload_n 2, 1) := dk_28 (dk_at dksX11_init_0 10 rfl rfl)
theorem dX11_init_11 : decode cX11_init 11 = .ok (.putfield 13, 3) := dk_181 0 13 (dk_at dksX11_init_0 11 rfl rfl)
theorem dX11_init_14 : decode cX11_init 14 = .ok (.aload_n 0, 1) := dk_42 (dk_at dksX11_init_0 14 rfl rfl)
theorem dX11_init_15 : decode cX11_init 15 = .ok (.iload_n 3, 1) := dk_29 (dk_at dksX11_init_0 15 rfl rfl)
theorem dX11_init_16 : decode cX11_init 16 = .ok (.putfield 16, 3) := dk_181 0 16 (dk_at dksX11_init_0 16 rfl rfl)
theorem dX11_init_19 : decode cX11_init 19 = .ok (.return_, 1) := dk_177 (dk_at dksX11_init_0 19 rfl rfl)
abbrev cX11_year : ByteArray := prog_9_method_2_code
def yX11_year : MethodName := ⟨RX11, "year", "()I"⟩
theorem dX11_year_0 : decode cX11_year 0 = .ok (.aload_n 0, 1) := by decide +kernel
theorem dX11_year_1 : decode cX11_year 1 = .ok (.getfield 7, 3) := by decide +kernel
theorem dX11_year_4 : decode cX11_year 4 = .ok (.ireturn, 1) := by decide +kernel
abbrev cX11_changes : ByteArray := prog_9_method_5_code
def yX11_changes : MethodName := ⟨RX11, "changes", "(LCountyGazetteer$Board;)I"⟩
def dkwX11_changes_0 : List UInt8 := [43, 42, 43, 186, 0, 19, 0, 0, 42, 180, 0, 16, 182, 0, 23, 172]
abbrev dktX11_changes_0 : List UInt8 := dkwX11_changes_0 ++ []
theorem dksX11_changes_0 : cX11_changes.data.toList.drop 0 = dktX11_changes_0 := by decide +kernel
theorem dX11_changes_0 : decode cX11_changes 0 = .ok (.aload_n 1, 1) := dk_43 (dk_at dksX11_changes_0 0 rfl rfl)
theorem dX11_changes_1 : decode cX11_changes 1 = .ok (.aload_n 0, 1) := dk_42 (dk_at dksX11_changes_0 1 rfl rfl)
theorem dX11_changes_2 : decode cX11_changes 2 = .ok (.aload_n 1, 1) := dk_43 (dk_at dksX11_changes_0 2 rfl rfl)
theorem dX11_changes_3 : decode cX11_changes 3 = .ok (.invokedynamic 19, 5) := by decide +kernel
theorem dX11_changes_8 : decode cX11_changes 8 = .ok (.aload_n 0, 1) := dk_42 (dk_at dksX11_changes_0 8 rfl rfl)
theorem dX11_changes_9 : decode cX11_changes 9 = .ok (.getfield 16, 3) := dk_180 0 16 (dk_at dksX11_changes_0 9 rfl rfl)
theorem dX11_changes_12 : decode cX11_changes 12 = .ok (.invokevirtual 23, 3) := dk_182 0 23 (dk_at dksX11_changes_0 12 rfl rfl)
theorem dX11_changes_15 : decode cX11_changes 15 = .ok (.ireturn, 1) := dk_172 (dk_at dksX11_changes_0 15 rfl rfl)
abbrev cX11_lambda_changes_0 : ByteArray := prog_9_method_6_code
def yX11_lambda_changes_0 : MethodName := ⟨RX11, "lambda$changes$0", "(LCountyGazetteer$Board;I)Z"⟩
def dkwX11_lambda_changes_0_0 : List UInt8 := [43, 180, 0, 29, 28, 46, 42, 180, 0, 13, 160, 0, 7, 4, 167, 0, 4, 3, 172]
abbrev dktX11_lambda_changes_0_0 : List UInt8 := dkwX11_lambda_changes_0_0 ++ []
theorem dksX11_lambda_changes_0_0 : cX11_lambda_changes_0.data.toList.drop 0 = dktX11_lambda_changes_0_0 := by decide +kernel
theorem dX11_lambda_changes_0_0 : decode cX11_lambda_changes_0 0 = .ok (.aload_n 1, 1) := dk_43 (dk_at dksX11_lambda_changes_0_0 0 rfl rfl)
theorem dX11_lambda_changes_0_1 : decode cX11_lambda_changes_0 1 = .ok (.getfield 29, 3) := dk_180 0 29 (dk_at dksX11_lambda_changes_0_0 1 rfl rfl)
theorem dX11_lambda_changes_0_4 : decode cX11_lambda_changes_0 4 = .ok (.iload_n 2, 1) := dk_28 (dk_at dksX11_lambda_changes_0_0 4 rfl rfl)
theorem dX11_lambda_changes_0_5 : decode cX11_lambda_changes_0 5 = .ok (.iaload, 1) := dk_46 (dk_at dksX11_lambda_changes_0_0 5 rfl rfl)
theorem dX11_lambda_changes_0_6 : decode cX11_lambda_changes_0 6 = .ok (.aload_n 0, 1) := dk_42 (dk_at dksX11_lambda_changes_0_0 6 rfl rfl)
theorem dX11_lambda_changes_0_7 : decode cX11_lambda_changes_0 7 = .ok (.getfield 13, 3) := dk_180 0 13 (dk_at dksX11_lambda_changes_0_0 7 rfl rfl)
theorem dX11_lambda_changes_0_10 : decode cX11_lambda_changes_0 10 = .ok (.if_icmp .ne 7, 3) := dk_160 0 7 (dk_at dksX11_lambda_changes_0_0 10 rfl rfl)
theorem dX11_lambda_changes_0_13 : decode cX11_lambda_changes_0 13 = .ok (.iconst 1, 1) := dk_4 (dk_at dksX11_lambda_changes_0_0 13 rfl rfl)
theorem dX11_lambda_changes_0_14 : decode cX11_lambda_changes_0 14 = .ok (.goto 4, 3) := dk_167 0 4 (dk_at dksX11_lambda_changes_0_0 14 rfl rfl)
theorem dX11_lambda_changes_0_17 : decode cX11_lambda_changes_0 17 = .ok (.iconst 0, 1) := dk_3 (dk_at dksX11_lambda_changes_0_0 17 rfl rfl)
theorem dX11_lambda_changes_0_18 : decode cX11_lambda_changes_0 18 = .ok (.ireturn, 1) := dk_172 (dk_at dksX11_lambda_changes_0_0 18 rfl rfl)
abbrev cX11_loses : ByteArray := prog_9_method_4_code
def yX11_loses : MethodName := ⟨RX11, "loses", "()I"⟩
theorem dX11_loses_0 : decode cX11_loses 0 = .ok (.aload_n 0, 1) := by decide +kernel
theorem dX11_loses_1 : decode cX11_loses 1 = .ok (.getfield 13, 3) := by decide +kernel
theorem dX11_loses_4 : decode cX11_loses 4 = .ok (.ireturn, 1) := by decide +kernel
abbrev cX11_gets : ByteArray := prog_9_method_3_code
def yX11_gets : MethodName := ⟨RX11, "gets", "()I"⟩
theorem dX11_gets_0 : decode cX11_gets 0 = .ok (.aload_n 0, 1) := by decide +kernel
theorem dX11_gets_1 : decode cX11_gets 1 = .ok (.getfield 16, 3) := by decide +kernel
theorem dX11_gets_4 : decode cX11_gets 4 = .ok (.ireturn, 1) := by decide +kernel
theorem q213 : (Jvm.Cond.initialized "CountyGazetteer$Join") ∈ lw_all := lw_g (lw_at lw_m1 37 rfl) rfl
theorem q408 : (Jvm.Cond.selects "CountyGazetteer$Join" ({ cls := "java/lang/Object", name := "getClass", desc := "()Ljava/lang/Class;" } : Jvm.MethodName) ({ cls := "java/lang/Object", name := "getClass", desc := "()Ljava/lang/Class;" } : Jvm.MethodName)) ∈ lw_all := lw_g (lw_at lw_m1 232 rfl) rfl
theorem q517 : (Jvm.Cond.fieldLinkNest "CountyGazetteer$Join" (29 : Nat) "CountyGazetteer$Board" "owners" "[I" "CountyGazetteer") ∈ lw_tbl := lw_at lw_m2 101 rfl
theorem q1430 : (Jvm.Cond.instantiable "CountyGazetteer$Join" (3 : Nat)) ∈ lw_all := lw_g (lw_at lw_m6 54 rfl) rfl
theorem q1432 : (Jvm.Cond.instanceMethod ({ cls := "CountyGazetteer$Join", name := "<init>", desc := "(III)V" } : Jvm.MethodName)) ∈ lw_all := lw_g (lw_at lw_m6 56 rfl) rfl
theorem q1433 : (Jvm.Cond.code ({ cls := "CountyGazetteer$Join", name := "<init>", desc := "(III)V" } : Jvm.MethodName) prog_9_method_1_code (4 : Nat) (Option.none : Option Jvm.ClassFile.FieldType)) ∈ lw_all := lw_g (lw_at lw_m6 57 rfl) rfl
theorem q1434 : (Jvm.Cond.methodLink "CountyGazetteer$Join" (1 : Nat) ({ cls := "java/lang/Object", name := "<init>", desc := "()V" } : Jvm.MethodName)) ∈ lw_all := lw_g (lw_at lw_m6 58 rfl) rfl
theorem q1435 : (Jvm.Cond.fieldLink "CountyGazetteer$Join" (7 : Nat) "CountyGazetteer$Join" "year" "I") ∈ lw_all := lw_g (lw_at lw_m6 59 rfl) rfl
theorem q1436 : (Jvm.Cond.fieldLink "CountyGazetteer$Join" (13 : Nat) "CountyGazetteer$Join" "county" "I") ∈ lw_all := lw_g (lw_at lw_m6 60 rfl) rfl
theorem q1437 : (Jvm.Cond.fieldLink "CountyGazetteer$Join" (16 : Nat) "CountyGazetteer$Join" "other" "I") ∈ lw_all := lw_g (lw_at lw_m6 61 rfl) rfl
theorem q1438 : (Jvm.Cond.laysFinal "CountyGazetteer$Join" "CountyGazetteer$Join" "year" "I") ∈ lw_all := lw_g (lw_at lw_m6 62 rfl) rfl
theorem q1439 : (Jvm.Cond.soleField "CountyGazetteer$Join" "year") ∈ lw_all := lw_g (lw_at lw_m6 63 rfl) rfl
theorem q1440 : (Jvm.Cond.laysFinal "CountyGazetteer$Join" "CountyGazetteer$Join" "county" "I") ∈ lw_all := lw_g (lw_at lw_m6 64 rfl) rfl
theorem q1441 : (Jvm.Cond.soleField "CountyGazetteer$Join" "county") ∈ lw_all := lw_g (lw_at lw_m6 65 rfl) rfl
theorem q1442 : (Jvm.Cond.laysFinal "CountyGazetteer$Join" "CountyGazetteer$Join" "other" "I") ∈ lw_all := lw_g (lw_at lw_m6 66 rfl) rfl
theorem q1443 : (Jvm.Cond.soleField "CountyGazetteer$Join" "other") ∈ lw_all := lw_g (lw_at lw_m6 67 rfl) rfl
theorem q1444 : (Jvm.Cond.superclass "CountyGazetteer$Join" "java/lang/Object") ∈ lw_all := lw_g (lw_at lw_m6 68 rfl) rfl
theorem q2035 : (Jvm.Cond.castable "CountyGazetteer$Join" "CountyGazetteer$Reform") ∈ lw_tbl := lw_at lw_m8 179 rfl
theorem q2036 : (Jvm.Cond.selects "CountyGazetteer$Join" ({ cls := "CountyGazetteer$Reform", name := "year", desc := "()I" } : Jvm.MethodName) ({ cls := "CountyGazetteer$Join", name := "year", desc := "()I" } : Jvm.MethodName)) ∈ lw_all := lw_g (lw_at lw_m8 180 rfl) rfl
theorem q2037 : (Jvm.Cond.unhidden "CountyGazetteer$Join" "year" "()I") ∈ lw_tbl := lw_at lw_m8 181 rfl
theorem q2038 : (Jvm.Cond.instanceMethod ({ cls := "CountyGazetteer$Join", name := "year", desc := "()I" } : Jvm.MethodName)) ∈ lw_all := lw_g (lw_at lw_m8 182 rfl) rfl
theorem q2039 : (Jvm.Cond.publicMethod ({ cls := "CountyGazetteer$Join", name := "year", desc := "()I" } : Jvm.MethodName)) ∈ lw_tbl := lw_at lw_m8 183 rfl
theorem q2040 : (Jvm.Cond.code ({ cls := "CountyGazetteer$Join", name := "year", desc := "()I" } : Jvm.MethodName) prog_9_method_2_code (1 : Nat) (Option.some Jvm.ClassFile.FieldType.int)) ∈ lw_all := lw_g (lw_at lw_m8 184 rfl) rfl
theorem q2463 : (Jvm.Cond.selects "CountyGazetteer$Join" ({ cls := "CountyGazetteer$Reform", name := "changes", desc := "(LCountyGazetteer$Board;)I" } : Jvm.MethodName) ({ cls := "CountyGazetteer$Join", name := "changes", desc := "(LCountyGazetteer$Board;)I" } : Jvm.MethodName)) ∈ lw_all := lw_g (lw_at lw_m10 127 rfl) rfl
theorem q2464 : (Jvm.Cond.unhidden "CountyGazetteer$Join" "changes" "(LCountyGazetteer$Board;)I") ∈ lw_tbl := lw_at lw_m10 128 rfl
theorem q2465 : (Jvm.Cond.instanceMethod ({ cls := "CountyGazetteer$Join", name := "changes", desc := "(LCountyGazetteer$Board;)I" } : Jvm.MethodName)) ∈ lw_all := lw_g (lw_at lw_m10 129 rfl) rfl
theorem q2466 : (Jvm.Cond.publicMethod ({ cls := "CountyGazetteer$Join", name := "changes", desc := "(LCountyGazetteer$Board;)I" } : Jvm.MethodName)) ∈ lw_tbl := lw_at lw_m10 130 rfl
theorem q2467 : (Jvm.Cond.code ({ cls := "CountyGazetteer$Join", name := "changes", desc := "(LCountyGazetteer$Board;)I" } : Jvm.MethodName) prog_9_method_5_code (2 : Nat) (Option.some Jvm.ClassFile.FieldType.int)) ∈ lw_all := lw_g (lw_at lw_m10 131 rfl) rfl
theorem q2468 : (Jvm.Cond.privateMethod ({ cls := "CountyGazetteer$Join", name := "lambda$changes$0", desc := "(LCountyGazetteer$Board;I)Z" } : Jvm.MethodName)) ∈ lw_tbl := lw_at lw_m10 132 rfl
theorem q2469 : (Jvm.Cond.instanceMethod ({ cls := "CountyGazetteer$Join", name := "lambda$changes$0", desc := "(LCountyGazetteer$Board;I)Z" } : Jvm.MethodName)) ∈ lw_all := lw_g (lw_at lw_m10 133 rfl) rfl
theorem q2470 : (Jvm.Cond.code ({ cls := "CountyGazetteer$Join", name := "lambda$changes$0", desc := "(LCountyGazetteer$Board;I)Z" } : Jvm.MethodName) prog_9_method_6_code (3 : Nat) (Option.some Jvm.ClassFile.FieldType.boolean)) ∈ lw_all := lw_g (lw_at lw_m10 134 rfl) rfl
theorem q2471 : (Jvm.Cond.methodLink "CountyGazetteer$Join" (23 : Nat) ({ cls := "CountyGazetteer$Board", name := "gives", desc := "(LCountyGazetteer$CellAsker;I)I" } : Jvm.MethodName)) ∈ lw_all := lw_g (lw_at lw_m10 135 rfl) rfl
theorem q2815 : (Jvm.Cond.selects "CountyGazetteer$Join" ({ cls := "java/lang/Object", name := "equals", desc := "(Ljava/lang/Object;)Z" } : Jvm.MethodName) ({ cls := "java/lang/Object", name := "equals", desc := "(Ljava/lang/Object;)Z" } : Jvm.MethodName)) ∈ lw_all := lw_g (lw_at lw_m11 239 rfl) rfl
theorem q3152 : (Jvm.Cond.selects "CountyGazetteer$Join" ({ cls := "CountyGazetteer$Reform", name := "loses", desc := "()I" } : Jvm.MethodName) ({ cls := "CountyGazetteer$Join", name := "loses", desc := "()I" } : Jvm.MethodName)) ∈ lw_all := lw_g (lw_at lw_m13 96 rfl) rfl
theorem q3153 : (Jvm.Cond.unhidden "CountyGazetteer$Join" "loses" "()I") ∈ lw_tbl := lw_at lw_m13 97 rfl
theorem q3154 : (Jvm.Cond.instanceMethod ({ cls := "CountyGazetteer$Join", name := "loses", desc := "()I" } : Jvm.MethodName)) ∈ lw_all := lw_g (lw_at lw_m13 98 rfl) rfl
theorem q3155 : (Jvm.Cond.publicMethod ({ cls := "CountyGazetteer$Join", name := "loses", desc := "()I" } : Jvm.MethodName)) ∈ lw_tbl := lw_at lw_m13 99 rfl
theorem q3156 : (Jvm.Cond.code ({ cls := "CountyGazetteer$Join", name := "loses", desc := "()I" } : Jvm.MethodName) prog_9_method_4_code (1 : Nat) (Option.some Jvm.ClassFile.FieldType.int)) ∈ lw_all := lw_g (lw_at lw_m13 100 rfl) rfl
theorem q3165 : (Jvm.Cond.selects "CountyGazetteer$Join" ({ cls := "CountyGazetteer$Reform", name := "gets", desc := "()I" } : Jvm.MethodName) ({ cls := "CountyGazetteer$Join", name := "gets", desc := "()I" } : Jvm.MethodName)) ∈ lw_all := lw_g (lw_at lw_m13 109 rfl) rfl
theorem q3166 : (Jvm.Cond.unhidden "CountyGazetteer$Join" "gets" "()I") ∈ lw_tbl := lw_at lw_m13 110 rfl
theorem q3167 : (Jvm.Cond.instanceMethod ({ cls := "CountyGazetteer$Join", name := "gets", desc := "()I" } : Jvm.MethodName)) ∈ lw_all := lw_g (lw_at lw_m13 111 rfl) rfl
theorem q3168 : (Jvm.Cond.publicMethod ({ cls := "CountyGazetteer$Join", name := "gets", desc := "()I" } : Jvm.MethodName)) ∈ lw_tbl := lw_at lw_m13 112 rfl
theorem q3169 : (Jvm.Cond.code ({ cls := "CountyGazetteer$Join", name := "gets", desc := "()I" } : Jvm.MethodName) prog_9_method_3_code (1 : Nat) (Option.some Jvm.ClassFile.FieldType.int)) ∈ lw_all := lw_g (lw_at lw_m13 113 rfl) rfl
theorem q4498 : (Jvm.Cond.castable "CountyGazetteer$Join" "java/lang/Object") ∈ lw_tbl := lw_at lw_m19 2 rfl
theorem in_X11 : ∀ w ∈ wsX110, w ∈ lw_all := lw_in wsX110 [1438, 1440, 1442] (by decide +kernel) (by decide +kernel)

/-! CountyGazetteer$Edition -/
set_option maxRecDepth 100000
def RX12 : String := "CountyGazetteer$Edition"
def TX12 : u_T := fun k => match k with
  | 0 => ("CountyGazetteer$Edition", "blocks", "[LCountyGazetteer$Block;", true)
  | 1 => ("CountyGazetteer$Edition", "sorts", "[I", true)
  | 2 => ("CountyGazetteer$Edition", "pages", "I", false)
  | 3 => ("CountyGazetteer$Edition", "used", "I", false)
  | _ => ("CountyGazetteer$Edition", "wasted", "I", false)
def tyX12 : Nat → FieldType := fun k => match k with
  | 0 => .array (.object "CountyGazetteer$Block")
  | 1 => .array .int
  | 2 => .int
  | 3 => .int
  | _ => .int
abbrev wsX120 : List Cond := u_ws RX12 TX12 5
theorem nmX12 : ∀ a, a < 5 → ∀ b, b < 5 → a ≠ b → (TX12 a).2.1 ≠ (TX12 b).2.1 := by decide +kernel
theorem tyX12_ok : ∀ k, k < 5 → parseFieldDescriptor (TX12 k).2.2.1 = some (tyX12 k) := by decide +kernel
abbrev cX12_init : ByteArray := prog_7_method_1_code
def yX12_init : MethodName := ⟨RX12, "<init>", "(LCountyGazetteer$State;LCountyGazetteer$Board;LCountyGazetteer$Board;)V"⟩
def dkwX12_init_18 : List UInt8 := [42, 43, 180, 0, 135, 43, 180, 0, 138, 182, 0, 142, 54, 6, 177]
abbrev dktX12_init_18 : List UInt8 := dkwX12_init_18 ++ []
def dkwX12_init_17 : List UInt8 := [162, 0, 24, 42, 180, 0, 128, 21, 6, 25, 5, 182, 0, 132, 192, 0, 27, 83, 132, 6, 1, 167, 255, 228]
abbrev dktX12_init_17 : List UInt8 := dkwX12_init_17 ++ dktX12_init_18
def dkwX12_init_16 : List UInt8 := [42, 25, 5, 182, 0, 127, 189, 0, 27, 181, 0, 128, 3, 54, 6, 21, 6, 42, 180, 0, 128, 190]
abbrev dktX12_init_16 : List UInt8 := dkwX12_init_16 ++ dktX12_init_17
def dkwX12_init_15 : List UInt8 := [182, 0, 120, 153, 0, 6, 167, 0, 12, 25, 5, 25, 9, 182, 0, 123, 54, 10, 132, 8, 1, 167, 255, 216]
abbrev dktX12_init_15 : List UInt8 := dkwX12_init_15 ++ dktX12_init_16
def dkwX12_init_14 : List UInt8 := [54, 7, 3, 54, 8, 21, 8, 21, 7, 162, 0, 39, 25, 6, 21, 8, 50, 58, 9, 25, 9, 180, 0, 116]
abbrev dktX12_init_14 : List UInt8 := dkwX12_init_14 ++ dktX12_init_15
def dkwX12_init_13 : List UInt8 := [187, 0, 108, 89, 187, 0, 110, 89, 183, 0, 112, 183, 0, 113, 58, 5, 25, 4, 58, 6, 25, 6, 190]
abbrev dktX12_init_13 : List UInt8 := dkwX12_init_13 ++ dktX12_init_14
def dkwX12_init_12 : List UInt8 := [182, 0, 85, 5, 45, 180, 0, 78, 21, 7, 46, 25, 6, 183, 0, 89, 182, 0, 92, 167, 255, 39]
abbrev dktX12_init_12 : List UInt8 := dkwX12_init_12 ++ dktX12_init_13
def dkwX12_init_11 : List UInt8 := [21, 7, 46, 21, 8, 160, 0, 6, 167, 255, 74, 42, 25, 4, 187, 0, 83, 89, 25, 6, 43, 180, 0, 105]
abbrev dktX12_init_11 : List UInt8 := dkwX12_init_11 ++ dktX12_init_12
def dkwX12_init_10 : List UInt8 := [180, 0, 105, 2, 159, 255, 101, 25, 6, 43, 180, 0, 105, 182, 0, 65, 153, 255, 89, 45, 180, 0, 78]
abbrev dktX12_init_10 : List UInt8 := dkwX12_init_10 ++ dktX12_init_11
def dkwX12_init_9 : List UInt8 := [42, 25, 4, 187, 0, 83, 89, 25, 10, 4, 21, 8, 25, 6, 183, 0, 89, 182, 0, 92, 167, 255, 214, 43]
abbrev dktX12_init_9 : List UInt8 := dkwX12_init_9 ++ dktX12_init_10
def dkwX12_init_8 : List UInt8 := [58, 9, 25, 9, 185, 0, 49, 1, 0, 153, 0, 38, 25, 9, 185, 0, 55, 1, 0, 192, 0, 103, 58, 10]
abbrev dktX12_init_8 : List UInt8 := dkwX12_init_8 ++ dktX12_init_9
def dkwX12_init_7 : List UInt8 := [3, 21, 8, 25, 6, 183, 0, 89, 182, 0, 92, 25, 6, 43, 180, 0, 61, 182, 0, 96, 182, 0, 100]
abbrev dktX12_init_7 : List UInt8 := dkwX12_init_7 ++ dktX12_init_8
def dkwX12_init_6 : List UInt8 := [180, 0, 78, 21, 7, 46, 54, 8, 42, 25, 4, 187, 0, 83, 89, 25, 6, 43, 180, 0, 61, 182, 0, 85]
abbrev dktX12_init_6 : List UInt8 := dkwX12_init_6 ++ dktX12_init_7
def dkwX12_init_5 : List UInt8 := [167, 255, 222, 43, 180, 0, 69, 25, 6, 180, 0, 72, 104, 25, 6, 180, 0, 75, 96, 54, 7, 44]
abbrev dktX12_init_5 : List UInt8 := dkwX12_init_5 ++ dktX12_init_6
def dkwX12_init_4 : List UInt8 := [25, 5, 185, 0, 55, 1, 0, 192, 0, 59, 58, 6, 25, 6, 43, 180, 0, 61, 182, 0, 65, 154, 0, 6]
abbrev dktX12_init_4 : List UInt8 := dkwX12_init_4 ++ dktX12_init_5
def dkwX12_init_3 : List UInt8 := [167, 255, 214, 43, 180, 0, 42, 185, 0, 45, 1, 0, 58, 5, 25, 5, 185, 0, 49, 1, 0, 153, 0, 213]
abbrev dktX12_init_3 : List UInt8 := dkwX12_init_3 ++ dktX12_init_4
def dkwX12_init_2 : List UInt8 := [180, 0, 15, 21, 5, 185, 0, 29, 2, 0, 192, 0, 33, 182, 0, 35, 183, 0, 39, 83, 132, 5, 1]
abbrev dktX12_init_2 : List UInt8 := dkwX12_init_2 ++ dktX12_init_3
def dkwX12_init_1 : List UInt8 := [58, 4, 3, 54, 5, 21, 5, 25, 4, 190, 162, 0, 40, 25, 4, 21, 5, 187, 0, 27, 89, 21, 5, 43]
abbrev dktX12_init_1 : List UInt8 := dkwX12_init_1 ++ dktX12_init_2
def dkwX12_init_0 : List UInt8 := [42, 183, 0, 3, 42, 6, 188, 10, 181, 0, 9, 43, 180, 0, 15, 185, 0, 21, 1, 0, 189, 0, 27]
abbrev dktX12_init_0 : List UInt8 := dkwX12_init_0 ++ dktX12_init_1
theorem dksX12_init_0 : cX12_init.data.toList.drop 0 = dktX12_init_0 := by decide +kernel
theorem dksX12_init_1 : cX12_init.data.toList.drop 23 = dktX12_init_1 := dk_seg dksX12_init_0 23 rfl rfl
theorem dksX12_init_2 : cX12_init.data.toList.drop 47 = dktX12_init_2 := dk_seg dksX12_init_1 24 rfl rfl
theorem dksX12_init_3 : cX12_init.data.toList.drop 70 = dktX12_init_3 := dk_seg dksX12_init_2 23 rfl rfl
theorem dksX12_init_4 : cX12_init.data.toList.drop 94 = dktX12_init_4 := dk_seg dksX12_init_3 24 rfl rfl
theorem dksX12_init_5 : cX12_init.data.toList.drop 118 = dktX12_init_5 := dk_seg dksX12_init_4 24 rfl rfl
theorem dksX12_init_6 : cX12_init.data.toList.drop 140 = dktX12_init_6 := dk_seg dksX12_init_5 22 rfl rfl
theorem dksX12_init_7 : cX12_init.data.toList.drop 164 = dktX12_init_7 := dk_seg dksX12_init_6 24 rfl rfl
theorem dksX12_init_8 : cX12_init.data.toList.drop 187 = dktX12_init_8 := dk_seg dksX12_init_7 23 rfl rfl
theorem dksX12_init_9 : cX12_init.data.toList.drop 211 = dktX12_init_9 := dk_seg dksX12_init_8 24 rfl rfl
theorem dksX12_init_10 : cX12_init.data.toList.drop 235 = dktX12_init_10 := dk_seg dksX12_init_9 24 rfl rfl
theorem dksX12_init_11 : cX12_init.data.toList.drop 258 = dktX12_init_11 := dk_seg dksX12_init_10 23 rfl rfl
theorem dksX12_init_12 : cX12_init.data.toList.drop 282 = dktX12_init_12 := dk_seg dksX12_init_11 24 rfl rfl
theorem dksX12_init_13 : cX12_init.data.toList.drop 304 = dktX12_init_13 := dk_seg dksX12_init_12 22 rfl rfl
theorem dksX12_init_14 : cX12_init.data.toList.drop 327 = dktX12_init_14 := dk_seg dksX12_init_13 23 rfl rfl
theorem dksX12_init_15 : cX12_init.data.toList.drop 351 = dktX12_init_15 := dk_seg dksX12_init_14 24 rfl rfl
theorem dksX12_init_16 : cX12_init.data.toList.drop 375 = dktX12_init_16 := dk_seg dksX12_init_15 24 rfl rfl
theorem dksX12_init_17 : cX12_init.data.toList.drop 397 = dktX12_init_17 := dk_seg dksX12_init_16 22 rfl rfl
theorem dksX12_init_18 : cX12_init.data.toList.drop 421 = dktX12_init_18 := dk_seg dksX12_init_17 24 rfl rfl
theorem dX12_init_0 : decode cX12_init 0 = .ok (.aload_n 0, 1) := dk_42 (dk_at dksX12_init_0 0 rfl rfl)
theorem dX12_init_1 : decode cX12_init 1 = .ok (.invokespecial 3, 3) := dk_183 0 3 (dk_at dksX12_init_0 1 rfl rfl)
theorem dX12_init_4 : decode cX12_init 4 = .ok (.aload_n 0, 1) := dk_42 (dk_at dksX12_init_0 4 rfl rfl)
theorem dX12_init_5 : decode cX12_init 5 = .ok (.iconst 3, 1) := dk_6 (dk_at dksX12_init_0 5 rfl rfl)
theorem dX12_init_6 : decode cX12_init 6 = .ok (.newarray .int, 2) := dk_188_10 (dk_at dksX12_init_0 6 rfl rfl)
theorem dX12_init_8 : decode cX12_init 8 = .ok (.putfield 9, 3) := dk_181 0 9 (dk_at dksX12_init_0 8 rfl rfl)
theorem dX12_init_11 : decode cX12_init 11 = .ok (.aload_n 1, 1) := dk_43 (dk_at dksX12_init_0 11 rfl rfl)
theorem dX12_init_12 : decode cX12_init 12 = .ok (.getfield 15, 3) := dk_180 0 15 (dk_at dksX12_init_0 12 rfl rfl)
theorem dX12_init_15 : decode cX12_init 15 = .ok (.invokeinterface 21 1, 5) := by decide +kernel
theorem dX12_init_20 : decode cX12_init 20 = .ok (.anewarray 27, 3) := dk_189 0 27 (dk_at dksX12_init_0 20 rfl rfl)
theorem dX12_init_23 : decode cX12_init 23 = .ok (.astore 4, 2) := dk_58 4 (dk_at dksX12_init_1 0 rfl rfl)
theorem dX12_init_25 : decode cX12_init 25 = .ok (.iconst 0, 1) := dk_3 (dk_at dksX12_init_1 2 rfl rfl)
theorem dX12_init_26 : decode cX12_init 26 = .ok (.istore 5, 2) := dk_54 5 (dk_at dksX12_init_1 3 rfl rfl)
theorem dX12_init_28 : decode cX12_init 28 = .ok (.iload 5, 2) := dk_21 5 (dk_at dksX12_init_1 5 rfl rfl)
theorem dX12_init_30 : decode cX12_init 30 = .ok (.aload 4, 2) := dk_25 4 (dk_at dksX12_init_1 7 rfl rfl)
theorem dX12_init_32 : decode cX12_init 32 = .ok (.arraylength, 1) := dk_190 (dk_at dksX12_init_1 9 rfl rfl)
theorem dX12_init_33 : decode cX12_init 33 = .ok (.if_icmp .ge 40, 3) := dk_162 0 40 (dk_at dksX12_init_1 10 rfl rfl)
theorem dX12_init_36 : decode cX12_init 36 = .ok (.aload 4, 2) := dk_25 4 (dk_at dksX12_init_1 13 rfl rfl)
theorem dX12_init_38 : decode cX12_init 38 = .ok (.iload 5, 2) := dk_21 5 (dk_at dksX12_init_1 15 rfl rfl)
theorem dX12_init_40 : decode cX12_init 40 = .ok (.new 27, 3) := dk_187 0 27 (dk_at dksX12_init_1 17 rfl rfl)
theorem dX12_init_43 : decode cX12_init 43 = .ok (.dup, 1) := dk_89 (dk_at dksX12_init_1 20 rfl rfl)
theorem dX12_init_44 : decode cX12_init 44 = .ok (.iload 5, 2) := dk_21 5 (dk_at dksX12_init_1 21 rfl rfl)
theorem dX12_init_46 : decode cX12_init 46 = .ok (.aload_n 1, 1) := dk_43 (dk_at dksX12_init_1 23 rfl rfl)
theorem dX12_init_47 : decode cX12_init 47 = .ok (.getfield 15, 3) := dk_180 0 15 (dk_at dksX12_init_2 0 rfl rfl)
theorem dX12_init_50 : decode cX12_init 50 = .ok (.iload 5, 2) := dk_21 5 (dk_at dksX12_init_2 3 rfl rfl)
theorem dX12_init_52 : decode cX12_init 52 = .ok (.invokeinterface 29 2, 5) := by decide +kernel
theorem dX12_init_57 : decode cX12_init 57 = .ok (.checkcast 33, 3) := dk_192 0 33 (dk_at dksX12_init_2 10 rfl rfl)
theorem dX12_init_60 : decode cX12_init 60 = .ok (.invokevirtual 35, 3) := dk_182 0 35 (dk_at dksX12_init_2 13 rfl rfl)
theorem dX12_init_63 : decode cX12_init 63 = .ok (.invokespecial 39, 3) := dk_183 0 39 (dk_at dksX12_init_2 16 rfl rfl)
theorem dX12_init_66 : decode cX12_init 66 = .ok (.aastore, 1) := dk_83 (dk_at dksX12_init_2 19 rfl rfl)
theorem dX12_init_67 : decode cX12_init 67 = .ok (.iinc 5 1, 3) := dk_132 5 1 (dk_at dksX12_init_2 20 rfl rfl)
theorem dX12_init_70 : decode cX12_init 70 = .ok (.goto (-42), 3) := dk_167 255 214 (dk_at dksX12_init_3 0 rfl rfl)
theorem dX12_init_73 : decode cX12_init 73 = .ok (.aload_n 1, 1) := dk_43 (dk_at dksX12_init_3 3 rfl rfl)
theorem dX12_init_74 : decode cX12_init 74 = .ok (.getfield 42, 3) := dk_180 0 42 (dk_at dksX12_init_3 4 rfl rfl)
theorem dX12_init_77 : decode cX12_init 77 = .ok (.invokeinterface 45 1, 5) := by decide +kernel
theorem dX12_init_82 : decode cX12_init 82 = .ok (.astore 5, 2) := dk_58 5 (dk_at dksX12_init_3 12 rfl rfl)
theorem dX12_init_84 : decode cX12_init 84 = .ok (.aload 5, 2) := dk_25 5 (dk_at dksX12_init_3 14 rfl rfl)
theorem dX12_init_86 : decode cX12_init 86 = .ok (.invokeinterface 49 1, 5) := by decide +kernel
theorem dX12_init_91 : decode cX12_init 91 = .ok (.ifCond .eq 213, 3) := dk_153 0 213 (dk_at dksX12_init_3 21 rfl rfl)
theorem dX12_init_94 : decode cX12_init 94 = .ok (.aload 5, 2) := dk_25 5 (dk_at dksX12_init_4 0 rfl rfl)
theorem dX12_init_96 : decode cX12_init 96 = .ok (.invokeinterface 55 1, 5) := by decide +kernel
theorem dX12_init_101 : decode cX12_init 101 = .ok (.checkcast 59, 3) := dk_192 0 59 (dk_at dksX12_init_4 7 rfl rfl)
theorem dX12_init_104 : decode cX12_init 104 = .ok (.astore 6, 2) := dk_58 6 (dk_at dksX12_init_4 10 rfl rfl)
theorem dX12_init_106 : decode cX12_init 106 = .ok (.aload 6, 2) := dk_25 6 (dk_at dksX12_init_4 12 rfl rfl)
theorem dX12_init_108 : decode cX12_init 108 = .ok (.aload_n 1, 1) := dk_43 (dk_at dksX12_init_4 14 rfl rfl)
theorem dX12_init_109 : decode cX12_init 109 = .ok (.getfield 61, 3) := dk_180 0 61 (dk_at dksX12_init_4 15 rfl rfl)
theorem dX12_init_112 : decode cX12_init 112 = .ok (.invokevirtual 65, 3) := dk_182 0 65 (dk_at dksX12_init_4 18 rfl rfl)
theorem dX12_init_115 : decode cX12_init 115 = .ok (.ifCond .ne 6, 3) := dk_154 0 6 (dk_at dksX12_init_4 21 rfl rfl)
theorem dX12_init_118 : decode cX12_init 118 = .ok (.goto (-34), 3) := dk_167 255 222 (dk_at dksX12_init_5 0 rfl rfl)
theorem dX12_init_121 : decode cX12_init 121 = .ok (.aload_n 1, 1) := dk_43 (dk_at dksX12_init_5 3 rfl rfl)
theorem dX12_init_122 : decode cX12_init 122 = .ok (.getfield 69, 3) := dk_180 0 69 (dk_at dksX12_init_5 4 rfl rfl)
theorem dX12_init_125 : decode cX12_init 125 = .ok (.aload 6, 2) := dk_25 6 (dk_at dksX12_init_5 7 rfl rfl)
theorem dX12_init_127 : decode cX12_init 127 = .ok (.getfield 72, 3) := dk_180 0 72 (dk_at dksX12_init_5 9 rfl rfl)
theorem dX12_init_130 : decode cX12_init 130 = .ok (.imul, 1) := dk_104 (dk_at dksX12_init_5 12 rfl rfl)
theorem dX12_init_131 : decode cX12_init 131 = .ok (.aload 6, 2) := dk_25 6 (dk_at dksX12_init_5 13 rfl rfl)
theorem dX12_init_133 : decode cX12_init 133 = .ok (.getfield 75, 3) := dk_180 0 75 (dk_at dksX12_init_5 15 rfl rfl)
theorem dX12_init_136 : decode cX12_init 136 = .ok (.iadd, 1) := dk_96 (dk_at dksX12_init_5 18 rfl rfl)
theorem dX12_init_137 : decode cX12_init 137 = .ok (.istore 7, 2) := dk_54 7 (dk_at dksX12_init_5 19 rfl rfl)
theorem dX12_init_139 : decode cX12_init 139 = .ok (.aload_n 2, 1) := dk_44 (dk_at dksX12_init_5 21 rfl rfl)
theorem dX12_init_140 : decode cX12_init 140 = .ok (.getfield 78, 3) := dk_180 0 78 (dk_at dksX12_init_6 0 rfl rfl)
theorem dX12_init_143 : decode cX12_init 143 = .ok (.iload 7, 2) := dk_21 7 (dk_at dksX12_init_6 3 rfl rfl)
theorem dX12_init_145 : decode cX12_init 145 = .ok (.iaload, 1) := dk_46 (dk_at dksX12_init_6 5 rfl rfl)
theorem dX12_init_146 : decode cX12_init 146 = .ok (.istore 8, 2) := dk_54 8 (dk_at dksX12_init_6 6 rfl rfl)
theorem dX12_init_148 : decode cX12_init 148 = .ok (.aload_n 0, 1) := dk_42 (dk_at dksX12_init_6 8 rfl rfl)
theorem dX12_init_149 : decode cX12_init 149 = .ok (.aload 4, 2) := dk_25 4 (dk_at dksX12_init_6 9 rfl rfl)
theorem dX12_init_151 : decode cX12_init 151 = .ok (.new 83, 3) := dk_187 0 83 (dk_at dksX12_init_6 11 rfl rfl)
theorem dX12_init_154 : decode cX12_init 154 = .ok (.dup, 1) := dk_89 (dk_at dksX12_init_6 14 rfl rfl)
theorem dX12_init_155 : decode cX12_init 155 = .ok (.aload 6, 2) := dk_25 6 (dk_at dksX12_init_6 15 rfl rfl)
theorem dX12_init_157 : decode cX12_init 157 = .ok (.aload_n 1, 1) := dk_43 (dk_at dksX12_init_6 17 rfl rfl)
theorem dX12_init_158 : decode cX12_init 158 = .ok (.getfield 61, 3) := dk_180 0 61 (dk_at dksX12_init_6 18 rfl rfl)
theorem dX12_init_161 : decode cX12_init 161 = .ok (.invokevirtual 85, 3) := dk_182 0 85 (dk_at dksX12_init_6 21 rfl rfl)
theorem dX12_init_164 : decode cX12_init 164 = .ok (.iconst 0, 1) := dk_3 (dk_at dksX12_init_7 0 rfl rfl)
theorem dX12_init_165 : decode cX12_init 165 = .ok (.iload 8, 2) := dk_21 8 (dk_at dksX12_init_7 1 rfl rfl)
theorem dX12_init_167 : decode cX12_init 167 = .ok (.aload 6, 2) := dk_25 6 (dk_at dksX12_init_7 3 rfl rfl)
theorem dX12_init_169 : decode cX12_init 169 = .ok (.invokespecial 89, 3) := dk_183 0 89 (dk_at dksX12_init_7 5 rfl rfl)
theorem dX12_init_172 : decode cX12_init 172 = .ok (.invokevirtual 92, 3) := dk_182 0 92 (dk_at dksX12_init_7 8 rfl rfl)
theorem dX12_init_175 : decode cX12_init 175 = .ok (.aload 6, 2) := dk_25 6 (dk_at dksX12_init_7 11 rfl rfl)
theorem dX12_init_177 : decode cX12_init 177 = .ok (.aload_n 1, 1) := dk_43 (dk_at dksX12_init_7 13 rfl rfl)
theorem dX12_init_178 : decode cX12_init 178 = .ok (.getfield 61, 3) := dk_180 0 61 (dk_at dksX12_init_7 14 rfl rfl)
theorem dX12_init_181 : decode cX12_init 181 = .ok (.invokevirtual 96, 3) := dk_182 0 96 (dk_at dksX12_init_7 17 rfl rfl)
theorem dX12_init_184 : decode cX12_init 184 = .ok (.invokevirtual 100, 3) := dk_182 0 100 (dk_at dksX12_init_7 20 rfl rfl)
theorem dX12_init_187 : decode cX12_init 187 = .ok (.astore 9, 2) := dk_58 9 (dk_at dksX12_init_8 0 rfl rfl)
theorem dX12_init_189 : decode cX12_init 189 = .ok (.aload 9, 2) := dk_25 9 (dk_at dksX12_init_8 2 rfl rfl)
theorem dX12_init_191 : decode cX12_init 191 = .ok (.invokeinterface 49 1, 5) := by decide +kernel
theorem dX12_init_196 : decode cX12_init 196 = .ok (.ifCond .eq 38, 3) := dk_153 0 38 (dk_at dksX12_init_8 9 rfl rfl)
theorem dX12_init_199 : decode cX12_init 199 = .ok (.aload 9, 2) := dk_25 9 (dk_at dksX12_init_8 12 rfl rfl)
theorem dX12_init_201 : decode cX12_init 201 = .ok (.invokeinterface 55 1, 5) := by decide +kernel
theorem dX12_init_206 : decode cX12_init 206 = .ok (.checkcast 103, 3) := dk_192 0 103 (dk_at dksX12_init_8 19 rfl rfl)
theorem dX12_init_209 : decode cX12_init 209 = .ok (.astore 10, 2) := dk_58 10 (dk_at dksX12_init_8 22 rfl rfl)
theorem dX12_init_211 : decode cX12_init 211 = .ok (.aload_n 0, 1) := dk_42 (dk_at dksX12_init_9 0 rfl rfl)
theorem dX12_init_212 : decode cX12_init 212 = .ok (.aload 4, 2) := dk_25 4 (dk_at dksX12_init_9 1 rfl rfl)
theorem dX12_init_214 : decode cX12_init 214 = .ok (.new 83, 3) := dk_187 0 83 (dk_at dksX12_init_9 3 rfl rfl)
theorem dX12_init_217 : decode cX12_init 217 = .ok (.dup, 1) := dk_89 (dk_at dksX12_init_9 6 rfl rfl)
theorem dX12_init_218 : decode cX12_init 218 = .ok (.aload 10, 2) := dk_25 10 (dk_at dksX12_init_9 7 rfl rfl)
theorem dX12_init_220 : decode cX12_init 220 = .ok (.iconst 1, 1) := dk_4 (dk_at dksX12_init_9 9 rfl rfl)
theorem dX12_init_221 : decode cX12_init 221 = .ok (.iload 8, 2) := dk_21 8 (dk_at dksX12_init_9 10 rfl rfl)
theorem dX12_init_223 : decode cX12_init 223 = .ok (.aload 6, 2) := dk_25 6 (dk_at dksX12_init_9 12 rfl rfl)
theorem dX12_init_225 : decode cX12_init 225 = .ok (.invokespecial 89, 3) := dk_183 0 89 (dk_at dksX12_init_9 14 rfl rfl)
theorem dX12_init_228 : decode cX12_init 228 = .ok (.invokevirtual 92, 3) := dk_182 0 92 (dk_at dksX12_init_9 17 rfl rfl)
theorem dX12_init_231 : decode cX12_init 231 = .ok (.goto (-42), 3) := dk_167 255 214 (dk_at dksX12_init_9 20 rfl rfl)
theorem dX12_init_234 : decode cX12_init 234 = .ok (.aload_n 1, 1) := dk_43 (dk_at dksX12_init_9 23 rfl rfl)
theorem dX12_init_235 : decode cX12_init 235 = .ok (.getfield 105, 3) := dk_180 0 105 (dk_at dksX12_init_10 0 rfl rfl)
theorem dX12_init_238 : decode cX12_init 238 = .ok (.iconst (-1), 1) := dk_2 (dk_at dksX12_init_10 3 rfl rfl)
theorem dX12_init_239 : decode cX12_init 239 = .ok (.if_icmp .eq (-155), 3) := dk_159 255 101 (dk_at dksX12_init_10 4 rfl rfl)
theorem dX12_init_242 : decode cX12_init 242 = .ok (.aload 6, 2) := dk_25 6 (dk_at dksX12_init_10 7 rfl rfl)
theorem dX12_init_244 : decode cX12_init 244 = .ok (.aload_n 1, 1) := dk_43 (dk_at dksX12_init_10 9 rfl rfl)
theorem dX12_init_245 : decode cX12_init 245 = .ok (.getfield 105, 3) := dk_180 0 105 (dk_at dksX12_init_10 10 rfl rfl)
theorem dX12_init_248 : decode cX12_init 248 = .ok (.invokevirtual 65, 3) := dk_182 0 65 (dk_at dksX12_init_10 13 rfl rfl)
theorem dX12_init_251 : decode cX12_init 251 = .ok (.ifCond .eq (-167), 3) := dk_153 255 89 (dk_at dksX12_init_10 16 rfl rfl)
theorem dX12_init_254 : decode cX12_init 254 = .ok (.aload_n 3, 1) := dk_45 (dk_at dksX12_init_10 19 rfl rfl)
theorem dX12_init_255 : decode cX12_init 255 = .ok (.getfield 78, 3) := dk_180 0 78 (dk_at dksX12_init_10 20 rfl rfl)
theorem dX12_init_258 : decode cX12_init 258 = .ok (.iload 7, 2) := dk_21 7 (dk_at dksX12_init_11 0 rfl rfl)
theorem dX12_init_260 : decode cX12_init 260 = .ok (.iaload, 1) := dk_46 (dk_at dksX12_init_11 2 rfl rfl)
theorem dX12_init_261 : decode cX12_init 261 = .ok (.iload 8, 2) := dk_21 8 (dk_at dksX12_init_11 3 rfl rfl)
theorem dX12_init_263 : decode cX12_init 263 = .ok (.if_icmp .ne 6, 3) := dk_160 0 6 (dk_at dksX12_init_11 5 rfl rfl)
theorem dX12_init_266 : decode cX12_init 266 = .ok (.goto (-182), 3) := dk_167 255 74 (dk_at dksX12_init_11 8 rfl rfl)
theorem dX12_init_269 : decode cX12_init 269 = .ok (.aload_n 0, 1) := dk_42 (dk_at dksX12_init_11 11 rfl rfl)
theorem dX12_init_270 : decode cX12_init 270 = .ok (.aload 4, 2) := dk_25 4 (dk_at dksX12_init_11 12 rfl rfl)
theorem dX12_init_272 : decode cX12_init 272 = .ok (.new 83, 3) := dk_187 0 83 (dk_at dksX12_init_11 14 rfl rfl)
theorem dX12_init_275 : decode cX12_init 275 = .ok (.dup, 1) := dk_89 (dk_at dksX12_init_11 17 rfl rfl)
theorem dX12_init_276 : decode cX12_init 276 = .ok (.aload 6, 2) := dk_25 6 (dk_at dksX12_init_11 18 rfl rfl)
theorem dX12_init_278 : decode cX12_init 278 = .ok (.aload_n 1, 1) := dk_43 (dk_at dksX12_init_11 20 rfl rfl)
theorem dX12_init_279 : decode cX12_init 279 = .ok (.getfield 105, 3) := dk_180 0 105 (dk_at dksX12_init_11 21 rfl rfl)
theorem dX12_init_282 : decode cX12_init 282 = .ok (.invokevirtual 85, 3) := dk_182 0 85 (dk_at dksX12_init_12 0 rfl rfl)
theorem dX12_init_285 : decode cX12_init 285 = .ok (.iconst 2, 1) := dk_5 (dk_at dksX12_init_12 3 rfl rfl)
theorem dX12_init_286 : decode cX12_init 286 = .ok (.aload_n 3, 1) := dk_45 (dk_at dksX12_init_12 4 rfl rfl)
theorem dX12_init_287 : decode cX12_init 287 = .ok (.getfield 78, 3) := dk_180 0 78 (dk_at dksX12_init_12 5 rfl rfl)
theorem dX12_init_290 : decode cX12_init 290 = .ok (.iload 7, 2) := dk_21 7 (dk_at dksX12_init_12 8 rfl rfl)
theorem dX12_init_292 : decode cX12_init 292 = .ok (.iaload, 1) := dk_46 (dk_at dksX12_init_12 10 rfl rfl)
theorem dX12_init_293 : decode cX12_init 293 = .ok (.aload 6, 2) := dk_25 6 (dk_at dksX12_init_12 11 rfl rfl)
theorem dX12_init_295 : decode cX12_init 295 = .ok (.invokespecial 89, 3) := dk_183 0 89 (dk_at dksX12_init_12 13 rfl rfl)
theorem dX12_init_298 : decode cX12_init 298 = .ok (.invokevirtual 92, 3) := dk_182 0 92 (dk_at dksX12_init_12 16 rfl rfl)
theorem dX12_init_301 : decode cX12_init 301 = .ok (.goto (-217), 3) := dk_167 255 39 (dk_at dksX12_init_12 19 rfl rfl)
theorem dX12_init_304 : decode cX12_init 304 = .ok (.new 108, 3) := dk_187 0 108 (dk_at dksX12_init_13 0 rfl rfl)
theorem dX12_init_307 : decode cX12_init 307 = .ok (.dup, 1) := dk_89 (dk_at dksX12_init_13 3 rfl rfl)
theorem dX12_init_308 : decode cX12_init 308 = .ok (.new 110, 3) := dk_187 0 110 (dk_at dksX12_init_13 4 rfl rfl)
theorem dX12_init_311 : decode cX12_init 311 = .ok (.dup, 1) := dk_89 (dk_at dksX12_init_13 7 rfl rfl)
theorem dX12_init_312 : decode cX12_init 312 = .ok (.invokespecial 112, 3) := dk_183 0 112 (dk_at dksX12_init_13 8 rfl rfl)
theorem dX12_init_315 : decode cX12_init 315 = .ok (.invokespecial 113, 3) := dk_183 0 113 (dk_at dksX12_init_13 11 rfl rfl)
theorem dX12_init_318 : decode cX12_init 318 = .ok (.astore 5, 2) := dk_58 5 (dk_at dksX12_init_13 14 rfl rfl)
theorem dX12_init_320 : decode cX12_init 320 = .ok (.aload 4, 2) := dk_25 4 (dk_at dksX12_init_13 16 rfl rfl)
theorem dX12_init_322 : decode cX12_init 322 = .ok (.astore 6, 2) := dk_58 6 (dk_at dksX12_init_13 18 rfl rfl)
theorem dX12_init_324 : decode cX12_init 324 = .ok (.aload 6, 2) := dk_25 6 (dk_at dksX12_init_13 20 rfl rfl)
theorem dX12_init_326 : decode cX12_init 326 = .ok (.arraylength, 1) := dk_190 (dk_at dksX12_init_13 22 rfl rfl)
theorem dX12_init_327 : decode cX12_init 327 = .ok (.istore 7, 2) := dk_54 7 (dk_at dksX12_init_14 0 rfl rfl)
theorem dX12_init_329 : decode cX12_init 329 = .ok (.iconst 0, 1) := dk_3 (dk_at dksX12_init_14 2 rfl rfl)
theorem dX12_init_330 : decode cX12_init 330 = .ok (.istore 8, 2) := dk_54 8 (dk_at dksX12_init_14 3 rfl rfl)
theorem dX12_init_332 : decode cX12_init 332 = .ok (.iload 8, 2) := dk_21 8 (dk_at dksX12_init_14 5 rfl rfl)
theorem dX12_init_334 : decode cX12_init 334 = .ok (.iload 7, 2) := dk_21 7 (dk_at dksX12_init_14 7 rfl rfl)
theorem dX12_init_336 : decode cX12_init 336 = .ok (.if_icmp .ge 39, 3) := dk_162 0 39 (dk_at dksX12_init_14 9 rfl rfl)
theorem dX12_init_339 : decode cX12_init 339 = .ok (.aload 6, 2) := dk_25 6 (dk_at dksX12_init_14 12 rfl rfl)
theorem dX12_init_341 : decode cX12_init 341 = .ok (.iload 8, 2) := dk_21 8 (dk_at dksX12_init_14 14 rfl rfl)
theorem dX12_init_343 : decode cX12_init 343 = .ok (.aaload, 1) := dk_50 (dk_at dksX12_init_14 16 rfl rfl)
theorem dX12_init_344 : decode cX12_init 344 = .ok (.astore 9, 2) := dk_58 9 (dk_at dksX12_init_14 17 rfl rfl)
theorem dX12_init_346 : decode cX12_init 346 = .ok (.aload 9, 2) := dk_25 9 (dk_at dksX12_init_14 19 rfl rfl)
theorem dX12_init_348 : decode cX12_init 348 = .ok (.getfield 116, 3) := dk_180 0 116 (dk_at dksX12_init_14 21 rfl rfl)
theorem dX12_init_351 : decode cX12_init 351 = .ok (.invokevirtual 120, 3) := dk_182 0 120 (dk_at dksX12_init_15 0 rfl rfl)
theorem dX12_init_354 : decode cX12_init 354 = .ok (.ifCond .eq 6, 3) := dk_153 0 6 (dk_at dksX12_init_15 3 rfl rfl)
theorem dX12_init_357 : decode cX12_init 357 = .ok (.goto 12, 3) := dk_167 0 12 (dk_at dksX12_init_15 6 rfl rfl)
theorem dX12_init_360 : decode cX12_init 360 = .ok (.aload 5, 2) := dk_25 5 (dk_at dksX12_init_15 9 rfl rfl)
theorem dX12_init_362 : decode cX12_init 362 = .ok (.aload 9, 2) := dk_25 9 (dk_at dksX12_init_15 11 rfl rfl)
theorem dX12_init_364 : decode cX12_init 364 = .ok (.invokevirtual 123, 3) := dk_182 0 123 (dk_at dksX12_init_15 13 rfl rfl)
theorem dX12_init_367 : decode cX12_init 367 = .ok (.istore 10, 2) := dk_54 10 (dk_at dksX12_init_15 16 rfl rfl)
theorem dX12_init_369 : decode cX12_init 369 = .ok (.iinc 8 1, 3) := dk_132 8 1 (dk_at dksX12_init_15 18 rfl rfl)
theorem dX12_init_372 : decode cX12_init 372 = .ok (.goto (-40), 3) := dk_167 255 216 (dk_at dksX12_init_15 21 rfl rfl)
theorem dX12_init_375 : decode cX12_init 375 = .ok (.aload_n 0, 1) := dk_42 (dk_at dksX12_init_16 0 rfl rfl)
theorem dX12_init_376 : decode cX12_init 376 = .ok (.aload 5, 2) := dk_25 5 (dk_at dksX12_init_16 1 rfl rfl)
theorem dX12_init_378 : decode cX12_init 378 = .ok (.invokevirtual 127, 3) := dk_182 0 127 (dk_at dksX12_init_16 3 rfl rfl)
theorem dX12_init_381 : decode cX12_init 381 = .ok (.anewarray 27, 3) := dk_189 0 27 (dk_at dksX12_init_16 6 rfl rfl)
theorem dX12_init_384 : decode cX12_init 384 = .ok (.putfield 128, 3) := dk_181 0 128 (dk_at dksX12_init_16 9 rfl rfl)
theorem dX12_init_387 : decode cX12_init 387 = .ok (.iconst 0, 1) := dk_3 (dk_at dksX12_init_16 12 rfl rfl)
theorem dX12_init_388 : decode cX12_init 388 = .ok (.istore 6, 2) := dk_54 6 (dk_at dksX12_init_16 13 rfl rfl)
theorem dX12_init_390 : decode cX12_init 390 = .ok (.iload 6, 2) := dk_21 6 (dk_at dksX12_init_16 15 rfl rfl)
theorem dX12_init_392 : decode cX12_init 392 = .ok (.aload_n 0, 1) := dk_42 (dk_at dksX12_init_16 17 rfl rfl)
theorem dX12_init_393 : decode cX12_init 393 = .ok (.getfield 128, 3) := dk_180 0 128 (dk_at dksX12_init_16 18 rfl rfl)
theorem dX12_init_396 : decode cX12_init 396 = .ok (.arraylength, 1) := dk_190 (dk_at dksX12_init_16 21 rfl rfl)
theorem dX12_init_397 : decode cX12_init 397 = .ok (.if_icmp .ge 24, 3) := dk_162 0 24 (dk_at dksX12_init_17 0 rfl rfl)
theorem dX12_init_400 : decode cX12_init 400 = .ok (.aload_n 0, 1) := dk_42 (dk_at dksX12_init_17 3 rfl rfl)
theorem dX12_init_401 : decode cX12_init 401 = .ok (.getfield 128, 3) := dk_180 0 128 (dk_at dksX12_init_17 4 rfl rfl)
theorem dX12_init_404 : decode cX12_init 404 = .ok (.iload 6, 2) := dk_21 6 (dk_at dksX12_init_17 7 rfl rfl)
theorem dX12_init_406 : decode cX12_init 406 = .ok (.aload 5, 2) := dk_25 5 (dk_at dksX12_init_17 9 rfl rfl)
theorem dX12_init_408 : decode cX12_init 408 = .ok (.invokevirtual 132, 3) := dk_182 0 132 (dk_at dksX12_init_17 11 rfl rfl)
theorem dX12_init_411 : decode cX12_init 411 = .ok (.checkcast 27, 3) := dk_192 0 27 (dk_at dksX12_init_17 14 rfl rfl)
theorem dX12_init_414 : decode cX12_init 414 = .ok (.aastore, 1) := dk_83 (dk_at dksX12_init_17 17 rfl rfl)
theorem dX12_init_415 : decode cX12_init 415 = .ok (.iinc 6 1, 3) := dk_132 6 1 (dk_at dksX12_init_17 18 rfl rfl)
theorem dX12_init_418 : decode cX12_init 418 = .ok (.goto (-28), 3) := dk_167 255 228 (dk_at dksX12_init_17 21 rfl rfl)
theorem dX12_init_421 : decode cX12_init 421 = .ok (.aload_n 0, 1) := dk_42 (dk_at dksX12_init_18 0 rfl rfl)
theorem dX12_init_422 : decode cX12_init 422 = .ok (.aload_n 1, 1) := dk_43 (dk_at dksX12_init_18 1 rfl rfl)
theorem dX12_init_423 : decode cX12_init 423 = .ok (.getfield 135, 3) := dk_180 0 135 (dk_at dksX12_init_18 2 rfl rfl)
theorem dX12_init_426 : decode cX12_init 426 = .ok (.aload_n 1, 1) := dk_43 (dk_at dksX12_init_18 5 rfl rfl)
theorem dX12_init_427 : decode cX12_init 427 = .ok (.getfield 138, 3) := dk_180 0 138 (dk_at dksX12_init_18 6 rfl rfl)
theorem dX12_init_430 : decode cX12_init 430 = .ok (.invokevirtual 142, 3) := dk_182 0 142 (dk_at dksX12_init_18 9 rfl rfl)
theorem dX12_init_433 : decode cX12_init 433 = .ok (.istore 6, 2) := dk_54 6 (dk_at dksX12_init_18 12 rfl rfl)
theorem dX12_init_435 : decode cX12_init 435 = .ok (.return_, 1) := dk_177 (dk_at dksX12_init_18 14 rfl rfl)
abbrev cX12_adds : ByteArray := prog_7_method_2_code
def yX12_adds : MethodName := ⟨RX12, "adds", "([LCountyGazetteer$Block;LCountyGazetteer$Entry;)V"⟩
def dkwX12_adds_1 : List UInt8 := [4, 96, 79, 177]
abbrev dktX12_adds_1 : List UInt8 := dkwX12_adds_1 ++ []
def dkwX12_adds_0 : List UInt8 := [43, 44, 180, 0, 146, 50, 180, 0, 116, 44, 182, 0, 149, 62, 42, 180, 0, 9, 44, 180, 0, 150, 92, 46]
abbrev dktX12_adds_0 : List UInt8 := dkwX12_adds_0 ++ dktX12_adds_1
theorem dksX12_adds_0 : cX12_adds.data.toList.drop 0 = dktX12_adds_0 := by decide +kernel
theorem dksX12_adds_1 : cX12_adds.data.toList.drop 24 = dktX12_adds_1 := dk_seg dksX12_adds_0 24 rfl rfl
theorem dX12_adds_0 : decode cX12_adds 0 = .ok (.aload_n 1, 1) := dk_43 (dk_at dksX12_adds_0 0 rfl rfl)
theorem dX12_adds_1 : decode cX12_adds 1 = .ok (.aload_n 2, 1) := dk_44 (dk_at dksX12_adds_0 1 rfl rfl)
theorem dX12_adds_2 : decode cX12_adds 2 = .ok (.getfield 146, 3) := dk_180 0 146 (dk_at dksX12_adds_0 2 rfl rfl)
theorem dX12_adds_5 : decode cX12_adds 5 = .ok (.aaload, 1) := dk_50 (dk_at dksX12_adds_0 5 rfl rfl)
theorem dX12_adds_6 : decode cX12_adds 6 = .ok (.getfield 116, 3) := dk_180 0 116 (dk_at dksX12_adds_0 6 rfl rfl)
theorem dX12_adds_9 : decode cX12_adds 9 = .ok (.aload_n 2, 1) := dk_44 (dk_at dksX12_adds_0 9 rfl rfl)
theorem dX12_adds_10 : decode cX12_adds 10 = .ok (.invokevirtual 149, 3) := dk_182 0 149 (dk_at dksX12_adds_0 10 rfl rfl)
theorem dX12_adds_13 : decode cX12_adds 13 = .ok (.istore_n 3, 1) := dk_62 (dk_at dksX12_adds_0 13 rfl rfl)
theorem dX12_adds_14 : decode cX12_adds 14 = .ok (.aload_n 0, 1) := dk_42 (dk_at dksX12_adds_0 14 rfl rfl)
theorem dX12_adds_15 : decode cX12_adds 15 = .ok (.getfield 9, 3) := dk_180 0 9 (dk_at dksX12_adds_0 15 rfl rfl)
theorem dX12_adds_18 : decode cX12_adds 18 = .ok (.aload_n 2, 1) := dk_44 (dk_at dksX12_adds_0 18 rfl rfl)
theorem dX12_adds_19 : decode cX12_adds 19 = .ok (.getfield 150, 3) := dk_180 0 150 (dk_at dksX12_adds_0 19 rfl rfl)
theorem dX12_adds_22 : decode cX12_adds 22 = .ok (.dup2, 1) := dk_92 (dk_at dksX12_adds_0 22 rfl rfl)
theorem dX12_adds_23 : decode cX12_adds 23 = .ok (.iaload, 1) := dk_46 (dk_at dksX12_adds_0 23 rfl rfl)
theorem dX12_adds_24 : decode cX12_adds 24 = .ok (.iconst 1, 1) := dk_4 (dk_at dksX12_adds_1 0 rfl rfl)
theorem dX12_adds_25 : decode cX12_adds 25 = .ok (.iadd, 1) := dk_96 (dk_at dksX12_adds_1 1 rfl rfl)
theorem dX12_adds_26 : decode cX12_adds 26 = .ok (.iastore, 1) := dk_79 (dk_at dksX12_adds_1 2 rfl rfl)
theorem dX12_adds_27 : decode cX12_adds 27 = .ok (.return_, 1) := dk_177 (dk_at dksX12_adds_1 3 rfl rfl)
abbrev cX12_lays : ByteArray := prog_7_method_4_code
def yX12_lays : MethodName := ⟨RX12, "lays", "(IZ)I"⟩
def dkwX12_lays_7 : List UInt8 := [132, 5, 1, 167, 255, 116, 42, 180, 0, 156, 172]
abbrev dktX12_lays_7 : List UInt8 := dkwX12_lays_7 ++ []
def dkwX12_lays_6 : List UInt8 := [25, 8, 42, 180, 0, 159, 181, 0, 169, 42, 89, 180, 0, 159, 4, 96, 181, 0, 159, 167, 255, 181]
abbrev dktX12_lays_6 : List UInt8 := dkwX12_lays_6 ++ dktX12_lays_7
def dkwX12_lays_5 : List UInt8 := [182, 0, 162, 42, 89, 180, 0, 159, 4, 96, 181, 0, 159, 25, 8, 42, 180, 0, 156, 4, 100, 181, 0, 166]
abbrev dktX12_lays_5 : List UInt8 := dkwX12_lays_5 ++ dktX12_lays_6
def dkwX12_lays_4 : List UInt8 := [25, 7, 185, 0, 55, 1, 0, 192, 0, 83, 58, 8, 42, 180, 0, 159, 27, 160, 0, 18, 42, 27]
abbrev dktX12_lays_4 : List UInt8 := dkwX12_lays_4 ++ dktX12_lays_5
def dkwX12_lays_3 : List UInt8 := [96, 181, 0, 159, 25, 6, 180, 0, 116, 182, 0, 100, 58, 7, 25, 7, 185, 0, 49, 1, 0, 153, 0, 71]
abbrev dktX12_lays_3 : List UInt8 := dkwX12_lays_3 ++ dktX12_lays_4
def dkwX12_lays_2 : List UInt8 := [154, 0, 13, 27, 42, 180, 0, 159, 100, 5, 162, 0, 8, 42, 27, 182, 0, 162, 42, 89, 180, 0, 159, 4]
abbrev dktX12_lays_2 : List UInt8 := dkwX12_lays_2 ++ dktX12_lays_3
def dkwX12_lays_1 : List UInt8 := [3, 54, 5, 21, 5, 21, 4, 162, 0, 139, 45, 21, 5, 50, 58, 6, 42, 180, 0, 156, 153, 0, 17, 28]
abbrev dktX12_lays_1 : List UInt8 := dkwX12_lays_1 ++ dktX12_lays_2
def dkwX12_lays_0 : List UInt8 := [42, 3, 181, 0, 156, 42, 3, 181, 0, 159, 42, 3, 181, 0, 153, 42, 180, 0, 128, 78, 45, 190, 54, 4]
abbrev dktX12_lays_0 : List UInt8 := dkwX12_lays_0 ++ dktX12_lays_1
theorem dksX12_lays_0 : cX12_lays.data.toList.drop 0 = dktX12_lays_0 := by decide +kernel
theorem dksX12_lays_1 : cX12_lays.data.toList.drop 24 = dktX12_lays_1 := dk_seg dksX12_lays_0 24 rfl rfl
theorem dksX12_lays_2 : cX12_lays.data.toList.drop 48 = dktX12_lays_2 := dk_seg dksX12_lays_1 24 rfl rfl
theorem dksX12_lays_3 : cX12_lays.data.toList.drop 72 = dktX12_lays_3 := dk_seg dksX12_lays_2 24 rfl rfl
theorem dksX12_lays_4 : cX12_lays.data.toList.drop 96 = dktX12_lays_4 := dk_seg dksX12_lays_3 24 rfl rfl
theorem dksX12_lays_5 : cX12_lays.data.toList.drop 118 = dktX12_lays_5 := dk_seg dksX12_lays_4 22 rfl rfl
theorem dksX12_lays_6 : cX12_lays.data.toList.drop 142 = dktX12_lays_6 := dk_seg dksX12_lays_5 24 rfl rfl
theorem dksX12_lays_7 : cX12_lays.data.toList.drop 164 = dktX12_lays_7 := dk_seg dksX12_lays_6 22 rfl rfl
theorem dX12_lays_0 : decode cX12_lays 0 = .ok (.aload_n 0, 1) := dk_42 (dk_at dksX12_lays_0 0 rfl rfl)
theorem dX12_lays_1 : decode cX12_lays 1 = .ok (.iconst 0, 1) := dk_3 (dk_at dksX12_lays_0 1 rfl rfl)
theorem dX12_lays_2 : decode cX12_lays 2 = .ok (.putfield 156, 3) := dk_181 0 156 (dk_at dksX12_lays_0 2 rfl rfl)
theorem dX12_lays_5 : decode cX12_lays 5 = .ok (.aload_n 0, 1) := dk_42 (dk_at dksX12_lays_0 5 rfl rfl)
theorem dX12_lays_6 : decode cX12_lays 6 = .ok (.iconst 0, 1) := dk_3 (dk_at dksX12_lays_0 6 rfl rfl)
theorem dX12_lays_7 : decode cX12_lays 7 = .ok (.putfield 159, 3) := dk_181 0 159 (dk_at dksX12_lays_0 7 rfl rfl)
theorem dX12_lays_10 : decode cX12_lays 10 = .ok (.aload_n 0, 1) := dk_42 (dk_at dksX12_lays_0 10 rfl rfl)
theorem dX12_lays_11 : decode cX12_lays 11 = .ok (.iconst 0, 1) := dk_3 (dk_at dksX12_lays_0 11 rfl rfl)
theorem dX12_lays_12 : decode cX12_lays 12 = .ok (.putfield 153, 3) := dk_181 0 153 (dk_at dksX12_lays_0 12 rfl rfl)
theorem dX12_lays_15 : decode cX12_lays 15 = .ok (.aload_n 0, 1) := dk_42 (dk_at dksX12_lays_0 15 rfl rfl)
theorem dX12_lays_16 : decode cX12_lays 16 = .ok (.getfield 128, 3) := dk_180 0 128 (dk_at dksX12_lays_0 16 rfl rfl)
theorem dX12_lays_19 : decode cX12_lays 19 = .ok (.astore_n 3, 1) := dk_78 (dk_at dksX12_lays_0 19 rfl rfl)
theorem dX12_lays_20 : decode cX12_lays 20 = .ok (.aload_n 3, 1) := dk_45 (dk_at dksX12_lays_0 20 rfl rfl)
theorem dX12_lays_21 : decode cX12_lays 21 = .ok (.arraylength, 1) := dk_190 (dk_at dksX12_lays_0 21 rfl rfl)
theorem dX12_lays_22 : decode cX12_lays 22 = .ok (.istore 4, 2) := dk_54 4 (dk_at dksX12_lays_0 22 rfl rfl)
theorem dX12_lays_24 : decode cX12_lays 24 = .ok (.iconst 0, 1) := dk_3 (dk_at dksX12_lays_1 0 rfl rfl)
theorem dX12_lays_25 : decode cX12_lays 25 = .ok (.istore 5, 2) := dk_54 5 (dk_at dksX12_lays_1 1 rfl rfl)
theorem dX12_lays_27 : decode cX12_lays 27 = .ok (.iload 5, 2) := dk_21 5 (dk_at dksX12_lays_1 3 rfl rfl)
theorem dX12_lays_29 : decode cX12_lays 29 = .ok (.iload 4, 2) := dk_21 4 (dk_at dksX12_lays_1 5 rfl rfl)
theorem dX12_lays_31 : decode cX12_lays 31 = .ok (.if_icmp .ge 139, 3) := dk_162 0 139 (dk_at dksX12_lays_1 7 rfl rfl)
theorem dX12_lays_34 : decode cX12_lays 34 = .ok (.aload_n 3, 1) := dk_45 (dk_at dksX12_lays_1 10 rfl rfl)
theorem dX12_lays_35 : decode cX12_lays 35 = .ok (.iload 5, 2) := dk_21 5 (dk_at dksX12_lays_1 11 rfl rfl)
theorem dX12_lays_37 : decode cX12_lays 37 = .ok (.aaload, 1) := dk_50 (dk_at dksX12_lays_1 13 rfl rfl)
theorem dX12_lays_38 : decode cX12_lays 38 = .ok (.astore 6, 2) := dk_58 6 (dk_at dksX12_lays_1 14 rfl rfl)
theorem dX12_lays_40 : decode cX12_lays 40 = .ok (.aload_n 0, 1) := dk_42 (dk_at dksX12_lays_1 16 rfl rfl)
theorem dX12_lays_41 : decode cX12_lays 41 = .ok (.getfield 156, 3) := dk_180 0 156 (dk_at dksX12_lays_1 17 rfl rfl)
theorem dX12_lays_44 : decode cX12_lays 44 = .ok (.ifCond .eq 17, 3) := dk_153 0 17 (dk_at dksX12_lays_1 20 rfl rfl)
theorem dX12_lays_47 : decode cX12_lays 47 = .ok (.iload_n 2, 1) := dk_28 (dk_at dksX12_lays_1 23 rfl rfl)
theorem dX12_lays_48 : decode cX12_lays 48 = .ok (.ifCond .ne 13, 3) := dk_154 0 13 (dk_at dksX12_lays_2 0 rfl rfl)
theorem dX12_lays_51 : decode cX12_lays 51 = .ok (.iload_n 1, 1) := dk_27 (dk_at dksX12_lays_2 3 rfl rfl)
theorem dX12_lays_52 : decode cX12_lays 52 = .ok (.aload_n 0, 1) := dk_42 (dk_at dksX12_lays_2 4 rfl rfl)
theorem dX12_lays_53 : decode cX12_lays 53 = .ok (.getfield 159, 3) := dk_180 0 159 (dk_at dksX12_lays_2 5 rfl rfl)
theorem dX12_lays_56 : decode cX12_lays 56 = .ok (.isub, 1) := dk_100 (dk_at dksX12_lays_2 8 rfl rfl)
theorem dX12_lays_57 : decode cX12_lays 57 = .ok (.iconst 2, 1) := dk_5 (dk_at dksX12_lays_2 9 rfl rfl)
theorem dX12_lays_58 : decode cX12_lays 58 = .ok (.if_icmp .ge 8, 3) := dk_162 0 8 (dk_at dksX12_lays_2 10 rfl rfl)
theorem dX12_lays_61 : decode cX12_lays 61 = .ok (.aload_n 0, 1) := dk_42 (dk_at dksX12_lays_2 13 rfl rfl)
theorem dX12_lays_62 : decode cX12_lays 62 = .ok (.iload_n 1, 1) := dk_27 (dk_at dksX12_lays_2 14 rfl rfl)
theorem dX12_lays_63 : decode cX12_lays 63 = .ok (.invokevirtual 162, 3) := dk_182 0 162 (dk_at dksX12_lays_2 15 rfl rfl)
theorem dX12_lays_66 : decode cX12_lays 66 = .ok (.aload_n 0, 1) := dk_42 (dk_at dksX12_lays_2 18 rfl rfl)
theorem dX12_lays_67 : decode cX12_lays 67 = .ok (.dup, 1) := dk_89 (dk_at dksX12_lays_2 19 rfl rfl)
theorem dX12_lays_68 : decode cX12_lays 68 = .ok (.getfield 159, 3) := dk_180 0 159 (dk_at dksX12_lays_2 20 rfl rfl)
theorem dX12_lays_71 : decode cX12_lays 71 = .ok (.iconst 1, 1) := dk_4 (dk_at dksX12_lays_2 23 rfl rfl)
theorem dX12_lays_72 : decode cX12_lays 72 = .ok (.iadd, 1) := dk_96 (dk_at dksX12_lays_3 0 rfl rfl)
theorem dX12_lays_73 : decode cX12_lays 73 = .ok (.putfield 159, 3) := dk_181 0 159 (dk_at dksX12_lays_3 1 rfl rfl)
theorem dX12_lays_76 : decode cX12_lays 76 = .ok (.aload 6, 2) := dk_25 6 (dk_at dksX12_lays_3 4 rfl rfl)
theorem dX12_lays_78 : decode cX12_lays 78 = .ok (.getfield 116, 3) := dk_180 0 116 (dk_at dksX12_lays_3 6 rfl rfl)
theorem dX12_lays_81 : decode cX12_lays 81 = .ok (.invokevirtual 100, 3) := dk_182 0 100 (dk_at dksX12_lays_3 9 rfl rfl)
theorem dX12_lays_84 : decode cX12_lays 84 = .ok (.astore 7, 2) := dk_58 7 (dk_at dksX12_lays_3 12 rfl rfl)
theorem dX12_lays_86 : decode cX12_lays 86 = .ok (.aload 7, 2) := dk_25 7 (dk_at dksX12_lays_3 14 rfl rfl)
theorem dX12_lays_88 : decode cX12_lays 88 = .ok (.invokeinterface 49 1, 5) := by decide +kernel
theorem dX12_lays_93 : decode cX12_lays 93 = .ok (.ifCond .eq 71, 3) := dk_153 0 71 (dk_at dksX12_lays_3 21 rfl rfl)
theorem dX12_lays_96 : decode cX12_lays 96 = .ok (.aload 7, 2) := dk_25 7 (dk_at dksX12_lays_4 0 rfl rfl)
theorem dX12_lays_98 : decode cX12_lays 98 = .ok (.invokeinterface 55 1, 5) := by decide +kernel
theorem dX12_lays_103 : decode cX12_lays 103 = .ok (.checkcast 83, 3) := dk_192 0 83 (dk_at dksX12_lays_4 7 rfl rfl)
theorem dX12_lays_106 : decode cX12_lays 106 = .ok (.astore 8, 2) := dk_58 8 (dk_at dksX12_lays_4 10 rfl rfl)
theorem dX12_lays_108 : decode cX12_lays 108 = .ok (.aload_n 0, 1) := dk_42 (dk_at dksX12_lays_4 12 rfl rfl)
theorem dX12_lays_109 : decode cX12_lays 109 = .ok (.getfield 159, 3) := dk_180 0 159 (dk_at dksX12_lays_4 13 rfl rfl)
theorem dX12_lays_112 : decode cX12_lays 112 = .ok (.iload_n 1, 1) := dk_27 (dk_at dksX12_lays_4 16 rfl rfl)
theorem dX12_lays_113 : decode cX12_lays 113 = .ok (.if_icmp .ne 18, 3) := dk_160 0 18 (dk_at dksX12_lays_4 17 rfl rfl)
theorem dX12_lays_116 : decode cX12_lays 116 = .ok (.aload_n 0, 1) := dk_42 (dk_at dksX12_lays_4 20 rfl rfl)
theorem dX12_lays_117 : decode cX12_lays 117 = .ok (.iload_n 1, 1) := dk_27 (dk_at dksX12_lays_4 21 rfl rfl)
theorem dX12_lays_118 : decode cX12_lays 118 = .ok (.invokevirtual 162, 3) := dk_182 0 162 (dk_at dksX12_lays_5 0 rfl rfl)
theorem dX12_lays_121 : decode cX12_lays 121 = .ok (.aload_n 0, 1) := dk_42 (dk_at dksX12_lays_5 3 rfl rfl)
theorem dX12_lays_122 : decode cX12_lays 122 = .ok (.dup, 1) := dk_89 (dk_at dksX12_lays_5 4 rfl rfl)
theorem dX12_lays_123 : decode cX12_lays 123 = .ok (.getfield 159, 3) := dk_180 0 159 (dk_at dksX12_lays_5 5 rfl rfl)
theorem dX12_lays_126 : decode cX12_lays 126 = .ok (.iconst 1, 1) := dk_4 (dk_at dksX12_lays_5 8 rfl rfl)
theorem dX12_lays_127 : decode cX12_lays 127 = .ok (.iadd, 1) := dk_96 (dk_at dksX12_lays_5 9 rfl rfl)
theorem dX12_lays_128 : decode cX12_lays 128 = .ok (.putfield 159, 3) := dk_181 0 159 (dk_at dksX12_lays_5 10 rfl rfl)
theorem dX12_lays_131 : decode cX12_lays 131 = .ok (.aload 8, 2) := dk_25 8 (dk_at dksX12_lays_5 13 rfl rfl)
theorem dX12_lays_133 : decode cX12_lays 133 = .ok (.aload_n 0, 1) := dk_42 (dk_at dksX12_lays_5 15 rfl rfl)
theorem dX12_lays_134 : decode cX12_lays 134 = .ok (.getfield 156, 3) := dk_180 0 156 (dk_at dksX12_lays_5 16 rfl rfl)
theorem dX12_lays_137 : decode cX12_lays 137 = .ok (.iconst 1, 1) := dk_4 (dk_at dksX12_lays_5 19 rfl rfl)
theorem dX12_lays_138 : decode cX12_lays 138 = .ok (.isub, 1) := dk_100 (dk_at dksX12_lays_5 20 rfl rfl)
theorem dX12_lays_139 : decode cX12_lays 139 = .ok (.putfield 166, 3) := dk_181 0 166 (dk_at dksX12_lays_5 21 rfl rfl)
theorem dX12_lays_142 : decode cX12_lays 142 = .ok (.aload 8, 2) := dk_25 8 (dk_at dksX12_lays_6 0 rfl rfl)
theorem dX12_lays_144 : decode cX12_lays 144 = .ok (.aload_n 0, 1) := dk_42 (dk_at dksX12_lays_6 2 rfl rfl)
theorem dX12_lays_145 : decode cX12_lays 145 = .ok (.getfield 159, 3) := dk_180 0 159 (dk_at dksX12_lays_6 3 rfl rfl)
theorem dX12_lays_148 : decode cX12_lays 148 = .ok (.putfield 169, 3) := dk_181 0 169 (dk_at dksX12_lays_6 6 rfl rfl)
theorem dX12_lays_151 : decode cX12_lays 151 = .ok (.aload_n 0, 1) := dk_42 (dk_at dksX12_lays_6 9 rfl rfl)
theorem dX12_lays_152 : decode cX12_lays 152 = .ok (.dup, 1) := dk_89 (dk_at dksX12_lays_6 10 rfl rfl)
theorem dX12_lays_153 : decode cX12_lays 153 = .ok (.getfield 159, 3) := dk_180 0 159 (dk_at dksX12_lays_6 11 rfl rfl)
theorem dX12_lays_156 : decode cX12_lays 156 = .ok (.iconst 1, 1) := dk_4 (dk_at dksX12_lays_6 14 rfl rfl)
theorem dX12_lays_157 : decode cX12_lays 157 = .ok (.iadd, 1) := dk_96 (dk_at dksX12_lays_6 15 rfl rfl)
theorem dX12_lays_158 : decode cX12_lays 158 = .ok (.putfield 159, 3) := dk_181 0 159 (dk_at dksX12_lays_6 16 rfl rfl)
theorem dX12_lays_161 : decode cX12_lays 161 = .ok (.goto (-75), 3) := dk_167 255 181 (dk_at dksX12_lays_6 19 rfl rfl)
theorem dX12_lays_164 : decode cX12_lays 164 = .ok (.iinc 5 1, 3) := dk_132 5 1 (dk_at dksX12_lays_7 0 rfl rfl)
theorem dX12_lays_167 : decode cX12_lays 167 = .ok (.goto (-140), 3) := dk_167 255 116 (dk_at dksX12_lays_7 3 rfl rfl)
theorem dX12_lays_170 : decode cX12_lays 170 = .ok (.aload_n 0, 1) := dk_42 (dk_at dksX12_lays_7 6 rfl rfl)
theorem dX12_lays_171 : decode cX12_lays 171 = .ok (.getfield 156, 3) := dk_180 0 156 (dk_at dksX12_lays_7 7 rfl rfl)
theorem dX12_lays_174 : decode cX12_lays 174 = .ok (.ireturn, 1) := dk_172 (dk_at dksX12_lays_7 10 rfl rfl)
abbrev cX12_turns : ByteArray := prog_7_method_3_code
def yX12_turns : MethodName := ⟨RX12, "turns", "(I)V"⟩
def dkwX12_turns_1 : List UInt8 := [181, 0, 153, 42, 89, 180, 0, 156, 4, 96, 181, 0, 156, 42, 3, 181, 0, 159, 177]
abbrev dktX12_turns_1 : List UInt8 := dkwX12_turns_1 ++ []
def dkwX12_turns_0 : List UInt8 := [42, 89, 180, 0, 153, 42, 180, 0, 156, 154, 0, 7, 3, 167, 0, 9, 27, 42, 180, 0, 159, 100, 96]
abbrev dktX12_turns_0 : List UInt8 := dkwX12_turns_0 ++ dktX12_turns_1
theorem dksX12_turns_0 : cX12_turns.data.toList.drop 0 = dktX12_turns_0 := by decide +kernel
theorem dksX12_turns_1 : cX12_turns.data.toList.drop 23 = dktX12_turns_1 := dk_seg dksX12_turns_0 23 rfl rfl
theorem dX12_turns_0 : decode cX12_turns 0 = .ok (.aload_n 0, 1) := dk_42 (dk_at dksX12_turns_0 0 rfl rfl)
theorem dX12_turns_1 : decode cX12_turns 1 = .ok (.dup, 1) := dk_89 (dk_at dksX12_turns_0 1 rfl rfl)
theorem dX12_turns_2 : decode cX12_turns 2 = .ok (.getfield 153, 3) := dk_180 0 153 (dk_at dksX12_turns_0 2 rfl rfl)
theorem dX12_turns_5 : decode cX12_turns 5 = .ok (.aload_n 0, 1) := dk_42 (dk_at dksX12_turns_0 5 rfl rfl)
theorem dX12_turns_6 : decode cX12_turns 6 = .ok (.getfield 156, 3) := dk_180 0 156 (dk_at dksX12_turns_0 6 rfl rfl)
theorem dX12_turns_9 : decode cX12_turns 9 = .ok (.ifCond .ne 7, 3) := dk_154 0 7 (dk_at dksX12_turns_0 9 rfl rfl)
theorem dX12_turns_12 : decode cX12_turns 12 = .ok (.iconst 0, 1) := dk_3 (dk_at dksX12_turns_0 12 rfl rfl)
theorem dX12_turns_13 : decode cX12_turns 13 = .ok (.goto 9, 3) := dk_167 0 9 (dk_at dksX12_turns_0 13 rfl rfl)
theorem dX12_turns_16 : decode cX12_turns 16 = .ok (.iload_n 1, 1) := dk_27 (dk_at dksX12_turns_0 16 rfl rfl)
theorem dX12_turns_17 : decode cX12_turns 17 = .ok (.aload_n 0, 1) := dk_42 (dk_at dksX12_turns_0 17 rfl rfl)
theorem dX12_turns_18 : decode cX12_turns 18 = .ok (.getfield 159, 3) := dk_180 0 159 (dk_at dksX12_turns_0 18 rfl rfl)
theorem dX12_turns_21 : decode cX12_turns 21 = .ok (.isub, 1) := dk_100 (dk_at dksX12_turns_0 21 rfl rfl)
theorem dX12_turns_22 : decode cX12_turns 22 = .ok (.iadd, 1) := dk_96 (dk_at dksX12_turns_0 22 rfl rfl)
theorem dX12_turns_23 : decode cX12_turns 23 = .ok (.putfield 153, 3) := dk_181 0 153 (dk_at dksX12_turns_1 0 rfl rfl)
theorem dX12_turns_26 : decode cX12_turns 26 = .ok (.aload_n 0, 1) := dk_42 (dk_at dksX12_turns_1 3 rfl rfl)
theorem dX12_turns_27 : decode cX12_turns 27 = .ok (.dup, 1) := dk_89 (dk_at dksX12_turns_1 4 rfl rfl)
theorem dX12_turns_28 : decode cX12_turns 28 = .ok (.getfield 156, 3) := dk_180 0 156 (dk_at dksX12_turns_1 5 rfl rfl)
theorem dX12_turns_31 : decode cX12_turns 31 = .ok (.iconst 1, 1) := dk_4 (dk_at dksX12_turns_1 8 rfl rfl)
theorem dX12_turns_32 : decode cX12_turns 32 = .ok (.iadd, 1) := dk_96 (dk_at dksX12_turns_1 9 rfl rfl)
theorem dX12_turns_33 : decode cX12_turns 33 = .ok (.putfield 156, 3) := dk_181 0 156 (dk_at dksX12_turns_1 10 rfl rfl)
theorem dX12_turns_36 : decode cX12_turns 36 = .ok (.aload_n 0, 1) := dk_42 (dk_at dksX12_turns_1 13 rfl rfl)
theorem dX12_turns_37 : decode cX12_turns 37 = .ok (.iconst 0, 1) := dk_3 (dk_at dksX12_turns_1 14 rfl rfl)
theorem dX12_turns_38 : decode cX12_turns 38 = .ok (.putfield 159, 3) := dk_181 0 159 (dk_at dksX12_turns_1 15 rfl rfl)
theorem dX12_turns_41 : decode cX12_turns 41 = .ok (.return_, 1) := dk_177 (dk_at dksX12_turns_1 18 rfl rfl)
abbrev cX12_lines : ByteArray := prog_7_method_5_code
def yX12_lines : MethodName := ⟨RX12, "lines", "()I"⟩
def dkwX12_lines_0 : List UInt8 := [42, 180, 0, 9, 3, 46, 42, 180, 0, 9, 4, 46, 96, 42, 180, 0, 9, 5, 46, 96, 172]
abbrev dktX12_lines_0 : List UInt8 := dkwX12_lines_0 ++ []
theorem dksX12_lines_0 : cX12_lines.data.toList.drop 0 = dktX12_lines_0 := by decide +kernel
theorem dX12_lines_0 : decode cX12_lines 0 = .ok (.aload_n 0, 1) := dk_42 (dk_at dksX12_lines_0 0 rfl rfl)
theorem dX12_lines_1 : decode cX12_lines 1 = .ok (.getfield 9, 3) := dk_180 0 9 (dk_at dksX12_lines_0 1 rfl rfl)
theorem dX12_lines_4 : decode cX12_lines 4 = .ok (.iconst 0, 1) := dk_3 (dk_at dksX12_lines_0 4 rfl rfl)
theorem dX12_lines_5 : decode cX12_lines 5 = .ok (.iaload, 1) := dk_46 (dk_at dksX12_lines_0 5 rfl rfl)
theorem dX12_lines_6 : decode cX12_lines 6 = .ok (.aload_n 0, 1) := dk_42 (dk_at dksX12_lines_0 6 rfl rfl)
theorem dX12_lines_7 : decode cX12_lines 7 = .ok (.getfield 9, 3) := dk_180 0 9 (dk_at dksX12_lines_0 7 rfl rfl)
theorem dX12_lines_10 : decode cX12_lines 10 = .ok (.iconst 1, 1) := dk_4 (dk_at dksX12_lines_0 10 rfl rfl)
theorem dX12_lines_11 : decode cX12_lines 11 = .ok (.iaload, 1) := dk_46 (dk_at dksX12_lines_0 11 rfl rfl)
theorem dX12_lines_12 : decode cX12_lines 12 = .ok (.iadd, 1) := dk_96 (dk_at dksX12_lines_0 12 rfl rfl)
theorem dX12_lines_13 : decode cX12_lines 13 = .ok (.aload_n 0, 1) := dk_42 (dk_at dksX12_lines_0 13 rfl rfl)
theorem dX12_lines_14 : decode cX12_lines 14 = .ok (.getfield 9, 3) := dk_180 0 9 (dk_at dksX12_lines_0 14 rfl rfl)
theorem dX12_lines_17 : decode cX12_lines 17 = .ok (.iconst 2, 1) := dk_5 (dk_at dksX12_lines_0 17 rfl rfl)
theorem dX12_lines_18 : decode cX12_lines 18 = .ok (.iaload, 1) := dk_46 (dk_at dksX12_lines_0 18 rfl rfl)
theorem dX12_lines_19 : decode cX12_lines 19 = .ok (.iadd, 1) := dk_96 (dk_at dksX12_lines_0 19 rfl rfl)
theorem dX12_lines_20 : decode cX12_lines 20 = .ok (.ireturn, 1) := dk_172 (dk_at dksX12_lines_0 20 rfl rfl)
abbrev cX12_nameOf : ByteArray := prog_7_method_10_code
def yX12_nameOf : MethodName := ⟨RX12, "nameOf", "(I)LCountyGazetteer$Entry;"⟩
def dkwX12_nameOf_3 : List UInt8 := [180, 0, 183, 27, 160, 0, 6, 25, 7, 176, 167, 255, 211, 132, 4, 1, 167, 255, 183, 1, 176]
abbrev dktX12_nameOf_3 : List UInt8 := dkwX12_nameOf_3 ++ []
def dkwX12_nameOf_2 : List UInt8 := [185, 0, 55, 1, 0, 192, 0, 83, 58, 7, 25, 7, 180, 0, 150, 154, 0, 18, 25, 7, 180, 0, 179]
abbrev dktX12_nameOf_2 : List UInt8 := dkwX12_nameOf_2 ++ dktX12_nameOf_3
def dkwX12_nameOf_1 : List UInt8 := [25, 5, 180, 0, 116, 182, 0, 100, 58, 6, 25, 6, 185, 0, 49, 1, 0, 153, 0, 41, 25, 6]
abbrev dktX12_nameOf_1 : List UInt8 := dkwX12_nameOf_1 ++ dktX12_nameOf_2
def dkwX12_nameOf_0 : List UInt8 := [42, 180, 0, 128, 77, 44, 190, 62, 3, 54, 4, 21, 4, 29, 162, 0, 73, 44, 21, 4, 50, 58, 5]
abbrev dktX12_nameOf_0 : List UInt8 := dkwX12_nameOf_0 ++ dktX12_nameOf_1
theorem dksX12_nameOf_0 : cX12_nameOf.data.toList.drop 0 = dktX12_nameOf_0 := by decide +kernel
theorem dksX12_nameOf_1 : cX12_nameOf.data.toList.drop 23 = dktX12_nameOf_1 := dk_seg dksX12_nameOf_0 23 rfl rfl
theorem dksX12_nameOf_2 : cX12_nameOf.data.toList.drop 45 = dktX12_nameOf_2 := dk_seg dksX12_nameOf_1 22 rfl rfl
theorem dksX12_nameOf_3 : cX12_nameOf.data.toList.drop 68 = dktX12_nameOf_3 := dk_seg dksX12_nameOf_2 23 rfl rfl
theorem dX12_nameOf_0 : decode cX12_nameOf 0 = .ok (.aload_n 0, 1) := dk_42 (dk_at dksX12_nameOf_0 0 rfl rfl)
theorem dX12_nameOf_1 : decode cX12_nameOf 1 = .ok (.getfield 128, 3) := dk_180 0 128 (dk_at dksX12_nameOf_0 1 rfl rfl)
theorem dX12_nameOf_4 : decode cX12_nameOf 4 = .ok (.astore_n 2, 1) := dk_77 (dk_at dksX12_nameOf_0 4 rfl rfl)
theorem dX12_nameOf_5 : decode cX12_nameOf 5 = .ok (.aload_n 2, 1) := dk_44 (dk_at dksX12_nameOf_0 5 rfl rfl)
theorem dX12_nameOf_6 : decode cX12_nameOf 6 = .ok (.arraylength, 1) := dk_190 (dk_at dksX12_nameOf_0 6 rfl rfl)
theorem dX12_nameOf_7 : decode cX12_nameOf 7 = .ok (.istore_n 3, 1) := dk_62 (dk_at dksX12_nameOf_0 7 rfl rfl)
theorem dX12_nameOf_8 : decode cX12_nameOf 8 = .ok (.iconst 0, 1) := dk_3 (dk_at dksX12_nameOf_0 8 rfl rfl)
theorem dX12_nameOf_9 : decode cX12_nameOf 9 = .ok (.istore 4, 2) := dk_54 4 (dk_at dksX12_nameOf_0 9 rfl rfl)
theorem dX12_nameOf_11 : decode cX12_nameOf 11 = .ok (.iload 4, 2) := dk_21 4 (dk_at dksX12_nameOf_0 11 rfl rfl)
theorem dX12_nameOf_13 : decode cX12_nameOf 13 = .ok (.iload_n 3, 1) := dk_29 (dk_at dksX12_nameOf_0 13 rfl rfl)
theorem dX12_nameOf_14 : decode cX12_nameOf 14 = .ok (.if_icmp .ge 73, 3) := dk_162 0 73 (dk_at dksX12_nameOf_0 14 rfl rfl)
theorem dX12_nameOf_17 : decode cX12_nameOf 17 = .ok (.aload_n 2, 1) := dk_44 (dk_at dksX12_nameOf_0 17 rfl rfl)
theorem dX12_nameOf_18 : decode cX12_nameOf 18 = .ok (.iload 4, 2) := dk_21 4 (dk_at dksX12_nameOf_0 18 rfl rfl)
theorem dX12_nameOf_20 : decode cX12_nameOf 20 = .ok (.aaload, 1) := dk_50 (dk_at dksX12_nameOf_0 20 rfl rfl)
theorem dX12_nameOf_21 : decode cX12_nameOf 21 = .ok (.astore 5, 2) := dk_58 5 (dk_at dksX12_nameOf_0 21 rfl rfl)
theorem dX12_nameOf_23 : decode cX12_nameOf 23 = .ok (.aload 5, 2) := dk_25 5 (dk_at dksX12_nameOf_1 0 rfl rfl)
theorem dX12_nameOf_25 : decode cX12_nameOf 25 = .ok (.getfield 116, 3) := dk_180 0 116 (dk_at dksX12_nameOf_1 2 rfl rfl)
theorem dX12_nameOf_28 : decode cX12_nameOf 28 = .ok (.invokevirtual 100, 3) := dk_182 0 100 (dk_at dksX12_nameOf_1 5 rfl rfl)
theorem dX12_nameOf_31 : decode cX12_nameOf 31 = .ok (.astore 6, 2) := dk_58 6 (dk_at dksX12_nameOf_1 8 rfl rfl)
theorem dX12_nameOf_33 : decode cX12_nameOf 33 = .ok (.aload 6, 2) := dk_25 6 (dk_at dksX12_nameOf_1 10 rfl rfl)
theorem dX12_nameOf_35 : decode cX12_nameOf 35 = .ok (.invokeinterface 49 1, 5) := by decide +kernel
theorem dX12_nameOf_40 : decode cX12_nameOf 40 = .ok (.ifCond .eq 41, 3) := dk_153 0 41 (dk_at dksX12_nameOf_1 17 rfl rfl)
theorem dX12_nameOf_43 : decode cX12_nameOf 43 = .ok (.aload 6, 2) := dk_25 6 (dk_at dksX12_nameOf_1 20 rfl rfl)
theorem dX12_nameOf_45 : decode cX12_nameOf 45 = .ok (.invokeinterface 55 1, 5) := by decide +kernel
theorem dX12_nameOf_50 : decode cX12_nameOf 50 = .ok (.checkcast 83, 3) := dk_192 0 83 (dk_at dksX12_nameOf_2 5 rfl rfl)
theorem dX12_nameOf_53 : decode cX12_nameOf 53 = .ok (.astore 7, 2) := dk_58 7 (dk_at dksX12_nameOf_2 8 rfl rfl)
theorem dX12_nameOf_55 : decode cX12_nameOf 55 = .ok (.aload 7, 2) := dk_25 7 (dk_at dksX12_nameOf_2 10 rfl rfl)
theorem dX12_nameOf_57 : decode cX12_nameOf 57 = .ok (.getfield 150, 3) := dk_180 0 150 (dk_at dksX12_nameOf_2 12 rfl rfl)
theorem dX12_nameOf_60 : decode cX12_nameOf 60 = .ok (.ifCond .ne 18, 3) := dk_154 0 18 (dk_at dksX12_nameOf_2 15 rfl rfl)
theorem dX12_nameOf_63 : decode cX12_nameOf 63 = .ok (.aload 7, 2) := dk_25 7 (dk_at dksX12_nameOf_2 18 rfl rfl)
theorem dX12_nameOf_65 : decode cX12_nameOf 65 = .ok (.getfield 179, 3) := dk_180 0 179 (dk_at dksX12_nameOf_2 20 rfl rfl)
theorem dX12_nameOf_68 : decode cX12_nameOf 68 = .ok (.getfield 183, 3) := dk_180 0 183 (dk_at dksX12_nameOf_3 0 rfl rfl)
theorem dX12_nameOf_71 : decode cX12_nameOf 71 = .ok (.iload_n 1, 1) := dk_27 (dk_at dksX12_nameOf_3 3 rfl rfl)
theorem dX12_nameOf_72 : decode cX12_nameOf 72 = .ok (.if_icmp .ne 6, 3) := dk_160 0 6 (dk_at dksX12_nameOf_3 4 rfl rfl)
theorem dX12_nameOf_75 : decode cX12_nameOf 75 = .ok (.aload 7, 2) := dk_25 7 (dk_at dksX12_nameOf_3 7 rfl rfl)
theorem dX12_nameOf_77 : decode cX12_nameOf 77 = .ok (.areturn, 1) := dk_176 (dk_at dksX12_nameOf_3 9 rfl rfl)
theorem dX12_nameOf_78 : decode cX12_nameOf 78 = .ok (.goto (-45), 3) := dk_167 255 211 (dk_at dksX12_nameOf_3 10 rfl rfl)
theorem dX12_nameOf_81 : decode cX12_nameOf 81 = .ok (.iinc 4 1, 3) := dk_132 4 1 (dk_at dksX12_nameOf_3 13 rfl rfl)
theorem dX12_nameOf_84 : decode cX12_nameOf 84 = .ok (.goto (-73), 3) := dk_167 255 183 (dk_at dksX12_nameOf_3 16 rfl rfl)
theorem dX12_nameOf_87 : decode cX12_nameOf 87 = .ok (.aconst_null, 1) := dk_1 (dk_at dksX12_nameOf_3 19 rfl rfl)
theorem dX12_nameOf_88 : decode cX12_nameOf 88 = .ok (.areturn, 1) := dk_176 (dk_at dksX12_nameOf_3 20 rfl rfl)
abbrev cX12_blockOf : ByteArray := prog_7_method_6_code
def yX12_blockOf : MethodName := ⟨RX12, "blockOf", "(I)LCountyGazetteer$Block;"⟩
def dkwX12_blockOf_1 : List UInt8 := [25, 5, 180, 0, 172, 27, 160, 0, 6, 25, 5, 176, 132, 4, 1, 167, 255, 229, 1, 176]
abbrev dktX12_blockOf_1 : List UInt8 := dkwX12_blockOf_1 ++ []
def dkwX12_blockOf_0 : List UInt8 := [42, 180, 0, 128, 77, 44, 190, 62, 3, 54, 4, 21, 4, 29, 162, 0, 27, 44, 21, 4, 50, 58, 5]
abbrev dktX12_blockOf_0 : List UInt8 := dkwX12_blockOf_0 ++ dktX12_blockOf_1
theorem dksX12_blockOf_0 : cX12_blockOf.data.toList.drop 0 = dktX12_blockOf_0 := by decide +kernel
theorem dksX12_blockOf_1 : cX12_blockOf.data.toList.drop 23 = dktX12_blockOf_1 := dk_seg dksX12_blockOf_0 23 rfl rfl
theorem dX12_blockOf_0 : decode cX12_blockOf 0 = .ok (.aload_n 0, 1) := dk_42 (dk_at dksX12_blockOf_0 0 rfl rfl)
theorem dX12_blockOf_1 : decode cX12_blockOf 1 = .ok (.getfield 128, 3) := dk_180 0 128 (dk_at dksX12_blockOf_0 1 rfl rfl)
theorem dX12_blockOf_4 : decode cX12_blockOf 4 = .ok (.astore_n 2, 1) := dk_77 (dk_at dksX12_blockOf_0 4 rfl rfl)
theorem dX12_blockOf_5 : decode cX12_blockOf 5 = .ok (.aload_n 2, 1) := dk_44 (dk_at dksX12_blockOf_0 5 rfl rfl)
theorem dX12_blockOf_6 : decode cX12_blockOf 6 = .ok (.arraylength, 1) := dk_190 (dk_at dksX12_blockOf_0 6 rfl rfl)
theorem dX12_blockOf_7 : decode cX12_blockOf 7 = .ok (.istore_n 3, 1) := dk_62 (dk_at dksX12_blockOf_0 7 rfl rfl)
theorem dX12_blockOf_8 : decode cX12_blockOf 8 = .ok (.iconst 0, 1) := dk_3 (dk_at dksX12_blockOf_0 8 rfl rfl)
theorem dX12_blockOf_9 : decode cX12_blockOf 9 = .ok (.istore 4, 2) := dk_54 4 (dk_at dksX12_blockOf_0 9 rfl rfl)
theorem dX12_blockOf_11 : decode cX12_blockOf 11 = .ok (.iload 4, 2) := dk_21 4 (dk_at dksX12_blockOf_0 11 rfl rfl)
theorem dX12_blockOf_13 : decode cX12_blockOf 13 = .ok (.iload_n 3, 1) := dk_29 (dk_at dksX12_blockOf_0 13 rfl rfl)
theorem dX12_blockOf_14 : decode cX12_blockOf 14 = .ok (.if_icmp .ge 27, 3) := dk_162 0 27 (dk_at dksX12_blockOf_0 14 rfl rfl)
theorem dX12_blockOf_17 : decode cX12_blockOf 17 = .ok (.aload_n 2, 1) := dk_44 (dk_at dksX12_blockOf_0 17 rfl rfl)
theorem dX12_blockOf_18 : decode cX12_blockOf 18 = .ok (.iload 4, 2) := dk_21 4 (dk_at dksX12_blockOf_0 18 rfl rfl)
theorem dX12_blockOf_20 : decode cX12_blockOf 20 = .ok (.aaload, 1) := dk_50 (dk_at dksX12_blockOf_0 20 rfl rfl)
theorem dX12_blockOf_21 : decode cX12_blockOf 21 = .ok (.astore 5, 2) := dk_58 5 (dk_at dksX12_blockOf_0 21 rfl rfl)
theorem dX12_blockOf_23 : decode cX12_blockOf 23 = .ok (.aload 5, 2) := dk_25 5 (dk_at dksX12_blockOf_1 0 rfl rfl)
theorem dX12_blockOf_25 : decode cX12_blockOf 25 = .ok (.getfield 172, 3) := dk_180 0 172 (dk_at dksX12_blockOf_1 2 rfl rfl)
theorem dX12_blockOf_28 : decode cX12_blockOf 28 = .ok (.iload_n 1, 1) := dk_27 (dk_at dksX12_blockOf_1 5 rfl rfl)
theorem dX12_blockOf_29 : decode cX12_blockOf 29 = .ok (.if_icmp .ne 6, 3) := dk_160 0 6 (dk_at dksX12_blockOf_1 6 rfl rfl)
theorem dX12_blockOf_32 : decode cX12_blockOf 32 = .ok (.aload 5, 2) := dk_25 5 (dk_at dksX12_blockOf_1 9 rfl rfl)
theorem dX12_blockOf_34 : decode cX12_blockOf 34 = .ok (.areturn, 1) := dk_176 (dk_at dksX12_blockOf_1 11 rfl rfl)
theorem dX12_blockOf_35 : decode cX12_blockOf 35 = .ok (.iinc 4 1, 3) := dk_132 4 1 (dk_at dksX12_blockOf_1 12 rfl rfl)
theorem dX12_blockOf_38 : decode cX12_blockOf 38 = .ok (.goto (-27), 3) := dk_167 255 229 (dk_at dksX12_blockOf_1 15 rfl rfl)
theorem dX12_blockOf_41 : decode cX12_blockOf 41 = .ok (.aconst_null, 1) := dk_1 (dk_at dksX12_blockOf_1 18 rfl rfl)
theorem dX12_blockOf_42 : decode cX12_blockOf 42 = .ok (.areturn, 1) := dk_176 (dk_at dksX12_blockOf_1 19 rfl rfl)
abbrev cX12_usedOn : ByteArray := prog_7_method_7_code
def yX12_usedOn : MethodName := ⟨RX12, "usedOn", "(I)I"⟩
def dkwX12_usedOn_3 : List UInt8 := [180, 0, 169, 4, 96, 184, 0, 173, 61, 167, 255, 213, 132, 5, 1, 167, 255, 184, 28, 172]
abbrev dktX12_usedOn_3 : List UInt8 := dkwX12_usedOn_3 ++ []
def dkwX12_usedOn_2 : List UInt8 := [25, 7, 185, 0, 55, 1, 0, 192, 0, 83, 58, 8, 25, 8, 180, 0, 166, 27, 160, 0, 15, 28, 25, 8]
abbrev dktX12_usedOn_2 : List UInt8 := dkwX12_usedOn_2 ++ dktX12_usedOn_3
def dkwX12_usedOn_1 : List UInt8 := [50, 58, 6, 25, 6, 180, 0, 116, 182, 0, 100, 58, 7, 25, 7, 185, 0, 49, 1, 0, 153, 0, 39]
abbrev dktX12_usedOn_1 : List UInt8 := dkwX12_usedOn_1 ++ dktX12_usedOn_2
def dkwX12_usedOn_0 : List UInt8 := [3, 61, 42, 180, 0, 128, 78, 45, 190, 54, 4, 3, 54, 5, 21, 5, 21, 4, 162, 0, 71, 45, 21, 5]
abbrev dktX12_usedOn_0 : List UInt8 := dkwX12_usedOn_0 ++ dktX12_usedOn_1
theorem dksX12_usedOn_0 : cX12_usedOn.data.toList.drop 0 = dktX12_usedOn_0 := by decide +kernel
theorem dksX12_usedOn_1 : cX12_usedOn.data.toList.drop 24 = dktX12_usedOn_1 := dk_seg dksX12_usedOn_0 24 rfl rfl
theorem dksX12_usedOn_2 : cX12_usedOn.data.toList.drop 47 = dktX12_usedOn_2 := dk_seg dksX12_usedOn_1 23 rfl rfl
theorem dksX12_usedOn_3 : cX12_usedOn.data.toList.drop 71 = dktX12_usedOn_3 := dk_seg dksX12_usedOn_2 24 rfl rfl
theorem dX12_usedOn_0 : decode cX12_usedOn 0 = .ok (.iconst 0, 1) := dk_3 (dk_at dksX12_usedOn_0 0 rfl rfl)
theorem dX12_usedOn_1 : decode cX12_usedOn 1 = .ok (.istore_n 2, 1) := dk_61 (dk_at dksX12_usedOn_0 1 rfl rfl)
theorem dX12_usedOn_2 : decode cX12_usedOn 2 = .ok (.aload_n 0, 1) := dk_42 (dk_at dksX12_usedOn_0 2 rfl rfl)
theorem dX12_usedOn_3 : decode cX12_usedOn 3 = .ok (.getfield 128, 3) := dk_180 0 128 (dk_at dksX12_usedOn_0 3 rfl rfl)
theorem dX12_usedOn_6 : decode cX12_usedOn 6 = .ok (.astore_n 3, 1) := dk_78 (dk_at dksX12_usedOn_0 6 rfl rfl)
theorem dX12_usedOn_7 : decode cX12_usedOn 7 = .ok (.aload_n 3, 1) := dk_45 (dk_at dksX12_usedOn_0 7 rfl rfl)
theorem dX12_usedOn_8 : decode cX12_usedOn 8 = .ok (.arraylength, 1) := dk_190 (dk_at dksX12_usedOn_0 8 rfl rfl)
theorem dX12_usedOn_9 : decode cX12_usedOn 9 = .ok (.istore 4, 2) := dk_54 4 (dk_at dksX12_usedOn_0 9 rfl rfl)
theorem dX12_usedOn_11 : decode cX12_usedOn 11 = .ok (.iconst 0, 1) := dk_3 (dk_at dksX12_usedOn_0 11 rfl rfl)
theorem dX12_usedOn_12 : decode cX12_usedOn 12 = .ok (.istore 5, 2) := dk_54 5 (dk_at dksX12_usedOn_0 12 rfl rfl)
theorem dX12_usedOn_14 : decode cX12_usedOn 14 = .ok (.iload 5, 2) := dk_21 5 (dk_at dksX12_usedOn_0 14 rfl rfl)
theorem dX12_usedOn_16 : decode cX12_usedOn 16 = .ok (.iload 4, 2) := dk_21 4 (dk_at dksX12_usedOn_0 16 rfl rfl)
theorem dX12_usedOn_18 : decode cX12_usedOn 18 = .ok (.if_icmp .ge 71, 3) := dk_162 0 71 (dk_at dksX12_usedOn_0 18 rfl rfl)
theorem dX12_usedOn_21 : decode cX12_usedOn 21 = .ok (.aload_n 3, 1) := dk_45 (dk_at dksX12_usedOn_0 21 rfl rfl)
theorem dX12_usedOn_22 : decode cX12_usedOn 22 = .ok (.iload 5, 2) := dk_21 5 (dk_at dksX12_usedOn_0 22 rfl rfl)
theorem dX12_usedOn_24 : decode cX12_usedOn 24 = .ok (.aaload, 1) := dk_50 (dk_at dksX12_usedOn_1 0 rfl rfl)
theorem dX12_usedOn_25 : decode cX12_usedOn 25 = .ok (.astore 6, 2) := dk_58 6 (dk_at dksX12_usedOn_1 1 rfl rfl)
theorem dX12_usedOn_27 : decode cX12_usedOn 27 = .ok (.aload 6, 2) := dk_25 6 (dk_at dksX12_usedOn_1 3 rfl rfl)
theorem dX12_usedOn_29 : decode cX12_usedOn 29 = .ok (.getfield 116, 3) := dk_180 0 116 (dk_at dksX12_usedOn_1 5 rfl rfl)
theorem dX12_usedOn_32 : decode cX12_usedOn 32 = .ok (.invokevirtual 100, 3) := dk_182 0 100 (dk_at dksX12_usedOn_1 8 rfl rfl)
theorem dX12_usedOn_35 : decode cX12_usedOn 35 = .ok (.astore 7, 2) := dk_58 7 (dk_at dksX12_usedOn_1 11 rfl rfl)
theorem dX12_usedOn_37 : decode cX12_usedOn 37 = .ok (.aload 7, 2) := dk_25 7 (dk_at dksX12_usedOn_1 13 rfl rfl)
theorem dX12_usedOn_39 : decode cX12_usedOn 39 = .ok (.invokeinterface 49 1, 5) := by decide +kernel
theorem dX12_usedOn_44 : decode cX12_usedOn 44 = .ok (.ifCond .eq 39, 3) := dk_153 0 39 (dk_at dksX12_usedOn_1 20 rfl rfl)
theorem dX12_usedOn_47 : decode cX12_usedOn 47 = .ok (.aload 7, 2) := dk_25 7 (dk_at dksX12_usedOn_2 0 rfl rfl)
theorem dX12_usedOn_49 : decode cX12_usedOn 49 = .ok (.invokeinterface 55 1, 5) := by decide +kernel
theorem dX12_usedOn_54 : decode cX12_usedOn 54 = .ok (.checkcast 83, 3) := dk_192 0 83 (dk_at dksX12_usedOn_2 7 rfl rfl)
theorem dX12_usedOn_57 : decode cX12_usedOn 57 = .ok (.astore 8, 2) := dk_58 8 (dk_at dksX12_usedOn_2 10 rfl rfl)
theorem dX12_usedOn_59 : decode cX12_usedOn 59 = .ok (.aload 8, 2) := dk_25 8 (dk_at dksX12_usedOn_2 12 rfl rfl)
theorem dX12_usedOn_61 : decode cX12_usedOn 61 = .ok (.getfield 166, 3) := dk_180 0 166 (dk_at dksX12_usedOn_2 14 rfl rfl)
theorem dX12_usedOn_64 : decode cX12_usedOn 64 = .ok (.iload_n 1, 1) := dk_27 (dk_at dksX12_usedOn_2 17 rfl rfl)
theorem dX12_usedOn_65 : decode cX12_usedOn 65 = .ok (.if_icmp .ne 15, 3) := dk_160 0 15 (dk_at dksX12_usedOn_2 18 rfl rfl)
theorem dX12_usedOn_68 : decode cX12_usedOn 68 = .ok (.iload_n 2, 1) := dk_28 (dk_at dksX12_usedOn_2 21 rfl rfl)
theorem dX12_usedOn_69 : decode cX12_usedOn 69 = .ok (.aload 8, 2) := dk_25 8 (dk_at dksX12_usedOn_2 22 rfl rfl)
theorem dX12_usedOn_71 : decode cX12_usedOn 71 = .ok (.getfield 169, 3) := dk_180 0 169 (dk_at dksX12_usedOn_3 0 rfl rfl)
theorem dX12_usedOn_74 : decode cX12_usedOn 74 = .ok (.iconst 1, 1) := dk_4 (dk_at dksX12_usedOn_3 3 rfl rfl)
theorem dX12_usedOn_75 : decode cX12_usedOn 75 = .ok (.iadd, 1) := dk_96 (dk_at dksX12_usedOn_3 4 rfl rfl)
theorem dX12_usedOn_76 : decode cX12_usedOn 76 = .ok (.invokestatic 173, 3) := dk_184 0 173 (dk_at dksX12_usedOn_3 5 rfl rfl)
theorem dX12_usedOn_79 : decode cX12_usedOn 79 = .ok (.istore_n 2, 1) := dk_61 (dk_at dksX12_usedOn_3 8 rfl rfl)
theorem dX12_usedOn_80 : decode cX12_usedOn 80 = .ok (.goto (-43), 3) := dk_167 255 213 (dk_at dksX12_usedOn_3 9 rfl rfl)
theorem dX12_usedOn_83 : decode cX12_usedOn 83 = .ok (.iinc 5 1, 3) := dk_132 5 1 (dk_at dksX12_usedOn_3 12 rfl rfl)
theorem dX12_usedOn_86 : decode cX12_usedOn 86 = .ok (.goto (-72), 3) := dk_167 255 184 (dk_at dksX12_usedOn_3 15 rfl rfl)
theorem dX12_usedOn_89 : decode cX12_usedOn 89 = .ok (.iload_n 2, 1) := dk_28 (dk_at dksX12_usedOn_3 18 rfl rfl)
theorem dX12_usedOn_90 : decode cX12_usedOn 90 = .ok (.ireturn, 1) := dk_172 (dk_at dksX12_usedOn_3 19 rfl rfl)
abbrev cX12_at : ByteArray := prog_7_method_8_code
def yX12_at : MethodName := ⟨RX12, "at", "(II)LCountyGazetteer$Entry;"⟩
def dkwX12_at_3 : List UInt8 := [28, 160, 0, 6, 25, 8, 176, 167, 255, 213, 132, 5, 1, 167, 255, 184, 1, 176]
abbrev dktX12_at_3 : List UInt8 := dkwX12_at_3 ++ []
def dkwX12_at_2 : List UInt8 := [185, 0, 55, 1, 0, 192, 0, 83, 58, 8, 25, 8, 180, 0, 166, 27, 160, 0, 15, 25, 8, 180, 0, 169]
abbrev dktX12_at_2 : List UInt8 := dkwX12_at_2 ++ dktX12_at_3
def dkwX12_at_1 : List UInt8 := [58, 6, 25, 6, 180, 0, 116, 182, 0, 100, 58, 7, 25, 7, 185, 0, 49, 1, 0, 153, 0, 39, 25, 7]
abbrev dktX12_at_1 : List UInt8 := dkwX12_at_1 ++ dktX12_at_2
def dkwX12_at_0 : List UInt8 := [42, 180, 0, 128, 78, 45, 190, 54, 4, 3, 54, 5, 21, 5, 21, 4, 162, 0, 71, 45, 21, 5, 50]
abbrev dktX12_at_0 : List UInt8 := dkwX12_at_0 ++ dktX12_at_1
theorem dksX12_at_0 : cX12_at.data.toList.drop 0 = dktX12_at_0 := by decide +kernel
theorem dksX12_at_1 : cX12_at.data.toList.drop 23 = dktX12_at_1 := dk_seg dksX12_at_0 23 rfl rfl
theorem dksX12_at_2 : cX12_at.data.toList.drop 47 = dktX12_at_2 := dk_seg dksX12_at_1 24 rfl rfl
theorem dksX12_at_3 : cX12_at.data.toList.drop 71 = dktX12_at_3 := dk_seg dksX12_at_2 24 rfl rfl
theorem dX12_at_0 : decode cX12_at 0 = .ok (.aload_n 0, 1) := dk_42 (dk_at dksX12_at_0 0 rfl rfl)
theorem dX12_at_1 : decode cX12_at 1 = .ok (.getfield 128, 3) := dk_180 0 128 (dk_at dksX12_at_0 1 rfl rfl)
theorem dX12_at_4 : decode cX12_at 4 = .ok (.astore_n 3, 1) := dk_78 (dk_at dksX12_at_0 4 rfl rfl)
theorem dX12_at_5 : decode cX12_at 5 = .ok (.aload_n 3, 1) := dk_45 (dk_at dksX12_at_0 5 rfl rfl)
theorem dX12_at_6 : decode cX12_at 6 = .ok (.arraylength, 1) := dk_190 (dk_at dksX12_at_0 6 rfl rfl)
theorem dX12_at_7 : decode cX12_at 7 = .ok (.istore 4, 2) := dk_54 4 (dk_at dksX12_at_0 7 rfl rfl)
theorem dX12_at_9 : decode cX12_at 9 = .ok (.iconst 0, 1) := dk_3 (dk_at dksX12_at_0 9 rfl rfl)
theorem dX12_at_10 : decode cX12_at 10 = .ok (.istore 5, 2) := dk_54 5 (dk_at dksX12_at_0 10 rfl rfl)
theorem dX12_at_12 : decode cX12_at 12 = .ok (.iload 5, 2) := dk_21 5 (dk_at dksX12_at_0 12 rfl rfl)
theorem dX12_at_14 : decode cX12_at 14 = .ok (.iload 4, 2) := dk_21 4 (dk_at dksX12_at_0 14 rfl rfl)
theorem dX12_at_16 : decode cX12_at 16 = .ok (.if_icmp .ge 71, 3) := dk_162 0 71 (dk_at dksX12_at_0 16 rfl rfl)
theorem dX12_at_19 : decode cX12_at 19 = .ok (.aload_n 3, 1) := dk_45 (dk_at dksX12_at_0 19 rfl rfl)
theorem dX12_at_20 : decode cX12_at 20 = .ok (.iload 5, 2) := dk_21 5 (dk_at dksX12_at_0 20 rfl rfl)
theorem dX12_at_22 : decode cX12_at 22 = .ok (.aaload, 1) := dk_50 (dk_at dksX12_at_0 22 rfl rfl)
theorem dX12_at_23 : decode cX12_at 23 = .ok (.astore 6, 2) := dk_58 6 (dk_at dksX12_at_1 0 rfl rfl)
theorem dX12_at_25 : decode cX12_at 25 = .ok (.aload 6, 2) := dk_25 6 (dk_at dksX12_at_1 2 rfl rfl)
theorem dX12_at_27 : decode cX12_at 27 = .ok (.getfield 116, 3) := dk_180 0 116 (dk_at dksX12_at_1 4 rfl rfl)
theorem dX12_at_30 : decode cX12_at 30 = .ok (.invokevirtual 100, 3) := dk_182 0 100 (dk_at dksX12_at_1 7 rfl rfl)
theorem dX12_at_33 : decode cX12_at 33 = .ok (.astore 7, 2) := dk_58 7 (dk_at dksX12_at_1 10 rfl rfl)
theorem dX12_at_35 : decode cX12_at 35 = .ok (.aload 7, 2) := dk_25 7 (dk_at dksX12_at_1 12 rfl rfl)
theorem dX12_at_37 : decode cX12_at 37 = .ok (.invokeinterface 49 1, 5) := by decide +kernel
theorem dX12_at_42 : decode cX12_at 42 = .ok (.ifCond .eq 39, 3) := dk_153 0 39 (dk_at dksX12_at_1 19 rfl rfl)
theorem dX12_at_45 : decode cX12_at 45 = .ok (.aload 7, 2) := dk_25 7 (dk_at dksX12_at_1 22 rfl rfl)
theorem dX12_at_47 : decode cX12_at 47 = .ok (.invokeinterface 55 1, 5) := by decide +kernel
theorem dX12_at_52 : decode cX12_at 52 = .ok (.checkcast 83, 3) := dk_192 0 83 (dk_at dksX12_at_2 5 rfl rfl)
theorem dX12_at_55 : decode cX12_at 55 = .ok (.astore 8, 2) := dk_58 8 (dk_at dksX12_at_2 8 rfl rfl)
theorem dX12_at_57 : decode cX12_at 57 = .ok (.aload 8, 2) := dk_25 8 (dk_at dksX12_at_2 10 rfl rfl)
theorem dX12_at_59 : decode cX12_at 59 = .ok (.getfield 166, 3) := dk_180 0 166 (dk_at dksX12_at_2 12 rfl rfl)
theorem dX12_at_62 : decode cX12_at 62 = .ok (.iload_n 1, 1) := dk_27 (dk_at dksX12_at_2 15 rfl rfl)
theorem dX12_at_63 : decode cX12_at 63 = .ok (.if_icmp .ne 15, 3) := dk_160 0 15 (dk_at dksX12_at_2 16 rfl rfl)
theorem dX12_at_66 : decode cX12_at 66 = .ok (.aload 8, 2) := dk_25 8 (dk_at dksX12_at_2 19 rfl rfl)
theorem dX12_at_68 : decode cX12_at 68 = .ok (.getfield 169, 3) := dk_180 0 169 (dk_at dksX12_at_2 21 rfl rfl)
theorem dX12_at_71 : decode cX12_at 71 = .ok (.iload_n 2, 1) := dk_28 (dk_at dksX12_at_3 0 rfl rfl)
theorem dX12_at_72 : decode cX12_at 72 = .ok (.if_icmp .ne 6, 3) := dk_160 0 6 (dk_at dksX12_at_3 1 rfl rfl)
theorem dX12_at_75 : decode cX12_at 75 = .ok (.aload 8, 2) := dk_25 8 (dk_at dksX12_at_3 4 rfl rfl)
theorem dX12_at_77 : decode cX12_at 77 = .ok (.areturn, 1) := dk_176 (dk_at dksX12_at_3 6 rfl rfl)
theorem dX12_at_78 : decode cX12_at 78 = .ok (.goto (-43), 3) := dk_167 255 213 (dk_at dksX12_at_3 7 rfl rfl)
theorem dX12_at_81 : decode cX12_at 81 = .ok (.iinc 5 1, 3) := dk_132 5 1 (dk_at dksX12_at_3 10 rfl rfl)
theorem dX12_at_84 : decode cX12_at 84 = .ok (.goto (-72), 3) := dk_167 255 184 (dk_at dksX12_at_3 13 rfl rfl)
theorem dX12_at_87 : decode cX12_at 87 = .ok (.aconst_null, 1) := dk_1 (dk_at dksX12_at_3 16 rfl rfl)
theorem dX12_at_88 : decode cX12_at 88 = .ok (.areturn, 1) := dk_176 (dk_at dksX12_at_3 17 rfl rfl)
theorem q232 : (Jvm.Cond.initialized "CountyGazetteer$Edition") ∈ lw_all := lw_g (lw_at lw_m1 56 rfl) rfl
theorem q296 : (Jvm.Cond.fieldLinkNest "CountyGazetteer$Edition" (69 : Nat) "CountyGazetteer$State" "width" "I" "CountyGazetteer") ∈ lw_tbl := lw_at lw_m1 120 rfl
theorem q303 : (Jvm.Cond.fieldLinkNest "CountyGazetteer$Edition" (135 : Nat) "CountyGazetteer$State" "lines" "I" "CountyGazetteer") ∈ lw_tbl := lw_at lw_m1 127 rfl
theorem q306 : (Jvm.Cond.fieldLinkNest "CountyGazetteer$Edition" (61 : Nat) "CountyGazetteer$State" "year" "I" "CountyGazetteer") ∈ lw_tbl := lw_at lw_m1 130 rfl
theorem q311 : (Jvm.Cond.fieldLinkNest "CountyGazetteer$Edition" (105 : Nat) "CountyGazetteer$State" "before" "I" "CountyGazetteer") ∈ lw_tbl := lw_at lw_m1 135 rfl
theorem q316 : (Jvm.Cond.fieldLinkNest "CountyGazetteer$Edition" (138 : Nat) "CountyGazetteer$State" "isFresh" "Z" "CountyGazetteer") ∈ lw_tbl := lw_at lw_m1 140 rfl
theorem q320 : (Jvm.Cond.fieldLinkNest "CountyGazetteer$Edition" (15 : Nat) "CountyGazetteer$State" "counties" "Ljava/util/List;" "CountyGazetteer") ∈ lw_tbl := lw_at lw_m1 144 rfl
theorem q325 : (Jvm.Cond.fieldLinkNest "CountyGazetteer$Edition" (42 : Nat) "CountyGazetteer$State" "villages" "Ljava/util/List;" "CountyGazetteer") ∈ lw_tbl := lw_at lw_m1 149 rfl
theorem q406 : (Jvm.Cond.selects "CountyGazetteer$Edition" ({ cls := "java/lang/Object", name := "getClass", desc := "()Ljava/lang/Class;" } : Jvm.MethodName) ({ cls := "java/lang/Object", name := "getClass", desc := "()Ljava/lang/Class;" } : Jvm.MethodName)) ∈ lw_all := lw_g (lw_at lw_m1 230 rfl) rfl
theorem q516 : (Jvm.Cond.fieldLinkNest "CountyGazetteer$Edition" (78 : Nat) "CountyGazetteer$Board" "owners" "[I" "CountyGazetteer") ∈ lw_tbl := lw_at lw_m2 100 rfl
theorem q1357 : (Jvm.Cond.fieldLinkNest "CountyGazetteer$Edition" (183 : Nat) "CountyGazetteer$Village" "number" "I" "CountyGazetteer") ∈ lw_tbl := lw_at lw_m5 221 rfl
theorem q1360 : (Jvm.Cond.fieldLinkNest "CountyGazetteer$Edition" (75 : Nat) "CountyGazetteer$Village" "x" "I" "CountyGazetteer") ∈ lw_tbl := lw_at lw_m5 224 rfl
theorem q1363 : (Jvm.Cond.fieldLinkNest "CountyGazetteer$Edition" (72 : Nat) "CountyGazetteer$Village" "y" "I" "CountyGazetteer") ∈ lw_tbl := lw_at lw_m5 227 rfl
theorem q2502 : (Jvm.Cond.instantiable "CountyGazetteer$Edition" (5 : Nat)) ∈ lw_all := lw_g (lw_at lw_m10 166 rfl) rfl
theorem q2505 : (Jvm.Cond.instanceMethod ({ cls := "CountyGazetteer$Edition", name := "<init>", desc := "(LCountyGazetteer$State;LCountyGazetteer$Board;LCountyGazetteer$Board;)V" } : Jvm.MethodName)) ∈ lw_all := lw_g (lw_at lw_m10 169 rfl) rfl
theorem q2506 : (Jvm.Cond.code ({ cls := "CountyGazetteer$Edition", name := "<init>", desc := "(LCountyGazetteer$State;LCountyGazetteer$Board;LCountyGazetteer$Board;)V" } : Jvm.MethodName) prog_7_method_1_code (11 : Nat) (Option.none : Option Jvm.ClassFile.FieldType)) ∈ lw_all := lw_g (lw_at lw_m10 170 rfl) rfl
theorem q2507 : (Jvm.Cond.methodLink "CountyGazetteer$Edition" (3 : Nat) ({ cls := "java/lang/Object", name := "<init>", desc := "()V" } : Jvm.MethodName)) ∈ lw_all := lw_g (lw_at lw_m10 171 rfl) rfl
theorem q2508 : (Jvm.Cond.interfaceEntry "CountyGazetteer$Edition" (21 : Nat)) ∈ lw_tbl := lw_at lw_m10 172 rfl
theorem q2509 : (Jvm.Cond.methodLink "CountyGazetteer$Edition" (21 : Nat) ({ cls := "java/util/List", name := "size", desc := "()I" } : Jvm.MethodName)) ∈ lw_all := lw_g (lw_at lw_m10 173 rfl) rfl
theorem q2510 : (Jvm.Cond.classLink "CountyGazetteer$Edition" (27 : Nat) "CountyGazetteer$Block") ∈ lw_all := lw_g (lw_at lw_m10 174 rfl) rfl
theorem q2513 : (Jvm.Cond.interfaceEntry "CountyGazetteer$Edition" (29 : Nat)) ∈ lw_tbl := lw_at lw_m10 177 rfl
theorem q2514 : (Jvm.Cond.methodLink "CountyGazetteer$Edition" (29 : Nat) ({ cls := "java/util/List", name := "get", desc := "(I)Ljava/lang/Object;" } : Jvm.MethodName)) ∈ lw_all := lw_g (lw_at lw_m10 178 rfl) rfl
theorem q2515 : (Jvm.Cond.classLink "CountyGazetteer$Edition" (33 : Nat) "CountyGazetteer$County") ∈ lw_all := lw_g (lw_at lw_m10 179 rfl) rfl
theorem q2516 : (Jvm.Cond.methodLink "CountyGazetteer$Edition" (35 : Nat) ({ cls := "CountyGazetteer$County", name := "name", desc := "()Ljava/lang/String;" } : Jvm.MethodName)) ∈ lw_all := lw_g (lw_at lw_m10 180 rfl) rfl
theorem q2517 : (Jvm.Cond.methodLink "CountyGazetteer$Edition" (39 : Nat) ({ cls := "CountyGazetteer$Block", name := "<init>", desc := "(ILjava/lang/String;)V" } : Jvm.MethodName)) ∈ lw_all := lw_g (lw_at lw_m10 181 rfl) rfl
theorem q2524 : (Jvm.Cond.fieldLinkNest "CountyGazetteer$Edition" (172 : Nat) "CountyGazetteer$Block" "county" "I" "CountyGazetteer") ∈ lw_tbl := lw_at lw_m10 188 rfl
theorem q2529 : (Jvm.Cond.fieldLinkNest "CountyGazetteer$Edition" (116 : Nat) "CountyGazetteer$Block" "entries" "Ljava/util/TreeSet;" "CountyGazetteer") ∈ lw_tbl := lw_at lw_m10 193 rfl
theorem q2538 : (Jvm.Cond.interfaceEntry "CountyGazetteer$Edition" (45 : Nat)) ∈ lw_tbl := lw_at lw_m10 202 rfl
theorem q2539 : (Jvm.Cond.methodLink "CountyGazetteer$Edition" (45 : Nat) ({ cls := "java/util/List", name := "iterator", desc := "()Ljava/util/Iterator;" } : Jvm.MethodName)) ∈ lw_all := lw_g (lw_at lw_m10 203 rfl) rfl
theorem q2558 : (Jvm.Cond.interfaceEntry "CountyGazetteer$Edition" (49 : Nat)) ∈ lw_tbl := lw_at lw_m10 222 rfl
theorem q2559 : (Jvm.Cond.methodLink "CountyGazetteer$Edition" (49 : Nat) ({ cls := "java/util/Iterator", name := "hasNext", desc := "()Z" } : Jvm.MethodName)) ∈ lw_all := lw_g (lw_at lw_m10 223 rfl) rfl
theorem q2560 : (Jvm.Cond.interfaceEntry "CountyGazetteer$Edition" (55 : Nat)) ∈ lw_tbl := lw_at lw_m10 224 rfl
theorem q2561 : (Jvm.Cond.methodLink "CountyGazetteer$Edition" (55 : Nat) ({ cls := "java/util/Iterator", name := "next", desc := "()Ljava/lang/Object;" } : Jvm.MethodName)) ∈ lw_all := lw_g (lw_at lw_m10 225 rfl) rfl
theorem q2562 : (Jvm.Cond.classLink "CountyGazetteer$Edition" (59 : Nat) "CountyGazetteer$Village") ∈ lw_all := lw_g (lw_at lw_m10 226 rfl) rfl
theorem q2563 : (Jvm.Cond.methodLink "CountyGazetteer$Edition" (65 : Nat) ({ cls := "CountyGazetteer$Village", name := "livesIn", desc := "(I)Z" } : Jvm.MethodName)) ∈ lw_all := lw_g (lw_at lw_m10 227 rfl) rfl
theorem q2564 : (Jvm.Cond.classLink "CountyGazetteer$Edition" (83 : Nat) "CountyGazetteer$Entry") ∈ lw_all := lw_g (lw_at lw_m10 228 rfl) rfl
theorem q2566 : (Jvm.Cond.methodLink "CountyGazetteer$Edition" (85 : Nat) ({ cls := "CountyGazetteer$Village", name := "nameIn", desc := "(I)Ljava/lang/String;" } : Jvm.MethodName)) ∈ lw_all := lw_g (lw_at lw_m10 230 rfl) rfl
theorem q2567 : (Jvm.Cond.methodLink "CountyGazetteer$Edition" (89 : Nat) ({ cls := "CountyGazetteer$Entry", name := "<init>", desc := "(Ljava/lang/String;IILCountyGazetteer$Village;)V" } : Jvm.MethodName)) ∈ lw_all := lw_g (lw_at lw_m10 231 rfl) rfl
theorem q2574 : (Jvm.Cond.fieldLinkNest "CountyGazetteer$Edition" (150 : Nat) "CountyGazetteer$Entry" "sort" "I" "CountyGazetteer") ∈ lw_tbl := lw_at lw_m10 238 rfl
theorem q2577 : (Jvm.Cond.fieldLinkNest "CountyGazetteer$Edition" (146 : Nat) "CountyGazetteer$Entry" "county" "I" "CountyGazetteer") ∈ lw_tbl := lw_at lw_m11 1 rfl
theorem q2580 : (Jvm.Cond.fieldLinkNest "CountyGazetteer$Edition" (179 : Nat) "CountyGazetteer$Entry" "village" "LCountyGazetteer$Village;" "CountyGazetteer") ∈ lw_tbl := lw_at lw_m11 4 rfl
theorem q2582 : (Jvm.Cond.fieldLinkNest "CountyGazetteer$Edition" (166 : Nat) "CountyGazetteer$Entry" "page" "I" "CountyGazetteer") ∈ lw_tbl := lw_at lw_m11 6 rfl
theorem q2584 : (Jvm.Cond.fieldLinkNest "CountyGazetteer$Edition" (169 : Nat) "CountyGazetteer$Entry" "place" "I" "CountyGazetteer") ∈ lw_tbl := lw_at lw_m11 8 rfl
theorem q2599 : (Jvm.Cond.methodLink "CountyGazetteer$Edition" (92 : Nat) ({ cls := "CountyGazetteer$Edition", name := "adds", desc := "([LCountyGazetteer$Block;LCountyGazetteer$Entry;)V" } : Jvm.MethodName)) ∈ lw_all := lw_g (lw_at lw_m11 23 rfl) rfl
theorem q2600 : (Jvm.Cond.privateMethod ({ cls := "CountyGazetteer$Edition", name := "adds", desc := "([LCountyGazetteer$Block;LCountyGazetteer$Entry;)V" } : Jvm.MethodName)) ∈ lw_tbl := lw_at lw_m11 24 rfl
theorem q2601 : (Jvm.Cond.instanceMethod ({ cls := "CountyGazetteer$Edition", name := "adds", desc := "([LCountyGazetteer$Block;LCountyGazetteer$Entry;)V" } : Jvm.MethodName)) ∈ lw_all := lw_g (lw_at lw_m11 25 rfl) rfl
theorem q2602 : (Jvm.Cond.code ({ cls := "CountyGazetteer$Edition", name := "adds", desc := "([LCountyGazetteer$Block;LCountyGazetteer$Entry;)V" } : Jvm.MethodName) prog_7_method_2_code (4 : Nat) (Option.none : Option Jvm.ClassFile.FieldType)) ∈ lw_all := lw_g (lw_at lw_m11 26 rfl) rfl
theorem q2603 : (Jvm.Cond.methodLink "CountyGazetteer$Edition" (149 : Nat) ({ cls := "java/util/TreeSet", name := "add", desc := "(Ljava/lang/Object;)Z" } : Jvm.MethodName)) ∈ lw_all := lw_g (lw_at lw_m11 27 rfl) rfl
theorem q2604 : (Jvm.Cond.methodLink "CountyGazetteer$Edition" (96 : Nat) ({ cls := "CountyGazetteer$Village", name := "oldNames", desc := "(I)Ljava/util/TreeSet;" } : Jvm.MethodName)) ∈ lw_all := lw_g (lw_at lw_m11 28 rfl) rfl
theorem q2605 : (Jvm.Cond.methodLink "CountyGazetteer$Edition" (100 : Nat) ({ cls := "java/util/TreeSet", name := "iterator", desc := "()Ljava/util/Iterator;" } : Jvm.MethodName)) ∈ lw_all := lw_g (lw_at lw_m11 29 rfl) rfl
theorem q2606 : (Jvm.Cond.classLink "CountyGazetteer$Edition" (103 : Nat) "java/lang/String") ∈ lw_all := lw_g (lw_at lw_m11 30 rfl) rfl
theorem q2607 : (Jvm.Cond.classLink "CountyGazetteer$Edition" (108 : Nat) "java/util/PriorityQueue") ∈ lw_all := lw_g (lw_at lw_m11 31 rfl) rfl
theorem q2609 : (Jvm.Cond.classLink "CountyGazetteer$Edition" (110 : Nat) "CountyGazetteer$ByName") ∈ lw_all := lw_g (lw_at lw_m11 33 rfl) rfl
theorem q2611 : (Jvm.Cond.methodLinkNest "CountyGazetteer$Edition" (112 : Nat) ({ cls := "CountyGazetteer$ByName", name := "<init>", desc := "()V" } : Jvm.MethodName) "CountyGazetteer") ∈ lw_tbl := lw_at lw_m11 35 rfl
theorem q2616 : (Jvm.Cond.methodLink "CountyGazetteer$Edition" (113 : Nat) ({ cls := "java/util/PriorityQueue", name := "<init>", desc := "(Ljava/util/Comparator;)V" } : Jvm.MethodName)) ∈ lw_all := lw_g (lw_at lw_m11 40 rfl) rfl
theorem q2645 : (Jvm.Cond.methodLink "CountyGazetteer$Edition" (120 : Nat) ({ cls := "java/util/TreeSet", name := "isEmpty", desc := "()Z" } : Jvm.MethodName)) ∈ lw_all := lw_g (lw_at lw_m11 69 rfl) rfl
theorem q2662 : (Jvm.Cond.methodLink "CountyGazetteer$Edition" (123 : Nat) ({ cls := "java/util/PriorityQueue", name := "add", desc := "(Ljava/lang/Object;)Z" } : Jvm.MethodName)) ∈ lw_all := lw_g (lw_at lw_m11 86 rfl) rfl
theorem q2691 : (Jvm.Cond.methodLink "CountyGazetteer$Edition" (127 : Nat) ({ cls := "java/util/PriorityQueue", name := "size", desc := "()I" } : Jvm.MethodName)) ∈ lw_all := lw_g (lw_at lw_m11 115 rfl) rfl
theorem q2692 : (Jvm.Cond.methodLink "CountyGazetteer$Edition" (132 : Nat) ({ cls := "java/util/PriorityQueue", name := "poll", desc := "()Ljava/lang/Object;" } : Jvm.MethodName)) ∈ lw_all := lw_g (lw_at lw_m11 116 rfl) rfl
theorem q2702 : (Jvm.Cond.methodLink "CountyGazetteer$Edition" (142 : Nat) ({ cls := "CountyGazetteer$Edition", name := "lays", desc := "(IZ)I" } : Jvm.MethodName)) ∈ lw_all := lw_g (lw_at lw_m11 126 rfl) rfl
theorem q2703 : (Jvm.Cond.instanceMethod ({ cls := "CountyGazetteer$Edition", name := "lays", desc := "(IZ)I" } : Jvm.MethodName)) ∈ lw_all := lw_g (lw_at lw_m11 127 rfl) rfl
theorem q2704 : (Jvm.Cond.selects "CountyGazetteer$Edition" ({ cls := "CountyGazetteer$Edition", name := "lays", desc := "(IZ)I" } : Jvm.MethodName) ({ cls := "CountyGazetteer$Edition", name := "lays", desc := "(IZ)I" } : Jvm.MethodName)) ∈ lw_all := lw_g (lw_at lw_m11 128 rfl) rfl
theorem q2705 : (Jvm.Cond.code ({ cls := "CountyGazetteer$Edition", name := "lays", desc := "(IZ)I" } : Jvm.MethodName) prog_7_method_4_code (9 : Nat) (Option.some Jvm.ClassFile.FieldType.int)) ∈ lw_all := lw_g (lw_at lw_m11 129 rfl) rfl
theorem q2706 : (Jvm.Cond.methodLink "CountyGazetteer$Edition" (162 : Nat) ({ cls := "CountyGazetteer$Edition", name := "turns", desc := "(I)V" } : Jvm.MethodName)) ∈ lw_all := lw_g (lw_at lw_m11 130 rfl) rfl
theorem q2707 : (Jvm.Cond.privateMethod ({ cls := "CountyGazetteer$Edition", name := "turns", desc := "(I)V" } : Jvm.MethodName)) ∈ lw_tbl := lw_at lw_m11 131 rfl
theorem q2708 : (Jvm.Cond.instanceMethod ({ cls := "CountyGazetteer$Edition", name := "turns", desc := "(I)V" } : Jvm.MethodName)) ∈ lw_all := lw_g (lw_at lw_m11 132 rfl) rfl
theorem q2709 : (Jvm.Cond.code ({ cls := "CountyGazetteer$Edition", name := "turns", desc := "(I)V" } : Jvm.MethodName) prog_7_method_3_code (2 : Nat) (Option.none : Option Jvm.ClassFile.FieldType)) ∈ lw_all := lw_g (lw_at lw_m11 133 rfl) rfl
theorem q2710 : (Jvm.Cond.fieldLink "CountyGazetteer$Edition" (128 : Nat) "CountyGazetteer$Edition" "blocks" "[LCountyGazetteer$Block;") ∈ lw_all := lw_g (lw_at lw_m11 134 rfl) rfl
theorem q2712 : (Jvm.Cond.fieldLink "CountyGazetteer$Edition" (9 : Nat) "CountyGazetteer$Edition" "sorts" "[I") ∈ lw_all := lw_g (lw_at lw_m11 136 rfl) rfl
theorem q2714 : (Jvm.Cond.fieldLink "CountyGazetteer$Edition" (156 : Nat) "CountyGazetteer$Edition" "pages" "I") ∈ lw_all := lw_g (lw_at lw_m11 138 rfl) rfl
theorem q2716 : (Jvm.Cond.fieldLink "CountyGazetteer$Edition" (159 : Nat) "CountyGazetteer$Edition" "used" "I") ∈ lw_all := lw_g (lw_at lw_m11 140 rfl) rfl
theorem q2717 : (Jvm.Cond.fieldLink "CountyGazetteer$Edition" (153 : Nat) "CountyGazetteer$Edition" "wasted" "I") ∈ lw_all := lw_g (lw_at lw_m11 141 rfl) rfl
theorem q2719 : (Jvm.Cond.laysFinal "CountyGazetteer$Edition" "CountyGazetteer$Edition" "blocks" "[LCountyGazetteer$Block;") ∈ lw_all := lw_g (lw_at lw_m11 143 rfl) rfl
theorem q2720 : (Jvm.Cond.soleField "CountyGazetteer$Edition" "blocks") ∈ lw_all := lw_g (lw_at lw_m11 144 rfl) rfl
theorem q2721 : (Jvm.Cond.laysFinal "CountyGazetteer$Edition" "CountyGazetteer$Edition" "sorts" "[I") ∈ lw_all := lw_g (lw_at lw_m11 145 rfl) rfl
theorem q2722 : (Jvm.Cond.soleField "CountyGazetteer$Edition" "sorts") ∈ lw_all := lw_g (lw_at lw_m11 146 rfl) rfl
theorem q2723 : (Jvm.Cond.lays "CountyGazetteer$Edition" "CountyGazetteer$Edition" "pages" "I") ∈ lw_all := lw_g (lw_at lw_m11 147 rfl) rfl
theorem q2724 : (Jvm.Cond.soleField "CountyGazetteer$Edition" "pages") ∈ lw_all := lw_g (lw_at lw_m11 148 rfl) rfl
theorem q2725 : (Jvm.Cond.lays "CountyGazetteer$Edition" "CountyGazetteer$Edition" "used" "I") ∈ lw_all := lw_g (lw_at lw_m11 149 rfl) rfl
theorem q2726 : (Jvm.Cond.soleField "CountyGazetteer$Edition" "used") ∈ lw_all := lw_g (lw_at lw_m11 150 rfl) rfl
theorem q2727 : (Jvm.Cond.lays "CountyGazetteer$Edition" "CountyGazetteer$Edition" "wasted" "I") ∈ lw_all := lw_g (lw_at lw_m11 151 rfl) rfl
theorem q2728 : (Jvm.Cond.soleField "CountyGazetteer$Edition" "wasted") ∈ lw_all := lw_g (lw_at lw_m11 152 rfl) rfl
theorem q2729 : (Jvm.Cond.superclass "CountyGazetteer$Edition" "java/lang/Object") ∈ lw_all := lw_g (lw_at lw_m11 153 rfl) rfl
theorem q2756 : (Jvm.Cond.instanceMethod ({ cls := "CountyGazetteer$Edition", name := "lines", desc := "()I" } : Jvm.MethodName)) ∈ lw_all := lw_g (lw_at lw_m11 180 rfl) rfl
theorem q2757 : (Jvm.Cond.selects "CountyGazetteer$Edition" ({ cls := "CountyGazetteer$Edition", name := "lines", desc := "()I" } : Jvm.MethodName) ({ cls := "CountyGazetteer$Edition", name := "lines", desc := "()I" } : Jvm.MethodName)) ∈ lw_all := lw_g (lw_at lw_m11 181 rfl) rfl
theorem q2758 : (Jvm.Cond.code ({ cls := "CountyGazetteer$Edition", name := "lines", desc := "()I" } : Jvm.MethodName) prog_7_method_5_code (1 : Nat) (Option.some Jvm.ClassFile.FieldType.int)) ∈ lw_all := lw_g (lw_at lw_m11 182 rfl) rfl
theorem q2813 : (Jvm.Cond.selects "CountyGazetteer$Edition" ({ cls := "java/lang/Object", name := "equals", desc := "(Ljava/lang/Object;)Z" } : Jvm.MethodName) ({ cls := "java/lang/Object", name := "equals", desc := "(Ljava/lang/Object;)Z" } : Jvm.MethodName)) ∈ lw_all := lw_g (lw_at lw_m11 237 rfl) rfl
theorem q3037 : (Jvm.Cond.instanceMethod ({ cls := "CountyGazetteer$Edition", name := "nameOf", desc := "(I)LCountyGazetteer$Entry;" } : Jvm.MethodName)) ∈ lw_all := lw_g (lw_at lw_m12 221 rfl) rfl
theorem q3038 : (Jvm.Cond.selects "CountyGazetteer$Edition" ({ cls := "CountyGazetteer$Edition", name := "nameOf", desc := "(I)LCountyGazetteer$Entry;" } : Jvm.MethodName) ({ cls := "CountyGazetteer$Edition", name := "nameOf", desc := "(I)LCountyGazetteer$Entry;" } : Jvm.MethodName)) ∈ lw_all := lw_g (lw_at lw_m12 222 rfl) rfl
theorem q3039 : (Jvm.Cond.code ({ cls := "CountyGazetteer$Edition", name := "nameOf", desc := "(I)LCountyGazetteer$Entry;" } : Jvm.MethodName) prog_7_method_10_code (8 : Nat) (Option.some (Jvm.ClassFile.FieldType.object "CountyGazetteer$Entry"))) ∈ lw_all := lw_g (lw_at lw_m12 223 rfl) rfl
theorem q3056 : (Jvm.Cond.instanceMethod ({ cls := "CountyGazetteer$Edition", name := "blockOf", desc := "(I)LCountyGazetteer$Block;" } : Jvm.MethodName)) ∈ lw_all := lw_g (lw_at lw_m13 0 rfl) rfl
theorem q3057 : (Jvm.Cond.selects "CountyGazetteer$Edition" ({ cls := "CountyGazetteer$Edition", name := "blockOf", desc := "(I)LCountyGazetteer$Block;" } : Jvm.MethodName) ({ cls := "CountyGazetteer$Edition", name := "blockOf", desc := "(I)LCountyGazetteer$Block;" } : Jvm.MethodName)) ∈ lw_all := lw_g (lw_at lw_m13 1 rfl) rfl
theorem q3058 : (Jvm.Cond.code ({ cls := "CountyGazetteer$Edition", name := "blockOf", desc := "(I)LCountyGazetteer$Block;" } : Jvm.MethodName) prog_7_method_6_code (6 : Nat) (Option.some (Jvm.ClassFile.FieldType.object "CountyGazetteer$Block"))) ∈ lw_all := lw_g (lw_at lw_m13 2 rfl) rfl
theorem q3332 : (Jvm.Cond.instanceMethod ({ cls := "CountyGazetteer$Edition", name := "usedOn", desc := "(I)I" } : Jvm.MethodName)) ∈ lw_all := lw_g (lw_at lw_m14 36 rfl) rfl
theorem q3333 : (Jvm.Cond.selects "CountyGazetteer$Edition" ({ cls := "CountyGazetteer$Edition", name := "usedOn", desc := "(I)I" } : Jvm.MethodName) ({ cls := "CountyGazetteer$Edition", name := "usedOn", desc := "(I)I" } : Jvm.MethodName)) ∈ lw_all := lw_g (lw_at lw_m14 37 rfl) rfl
theorem q3334 : (Jvm.Cond.code ({ cls := "CountyGazetteer$Edition", name := "usedOn", desc := "(I)I" } : Jvm.MethodName) prog_7_method_7_code (9 : Nat) (Option.some Jvm.ClassFile.FieldType.int)) ∈ lw_all := lw_g (lw_at lw_m14 38 rfl) rfl
theorem q3335 : (Jvm.Cond.methodLink "CountyGazetteer$Edition" (173 : Nat) ({ cls := "java/lang/Math", name := "max", desc := "(II)I" } : Jvm.MethodName)) ∈ lw_all := lw_g (lw_at lw_m14 39 rfl) rfl
theorem q3345 : (Jvm.Cond.instanceMethod ({ cls := "CountyGazetteer$Edition", name := "at", desc := "(II)LCountyGazetteer$Entry;" } : Jvm.MethodName)) ∈ lw_all := lw_g (lw_at lw_m14 49 rfl) rfl
theorem q3346 : (Jvm.Cond.selects "CountyGazetteer$Edition" ({ cls := "CountyGazetteer$Edition", name := "at", desc := "(II)LCountyGazetteer$Entry;" } : Jvm.MethodName) ({ cls := "CountyGazetteer$Edition", name := "at", desc := "(II)LCountyGazetteer$Entry;" } : Jvm.MethodName)) ∈ lw_all := lw_g (lw_at lw_m14 50 rfl) rfl
theorem q3347 : (Jvm.Cond.code ({ cls := "CountyGazetteer$Edition", name := "at", desc := "(II)LCountyGazetteer$Entry;" } : Jvm.MethodName) prog_7_method_8_code (9 : Nat) (Option.some (Jvm.ClassFile.FieldType.object "CountyGazetteer$Entry"))) ∈ lw_all := lw_g (lw_at lw_m14 51 rfl) rfl
theorem q4511 : (Jvm.Cond.castable "CountyGazetteer$Edition" "java/lang/Object") ∈ lw_tbl := lw_at lw_m19 15 rfl
theorem in_X12 : ∀ w ∈ wsX120, w ∈ lw_all := lw_in wsX120 [2719, 2721, 2723, 2725, 2727] (by decide +kernel) (by decide +kernel)

/-! CountyGazetteer$Block -/
set_option maxRecDepth 100000
def RX13 : String := "CountyGazetteer$Block"
def TX13 : u_T := fun k => match k with
  | 0 => ("CountyGazetteer$Block", "county", "I", true)
  | 1 => ("CountyGazetteer$Block", "name", "Ljava/lang/String;", true)
  | _ => ("CountyGazetteer$Block", "entries", "Ljava/util/TreeSet;", true)
def tyX13 : Nat → FieldType := fun k => match k with
  | 0 => .int
  | 1 => .object "java/lang/String"
  | _ => .object "java/util/TreeSet"
abbrev wsX130 : List Cond := u_ws RX13 TX13 3
theorem nmX13 : ∀ a, a < 3 → ∀ b, b < 3 → a ≠ b → (TX13 a).2.1 ≠ (TX13 b).2.1 := by decide +kernel
theorem tyX13_ok : ∀ k, k < 3 → parseFieldDescriptor (TX13 k).2.2.1 = some (tyX13 k) := by decide +kernel
abbrev cX13_init : ByteArray := prog_2_method_1_code
def yX13_init : MethodName := ⟨RX13, "<init>", "(ILjava/lang/String;)V"⟩
def dkwX13_init_1 : List UInt8 := [181, 0, 20, 177]
abbrev dktX13_init_1 : List UInt8 := dkwX13_init_1 ++ []
def dkwX13_init_0 : List UInt8 := [42, 183, 0, 1, 42, 187, 0, 7, 89, 183, 0, 9, 181, 0, 10, 42, 27, 181, 0, 16, 42, 44]
abbrev dktX13_init_0 : List UInt8 := dkwX13_init_0 ++ dktX13_init_1
theorem dksX13_init_0 : cX13_init.data.toList.drop 0 = dktX13_init_0 := by decide +kernel
theorem dksX13_init_1 : cX13_init.data.toList.drop 22 = dktX13_init_1 := dk_seg dksX13_init_0 22 rfl rfl
theorem dX13_init_0 : decode cX13_init 0 = .ok (.aload_n 0, 1) := dk_42 (dk_at dksX13_init_0 0 rfl rfl)
theorem dX13_init_1 : decode cX13_init 1 = .ok (.invokespecial 1, 3) := dk_183 0 1 (dk_at dksX13_init_0 1 rfl rfl)
theorem dX13_init_4 : decode cX13_init 4 = .ok (.aload_n 0, 1) := dk_42 (dk_at dksX13_init_0 4 rfl rfl)
theorem dX13_init_5 : decode cX13_init 5 = .ok (.new 7, 3) := dk_187 0 7 (dk_at dksX13_init_0 5 rfl rfl)
theorem dX13_init_8 : decode cX13_init 8 = .ok (.dup, 1) := dk_89 (dk_at dksX13_init_0 8 rfl rfl)
theorem dX13_init_9 : decode cX13_init 9 = .ok (.invokespecial 9, 3) := dk_183 0 9 (dk_at dksX13_init_0 9 rfl rfl)
theorem dX13_init_12 : decode cX13_init 12 = .ok (.putfield 10, 3) := dk_181 0 10 (dk_at dksX13_init_0 12 rfl rfl)
theorem dX13_init_15 : decode cX13_init 15 = .ok (.aload_n 0, 1) := dk_42 (dk_at dksX13_init_0 15 rfl rfl)
theorem dX13_init_16 : decode cX13_init 16 = .ok (.iload_n 1, 1) := dk_27 (dk_at dksX13_init_0 16 rfl rfl)
theorem dX13_init_17 : decode cX13_init 17 = .ok (.putfield 16, 3) := dk_181 0 16 (dk_at dksX13_init_0 17 rfl rfl)
theorem dX13_init_20 : decode cX13_init 20 = .ok (.aload_n 0, 1) := dk_42 (dk_at dksX13_init_0 20 rfl rfl)
theorem dX13_init_21 : decode cX13_init 21 = .ok (.aload_n 2, 1) := dk_44 (dk_at dksX13_init_0 21 rfl rfl)
theorem dX13_init_22 : decode cX13_init 22 = .ok (.putfield 20, 3) := dk_181 0 20 (dk_at dksX13_init_1 0 rfl rfl)
theorem dX13_init_25 : decode cX13_init 25 = .ok (.return_, 1) := dk_177 (dk_at dksX13_init_1 3 rfl rfl)
abbrev cX13_pages : ByteArray := prog_2_method_2_code
def yX13_pages : MethodName := ⟨RX13, "pages", "(I)I"⟩
def dkwX13_pages_0 : List UInt8 := [42, 180, 0, 10, 182, 0, 24, 27, 96, 5, 100, 27, 4, 100, 108, 172]
abbrev dktX13_pages_0 : List UInt8 := dkwX13_pages_0 ++ []
theorem dksX13_pages_0 : cX13_pages.data.toList.drop 0 = dktX13_pages_0 := by decide +kernel
theorem dX13_pages_0 : decode cX13_pages 0 = .ok (.aload_n 0, 1) := dk_42 (dk_at dksX13_pages_0 0 rfl rfl)
theorem dX13_pages_1 : decode cX13_pages 1 = .ok (.getfield 10, 3) := dk_180 0 10 (dk_at dksX13_pages_0 1 rfl rfl)
theorem dX13_pages_4 : decode cX13_pages 4 = .ok (.invokevirtual 24, 3) := dk_182 0 24 (dk_at dksX13_pages_0 4 rfl rfl)
theorem dX13_pages_7 : decode cX13_pages 7 = .ok (.iload_n 1, 1) := dk_27 (dk_at dksX13_pages_0 7 rfl rfl)
theorem dX13_pages_8 : decode cX13_pages 8 = .ok (.iadd, 1) := dk_96 (dk_at dksX13_pages_0 8 rfl rfl)
theorem dX13_pages_9 : decode cX13_pages 9 = .ok (.iconst 2, 1) := dk_5 (dk_at dksX13_pages_0 9 rfl rfl)
theorem dX13_pages_10 : decode cX13_pages 10 = .ok (.isub, 1) := dk_100 (dk_at dksX13_pages_0 10 rfl rfl)
theorem dX13_pages_11 : decode cX13_pages 11 = .ok (.iload_n 1, 1) := dk_27 (dk_at dksX13_pages_0 11 rfl rfl)
theorem dX13_pages_12 : decode cX13_pages 12 = .ok (.iconst 1, 1) := dk_4 (dk_at dksX13_pages_0 12 rfl rfl)
theorem dX13_pages_13 : decode cX13_pages 13 = .ok (.isub, 1) := dk_100 (dk_at dksX13_pages_0 13 rfl rfl)
theorem dX13_pages_14 : decode cX13_pages 14 = .ok (.idiv, 1) := dk_108 (dk_at dksX13_pages_0 14 rfl rfl)
theorem dX13_pages_15 : decode cX13_pages 15 = .ok (.ireturn, 1) := dk_172 (dk_at dksX13_pages_0 15 rfl rfl)
theorem q233 : (Jvm.Cond.initialized "CountyGazetteer$Block") ∈ lw_all := lw_g (lw_at lw_m1 57 rfl) rfl
theorem q402 : (Jvm.Cond.selects "CountyGazetteer$Block" ({ cls := "java/lang/Object", name := "getClass", desc := "()Ljava/lang/Class;" } : Jvm.MethodName) ({ cls := "java/lang/Object", name := "getClass", desc := "()Ljava/lang/Class;" } : Jvm.MethodName)) ∈ lw_all := lw_g (lw_at lw_m1 226 rfl) rfl
theorem q2512 : (Jvm.Cond.instantiable "CountyGazetteer$Block" (3 : Nat)) ∈ lw_all := lw_g (lw_at lw_m10 176 rfl) rfl
theorem q2518 : (Jvm.Cond.instanceMethod ({ cls := "CountyGazetteer$Block", name := "<init>", desc := "(ILjava/lang/String;)V" } : Jvm.MethodName)) ∈ lw_all := lw_g (lw_at lw_m10 182 rfl) rfl
theorem q2519 : (Jvm.Cond.code ({ cls := "CountyGazetteer$Block", name := "<init>", desc := "(ILjava/lang/String;)V" } : Jvm.MethodName) prog_2_method_1_code (3 : Nat) (Option.none : Option Jvm.ClassFile.FieldType)) ∈ lw_all := lw_g (lw_at lw_m10 183 rfl) rfl
theorem q2520 : (Jvm.Cond.methodLink "CountyGazetteer$Block" (1 : Nat) ({ cls := "java/lang/Object", name := "<init>", desc := "()V" } : Jvm.MethodName)) ∈ lw_all := lw_g (lw_at lw_m10 184 rfl) rfl
theorem q2521 : (Jvm.Cond.classLink "CountyGazetteer$Block" (7 : Nat) "java/util/TreeSet") ∈ lw_all := lw_g (lw_at lw_m10 185 rfl) rfl
theorem q2522 : (Jvm.Cond.methodLink "CountyGazetteer$Block" (9 : Nat) ({ cls := "java/util/TreeSet", name := "<init>", desc := "()V" } : Jvm.MethodName)) ∈ lw_all := lw_g (lw_at lw_m10 186 rfl) rfl
theorem q2523 : (Jvm.Cond.fieldLink "CountyGazetteer$Block" (16 : Nat) "CountyGazetteer$Block" "county" "I") ∈ lw_all := lw_g (lw_at lw_m10 187 rfl) rfl
theorem q2526 : (Jvm.Cond.fieldLink "CountyGazetteer$Block" (20 : Nat) "CountyGazetteer$Block" "name" "Ljava/lang/String;") ∈ lw_all := lw_g (lw_at lw_m10 190 rfl) rfl
theorem q2528 : (Jvm.Cond.fieldLink "CountyGazetteer$Block" (10 : Nat) "CountyGazetteer$Block" "entries" "Ljava/util/TreeSet;") ∈ lw_all := lw_g (lw_at lw_m10 192 rfl) rfl
theorem q2531 : (Jvm.Cond.laysFinal "CountyGazetteer$Block" "CountyGazetteer$Block" "county" "I") ∈ lw_all := lw_g (lw_at lw_m10 195 rfl) rfl
theorem q2532 : (Jvm.Cond.soleField "CountyGazetteer$Block" "county") ∈ lw_all := lw_g (lw_at lw_m10 196 rfl) rfl
theorem q2533 : (Jvm.Cond.laysFinal "CountyGazetteer$Block" "CountyGazetteer$Block" "name" "Ljava/lang/String;") ∈ lw_all := lw_g (lw_at lw_m10 197 rfl) rfl
theorem q2534 : (Jvm.Cond.soleField "CountyGazetteer$Block" "name") ∈ lw_all := lw_g (lw_at lw_m10 198 rfl) rfl
theorem q2535 : (Jvm.Cond.laysFinal "CountyGazetteer$Block" "CountyGazetteer$Block" "entries" "Ljava/util/TreeSet;") ∈ lw_all := lw_g (lw_at lw_m10 199 rfl) rfl
theorem q2536 : (Jvm.Cond.soleField "CountyGazetteer$Block" "entries") ∈ lw_all := lw_g (lw_at lw_m10 200 rfl) rfl
theorem q2537 : (Jvm.Cond.superclass "CountyGazetteer$Block" "java/lang/Object") ∈ lw_all := lw_g (lw_at lw_m10 201 rfl) rfl
theorem q2809 : (Jvm.Cond.selects "CountyGazetteer$Block" ({ cls := "java/lang/Object", name := "equals", desc := "(Ljava/lang/Object;)Z" } : Jvm.MethodName) ({ cls := "java/lang/Object", name := "equals", desc := "(Ljava/lang/Object;)Z" } : Jvm.MethodName)) ∈ lw_all := lw_g (lw_at lw_m11 233 rfl) rfl
theorem q3391 : (Jvm.Cond.instanceMethod ({ cls := "CountyGazetteer$Block", name := "pages", desc := "(I)I" } : Jvm.MethodName)) ∈ lw_all := lw_g (lw_at lw_m14 95 rfl) rfl
theorem q3392 : (Jvm.Cond.selects "CountyGazetteer$Block" ({ cls := "CountyGazetteer$Block", name := "pages", desc := "(I)I" } : Jvm.MethodName) ({ cls := "CountyGazetteer$Block", name := "pages", desc := "(I)I" } : Jvm.MethodName)) ∈ lw_all := lw_g (lw_at lw_m14 96 rfl) rfl
theorem q3393 : (Jvm.Cond.code ({ cls := "CountyGazetteer$Block", name := "pages", desc := "(I)I" } : Jvm.MethodName) prog_2_method_2_code (2 : Nat) (Option.some Jvm.ClassFile.FieldType.int)) ∈ lw_all := lw_g (lw_at lw_m14 97 rfl) rfl
theorem q3394 : (Jvm.Cond.methodLink "CountyGazetteer$Block" (24 : Nat) ({ cls := "java/util/TreeSet", name := "size", desc := "()I" } : Jvm.MethodName)) ∈ lw_all := lw_g (lw_at lw_m14 98 rfl) rfl
theorem q4479 : (Jvm.Cond.castable "CountyGazetteer$Block" "java/lang/Object") ∈ lw_tbl := lw_at lw_m18 223 rfl
theorem in_X13 : ∀ w ∈ wsX130, w ∈ lw_all := lw_in wsX130 [2531, 2533, 2535] (by decide +kernel) (by decide +kernel)

/-! CountyGazetteer$Entry -/
set_option maxRecDepth 100000
def RX14 : String := "CountyGazetteer$Entry"
def TX14 : u_T := fun k => match k with
  | 0 => ("CountyGazetteer$Entry", "name", "Ljava/lang/String;", true)
  | 1 => ("CountyGazetteer$Entry", "sort", "I", true)
  | 2 => ("CountyGazetteer$Entry", "county", "I", true)
  | 3 => ("CountyGazetteer$Entry", "village", "LCountyGazetteer$Village;", true)
  | 4 => ("CountyGazetteer$Entry", "page", "I", false)
  | _ => ("CountyGazetteer$Entry", "place", "I", false)
def tyX14 : Nat → FieldType := fun k => match k with
  | 0 => .object "java/lang/String"
  | 1 => .int
  | 2 => .int
  | 3 => .object "CountyGazetteer$Village"
  | 4 => .int
  | _ => .int
abbrev wsX140 : List Cond := u_ws RX14 TX14 6
theorem nmX14 : ∀ a, a < 6 → ∀ b, b < 6 → a ≠ b → (TX14 a).2.1 ≠ (TX14 b).2.1 := by decide +kernel
theorem tyX14_ok : ∀ k, k < 6 → parseFieldDescriptor (TX14 k).2.2.1 = some (tyX14 k) := by decide +kernel
abbrev cX14_compareTo : ByteArray := prog_8_method_3_code
def yX14_compareTo : MethodName := ⟨RX14, "compareTo", "(Ljava/lang/Object;)I"⟩
def dkwX14_compareTo_0 : List UInt8 := [42, 43, 192, 0, 8, 182, 0, 35, 172]
abbrev dktX14_compareTo_0 : List UInt8 := dkwX14_compareTo_0 ++ []
theorem dksX14_compareTo_0 : cX14_compareTo.data.toList.drop 0 = dktX14_compareTo_0 := by decide +kernel
theorem dX14_compareTo_0 : decode cX14_compareTo 0 = .ok (.aload_n 0, 1) := dk_42 (dk_at dksX14_compareTo_0 0 rfl rfl)
theorem dX14_compareTo_1 : decode cX14_compareTo 1 = .ok (.aload_n 1, 1) := dk_43 (dk_at dksX14_compareTo_0 1 rfl rfl)
theorem dX14_compareTo_2 : decode cX14_compareTo 2 = .ok (.checkcast 8, 3) := dk_192 0 8 (dk_at dksX14_compareTo_0 2 rfl rfl)
theorem dX14_compareTo_5 : decode cX14_compareTo 5 = .ok (.invokevirtual 35, 3) := dk_182 0 35 (dk_at dksX14_compareTo_0 5 rfl rfl)
theorem dX14_compareTo_8 : decode cX14_compareTo 8 = .ok (.ireturn, 1) := dk_172 (dk_at dksX14_compareTo_0 8 rfl rfl)
abbrev cX14_compareTo_2 : ByteArray := prog_8_method_2_code
def yX14_compareTo_2 : MethodName := ⟨RX14, "compareTo", "(LCountyGazetteer$Entry;)I"⟩
def dkwX14_compareTo_2_2 : List UInt8 := [180, 0, 30, 43, 180, 0, 20, 180, 0, 30, 100, 172]
abbrev dktX14_compareTo_2_2 : List UInt8 := dkwX14_compareTo_2_2 ++ []
def dkwX14_compareTo_2_1 : List UInt8 := [43, 180, 0, 13, 159, 0, 15, 42, 180, 0, 13, 43, 180, 0, 13, 100, 167, 0, 18, 42, 180, 0, 20]
abbrev dktX14_compareTo_2_1 : List UInt8 := dkwX14_compareTo_2_1 ++ dktX14_compareTo_2_2
def dkwX14_compareTo_2_0 : List UInt8 := [42, 180, 0, 7, 43, 180, 0, 7, 184, 0, 24, 61, 28, 153, 0, 7, 28, 167, 0, 41, 42, 180, 0, 13]
abbrev dktX14_compareTo_2_0 : List UInt8 := dkwX14_compareTo_2_0 ++ dktX14_compareTo_2_1
theorem dksX14_compareTo_2_0 : cX14_compareTo_2.data.toList.drop 0 = dktX14_compareTo_2_0 := by decide +kernel
theorem dksX14_compareTo_2_1 : cX14_compareTo_2.data.toList.drop 24 = dktX14_compareTo_2_1 := dk_seg dksX14_compareTo_2_0 24 rfl rfl
theorem dksX14_compareTo_2_2 : cX14_compareTo_2.data.toList.drop 47 = dktX14_compareTo_2_2 := dk_seg dksX14_compareTo_2_1 23 rfl rfl
theorem dX14_compareTo_2_0 : decode cX14_compareTo_2 0 = .ok (.aload_n 0, 1) := dk_42 (dk_at dksX14_compareTo_2_0 0 rfl rfl)
theorem dX14_compareTo_2_1 : decode cX14_compareTo_2 1 = .ok (.getfield 7, 3) := dk_180 0 7 (dk_at dksX14_compareTo_2_0 1 rfl rfl)
theorem dX14_compareTo_2_4 : decode cX14_compareTo_2 4 = .ok (.aload_n 1, 1) := dk_43 (dk_at dksX14_compareTo_2_0 4 rfl rfl)
theorem dX14_compareTo_2_5 : decode cX14_compareTo_2 5 = .ok (.getfield 7, 3) := dk_180 0 7 (dk_at dksX14_compareTo_2_0 5 rfl rfl)
theorem dX14_compareTo_2_8 : decode cX14_compareTo_2 8 = .ok (.invokestatic 24, 3) := dk_184 0 24 (dk_at dksX14_compareTo_2_0 8 rfl rfl)
theorem dX14_compareTo_2_11 : decode cX14_compareTo_2 11 = .ok (.istore_n 2, 1) := dk_61 (dk_at dksX14_compareTo_2_0 11 rfl rfl)
theorem dX14_compareTo_2_12 : decode cX14_compareTo_2 12 = .ok (.iload_n 2, 1) := dk_28 (dk_at dksX14_compareTo_2_0 12 rfl rfl)
theorem dX14_compareTo_2_13 : decode cX14_compareTo_2 13 = .ok (.ifCond .eq 7, 3) := dk_153 0 7 (dk_at dksX14_compareTo_2_0 13 rfl rfl)
theorem dX14_compareTo_2_16 : decode cX14_compareTo_2 16 = .ok (.iload_n 2, 1) := dk_28 (dk_at dksX14_compareTo_2_0 16 rfl rfl)
theorem dX14_compareTo_2_17 : decode cX14_compareTo_2 17 = .ok (.goto 41, 3) := dk_167 0 41 (dk_at dksX14_compareTo_2_0 17 rfl rfl)
theorem dX14_compareTo_2_20 : decode cX14_compareTo_2 20 = .ok (.aload_n 0, 1) := dk_42 (dk_at dksX14_compareTo_2_0 20 rfl rfl)
theorem dX14_compareTo_2_21 : decode cX14_compareTo_2 21 = .ok (.getfield 13, 3) := dk_180 0 13 (dk_at dksX14_compareTo_2_0 21 rfl rfl)
theorem dX14_compareTo_2_24 : decode cX14_compareTo_2 24 = .ok (.aload_n 1, 1) := dk_43 (dk_at dksX14_compareTo_2_1 0 rfl rfl)
theorem dX14_compareTo_2_25 : decode cX14_compareTo_2 25 = .ok (.getfield 13, 3) := dk_180 0 13 (dk_at dksX14_compareTo_2_1 1 rfl rfl)
theorem dX14_compareTo_2_28 : decode cX14_compareTo_2 28 = .ok (.if_icmp .eq 15, 3) := dk_159 0 15 (dk_at dksX14_compareTo_2_1 4 rfl rfl)
theorem dX14_compareTo_2_31 : decode cX14_compareTo_2 31 = .ok (.aload_n 0, 1) := dk_42 (dk_at dksX14_compareTo_2_1 7 rfl rfl)
theorem dX14_compareTo_2_32 : decode cX14_compareTo_2 32 = .ok (.getfield 13, 3) := dk_180 0 13 (dk_at dksX14_compareTo_2_1 8 rfl rfl)
theorem dX14_compareTo_2_35 : decode cX14_compareTo_2 35 = .ok (.aload_n 1, 1) := dk_43 (dk_at dksX14_compareTo_2_1 11 rfl rfl)
theorem dX14_compareTo_2_36 : decode cX14_compareTo_2 36 = .ok (.getfield 13, 3) := dk_180 0 13 (dk_at dksX14_compareTo_2_1 12 rfl rfl)
theorem dX14_compareTo_2_39 : decode cX14_compareTo_2 39 = .ok (.isub, 1) := dk_100 (dk_at dksX14_compareTo_2_1 15 rfl rfl)
theorem dX14_compareTo_2_40 : decode cX14_compareTo_2 40 = .ok (.goto 18, 3) := dk_167 0 18 (dk_at dksX14_compareTo_2_1 16 rfl rfl)
theorem dX14_compareTo_2_43 : decode cX14_compareTo_2 43 = .ok (.aload_n 0, 1) := dk_42 (dk_at dksX14_compareTo_2_1 19 rfl rfl)
theorem dX14_compareTo_2_44 : decode cX14_compareTo_2 44 = .ok (.getfield 20, 3) := dk_180 0 20 (dk_at dksX14_compareTo_2_1 20 rfl rfl)
theorem dX14_compareTo_2_47 : decode cX14_compareTo_2 47 = .ok (.getfield 30, 3) := dk_180 0 30 (dk_at dksX14_compareTo_2_2 0 rfl rfl)
theorem dX14_compareTo_2_50 : decode cX14_compareTo_2 50 = .ok (.aload_n 1, 1) := dk_43 (dk_at dksX14_compareTo_2_2 3 rfl rfl)
theorem dX14_compareTo_2_51 : decode cX14_compareTo_2 51 = .ok (.getfield 20, 3) := dk_180 0 20 (dk_at dksX14_compareTo_2_2 4 rfl rfl)
theorem dX14_compareTo_2_54 : decode cX14_compareTo_2 54 = .ok (.getfield 30, 3) := dk_180 0 30 (dk_at dksX14_compareTo_2_2 7 rfl rfl)
theorem dX14_compareTo_2_57 : decode cX14_compareTo_2 57 = .ok (.isub, 1) := dk_100 (dk_at dksX14_compareTo_2_2 10 rfl rfl)
theorem dX14_compareTo_2_58 : decode cX14_compareTo_2 58 = .ok (.ireturn, 1) := dk_172 (dk_at dksX14_compareTo_2_2 11 rfl rfl)
abbrev cX14_init : ByteArray := prog_8_method_1_code
def yX14_init : MethodName := ⟨RX14, "<init>", "(Ljava/lang/String;IILCountyGazetteer$Village;)V"⟩
def dkwX14_init_1 : List UInt8 := [181, 0, 20, 177]
abbrev dktX14_init_1 : List UInt8 := dkwX14_init_1 ++ []
def dkwX14_init_0 : List UInt8 := [42, 183, 0, 1, 42, 43, 181, 0, 7, 42, 28, 181, 0, 13, 42, 29, 181, 0, 17, 42, 25, 4]
abbrev dktX14_init_0 : List UInt8 := dkwX14_init_0 ++ dktX14_init_1
theorem dksX14_init_0 : cX14_init.data.toList.drop 0 = dktX14_init_0 := by decide +kernel
theorem dksX14_init_1 : cX14_init.data.toList.drop 22 = dktX14_init_1 := dk_seg dksX14_init_0 22 rfl rfl
theorem dX14_init_0 : decode cX14_init 0 = .ok (.aload_n 0, 1) := dk_42 (dk_at dksX14_init_0 0 rfl rfl)
theorem dX14_init_1 : decode cX14_init 1 = .ok (.invokespecial 1, 3) := dk_183 0 1 (dk_at dksX14_init_0 1 rfl rfl)
theorem dX14_init_4 : decode cX14_init 4 = .ok (.aload_n 0, 1) := dk_42 (dk_at dksX14_init_0 4 rfl rfl)
theorem dX14_init_5 : decode cX14_init 5 = .ok (.aload_n 1, 1) := dk_43 (dk_at dksX14_init_0 5 rfl rfl)
theorem dX14_init_6 : decode cX14_init 6 = .ok (.putfield 7, 3) := dk_181 0 7 (dk_at dksX14_init_0 6 rfl rfl)
theorem dX14_init_9 : decode cX14_init 9 = .ok (.aload_n 0, 1) := dk_42 (dk_at dksX14_init_0 9 rfl rfl)
theorem dX14_init_10 : decode cX14_init 10 = .ok (.iload_n 2, 1) := dk_28 (dk_at dksX14_init_0 10 rfl rfl)
theorem dX14_init_11 : decode cX14_init 11 = .ok (.putfield 13, 3) := dk_181 0 13 (dk_at dksX14_init_0 11 rfl rfl)
theorem dX14_init_14 : decode cX14_init 14 = .ok (.aload_n 0, 1) := dk_42 (dk_at dksX14_init_0 14 rfl rfl)
theorem dX14_init_15 : decode cX14_init 15 = .ok (.iload_n 3, 1) := dk_29 (dk_at dksX14_init_0 15 rfl rfl)
theorem dX14_init_16 : decode cX14_init 16 = .ok (.putfield 17, 3) := dk_181 0 17 (dk_at dksX14_init_0 16 rfl rfl)
theorem dX14_init_19 : decode cX14_init 19 = .ok (.aload_n 0, 1) := dk_42 (dk_at dksX14_init_0 19 rfl rfl)
theorem dX14_init_20 : decode cX14_init 20 = .ok (.aload 4, 2) := dk_25 4 (dk_at dksX14_init_0 20 rfl rfl)
theorem dX14_init_22 : decode cX14_init 22 = .ok (.putfield 20, 3) := dk_181 0 20 (dk_at dksX14_init_1 0 rfl rfl)
theorem dX14_init_25 : decode cX14_init 25 = .ok (.return_, 1) := dk_177 (dk_at dksX14_init_1 3 rfl rfl)
theorem q235 : (Jvm.Cond.initialized "CountyGazetteer$Entry") ∈ lw_all := lw_g (lw_at lw_m1 59 rfl) rfl
theorem q407 : (Jvm.Cond.selects "CountyGazetteer$Entry" ({ cls := "java/lang/Object", name := "getClass", desc := "()Ljava/lang/Class;" } : Jvm.MethodName) ({ cls := "java/lang/Object", name := "getClass", desc := "()Ljava/lang/Class;" } : Jvm.MethodName)) ∈ lw_all := lw_g (lw_at lw_m1 231 rfl) rfl
theorem q1356 : (Jvm.Cond.fieldLinkNest "CountyGazetteer$Entry" (30 : Nat) "CountyGazetteer$Village" "number" "I" "CountyGazetteer") ∈ lw_tbl := lw_at lw_m5 220 rfl
theorem q1501 : (Jvm.Cond.castable "CountyGazetteer$Entry" "java/lang/Comparable") ∈ lw_tbl := lw_at lw_m6 125 rfl
theorem q1502 : (Jvm.Cond.selects "CountyGazetteer$Entry" ({ cls := "java/lang/Comparable", name := "compareTo", desc := "(Ljava/lang/Object;)I" } : Jvm.MethodName) ({ cls := "CountyGazetteer$Entry", name := "compareTo", desc := "(Ljava/lang/Object;)I" } : Jvm.MethodName)) ∈ lw_all := lw_g (lw_at lw_m6 126 rfl) rfl
theorem q1503 : (Jvm.Cond.unhidden "CountyGazetteer$Entry" "compareTo" "(Ljava/lang/Object;)I") ∈ lw_tbl := lw_at lw_m6 127 rfl
theorem q1504 : (Jvm.Cond.instanceMethod ({ cls := "CountyGazetteer$Entry", name := "compareTo", desc := "(Ljava/lang/Object;)I" } : Jvm.MethodName)) ∈ lw_all := lw_g (lw_at lw_m6 128 rfl) rfl
theorem q1505 : (Jvm.Cond.publicMethod ({ cls := "CountyGazetteer$Entry", name := "compareTo", desc := "(Ljava/lang/Object;)I" } : Jvm.MethodName)) ∈ lw_tbl := lw_at lw_m6 129 rfl
theorem q1506 : (Jvm.Cond.code ({ cls := "CountyGazetteer$Entry", name := "compareTo", desc := "(Ljava/lang/Object;)I" } : Jvm.MethodName) prog_8_method_3_code (2 : Nat) (Option.some Jvm.ClassFile.FieldType.int)) ∈ lw_all := lw_g (lw_at lw_m6 130 rfl) rfl
theorem q1507 : (Jvm.Cond.classLink "CountyGazetteer$Entry" (8 : Nat) "CountyGazetteer$Entry") ∈ lw_all := lw_g (lw_at lw_m6 131 rfl) rfl
theorem q1508 : (Jvm.Cond.methodLink "CountyGazetteer$Entry" (35 : Nat) ({ cls := "CountyGazetteer$Entry", name := "compareTo", desc := "(LCountyGazetteer$Entry;)I" } : Jvm.MethodName)) ∈ lw_all := lw_g (lw_at lw_m6 132 rfl) rfl
theorem q1509 : (Jvm.Cond.instanceMethod ({ cls := "CountyGazetteer$Entry", name := "compareTo", desc := "(LCountyGazetteer$Entry;)I" } : Jvm.MethodName)) ∈ lw_all := lw_g (lw_at lw_m6 133 rfl) rfl
theorem q1510 : (Jvm.Cond.selects "CountyGazetteer$Entry" ({ cls := "CountyGazetteer$Entry", name := "compareTo", desc := "(LCountyGazetteer$Entry;)I" } : Jvm.MethodName) ({ cls := "CountyGazetteer$Entry", name := "compareTo", desc := "(LCountyGazetteer$Entry;)I" } : Jvm.MethodName)) ∈ lw_all := lw_g (lw_at lw_m6 134 rfl) rfl
theorem q1511 : (Jvm.Cond.code ({ cls := "CountyGazetteer$Entry", name := "compareTo", desc := "(LCountyGazetteer$Entry;)I" } : Jvm.MethodName) prog_8_method_2_code (3 : Nat) (Option.some Jvm.ClassFile.FieldType.int)) ∈ lw_all := lw_g (lw_at lw_m6 135 rfl) rfl
theorem q1512 : (Jvm.Cond.methodLink "CountyGazetteer$Entry" (24 : Nat) ({ cls := "CountyGazetteer$Named", name := "compare", desc := "(Ljava/lang/CharSequence;Ljava/lang/CharSequence;)I" } : Jvm.MethodName)) ∈ lw_all := lw_g (lw_at lw_m6 136 rfl) rfl
theorem q2565 : (Jvm.Cond.instantiable "CountyGazetteer$Entry" (6 : Nat)) ∈ lw_all := lw_g (lw_at lw_m10 229 rfl) rfl
theorem q2568 : (Jvm.Cond.instanceMethod ({ cls := "CountyGazetteer$Entry", name := "<init>", desc := "(Ljava/lang/String;IILCountyGazetteer$Village;)V" } : Jvm.MethodName)) ∈ lw_all := lw_g (lw_at lw_m10 232 rfl) rfl
theorem q2569 : (Jvm.Cond.code ({ cls := "CountyGazetteer$Entry", name := "<init>", desc := "(Ljava/lang/String;IILCountyGazetteer$Village;)V" } : Jvm.MethodName) prog_8_method_1_code (5 : Nat) (Option.none : Option Jvm.ClassFile.FieldType)) ∈ lw_all := lw_g (lw_at lw_m10 233 rfl) rfl
theorem q2570 : (Jvm.Cond.methodLink "CountyGazetteer$Entry" (1 : Nat) ({ cls := "java/lang/Object", name := "<init>", desc := "()V" } : Jvm.MethodName)) ∈ lw_all := lw_g (lw_at lw_m10 234 rfl) rfl
theorem q2571 : (Jvm.Cond.fieldLink "CountyGazetteer$Entry" (7 : Nat) "CountyGazetteer$Entry" "name" "Ljava/lang/String;") ∈ lw_all := lw_g (lw_at lw_m10 235 rfl) rfl
theorem q2573 : (Jvm.Cond.fieldLink "CountyGazetteer$Entry" (13 : Nat) "CountyGazetteer$Entry" "sort" "I") ∈ lw_all := lw_g (lw_at lw_m10 237 rfl) rfl
theorem q2576 : (Jvm.Cond.fieldLink "CountyGazetteer$Entry" (17 : Nat) "CountyGazetteer$Entry" "county" "I") ∈ lw_all := lw_g (lw_at lw_m11 0 rfl) rfl
theorem q2579 : (Jvm.Cond.fieldLink "CountyGazetteer$Entry" (20 : Nat) "CountyGazetteer$Entry" "village" "LCountyGazetteer$Village;") ∈ lw_all := lw_g (lw_at lw_m11 3 rfl) rfl
theorem q2586 : (Jvm.Cond.laysFinal "CountyGazetteer$Entry" "CountyGazetteer$Entry" "name" "Ljava/lang/String;") ∈ lw_all := lw_g (lw_at lw_m11 10 rfl) rfl
theorem q2587 : (Jvm.Cond.soleField "CountyGazetteer$Entry" "name") ∈ lw_all := lw_g (lw_at lw_m11 11 rfl) rfl
theorem q2588 : (Jvm.Cond.laysFinal "CountyGazetteer$Entry" "CountyGazetteer$Entry" "sort" "I") ∈ lw_all := lw_g (lw_at lw_m11 12 rfl) rfl
theorem q2589 : (Jvm.Cond.soleField "CountyGazetteer$Entry" "sort") ∈ lw_all := lw_g (lw_at lw_m11 13 rfl) rfl
theorem q2590 : (Jvm.Cond.laysFinal "CountyGazetteer$Entry" "CountyGazetteer$Entry" "county" "I") ∈ lw_all := lw_g (lw_at lw_m11 14 rfl) rfl
theorem q2591 : (Jvm.Cond.soleField "CountyGazetteer$Entry" "county") ∈ lw_all := lw_g (lw_at lw_m11 15 rfl) rfl
theorem q2592 : (Jvm.Cond.laysFinal "CountyGazetteer$Entry" "CountyGazetteer$Entry" "village" "LCountyGazetteer$Village;") ∈ lw_all := lw_g (lw_at lw_m11 16 rfl) rfl
theorem q2593 : (Jvm.Cond.soleField "CountyGazetteer$Entry" "village") ∈ lw_all := lw_g (lw_at lw_m11 17 rfl) rfl
theorem q2594 : (Jvm.Cond.lays "CountyGazetteer$Entry" "CountyGazetteer$Entry" "page" "I") ∈ lw_all := lw_g (lw_at lw_m11 18 rfl) rfl
theorem q2595 : (Jvm.Cond.soleField "CountyGazetteer$Entry" "page") ∈ lw_all := lw_g (lw_at lw_m11 19 rfl) rfl
theorem q2596 : (Jvm.Cond.lays "CountyGazetteer$Entry" "CountyGazetteer$Entry" "place" "I") ∈ lw_all := lw_g (lw_at lw_m11 20 rfl) rfl
theorem q2597 : (Jvm.Cond.soleField "CountyGazetteer$Entry" "place") ∈ lw_all := lw_g (lw_at lw_m11 21 rfl) rfl
theorem q2598 : (Jvm.Cond.superclass "CountyGazetteer$Entry" "java/lang/Object") ∈ lw_all := lw_g (lw_at lw_m11 22 rfl) rfl
theorem q2814 : (Jvm.Cond.selects "CountyGazetteer$Entry" ({ cls := "java/lang/Object", name := "equals", desc := "(Ljava/lang/Object;)Z" } : Jvm.MethodName) ({ cls := "java/lang/Object", name := "equals", desc := "(Ljava/lang/Object;)Z" } : Jvm.MethodName)) ∈ lw_all := lw_g (lw_at lw_m11 238 rfl) rfl
theorem q4513 : (Jvm.Cond.castable "CountyGazetteer$Entry" "java/lang/Object") ∈ lw_tbl := lw_at lw_m19 17 rfl
theorem in_X14 : ∀ w ∈ wsX140, w ∈ lw_all := lw_in wsX140 [2586, 2588, 2590, 2592, 2594, 2596] (by decide +kernel) (by decide +kernel)

/-! CountyGazetteer$ByName -/
set_option maxRecDepth 100000
def RX15 : String := "CountyGazetteer$ByName"
abbrev cX15_compare : ByteArray := prog_4_method_3_code
def yX15_compare : MethodName := ⟨RX15, "compare", "(Ljava/lang/Object;Ljava/lang/Object;)I"⟩
def dkwX15_compare_0 : List UInt8 := [42, 43, 192, 0, 8, 44, 192, 0, 8, 182, 0, 19, 172]
abbrev dktX15_compare_0 : List UInt8 := dkwX15_compare_0 ++ []
theorem dksX15_compare_0 : cX15_compare.data.toList.drop 0 = dktX15_compare_0 := by decide +kernel
theorem dX15_compare_0 : decode cX15_compare 0 = .ok (.aload_n 0, 1) := dk_42 (dk_at dksX15_compare_0 0 rfl rfl)
theorem dX15_compare_1 : decode cX15_compare 1 = .ok (.aload_n 1, 1) := dk_43 (dk_at dksX15_compare_0 1 rfl rfl)
theorem dX15_compare_2 : decode cX15_compare 2 = .ok (.checkcast 8, 3) := dk_192 0 8 (dk_at dksX15_compare_0 2 rfl rfl)
theorem dX15_compare_5 : decode cX15_compare 5 = .ok (.aload_n 2, 1) := dk_44 (dk_at dksX15_compare_0 5 rfl rfl)
theorem dX15_compare_6 : decode cX15_compare 6 = .ok (.checkcast 8, 3) := dk_192 0 8 (dk_at dksX15_compare_0 6 rfl rfl)
theorem dX15_compare_9 : decode cX15_compare 9 = .ok (.invokevirtual 19, 3) := dk_182 0 19 (dk_at dksX15_compare_0 9 rfl rfl)
theorem dX15_compare_12 : decode cX15_compare 12 = .ok (.ireturn, 1) := dk_172 (dk_at dksX15_compare_0 12 rfl rfl)
abbrev cX15_compare_2 : ByteArray := prog_4_method_2_code
def yX15_compare_2 : MethodName := ⟨RX15, "compare", "(LCountyGazetteer$Block;LCountyGazetteer$Block;)I"⟩
def dkwX15_compare_2_0 : List UInt8 := [43, 180, 0, 7, 44, 180, 0, 7, 184, 0, 13, 172]
abbrev dktX15_compare_2_0 : List UInt8 := dkwX15_compare_2_0 ++ []
theorem dksX15_compare_2_0 : cX15_compare_2.data.toList.drop 0 = dktX15_compare_2_0 := by decide +kernel
theorem dX15_compare_2_0 : decode cX15_compare_2 0 = .ok (.aload_n 1, 1) := dk_43 (dk_at dksX15_compare_2_0 0 rfl rfl)
theorem dX15_compare_2_1 : decode cX15_compare_2 1 = .ok (.getfield 7, 3) := dk_180 0 7 (dk_at dksX15_compare_2_0 1 rfl rfl)
theorem dX15_compare_2_4 : decode cX15_compare_2 4 = .ok (.aload_n 2, 1) := dk_44 (dk_at dksX15_compare_2_0 4 rfl rfl)
theorem dX15_compare_2_5 : decode cX15_compare_2 5 = .ok (.getfield 7, 3) := dk_180 0 7 (dk_at dksX15_compare_2_0 5 rfl rfl)
theorem dX15_compare_2_8 : decode cX15_compare_2 8 = .ok (.invokestatic 13, 3) := dk_184 0 13 (dk_at dksX15_compare_2_0 8 rfl rfl)
theorem dX15_compare_2_11 : decode cX15_compare_2 11 = .ok (.ireturn, 1) := dk_172 (dk_at dksX15_compare_2_0 11 rfl rfl)
abbrev cX15_init : ByteArray := prog_4_method_1_code
def yX15_init : MethodName := ⟨RX15, "<init>", "()V"⟩
theorem dX15_init_0 : decode cX15_init 0 = .ok (.aload_n 0, 1) := by decide +kernel
theorem dX15_init_1 : decode cX15_init 1 = .ok (.invokespecial 1, 3) := by decide +kernel
theorem dX15_init_4 : decode cX15_init 4 = .ok (.return_, 1) := by decide +kernel
theorem q238 : (Jvm.Cond.initialized "CountyGazetteer$ByName") ∈ lw_all := lw_g (lw_at lw_m1 62 rfl) rfl
theorem q404 : (Jvm.Cond.selects "CountyGazetteer$ByName" ({ cls := "java/lang/Object", name := "getClass", desc := "()Ljava/lang/Class;" } : Jvm.MethodName) ({ cls := "java/lang/Object", name := "getClass", desc := "()Ljava/lang/Class;" } : Jvm.MethodName)) ∈ lw_all := lw_g (lw_at lw_m1 228 rfl) rfl
theorem q1708 : (Jvm.Cond.castable "CountyGazetteer$ByName" "java/util/Comparator") ∈ lw_tbl := lw_at lw_m7 92 rfl
theorem q1709 : (Jvm.Cond.selects "CountyGazetteer$ByName" ({ cls := "java/util/Comparator", name := "compare", desc := "(Ljava/lang/Object;Ljava/lang/Object;)I" } : Jvm.MethodName) ({ cls := "CountyGazetteer$ByName", name := "compare", desc := "(Ljava/lang/Object;Ljava/lang/Object;)I" } : Jvm.MethodName)) ∈ lw_all := lw_g (lw_at lw_m7 93 rfl) rfl
theorem q1710 : (Jvm.Cond.unhidden "CountyGazetteer$ByName" "compare" "(Ljava/lang/Object;Ljava/lang/Object;)I") ∈ lw_tbl := lw_at lw_m7 94 rfl
theorem q1711 : (Jvm.Cond.instanceMethod ({ cls := "CountyGazetteer$ByName", name := "compare", desc := "(Ljava/lang/Object;Ljava/lang/Object;)I" } : Jvm.MethodName)) ∈ lw_all := lw_g (lw_at lw_m7 95 rfl) rfl
theorem q1712 : (Jvm.Cond.publicMethod ({ cls := "CountyGazetteer$ByName", name := "compare", desc := "(Ljava/lang/Object;Ljava/lang/Object;)I" } : Jvm.MethodName)) ∈ lw_tbl := lw_at lw_m7 96 rfl
theorem q1713 : (Jvm.Cond.code ({ cls := "CountyGazetteer$ByName", name := "compare", desc := "(Ljava/lang/Object;Ljava/lang/Object;)I" } : Jvm.MethodName) prog_4_method_3_code (3 : Nat) (Option.some Jvm.ClassFile.FieldType.int)) ∈ lw_all := lw_g (lw_at lw_m7 97 rfl) rfl
theorem q1714 : (Jvm.Cond.classLink "CountyGazetteer$ByName" (8 : Nat) "CountyGazetteer$Block") ∈ lw_all := lw_g (lw_at lw_m7 98 rfl) rfl
theorem q1715 : (Jvm.Cond.methodLink "CountyGazetteer$ByName" (19 : Nat) ({ cls := "CountyGazetteer$ByName", name := "compare", desc := "(LCountyGazetteer$Block;LCountyGazetteer$Block;)I" } : Jvm.MethodName)) ∈ lw_all := lw_g (lw_at lw_m7 99 rfl) rfl
theorem q1716 : (Jvm.Cond.instanceMethod ({ cls := "CountyGazetteer$ByName", name := "compare", desc := "(LCountyGazetteer$Block;LCountyGazetteer$Block;)I" } : Jvm.MethodName)) ∈ lw_all := lw_g (lw_at lw_m7 100 rfl) rfl
theorem q1717 : (Jvm.Cond.selects "CountyGazetteer$ByName" ({ cls := "CountyGazetteer$ByName", name := "compare", desc := "(LCountyGazetteer$Block;LCountyGazetteer$Block;)I" } : Jvm.MethodName) ({ cls := "CountyGazetteer$ByName", name := "compare", desc := "(LCountyGazetteer$Block;LCountyGazetteer$Block;)I" } : Jvm.MethodName)) ∈ lw_all := lw_g (lw_at lw_m7 101 rfl) rfl
theorem q1718 : (Jvm.Cond.code ({ cls := "CountyGazetteer$ByName", name := "compare", desc := "(LCountyGazetteer$Block;LCountyGazetteer$Block;)I" } : Jvm.MethodName) prog_4_method_2_code (3 : Nat) (Option.some Jvm.ClassFile.FieldType.int)) ∈ lw_all := lw_g (lw_at lw_m7 102 rfl) rfl
theorem q1719 : (Jvm.Cond.methodLink "CountyGazetteer$ByName" (13 : Nat) ({ cls := "CountyGazetteer$Named", name := "compare", desc := "(Ljava/lang/CharSequence;Ljava/lang/CharSequence;)I" } : Jvm.MethodName)) ∈ lw_all := lw_g (lw_at lw_m7 103 rfl) rfl
theorem q2527 : (Jvm.Cond.fieldLinkNest "CountyGazetteer$ByName" (7 : Nat) "CountyGazetteer$Block" "name" "Ljava/lang/String;" "CountyGazetteer") ∈ lw_tbl := lw_at lw_m10 191 rfl
theorem q2610 : (Jvm.Cond.instantiable "CountyGazetteer$ByName" (0 : Nat)) ∈ lw_all := lw_g (lw_at lw_m11 34 rfl) rfl
theorem q2612 : (Jvm.Cond.instanceMethod ({ cls := "CountyGazetteer$ByName", name := "<init>", desc := "()V" } : Jvm.MethodName)) ∈ lw_all := lw_g (lw_at lw_m11 36 rfl) rfl
theorem q2613 : (Jvm.Cond.code ({ cls := "CountyGazetteer$ByName", name := "<init>", desc := "()V" } : Jvm.MethodName) prog_4_method_1_code (1 : Nat) (Option.none : Option Jvm.ClassFile.FieldType)) ∈ lw_all := lw_g (lw_at lw_m11 37 rfl) rfl
theorem q2614 : (Jvm.Cond.methodLink "CountyGazetteer$ByName" (1 : Nat) ({ cls := "java/lang/Object", name := "<init>", desc := "()V" } : Jvm.MethodName)) ∈ lw_all := lw_g (lw_at lw_m11 38 rfl) rfl
theorem q2615 : (Jvm.Cond.superclass "CountyGazetteer$ByName" "java/lang/Object") ∈ lw_all := lw_g (lw_at lw_m11 39 rfl) rfl
theorem q2811 : (Jvm.Cond.selects "CountyGazetteer$ByName" ({ cls := "java/lang/Object", name := "equals", desc := "(Ljava/lang/Object;)Z" } : Jvm.MethodName) ({ cls := "java/lang/Object", name := "equals", desc := "(Ljava/lang/Object;)Z" } : Jvm.MethodName)) ∈ lw_all := lw_g (lw_at lw_m11 235 rfl) rfl
theorem q4515 : (Jvm.Cond.castable "CountyGazetteer$ByName" "java/lang/Object") ∈ lw_tbl := lw_at lw_m19 19 rfl

/-! CountyGazetteer$Split -/
set_option maxRecDepth 100000
def RX16 : String := "CountyGazetteer$Split"
def TX16 : u_T := fun k => match k with
  | 0 => ("CountyGazetteer$Split", "blocks", "[LCountyGazetteer$Block;", true)
  | 1 => ("CountyGazetteer$Split", "lines", "I", true)
  | _ => ("CountyGazetteer$Split", "starts", "Ljava/util/LinkedList;", true)
def tyX16 : Nat → FieldType := fun k => match k with
  | 0 => .array (.object "CountyGazetteer$Block")
  | 1 => .int
  | _ => .object "java/util/LinkedList"
abbrev wsX160 : List Cond := u_ws RX16 TX16 3
theorem nmX16 : ∀ a, a < 3 → ∀ b, b < 3 → a ≠ b → (TX16 a).2.1 ≠ (TX16 b).2.1 := by decide +kernel
theorem tyX16_ok : ∀ k, k < 3 → parseFieldDescriptor (TX16 k).2.2.1 = some (tyX16 k) := by decide +kernel
abbrev cX16_init : ByteArray := prog_15_method_1_code
def yX16_init : MethodName := ⟨RX16, "<init>", "([LCountyGazetteer$Block;II)V"⟩
def dkwX16_init_3 : List UInt8 := [182, 0, 26, 54, 6, 177]
abbrev dktX16_init_3 : List UInt8 := dkwX16_init_3 ++ []
def dkwX16_init_2 : List UInt8 := [42, 21, 5, 4, 100, 182, 0, 26, 21, 4, 160, 0, 9, 132, 5, 255, 167, 255, 229, 42, 21, 5]
abbrev dktX16_init_2 : List UInt8 := dkwX16_init_2 ++ dktX16_init_3
def dkwX16_init_1 : List UInt8 := [181, 0, 22, 42, 29, 182, 0, 26, 54, 4, 29, 54, 5, 21, 4, 158, 0, 28, 21, 5, 4, 164, 0, 22]
abbrev dktX16_init_1 : List UInt8 := dkwX16_init_1 ++ dktX16_init_2
def dkwX16_init_0 : List UInt8 := [42, 183, 0, 3, 42, 187, 0, 9, 89, 183, 0, 11, 181, 0, 12, 42, 43, 181, 0, 18, 42, 28]
abbrev dktX16_init_0 : List UInt8 := dkwX16_init_0 ++ dktX16_init_1
theorem dksX16_init_0 : cX16_init.data.toList.drop 0 = dktX16_init_0 := by decide +kernel
theorem dksX16_init_1 : cX16_init.data.toList.drop 22 = dktX16_init_1 := dk_seg dksX16_init_0 22 rfl rfl
theorem dksX16_init_2 : cX16_init.data.toList.drop 46 = dktX16_init_2 := dk_seg dksX16_init_1 24 rfl rfl
theorem dksX16_init_3 : cX16_init.data.toList.drop 68 = dktX16_init_3 := dk_seg dksX16_init_2 22 rfl rfl
theorem dX16_init_0 : decode cX16_init 0 = .ok (.aload_n 0, 1) := dk_42 (dk_at dksX16_init_0 0 rfl rfl)
theorem dX16_init_1 : decode cX16_init 1 = .ok (.invokespecial 3, 3) := dk_183 0 3 (dk_at dksX16_init_0 1 rfl rfl)
theorem dX16_init_4 : decode cX16_init 4 = .ok (.aload_n 0, 1) := dk_42 (dk_at dksX16_init_0 4 rfl rfl)
theorem dX16_init_5 : decode cX16_init 5 = .ok (.new 9, 3) := dk_187 0 9 (dk_at dksX16_init_0 5 rfl rfl)
theorem dX16_init_8 : decode cX16_init 8 = .ok (.dup, 1) := dk_89 (dk_at dksX16_init_0 8 rfl rfl)
theorem dX16_init_9 : decode cX16_init 9 = .ok (.invokespecial 11, 3) := dk_183 0 11 (dk_at dksX16_init_0 9 rfl rfl)
theorem dX16_init_12 : decode cX16_init 12 = .ok (.putfield 12, 3) := dk_181 0 12 (dk_at dksX16_init_0 12 rfl rfl)
theorem dX16_init_15 : decode cX16_init 15 = .ok (.aload_n 0, 1) := dk_42 (dk_at dksX16_init_0 15 rfl rfl)
theorem dX16_init_16 : decode cX16_init 16 = .ok (.aload_n 1, 1) := dk_43 (dk_at dksX16_init_0 16 rfl rfl)
theorem dX16_init_17 : decode cX16_init 17 = .ok (.putfield 18, 3) := dk_181 0 18 (dk_at dksX16_init_0 17 rfl rfl)
theorem dX16_init_20 : decode cX16_init 20 = .ok (.aload_n 0, 1) := dk_42 (dk_at dksX16_init_0 20 rfl rfl)
theorem dX16_init_21 : decode cX16_init 21 = .ok (.iload_n 2, 1) := dk_28 (dk_at dksX16_init_0 21 rfl rfl)
theorem dX16_init_22 : decode cX16_init 22 = .ok (.putfield 22, 3) := dk_181 0 22 (dk_at dksX16_init_1 0 rfl rfl)
theorem dX16_init_25 : decode cX16_init 25 = .ok (.aload_n 0, 1) := dk_42 (dk_at dksX16_init_1 3 rfl rfl)
theorem dX16_init_26 : decode cX16_init 26 = .ok (.iload_n 3, 1) := dk_29 (dk_at dksX16_init_1 4 rfl rfl)
theorem dX16_init_27 : decode cX16_init 27 = .ok (.invokevirtual 26, 3) := dk_182 0 26 (dk_at dksX16_init_1 5 rfl rfl)
theorem dX16_init_30 : decode cX16_init 30 = .ok (.istore 4, 2) := dk_54 4 (dk_at dksX16_init_1 8 rfl rfl)
theorem dX16_init_32 : decode cX16_init 32 = .ok (.iload_n 3, 1) := dk_29 (dk_at dksX16_init_1 10 rfl rfl)
theorem dX16_init_33 : decode cX16_init 33 = .ok (.istore 5, 2) := dk_54 5 (dk_at dksX16_init_1 11 rfl rfl)
theorem dX16_init_35 : decode cX16_init 35 = .ok (.iload 4, 2) := dk_21 4 (dk_at dksX16_init_1 13 rfl rfl)
theorem dX16_init_37 : decode cX16_init 37 = .ok (.ifCond .le 28, 3) := dk_158 0 28 (dk_at dksX16_init_1 15 rfl rfl)
theorem dX16_init_40 : decode cX16_init 40 = .ok (.iload 5, 2) := dk_21 5 (dk_at dksX16_init_1 18 rfl rfl)
theorem dX16_init_42 : decode cX16_init 42 = .ok (.iconst 1, 1) := dk_4 (dk_at dksX16_init_1 20 rfl rfl)
theorem dX16_init_43 : decode cX16_init 43 = .ok (.if_icmp .le 22, 3) := dk_164 0 22 (dk_at dksX16_init_1 21 rfl rfl)
theorem dX16_init_46 : decode cX16_init 46 = .ok (.aload_n 0, 1) := dk_42 (dk_at dksX16_init_2 0 rfl rfl)
theorem dX16_init_47 : decode cX16_init 47 = .ok (.iload 5, 2) := dk_21 5 (dk_at dksX16_init_2 1 rfl rfl)
theorem dX16_init_49 : decode cX16_init 49 = .ok (.iconst 1, 1) := dk_4 (dk_at dksX16_init_2 3 rfl rfl)
theorem dX16_init_50 : decode cX16_init 50 = .ok (.isub, 1) := dk_100 (dk_at dksX16_init_2 4 rfl rfl)
theorem dX16_init_51 : decode cX16_init 51 = .ok (.invokevirtual 26, 3) := dk_182 0 26 (dk_at dksX16_init_2 5 rfl rfl)
theorem dX16_init_54 : decode cX16_init 54 = .ok (.iload 4, 2) := dk_21 4 (dk_at dksX16_init_2 8 rfl rfl)
theorem dX16_init_56 : decode cX16_init 56 = .ok (.if_icmp .ne 9, 3) := dk_160 0 9 (dk_at dksX16_init_2 10 rfl rfl)
theorem dX16_init_59 : decode cX16_init 59 = .ok (.iinc 5 (-1), 3) := dk_132 5 255 (dk_at dksX16_init_2 13 rfl rfl)
theorem dX16_init_62 : decode cX16_init 62 = .ok (.goto (-27), 3) := dk_167 255 229 (dk_at dksX16_init_2 16 rfl rfl)
theorem dX16_init_65 : decode cX16_init 65 = .ok (.aload_n 0, 1) := dk_42 (dk_at dksX16_init_2 19 rfl rfl)
theorem dX16_init_66 : decode cX16_init 66 = .ok (.iload 5, 2) := dk_21 5 (dk_at dksX16_init_2 20 rfl rfl)
theorem dX16_init_68 : decode cX16_init 68 = .ok (.invokevirtual 26, 3) := dk_182 0 26 (dk_at dksX16_init_3 0 rfl rfl)
theorem dX16_init_71 : decode cX16_init 71 = .ok (.istore 6, 2) := dk_54 6 (dk_at dksX16_init_3 3 rfl rfl)
theorem dX16_init_73 : decode cX16_init 73 = .ok (.return_, 1) := dk_177 (dk_at dksX16_init_3 5 rfl rfl)
abbrev cX16_cuts : ByteArray := prog_15_method_2_code
def yX16_cuts : MethodName := ⟨RX16, "cuts", "(I)I"⟩
def dkwX16_cuts_4 : List UInt8 := [167, 255, 175, 42, 180, 0, 12, 182, 0, 48, 172]
abbrev dktX16_cuts_4 : List UInt8 := dkwX16_cuts_4 ++ []
def dkwX16_cuts_3 : List UInt8 := [184, 0, 38, 182, 0, 44, 21, 5, 153, 0, 8, 21, 4, 167, 0, 7, 28, 21, 4, 96, 61, 132, 3, 1]
abbrev dktX16_cuts_3 : List UInt8 := dkwX16_cuts_3 ++ dktX16_cuts_4
def dkwX16_cuts_2 : List UInt8 := [21, 4, 96, 27, 164, 0, 7, 4, 167, 0, 4, 3, 54, 5, 21, 5, 153, 0, 14, 42, 180, 0, 12, 29]
abbrev dktX16_cuts_2 : List UInt8 := dkwX16_cuts_2 ++ dktX16_cuts_3
def dkwX16_cuts_1 : List UInt8 := [180, 0, 18, 29, 50, 42, 180, 0, 22, 182, 0, 33, 54, 4, 21, 4, 27, 164, 0, 5, 2, 172, 28]
abbrev dktX16_cuts_1 : List UInt8 := dkwX16_cuts_1 ++ dktX16_cuts_2
def dkwX16_cuts_0 : List UInt8 := [42, 180, 0, 12, 182, 0, 30, 27, 4, 96, 61, 3, 62, 29, 42, 180, 0, 18, 190, 162, 0, 78, 42]
abbrev dktX16_cuts_0 : List UInt8 := dkwX16_cuts_0 ++ dktX16_cuts_1
theorem dksX16_cuts_0 : cX16_cuts.data.toList.drop 0 = dktX16_cuts_0 := by decide +kernel
theorem dksX16_cuts_1 : cX16_cuts.data.toList.drop 23 = dktX16_cuts_1 := dk_seg dksX16_cuts_0 23 rfl rfl
theorem dksX16_cuts_2 : cX16_cuts.data.toList.drop 46 = dktX16_cuts_2 := dk_seg dksX16_cuts_1 23 rfl rfl
theorem dksX16_cuts_3 : cX16_cuts.data.toList.drop 70 = dktX16_cuts_3 := dk_seg dksX16_cuts_2 24 rfl rfl
theorem dksX16_cuts_4 : cX16_cuts.data.toList.drop 94 = dktX16_cuts_4 := dk_seg dksX16_cuts_3 24 rfl rfl
theorem dX16_cuts_0 : decode cX16_cuts 0 = .ok (.aload_n 0, 1) := dk_42 (dk_at dksX16_cuts_0 0 rfl rfl)
theorem dX16_cuts_1 : decode cX16_cuts 1 = .ok (.getfield 12, 3) := dk_180 0 12 (dk_at dksX16_cuts_0 1 rfl rfl)
theorem dX16_cuts_4 : decode cX16_cuts 4 = .ok (.invokevirtual 30, 3) := dk_182 0 30 (dk_at dksX16_cuts_0 4 rfl rfl)
theorem dX16_cuts_7 : decode cX16_cuts 7 = .ok (.iload_n 1, 1) := dk_27 (dk_at dksX16_cuts_0 7 rfl rfl)
theorem dX16_cuts_8 : decode cX16_cuts 8 = .ok (.iconst 1, 1) := dk_4 (dk_at dksX16_cuts_0 8 rfl rfl)
theorem dX16_cuts_9 : decode cX16_cuts 9 = .ok (.iadd, 1) := dk_96 (dk_at dksX16_cuts_0 9 rfl rfl)
theorem dX16_cuts_10 : decode cX16_cuts 10 = .ok (.istore_n 2, 1) := dk_61 (dk_at dksX16_cuts_0 10 rfl rfl)
theorem dX16_cuts_11 : decode cX16_cuts 11 = .ok (.iconst 0, 1) := dk_3 (dk_at dksX16_cuts_0 11 rfl rfl)
theorem dX16_cuts_12 : decode cX16_cuts 12 = .ok (.istore_n 3, 1) := dk_62 (dk_at dksX16_cuts_0 12 rfl rfl)
theorem dX16_cuts_13 : decode cX16_cuts 13 = .ok (.iload_n 3, 1) := dk_29 (dk_at dksX16_cuts_0 13 rfl rfl)
theorem dX16_cuts_14 : decode cX16_cuts 14 = .ok (.aload_n 0, 1) := dk_42 (dk_at dksX16_cuts_0 14 rfl rfl)
theorem dX16_cuts_15 : decode cX16_cuts 15 = .ok (.getfield 18, 3) := dk_180 0 18 (dk_at dksX16_cuts_0 15 rfl rfl)
theorem dX16_cuts_18 : decode cX16_cuts 18 = .ok (.arraylength, 1) := dk_190 (dk_at dksX16_cuts_0 18 rfl rfl)
theorem dX16_cuts_19 : decode cX16_cuts 19 = .ok (.if_icmp .ge 78, 3) := dk_162 0 78 (dk_at dksX16_cuts_0 19 rfl rfl)
theorem dX16_cuts_22 : decode cX16_cuts 22 = .ok (.aload_n 0, 1) := dk_42 (dk_at dksX16_cuts_0 22 rfl rfl)
theorem dX16_cuts_23 : decode cX16_cuts 23 = .ok (.getfield 18, 3) := dk_180 0 18 (dk_at dksX16_cuts_1 0 rfl rfl)
theorem dX16_cuts_26 : decode cX16_cuts 26 = .ok (.iload_n 3, 1) := dk_29 (dk_at dksX16_cuts_1 3 rfl rfl)
theorem dX16_cuts_27 : decode cX16_cuts 27 = .ok (.aaload, 1) := dk_50 (dk_at dksX16_cuts_1 4 rfl rfl)
theorem dX16_cuts_28 : decode cX16_cuts 28 = .ok (.aload_n 0, 1) := dk_42 (dk_at dksX16_cuts_1 5 rfl rfl)
theorem dX16_cuts_29 : decode cX16_cuts 29 = .ok (.getfield 22, 3) := dk_180 0 22 (dk_at dksX16_cuts_1 6 rfl rfl)
theorem dX16_cuts_32 : decode cX16_cuts 32 = .ok (.invokevirtual 33, 3) := dk_182 0 33 (dk_at dksX16_cuts_1 9 rfl rfl)
theorem dX16_cuts_35 : decode cX16_cuts 35 = .ok (.istore 4, 2) := dk_54 4 (dk_at dksX16_cuts_1 12 rfl rfl)
theorem dX16_cuts_37 : decode cX16_cuts 37 = .ok (.iload 4, 2) := dk_21 4 (dk_at dksX16_cuts_1 14 rfl rfl)
theorem dX16_cuts_39 : decode cX16_cuts 39 = .ok (.iload_n 1, 1) := dk_27 (dk_at dksX16_cuts_1 16 rfl rfl)
theorem dX16_cuts_40 : decode cX16_cuts 40 = .ok (.if_icmp .le 5, 3) := dk_164 0 5 (dk_at dksX16_cuts_1 17 rfl rfl)
theorem dX16_cuts_43 : decode cX16_cuts 43 = .ok (.iconst (-1), 1) := dk_2 (dk_at dksX16_cuts_1 20 rfl rfl)
theorem dX16_cuts_44 : decode cX16_cuts 44 = .ok (.ireturn, 1) := dk_172 (dk_at dksX16_cuts_1 21 rfl rfl)
theorem dX16_cuts_45 : decode cX16_cuts 45 = .ok (.iload_n 2, 1) := dk_28 (dk_at dksX16_cuts_1 22 rfl rfl)
theorem dX16_cuts_46 : decode cX16_cuts 46 = .ok (.iload 4, 2) := dk_21 4 (dk_at dksX16_cuts_2 0 rfl rfl)
theorem dX16_cuts_48 : decode cX16_cuts 48 = .ok (.iadd, 1) := dk_96 (dk_at dksX16_cuts_2 2 rfl rfl)
theorem dX16_cuts_49 : decode cX16_cuts 49 = .ok (.iload_n 1, 1) := dk_27 (dk_at dksX16_cuts_2 3 rfl rfl)
theorem dX16_cuts_50 : decode cX16_cuts 50 = .ok (.if_icmp .le 7, 3) := dk_164 0 7 (dk_at dksX16_cuts_2 4 rfl rfl)
theorem dX16_cuts_53 : decode cX16_cuts 53 = .ok (.iconst 1, 1) := dk_4 (dk_at dksX16_cuts_2 7 rfl rfl)
theorem dX16_cuts_54 : decode cX16_cuts 54 = .ok (.goto 4, 3) := dk_167 0 4 (dk_at dksX16_cuts_2 8 rfl rfl)
theorem dX16_cuts_57 : decode cX16_cuts 57 = .ok (.iconst 0, 1) := dk_3 (dk_at dksX16_cuts_2 11 rfl rfl)
theorem dX16_cuts_58 : decode cX16_cuts 58 = .ok (.istore 5, 2) := dk_54 5 (dk_at dksX16_cuts_2 12 rfl rfl)
theorem dX16_cuts_60 : decode cX16_cuts 60 = .ok (.iload 5, 2) := dk_21 5 (dk_at dksX16_cuts_2 14 rfl rfl)
theorem dX16_cuts_62 : decode cX16_cuts 62 = .ok (.ifCond .eq 14, 3) := dk_153 0 14 (dk_at dksX16_cuts_2 16 rfl rfl)
theorem dX16_cuts_65 : decode cX16_cuts 65 = .ok (.aload_n 0, 1) := dk_42 (dk_at dksX16_cuts_2 19 rfl rfl)
theorem dX16_cuts_66 : decode cX16_cuts 66 = .ok (.getfield 12, 3) := dk_180 0 12 (dk_at dksX16_cuts_2 20 rfl rfl)
theorem dX16_cuts_69 : decode cX16_cuts 69 = .ok (.iload_n 3, 1) := dk_29 (dk_at dksX16_cuts_2 23 rfl rfl)
theorem dX16_cuts_70 : decode cX16_cuts 70 = .ok (.invokestatic 38, 3) := dk_184 0 38 (dk_at dksX16_cuts_3 0 rfl rfl)
theorem dX16_cuts_73 : decode cX16_cuts 73 = .ok (.invokevirtual 44, 3) := dk_182 0 44 (dk_at dksX16_cuts_3 3 rfl rfl)
theorem dX16_cuts_76 : decode cX16_cuts 76 = .ok (.iload 5, 2) := dk_21 5 (dk_at dksX16_cuts_3 6 rfl rfl)
theorem dX16_cuts_78 : decode cX16_cuts 78 = .ok (.ifCond .eq 8, 3) := dk_153 0 8 (dk_at dksX16_cuts_3 8 rfl rfl)
theorem dX16_cuts_81 : decode cX16_cuts 81 = .ok (.iload 4, 2) := dk_21 4 (dk_at dksX16_cuts_3 11 rfl rfl)
theorem dX16_cuts_83 : decode cX16_cuts 83 = .ok (.goto 7, 3) := dk_167 0 7 (dk_at dksX16_cuts_3 13 rfl rfl)
theorem dX16_cuts_86 : decode cX16_cuts 86 = .ok (.iload_n 2, 1) := dk_28 (dk_at dksX16_cuts_3 16 rfl rfl)
theorem dX16_cuts_87 : decode cX16_cuts 87 = .ok (.iload 4, 2) := dk_21 4 (dk_at dksX16_cuts_3 17 rfl rfl)
theorem dX16_cuts_89 : decode cX16_cuts 89 = .ok (.iadd, 1) := dk_96 (dk_at dksX16_cuts_3 19 rfl rfl)
theorem dX16_cuts_90 : decode cX16_cuts 90 = .ok (.istore_n 2, 1) := dk_61 (dk_at dksX16_cuts_3 20 rfl rfl)
theorem dX16_cuts_91 : decode cX16_cuts 91 = .ok (.iinc 3 1, 3) := dk_132 3 1 (dk_at dksX16_cuts_3 21 rfl rfl)
theorem dX16_cuts_94 : decode cX16_cuts 94 = .ok (.goto (-81), 3) := dk_167 255 175 (dk_at dksX16_cuts_4 0 rfl rfl)
theorem dX16_cuts_97 : decode cX16_cuts 97 = .ok (.aload_n 0, 1) := dk_42 (dk_at dksX16_cuts_4 3 rfl rfl)
theorem dX16_cuts_98 : decode cX16_cuts 98 = .ok (.getfield 12, 3) := dk_180 0 12 (dk_at dksX16_cuts_4 4 rfl rfl)
theorem dX16_cuts_101 : decode cX16_cuts 101 = .ok (.invokevirtual 48, 3) := dk_182 0 48 (dk_at dksX16_cuts_4 7 rfl rfl)
theorem dX16_cuts_104 : decode cX16_cuts 104 = .ok (.ireturn, 1) := dk_172 (dk_at dksX16_cuts_4 10 rfl rfl)
abbrev cX16_volumes : ByteArray := prog_15_method_3_code
def yX16_volumes : MethodName := ⟨RX16, "volumes", "(I)I"⟩
def dkwX16_volumes_2 : List UInt8 := [180, 0, 12, 182, 0, 48, 172]
abbrev dktX16_volumes_2 : List UInt8 := dkwX16_volumes_2 ++ []
def dkwX16_volumes_1 : List UInt8 := [25, 5, 42, 180, 0, 22, 182, 0, 33, 27, 164, 0, 5, 2, 172, 132, 4, 1, 167, 255, 226, 42]
abbrev dktX16_volumes_1 : List UInt8 := dkwX16_volumes_1 ++ dktX16_volumes_2
def dkwX16_volumes_0 : List UInt8 := [42, 180, 0, 18, 77, 44, 190, 62, 3, 54, 4, 21, 4, 29, 162, 0, 30, 44, 21, 4, 50, 58, 5]
abbrev dktX16_volumes_0 : List UInt8 := dkwX16_volumes_0 ++ dktX16_volumes_1
theorem dksX16_volumes_0 : cX16_volumes.data.toList.drop 0 = dktX16_volumes_0 := by decide +kernel
theorem dksX16_volumes_1 : cX16_volumes.data.toList.drop 23 = dktX16_volumes_1 := dk_seg dksX16_volumes_0 23 rfl rfl
theorem dksX16_volumes_2 : cX16_volumes.data.toList.drop 45 = dktX16_volumes_2 := dk_seg dksX16_volumes_1 22 rfl rfl
theorem dX16_volumes_0 : decode cX16_volumes 0 = .ok (.aload_n 0, 1) := dk_42 (dk_at dksX16_volumes_0 0 rfl rfl)
theorem dX16_volumes_1 : decode cX16_volumes 1 = .ok (.getfield 18, 3) := dk_180 0 18 (dk_at dksX16_volumes_0 1 rfl rfl)
theorem dX16_volumes_4 : decode cX16_volumes 4 = .ok (.astore_n 2, 1) := dk_77 (dk_at dksX16_volumes_0 4 rfl rfl)
theorem dX16_volumes_5 : decode cX16_volumes 5 = .ok (.aload_n 2, 1) := dk_44 (dk_at dksX16_volumes_0 5 rfl rfl)
theorem dX16_volumes_6 : decode cX16_volumes 6 = .ok (.arraylength, 1) := dk_190 (dk_at dksX16_volumes_0 6 rfl rfl)
theorem dX16_volumes_7 : decode cX16_volumes 7 = .ok (.istore_n 3, 1) := dk_62 (dk_at dksX16_volumes_0 7 rfl rfl)
theorem dX16_volumes_8 : decode cX16_volumes 8 = .ok (.iconst 0, 1) := dk_3 (dk_at dksX16_volumes_0 8 rfl rfl)
theorem dX16_volumes_9 : decode cX16_volumes 9 = .ok (.istore 4, 2) := dk_54 4 (dk_at dksX16_volumes_0 9 rfl rfl)
theorem dX16_volumes_11 : decode cX16_volumes 11 = .ok (.iload 4, 2) := dk_21 4 (dk_at dksX16_volumes_0 11 rfl rfl)
theorem dX16_volumes_13 : decode cX16_volumes 13 = .ok (.iload_n 3, 1) := dk_29 (dk_at dksX16_volumes_0 13 rfl rfl)
theorem dX16_volumes_14 : decode cX16_volumes 14 = .ok (.if_icmp .ge 30, 3) := dk_162 0 30 (dk_at dksX16_volumes_0 14 rfl rfl)
theorem dX16_volumes_17 : decode cX16_volumes 17 = .ok (.aload_n 2, 1) := dk_44 (dk_at dksX16_volumes_0 17 rfl rfl)
theorem dX16_volumes_18 : decode cX16_volumes 18 = .ok (.iload 4, 2) := dk_21 4 (dk_at dksX16_volumes_0 18 rfl rfl)
theorem dX16_volumes_20 : decode cX16_volumes 20 = .ok (.aaload, 1) := dk_50 (dk_at dksX16_volumes_0 20 rfl rfl)
theorem dX16_volumes_21 : decode cX16_volumes 21 = .ok (.astore 5, 2) := dk_58 5 (dk_at dksX16_volumes_0 21 rfl rfl)
theorem dX16_volumes_23 : decode cX16_volumes 23 = .ok (.aload 5, 2) := dk_25 5 (dk_at dksX16_volumes_1 0 rfl rfl)
theorem dX16_volumes_25 : decode cX16_volumes 25 = .ok (.aload_n 0, 1) := dk_42 (dk_at dksX16_volumes_1 2 rfl rfl)
theorem dX16_volumes_26 : decode cX16_volumes 26 = .ok (.getfield 22, 3) := dk_180 0 22 (dk_at dksX16_volumes_1 3 rfl rfl)
theorem dX16_volumes_29 : decode cX16_volumes 29 = .ok (.invokevirtual 33, 3) := dk_182 0 33 (dk_at dksX16_volumes_1 6 rfl rfl)
theorem dX16_volumes_32 : decode cX16_volumes 32 = .ok (.iload_n 1, 1) := dk_27 (dk_at dksX16_volumes_1 9 rfl rfl)
theorem dX16_volumes_33 : decode cX16_volumes 33 = .ok (.if_icmp .le 5, 3) := dk_164 0 5 (dk_at dksX16_volumes_1 10 rfl rfl)
theorem dX16_volumes_36 : decode cX16_volumes 36 = .ok (.iconst (-1), 1) := dk_2 (dk_at dksX16_volumes_1 13 rfl rfl)
theorem dX16_volumes_37 : decode cX16_volumes 37 = .ok (.ireturn, 1) := dk_172 (dk_at dksX16_volumes_1 14 rfl rfl)
theorem dX16_volumes_38 : decode cX16_volumes 38 = .ok (.iinc 4 1, 3) := dk_132 4 1 (dk_at dksX16_volumes_1 15 rfl rfl)
theorem dX16_volumes_41 : decode cX16_volumes 41 = .ok (.goto (-30), 3) := dk_167 255 226 (dk_at dksX16_volumes_1 18 rfl rfl)
theorem dX16_volumes_44 : decode cX16_volumes 44 = .ok (.aload_n 0, 1) := dk_42 (dk_at dksX16_volumes_1 21 rfl rfl)
theorem dX16_volumes_45 : decode cX16_volumes 45 = .ok (.getfield 12, 3) := dk_180 0 12 (dk_at dksX16_volumes_2 0 rfl rfl)
theorem dX16_volumes_48 : decode cX16_volumes 48 = .ok (.invokevirtual 48, 3) := dk_182 0 48 (dk_at dksX16_volumes_2 3 rfl rfl)
theorem dX16_volumes_51 : decode cX16_volumes 51 = .ok (.ireturn, 1) := dk_172 (dk_at dksX16_volumes_2 6 rfl rfl)
abbrev cX16_begin : ByteArray := prog_15_method_4_code
def yX16_begin : MethodName := ⟨RX16, "begin", "(I)I"⟩
def dkwX16_begin_1 : List UInt8 := [182, 0, 56, 167, 0, 8, 42, 180, 0, 18, 190, 172]
abbrev dktX16_begin_1 : List UInt8 := dkwX16_begin_1 ++ []
def dkwX16_begin_0 : List UInt8 := [27, 42, 180, 0, 12, 182, 0, 48, 162, 0, 20, 42, 180, 0, 12, 27, 182, 0, 52, 192, 0, 39]
abbrev dktX16_begin_0 : List UInt8 := dkwX16_begin_0 ++ dktX16_begin_1
theorem dksX16_begin_0 : cX16_begin.data.toList.drop 0 = dktX16_begin_0 := by decide +kernel
theorem dksX16_begin_1 : cX16_begin.data.toList.drop 22 = dktX16_begin_1 := dk_seg dksX16_begin_0 22 rfl rfl
theorem dX16_begin_0 : decode cX16_begin 0 = .ok (.iload_n 1, 1) := dk_27 (dk_at dksX16_begin_0 0 rfl rfl)
theorem dX16_begin_1 : decode cX16_begin 1 = .ok (.aload_n 0, 1) := dk_42 (dk_at dksX16_begin_0 1 rfl rfl)
theorem dX16_begin_2 : decode cX16_begin 2 = .ok (.getfield 12, 3) := dk_180 0 12 (dk_at dksX16_begin_0 2 rfl rfl)
theorem dX16_begin_5 : decode cX16_begin 5 = .ok (.invokevirtual 48, 3) := dk_182 0 48 (dk_at dksX16_begin_0 5 rfl rfl)
theorem dX16_begin_8 : decode cX16_begin 8 = .ok (.if_icmp .ge 20, 3) := dk_162 0 20 (dk_at dksX16_begin_0 8 rfl rfl)
theorem dX16_begin_11 : decode cX16_begin 11 = .ok (.aload_n 0, 1) := dk_42 (dk_at dksX16_begin_0 11 rfl rfl)
theorem dX16_begin_12 : decode cX16_begin 12 = .ok (.getfield 12, 3) := dk_180 0 12 (dk_at dksX16_begin_0 12 rfl rfl)
theorem dX16_begin_15 : decode cX16_begin 15 = .ok (.iload_n 1, 1) := dk_27 (dk_at dksX16_begin_0 15 rfl rfl)
theorem dX16_begin_16 : decode cX16_begin 16 = .ok (.invokevirtual 52, 3) := dk_182 0 52 (dk_at dksX16_begin_0 16 rfl rfl)
theorem dX16_begin_19 : decode cX16_begin 19 = .ok (.checkcast 39, 3) := dk_192 0 39 (dk_at dksX16_begin_0 19 rfl rfl)
theorem dX16_begin_22 : decode cX16_begin 22 = .ok (.invokevirtual 56, 3) := dk_182 0 56 (dk_at dksX16_begin_1 0 rfl rfl)
theorem dX16_begin_25 : decode cX16_begin 25 = .ok (.goto 8, 3) := dk_167 0 8 (dk_at dksX16_begin_1 3 rfl rfl)
theorem dX16_begin_28 : decode cX16_begin 28 = .ok (.aload_n 0, 1) := dk_42 (dk_at dksX16_begin_1 6 rfl rfl)
theorem dX16_begin_29 : decode cX16_begin 29 = .ok (.getfield 18, 3) := dk_180 0 18 (dk_at dksX16_begin_1 7 rfl rfl)
theorem dX16_begin_32 : decode cX16_begin 32 = .ok (.arraylength, 1) := dk_190 (dk_at dksX16_begin_1 10 rfl rfl)
theorem dX16_begin_33 : decode cX16_begin 33 = .ok (.ireturn, 1) := dk_172 (dk_at dksX16_begin_1 11 rfl rfl)
abbrev cX16_pages : ByteArray := prog_15_method_5_code
def yX16_pages : MethodName := ⟨RX16, "pages", "(I)I"⟩
def dkwX16_pages_1 : List UInt8 := [29, 50, 42, 180, 0, 22, 182, 0, 33, 96, 61, 132, 3, 1, 167, 255, 226, 28, 172]
abbrev dktX16_pages_1 : List UInt8 := dkwX16_pages_1 ++ []
def dkwX16_pages_0 : List UInt8 := [3, 61, 42, 27, 182, 0, 59, 62, 29, 42, 27, 4, 96, 182, 0, 59, 162, 0, 25, 28, 42, 180, 0, 18]
abbrev dktX16_pages_0 : List UInt8 := dkwX16_pages_0 ++ dktX16_pages_1
theorem dksX16_pages_0 : cX16_pages.data.toList.drop 0 = dktX16_pages_0 := by decide +kernel
theorem dksX16_pages_1 : cX16_pages.data.toList.drop 24 = dktX16_pages_1 := dk_seg dksX16_pages_0 24 rfl rfl
theorem dX16_pages_0 : decode cX16_pages 0 = .ok (.iconst 0, 1) := dk_3 (dk_at dksX16_pages_0 0 rfl rfl)
theorem dX16_pages_1 : decode cX16_pages 1 = .ok (.istore_n 2, 1) := dk_61 (dk_at dksX16_pages_0 1 rfl rfl)
theorem dX16_pages_2 : decode cX16_pages 2 = .ok (.aload_n 0, 1) := dk_42 (dk_at dksX16_pages_0 2 rfl rfl)
theorem dX16_pages_3 : decode cX16_pages 3 = .ok (.iload_n 1, 1) := dk_27 (dk_at dksX16_pages_0 3 rfl rfl)
theorem dX16_pages_4 : decode cX16_pages 4 = .ok (.invokevirtual 59, 3) := dk_182 0 59 (dk_at dksX16_pages_0 4 rfl rfl)
theorem dX16_pages_7 : decode cX16_pages 7 = .ok (.istore_n 3, 1) := dk_62 (dk_at dksX16_pages_0 7 rfl rfl)
theorem dX16_pages_8 : decode cX16_pages 8 = .ok (.iload_n 3, 1) := dk_29 (dk_at dksX16_pages_0 8 rfl rfl)
theorem dX16_pages_9 : decode cX16_pages 9 = .ok (.aload_n 0, 1) := dk_42 (dk_at dksX16_pages_0 9 rfl rfl)
theorem dX16_pages_10 : decode cX16_pages 10 = .ok (.iload_n 1, 1) := dk_27 (dk_at dksX16_pages_0 10 rfl rfl)
theorem dX16_pages_11 : decode cX16_pages 11 = .ok (.iconst 1, 1) := dk_4 (dk_at dksX16_pages_0 11 rfl rfl)
theorem dX16_pages_12 : decode cX16_pages 12 = .ok (.iadd, 1) := dk_96 (dk_at dksX16_pages_0 12 rfl rfl)
theorem dX16_pages_13 : decode cX16_pages 13 = .ok (.invokevirtual 59, 3) := dk_182 0 59 (dk_at dksX16_pages_0 13 rfl rfl)
theorem dX16_pages_16 : decode cX16_pages 16 = .ok (.if_icmp .ge 25, 3) := dk_162 0 25 (dk_at dksX16_pages_0 16 rfl rfl)
theorem dX16_pages_19 : decode cX16_pages 19 = .ok (.iload_n 2, 1) := dk_28 (dk_at dksX16_pages_0 19 rfl rfl)
theorem dX16_pages_20 : decode cX16_pages 20 = .ok (.aload_n 0, 1) := dk_42 (dk_at dksX16_pages_0 20 rfl rfl)
theorem dX16_pages_21 : decode cX16_pages 21 = .ok (.getfield 18, 3) := dk_180 0 18 (dk_at dksX16_pages_0 21 rfl rfl)
theorem dX16_pages_24 : decode cX16_pages 24 = .ok (.iload_n 3, 1) := dk_29 (dk_at dksX16_pages_1 0 rfl rfl)
theorem dX16_pages_25 : decode cX16_pages 25 = .ok (.aaload, 1) := dk_50 (dk_at dksX16_pages_1 1 rfl rfl)
theorem dX16_pages_26 : decode cX16_pages 26 = .ok (.aload_n 0, 1) := dk_42 (dk_at dksX16_pages_1 2 rfl rfl)
theorem dX16_pages_27 : decode cX16_pages 27 = .ok (.getfield 22, 3) := dk_180 0 22 (dk_at dksX16_pages_1 3 rfl rfl)
theorem dX16_pages_30 : decode cX16_pages 30 = .ok (.invokevirtual 33, 3) := dk_182 0 33 (dk_at dksX16_pages_1 6 rfl rfl)
theorem dX16_pages_33 : decode cX16_pages 33 = .ok (.iadd, 1) := dk_96 (dk_at dksX16_pages_1 9 rfl rfl)
theorem dX16_pages_34 : decode cX16_pages 34 = .ok (.istore_n 2, 1) := dk_61 (dk_at dksX16_pages_1 10 rfl rfl)
theorem dX16_pages_35 : decode cX16_pages 35 = .ok (.iinc 3 1, 3) := dk_132 3 1 (dk_at dksX16_pages_1 11 rfl rfl)
theorem dX16_pages_38 : decode cX16_pages 38 = .ok (.goto (-30), 3) := dk_167 255 226 (dk_at dksX16_pages_1 14 rfl rfl)
theorem dX16_pages_41 : decode cX16_pages 41 = .ok (.iload_n 2, 1) := dk_28 (dk_at dksX16_pages_1 17 rfl rfl)
theorem dX16_pages_42 : decode cX16_pages 42 = .ok (.ireturn, 1) := dk_172 (dk_at dksX16_pages_1 18 rfl rfl)
theorem q241 : (Jvm.Cond.initialized "CountyGazetteer$Split") ∈ lw_all := lw_g (lw_at lw_m1 65 rfl) rfl
theorem q412 : (Jvm.Cond.selects "CountyGazetteer$Split" ({ cls := "java/lang/Object", name := "getClass", desc := "()Ljava/lang/Class;" } : Jvm.MethodName) ({ cls := "java/lang/Object", name := "getClass", desc := "()Ljava/lang/Class;" } : Jvm.MethodName)) ∈ lw_all := lw_g (lw_at lw_m1 236 rfl) rfl
theorem q2819 : (Jvm.Cond.selects "CountyGazetteer$Split" ({ cls := "java/lang/Object", name := "equals", desc := "(Ljava/lang/Object;)Z" } : Jvm.MethodName) ({ cls := "java/lang/Object", name := "equals", desc := "(Ljava/lang/Object;)Z" } : Jvm.MethodName)) ∈ lw_all := lw_g (lw_at lw_m12 3 rfl) rfl
theorem q3375 : (Jvm.Cond.instantiable "CountyGazetteer$Split" (3 : Nat)) ∈ lw_all := lw_g (lw_at lw_m14 79 rfl) rfl
theorem q3377 : (Jvm.Cond.instanceMethod ({ cls := "CountyGazetteer$Split", name := "<init>", desc := "([LCountyGazetteer$Block;II)V" } : Jvm.MethodName)) ∈ lw_all := lw_g (lw_at lw_m14 81 rfl) rfl
theorem q3378 : (Jvm.Cond.code ({ cls := "CountyGazetteer$Split", name := "<init>", desc := "([LCountyGazetteer$Block;II)V" } : Jvm.MethodName) prog_15_method_1_code (7 : Nat) (Option.none : Option Jvm.ClassFile.FieldType)) ∈ lw_all := lw_g (lw_at lw_m14 82 rfl) rfl
theorem q3379 : (Jvm.Cond.methodLink "CountyGazetteer$Split" (3 : Nat) ({ cls := "java/lang/Object", name := "<init>", desc := "()V" } : Jvm.MethodName)) ∈ lw_all := lw_g (lw_at lw_m14 83 rfl) rfl
theorem q3380 : (Jvm.Cond.classLink "CountyGazetteer$Split" (9 : Nat) "java/util/LinkedList") ∈ lw_all := lw_g (lw_at lw_m14 84 rfl) rfl
theorem q3381 : (Jvm.Cond.methodLink "CountyGazetteer$Split" (11 : Nat) ({ cls := "java/util/LinkedList", name := "<init>", desc := "()V" } : Jvm.MethodName)) ∈ lw_all := lw_g (lw_at lw_m14 85 rfl) rfl
theorem q3382 : (Jvm.Cond.methodLink "CountyGazetteer$Split" (26 : Nat) ({ cls := "CountyGazetteer$Split", name := "cuts", desc := "(I)I" } : Jvm.MethodName)) ∈ lw_all := lw_g (lw_at lw_m14 86 rfl) rfl
theorem q3383 : (Jvm.Cond.privateMethod ({ cls := "CountyGazetteer$Split", name := "cuts", desc := "(I)I" } : Jvm.MethodName)) ∈ lw_tbl := lw_at lw_m14 87 rfl
theorem q3384 : (Jvm.Cond.instanceMethod ({ cls := "CountyGazetteer$Split", name := "cuts", desc := "(I)I" } : Jvm.MethodName)) ∈ lw_all := lw_g (lw_at lw_m14 88 rfl) rfl
theorem q3385 : (Jvm.Cond.code ({ cls := "CountyGazetteer$Split", name := "cuts", desc := "(I)I" } : Jvm.MethodName) prog_15_method_2_code (6 : Nat) (Option.some Jvm.ClassFile.FieldType.int)) ∈ lw_all := lw_g (lw_at lw_m14 89 rfl) rfl
theorem q3386 : (Jvm.Cond.methodLink "CountyGazetteer$Split" (30 : Nat) ({ cls := "java/util/LinkedList", name := "clear", desc := "()V" } : Jvm.MethodName)) ∈ lw_all := lw_g (lw_at lw_m14 90 rfl) rfl
theorem q3390 : (Jvm.Cond.methodLink "CountyGazetteer$Split" (33 : Nat) ({ cls := "CountyGazetteer$Block", name := "pages", desc := "(I)I" } : Jvm.MethodName)) ∈ lw_all := lw_g (lw_at lw_m14 94 rfl) rfl
theorem q3395 : (Jvm.Cond.methodLink "CountyGazetteer$Split" (38 : Nat) ({ cls := "java/lang/Integer", name := "valueOf", desc := "(I)Ljava/lang/Integer;" } : Jvm.MethodName)) ∈ lw_all := lw_g (lw_at lw_m14 99 rfl) rfl
theorem q3396 : (Jvm.Cond.methodLink "CountyGazetteer$Split" (44 : Nat) ({ cls := "java/util/LinkedList", name := "addLast", desc := "(Ljava/lang/Object;)V" } : Jvm.MethodName)) ∈ lw_all := lw_g (lw_at lw_m14 100 rfl) rfl
theorem q3397 : (Jvm.Cond.methodLink "CountyGazetteer$Split" (48 : Nat) ({ cls := "java/util/LinkedList", name := "size", desc := "()I" } : Jvm.MethodName)) ∈ lw_all := lw_g (lw_at lw_m14 101 rfl) rfl
theorem q3398 : (Jvm.Cond.fieldLink "CountyGazetteer$Split" (18 : Nat) "CountyGazetteer$Split" "blocks" "[LCountyGazetteer$Block;") ∈ lw_all := lw_g (lw_at lw_m14 102 rfl) rfl
theorem q3399 : (Jvm.Cond.fieldLink "CountyGazetteer$Split" (22 : Nat) "CountyGazetteer$Split" "lines" "I") ∈ lw_all := lw_g (lw_at lw_m14 103 rfl) rfl
theorem q3400 : (Jvm.Cond.fieldLink "CountyGazetteer$Split" (12 : Nat) "CountyGazetteer$Split" "starts" "Ljava/util/LinkedList;") ∈ lw_all := lw_g (lw_at lw_m14 104 rfl) rfl
theorem q3401 : (Jvm.Cond.laysFinal "CountyGazetteer$Split" "CountyGazetteer$Split" "blocks" "[LCountyGazetteer$Block;") ∈ lw_all := lw_g (lw_at lw_m14 105 rfl) rfl
theorem q3402 : (Jvm.Cond.soleField "CountyGazetteer$Split" "blocks") ∈ lw_all := lw_g (lw_at lw_m14 106 rfl) rfl
theorem q3403 : (Jvm.Cond.laysFinal "CountyGazetteer$Split" "CountyGazetteer$Split" "lines" "I") ∈ lw_all := lw_g (lw_at lw_m14 107 rfl) rfl
theorem q3404 : (Jvm.Cond.soleField "CountyGazetteer$Split" "lines") ∈ lw_all := lw_g (lw_at lw_m14 108 rfl) rfl
theorem q3405 : (Jvm.Cond.laysFinal "CountyGazetteer$Split" "CountyGazetteer$Split" "starts" "Ljava/util/LinkedList;") ∈ lw_all := lw_g (lw_at lw_m14 109 rfl) rfl
theorem q3406 : (Jvm.Cond.soleField "CountyGazetteer$Split" "starts") ∈ lw_all := lw_g (lw_at lw_m14 110 rfl) rfl
theorem q3407 : (Jvm.Cond.superclass "CountyGazetteer$Split" "java/lang/Object") ∈ lw_all := lw_g (lw_at lw_m14 111 rfl) rfl
theorem q3409 : (Jvm.Cond.instanceMethod ({ cls := "CountyGazetteer$Split", name := "volumes", desc := "(I)I" } : Jvm.MethodName)) ∈ lw_all := lw_g (lw_at lw_m14 113 rfl) rfl
theorem q3410 : (Jvm.Cond.selects "CountyGazetteer$Split" ({ cls := "CountyGazetteer$Split", name := "volumes", desc := "(I)I" } : Jvm.MethodName) ({ cls := "CountyGazetteer$Split", name := "volumes", desc := "(I)I" } : Jvm.MethodName)) ∈ lw_all := lw_g (lw_at lw_m14 114 rfl) rfl
theorem q3411 : (Jvm.Cond.code ({ cls := "CountyGazetteer$Split", name := "volumes", desc := "(I)I" } : Jvm.MethodName) prog_15_method_3_code (6 : Nat) (Option.some Jvm.ClassFile.FieldType.int)) ∈ lw_all := lw_g (lw_at lw_m14 115 rfl) rfl
theorem q3420 : (Jvm.Cond.instanceMethod ({ cls := "CountyGazetteer$Split", name := "begin", desc := "(I)I" } : Jvm.MethodName)) ∈ lw_all := lw_g (lw_at lw_m14 124 rfl) rfl
theorem q3421 : (Jvm.Cond.selects "CountyGazetteer$Split" ({ cls := "CountyGazetteer$Split", name := "begin", desc := "(I)I" } : Jvm.MethodName) ({ cls := "CountyGazetteer$Split", name := "begin", desc := "(I)I" } : Jvm.MethodName)) ∈ lw_all := lw_g (lw_at lw_m14 125 rfl) rfl
theorem q3422 : (Jvm.Cond.code ({ cls := "CountyGazetteer$Split", name := "begin", desc := "(I)I" } : Jvm.MethodName) prog_15_method_4_code (2 : Nat) (Option.some Jvm.ClassFile.FieldType.int)) ∈ lw_all := lw_g (lw_at lw_m14 126 rfl) rfl
theorem q3423 : (Jvm.Cond.methodLink "CountyGazetteer$Split" (52 : Nat) ({ cls := "java/util/LinkedList", name := "get", desc := "(I)Ljava/lang/Object;" } : Jvm.MethodName)) ∈ lw_all := lw_g (lw_at lw_m14 127 rfl) rfl
theorem q3424 : (Jvm.Cond.classLink "CountyGazetteer$Split" (39 : Nat) "java/lang/Integer") ∈ lw_all := lw_g (lw_at lw_m14 128 rfl) rfl
theorem q3425 : (Jvm.Cond.methodLink "CountyGazetteer$Split" (56 : Nat) ({ cls := "java/lang/Integer", name := "intValue", desc := "()I" } : Jvm.MethodName)) ∈ lw_all := lw_g (lw_at lw_m14 129 rfl) rfl
theorem q3427 : (Jvm.Cond.instanceMethod ({ cls := "CountyGazetteer$Split", name := "pages", desc := "(I)I" } : Jvm.MethodName)) ∈ lw_all := lw_g (lw_at lw_m14 131 rfl) rfl
theorem q3428 : (Jvm.Cond.selects "CountyGazetteer$Split" ({ cls := "CountyGazetteer$Split", name := "pages", desc := "(I)I" } : Jvm.MethodName) ({ cls := "CountyGazetteer$Split", name := "pages", desc := "(I)I" } : Jvm.MethodName)) ∈ lw_all := lw_g (lw_at lw_m14 132 rfl) rfl
theorem q3429 : (Jvm.Cond.code ({ cls := "CountyGazetteer$Split", name := "pages", desc := "(I)I" } : Jvm.MethodName) prog_15_method_5_code (4 : Nat) (Option.some Jvm.ClassFile.FieldType.int)) ∈ lw_all := lw_g (lw_at lw_m14 133 rfl) rfl
theorem q3430 : (Jvm.Cond.methodLink "CountyGazetteer$Split" (59 : Nat) ({ cls := "CountyGazetteer$Split", name := "begin", desc := "(I)I" } : Jvm.MethodName)) ∈ lw_all := lw_g (lw_at lw_m14 134 rfl) rfl
theorem q4519 : (Jvm.Cond.castable "CountyGazetteer$Split" "java/lang/Object") ∈ lw_tbl := lw_at lw_m19 23 rfl
theorem in_X16 : ∀ w ∈ wsX160, w ∈ lw_all := lw_in wsX160 [3401, 3403, 3405] (by decide +kernel) (by decide +kernel)

/-! CountyGazetteer$Reform -/
set_option maxRecDepth 100000
def RX17 : String := "CountyGazetteer$Reform"
abbrev cX17_loses : ByteArray := prog_14_method_3_code
def yX17_loses : MethodName := ⟨RX17, "loses", "()I"⟩
theorem dX17_loses_0 : decode cX17_loses 0 = .ok (.iconst (-1), 1) := by decide +kernel
theorem dX17_loses_1 : decode cX17_loses 1 = .ok (.ireturn, 1) := by decide +kernel
theorem q2033 : (Jvm.Cond.interfaceMethod "CountyGazetteer$Reform" "CountyGazetteer$Reform" "year" "()I") ∈ lw_tbl := lw_at lw_m8 177 rfl
theorem q2034 : (Jvm.Cond.declares ({ cls := "CountyGazetteer$Reform", name := "year", desc := "()I" } : Jvm.MethodName)) ∈ lw_tbl := lw_at lw_m8 178 rfl
theorem q2461 : (Jvm.Cond.interfaceMethod "CountyGazetteer$Reform" "CountyGazetteer$Reform" "changes" "(LCountyGazetteer$Board;)I") ∈ lw_tbl := lw_at lw_m10 125 rfl
theorem q2462 : (Jvm.Cond.declares ({ cls := "CountyGazetteer$Reform", name := "changes", desc := "(LCountyGazetteer$Board;)I" } : Jvm.MethodName)) ∈ lw_tbl := lw_at lw_m10 126 rfl
theorem q3150 : (Jvm.Cond.interfaceMethod "CountyGazetteer$Reform" "CountyGazetteer$Reform" "loses" "()I") ∈ lw_tbl := lw_at lw_m13 94 rfl
theorem q3151 : (Jvm.Cond.declares ({ cls := "CountyGazetteer$Reform", name := "loses", desc := "()I" } : Jvm.MethodName)) ∈ lw_tbl := lw_at lw_m13 95 rfl
theorem q3158 : (Jvm.Cond.instanceMethod ({ cls := "CountyGazetteer$Reform", name := "loses", desc := "()I" } : Jvm.MethodName)) ∈ lw_all := lw_g (lw_at lw_m13 102 rfl) rfl
theorem q3159 : (Jvm.Cond.publicMethod ({ cls := "CountyGazetteer$Reform", name := "loses", desc := "()I" } : Jvm.MethodName)) ∈ lw_tbl := lw_at lw_m13 103 rfl
theorem q3160 : (Jvm.Cond.code ({ cls := "CountyGazetteer$Reform", name := "loses", desc := "()I" } : Jvm.MethodName) prog_14_method_3_code (1 : Nat) (Option.some Jvm.ClassFile.FieldType.int)) ∈ lw_all := lw_g (lw_at lw_m13 104 rfl) rfl
theorem q3163 : (Jvm.Cond.interfaceMethod "CountyGazetteer$Reform" "CountyGazetteer$Reform" "gets" "()I") ∈ lw_tbl := lw_at lw_m13 107 rfl
theorem q3164 : (Jvm.Cond.declares ({ cls := "CountyGazetteer$Reform", name := "gets", desc := "()I" } : Jvm.MethodName)) ∈ lw_tbl := lw_at lw_m13 108 rfl
theorem q4476 : (Jvm.Cond.initialized "CountyGazetteer$Reform") ∈ lw_all := lw_g (lw_at lw_m18 220 rfl) rfl

/-! java/util/AbstractCollection -/
set_option maxRecDepth 100000
def RJ0 : String := "java/util/AbstractCollection"
abbrev cJ0_init : ByteArray := prog_49_method_1_code
def yJ0_init : MethodName := ⟨RJ0, "<init>", "()V"⟩
theorem dJ0_init_0 : decode cJ0_init 0 = .ok (.aload_n 0, 1) := by decide +kernel
theorem dJ0_init_1 : decode cJ0_init 1 = .ok (.invokespecial 1, 3) := by decide +kernel
theorem dJ0_init_4 : decode cJ0_init 4 = .ok (.return_, 1) := by decide +kernel
abbrev cJ0_isEmpty : ByteArray := prog_49_method_4_code
def yJ0_isEmpty : MethodName := ⟨RJ0, "isEmpty", "()Z"⟩
def dkwJ0_isEmpty_0 : List UInt8 := [42, 182, 0, 7, 154, 0, 7, 4, 167, 0, 4, 3, 172]
abbrev dktJ0_isEmpty_0 : List UInt8 := dkwJ0_isEmpty_0 ++ []
theorem dksJ0_isEmpty_0 : cJ0_isEmpty.data.toList.drop 0 = dktJ0_isEmpty_0 := by decide +kernel
theorem dJ0_isEmpty_0 : decode cJ0_isEmpty 0 = .ok (.aload_n 0, 1) := dk_42 (dk_at dksJ0_isEmpty_0 0 rfl rfl)
theorem dJ0_isEmpty_1 : decode cJ0_isEmpty 1 = .ok (.invokevirtual 7, 3) := dk_182 0 7 (dk_at dksJ0_isEmpty_0 1 rfl rfl)
theorem dJ0_isEmpty_4 : decode cJ0_isEmpty 4 = .ok (.ifCond .ne 7, 3) := dk_154 0 7 (dk_at dksJ0_isEmpty_0 4 rfl rfl)
theorem dJ0_isEmpty_7 : decode cJ0_isEmpty 7 = .ok (.iconst 1, 1) := dk_4 (dk_at dksJ0_isEmpty_0 7 rfl rfl)
theorem dJ0_isEmpty_8 : decode cJ0_isEmpty 8 = .ok (.goto 4, 3) := dk_167 0 4 (dk_at dksJ0_isEmpty_0 8 rfl rfl)
theorem dJ0_isEmpty_11 : decode cJ0_isEmpty 11 = .ok (.iconst 0, 1) := dk_3 (dk_at dksJ0_isEmpty_0 11 rfl rfl)
theorem dJ0_isEmpty_12 : decode cJ0_isEmpty 12 = .ok (.ireturn, 1) := dk_172 (dk_at dksJ0_isEmpty_0 12 rfl rfl)
theorem q179 : (Jvm.Cond.initialized "java/util/AbstractCollection") ∈ lw_all := lw_g (lw_at lw_m1 3 rfl) rfl
theorem q270 : (Jvm.Cond.instanceMethod ({ cls := "java/util/AbstractCollection", name := "<init>", desc := "()V" } : Jvm.MethodName)) ∈ lw_all := lw_g (lw_at lw_m1 94 rfl) rfl
theorem q271 : (Jvm.Cond.code ({ cls := "java/util/AbstractCollection", name := "<init>", desc := "()V" } : Jvm.MethodName) prog_49_method_1_code (1 : Nat) (Option.none : Option Jvm.ClassFile.FieldType)) ∈ lw_all := lw_g (lw_at lw_m1 95 rfl) rfl
theorem q272 : (Jvm.Cond.methodLink "java/util/AbstractCollection" (1 : Nat) ({ cls := "java/lang/Object", name := "<init>", desc := "()V" } : Jvm.MethodName)) ∈ lw_all := lw_g (lw_at lw_m1 96 rfl) rfl
theorem q1796 : (Jvm.Cond.instanceMethod ({ cls := "java/util/AbstractCollection", name := "isEmpty", desc := "()Z" } : Jvm.MethodName)) ∈ lw_all := lw_g (lw_at lw_m7 180 rfl) rfl
theorem q1797 : (Jvm.Cond.publicMethod ({ cls := "java/util/AbstractCollection", name := "isEmpty", desc := "()Z" } : Jvm.MethodName)) ∈ lw_tbl := lw_at lw_m7 181 rfl
theorem q1798 : (Jvm.Cond.code ({ cls := "java/util/AbstractCollection", name := "isEmpty", desc := "()Z" } : Jvm.MethodName) prog_49_method_4_code (1 : Nat) (Option.some Jvm.ClassFile.FieldType.boolean)) ∈ lw_all := lw_g (lw_at lw_m7 182 rfl) rfl
theorem q1799 : (Jvm.Cond.methodLink "java/util/AbstractCollection" (7 : Nat) ({ cls := "java/util/AbstractCollection", name := "size", desc := "()I" } : Jvm.MethodName)) ∈ lw_all := lw_g (lw_at lw_m7 183 rfl) rfl
theorem q1800 : (Jvm.Cond.declares ({ cls := "java/util/AbstractCollection", name := "size", desc := "()I" } : Jvm.MethodName)) ∈ lw_tbl := lw_at lw_m7 184 rfl
theorem q1801 : (Jvm.Cond.sameMethod "java/util/AbstractCollection" "java/util/AbstractCollection" "size" "()I") ∈ lw_all := lw_g (lw_at lw_m7 185 rfl) rfl
theorem q3112 : (Jvm.Cond.declares ({ cls := "java/util/AbstractCollection", name := "isEmpty", desc := "()Z" } : Jvm.MethodName)) ∈ lw_tbl := lw_at lw_m13 56 rfl

/-! java/util/AbstractList -/
set_option maxRecDepth 100000
def RJ1 : String := "java/util/AbstractList"
abbrev cJ1_init : ByteArray := prog_50_method_1_code
def yJ1_init : MethodName := ⟨RJ1, "<init>", "()V"⟩
def dkwJ1_init_0 : List UInt8 := [42, 183, 0, 1, 42, 3, 181, 0, 7, 177]
abbrev dktJ1_init_0 : List UInt8 := dkwJ1_init_0 ++ []
theorem dksJ1_init_0 : cJ1_init.data.toList.drop 0 = dktJ1_init_0 := by decide +kernel
theorem dJ1_init_0 : decode cJ1_init 0 = .ok (.aload_n 0, 1) := dk_42 (dk_at dksJ1_init_0 0 rfl rfl)
theorem dJ1_init_1 : decode cJ1_init 1 = .ok (.invokespecial 1, 3) := dk_183 0 1 (dk_at dksJ1_init_0 1 rfl rfl)
theorem dJ1_init_4 : decode cJ1_init 4 = .ok (.aload_n 0, 1) := dk_42 (dk_at dksJ1_init_0 4 rfl rfl)
theorem dJ1_init_5 : decode cJ1_init 5 = .ok (.iconst 0, 1) := dk_3 (dk_at dksJ1_init_0 5 rfl rfl)
theorem dJ1_init_6 : decode cJ1_init 6 = .ok (.putfield 7, 3) := dk_181 0 7 (dk_at dksJ1_init_0 6 rfl rfl)
theorem dJ1_init_9 : decode cJ1_init 9 = .ok (.return_, 1) := dk_177 (dk_at dksJ1_init_0 9 rfl rfl)
abbrev cJ1_listIterator : ByteArray := prog_50_method_12_code
def yJ1_listIterator : MethodName := ⟨RJ1, "listIterator", "()Ljava/util/ListIterator;"⟩
def dkwJ1_listIterator_0 : List UInt8 := [42, 3, 182, 0, 47, 176]
abbrev dktJ1_listIterator_0 : List UInt8 := dkwJ1_listIterator_0 ++ []
theorem dksJ1_listIterator_0 : cJ1_listIterator.data.toList.drop 0 = dktJ1_listIterator_0 := by decide +kernel
theorem dJ1_listIterator_0 : decode cJ1_listIterator 0 = .ok (.aload_n 0, 1) := dk_42 (dk_at dksJ1_listIterator_0 0 rfl rfl)
theorem dJ1_listIterator_1 : decode cJ1_listIterator 1 = .ok (.iconst 0, 1) := dk_3 (dk_at dksJ1_listIterator_0 1 rfl rfl)
theorem dJ1_listIterator_2 : decode cJ1_listIterator 2 = .ok (.invokevirtual 47, 3) := dk_182 0 47 (dk_at dksJ1_listIterator_0 2 rfl rfl)
theorem dJ1_listIterator_5 : decode cJ1_listIterator 5 = .ok (.areturn, 1) := dk_176 (dk_at dksJ1_listIterator_0 5 rfl rfl)
theorem q180 : (Jvm.Cond.initialized "java/util/AbstractList") ∈ lw_all := lw_g (lw_at lw_m1 4 rfl) rfl
theorem q267 : (Jvm.Cond.instanceMethod ({ cls := "java/util/AbstractList", name := "<init>", desc := "()V" } : Jvm.MethodName)) ∈ lw_all := lw_g (lw_at lw_m1 91 rfl) rfl
theorem q268 : (Jvm.Cond.code ({ cls := "java/util/AbstractList", name := "<init>", desc := "()V" } : Jvm.MethodName) prog_50_method_1_code (1 : Nat) (Option.none : Option Jvm.ClassFile.FieldType)) ∈ lw_all := lw_g (lw_at lw_m1 92 rfl) rfl
theorem q269 : (Jvm.Cond.methodLink "java/util/AbstractList" (1 : Nat) ({ cls := "java/util/AbstractCollection", name := "<init>", desc := "()V" } : Jvm.MethodName)) ∈ lw_all := lw_g (lw_at lw_m1 93 rfl) rfl
theorem q279 : (Jvm.Cond.fieldLink "java/util/AbstractList" (7 : Nat) "java/util/AbstractList" "modCount" "I") ∈ lw_all := lw_g (lw_at lw_m1 103 rfl) rfl
theorem q292 : (Jvm.Cond.soleField "java/util/AbstractList" "modCount") ∈ lw_all := lw_g (lw_at lw_m1 116 rfl) rfl
theorem q2187 : (Jvm.Cond.sameMethod "java/util/AbstractList" "java/util/AbstractCollection" "size" "()I") ∈ lw_all := lw_g (lw_at lw_m9 91 rfl) rfl
theorem q2229 : (Jvm.Cond.declares ({ cls := "java/util/AbstractList", name := "get", desc := "(I)Ljava/lang/Object;" } : Jvm.MethodName)) ∈ lw_tbl := lw_at lw_m9 133 rfl
theorem q2230 : (Jvm.Cond.sameMethod "java/util/AbstractList" "java/util/AbstractList" "get" "(I)Ljava/lang/Object;") ∈ lw_all := lw_g (lw_at lw_m9 134 rfl) rfl
theorem q2369 : (Jvm.Cond.declares ({ cls := "java/util/AbstractList", name := "listIterator", desc := "()Ljava/util/ListIterator;" } : Jvm.MethodName)) ∈ lw_tbl := lw_at lw_m10 33 rfl
theorem q2371 : (Jvm.Cond.instanceMethod ({ cls := "java/util/AbstractList", name := "listIterator", desc := "()Ljava/util/ListIterator;" } : Jvm.MethodName)) ∈ lw_all := lw_g (lw_at lw_m10 35 rfl) rfl
theorem q2372 : (Jvm.Cond.code ({ cls := "java/util/AbstractList", name := "listIterator", desc := "()Ljava/util/ListIterator;" } : Jvm.MethodName) prog_50_method_12_code (1 : Nat) (Option.some (Jvm.ClassFile.FieldType.object "java/util/ListIterator"))) ∈ lw_all := lw_g (lw_at lw_m10 36 rfl) rfl
theorem q2373 : (Jvm.Cond.methodLink "java/util/AbstractList" (47 : Nat) ({ cls := "java/util/AbstractList", name := "listIterator", desc := "(I)Ljava/util/ListIterator;" } : Jvm.MethodName)) ∈ lw_all := lw_g (lw_at lw_m10 37 rfl) rfl
theorem q2374 : (Jvm.Cond.instanceMethod ({ cls := "java/util/AbstractList", name := "listIterator", desc := "(I)Ljava/util/ListIterator;" } : Jvm.MethodName)) ∈ lw_all := lw_g (lw_at lw_m10 38 rfl) rfl
theorem q2375 : (Jvm.Cond.sameMethod "java/util/AbstractList" "java/util/AbstractList" "listIterator" "(I)Ljava/util/ListIterator;") ∈ lw_all := lw_g (lw_at lw_m10 39 rfl) rfl
theorem q2457 : (Jvm.Cond.declares ({ cls := "java/util/AbstractList", name := "listIterator", desc := "(I)Ljava/util/ListIterator;" } : Jvm.MethodName)) ∈ lw_tbl := lw_at lw_m10 121 rfl
