/-! CountyGazetteer$State -/
set_option maxRecDepth 100000
def RX2 : String := "CountyGazetteer$State"
def TX2 : u_T := fun k => match k with
  | 0 => ("CountyGazetteer$State", "width", "I", false)
  | 1 => ("CountyGazetteer$State", "height", "I", false)
  | 2 => ("CountyGazetteer$State", "lines", "I", false)
  | 3 => ("CountyGazetteer$State", "year", "I", false)
  | 4 => ("CountyGazetteer$State", "before", "I", false)
  | 5 => ("CountyGazetteer$State", "renames", "I", false)
  | 6 => ("CountyGazetteer$State", "isFresh", "Z", false)
  | 7 => ("CountyGazetteer$State", "counties", "Ljava/util/List;", true)
  | 8 => ("CountyGazetteer$State", "villages", "Ljava/util/List;", true)
  | _ => ("CountyGazetteer$State", "reforms", "Ljava/util/List;", true)
def tyX2 : Nat → FieldType := fun k => match k with
  | 0 => .int
  | 1 => .int
  | 2 => .int
  | 3 => .int
  | 4 => .int
  | 5 => .int
  | 6 => .boolean
  | 7 => .object "java/util/List"
  | 8 => .object "java/util/List"
  | _ => .object "java/util/List"
abbrev wsX20 : List Cond := u_ws RX2 TX2 10
theorem nmX2 : ∀ a, a < 10 → ∀ b, b < 10 → a ≠ b → (TX2 a).2.1 ≠ (TX2 b).2.1 := by decide +kernel
theorem tyX2_ok : ∀ k, k < 10 → parseFieldDescriptor (TX2 k).2.2.1 = some (tyX2 k) := by decide +kernel
abbrev cX2_init : ByteArray := prog_16_method_1_code
def yX2_init : MethodName := ⟨RX2, "<init>", "()V"⟩
def dkwX2_init_2 : List UInt8 := [181, 0, 31, 42, 187, 0, 24, 89, 183, 0, 26, 181, 0, 34, 177]
abbrev dktX2_init_2 : List UInt8 := dkwX2_init_2 ++ []
def dkwX2_init_1 : List UInt8 := [181, 0, 21, 42, 187, 0, 24, 89, 183, 0, 26, 181, 0, 27, 42, 187, 0, 24, 89, 183, 0, 26]
abbrev dktX2_init_1 : List UInt8 := dkwX2_init_1 ++ dktX2_init_2
def dkwX2_init_0 : List UInt8 := [42, 183, 0, 3, 42, 5, 181, 0, 9, 42, 5, 181, 0, 15, 42, 16, 12, 181, 0, 18, 42, 2]
abbrev dktX2_init_0 : List UInt8 := dkwX2_init_0 ++ dktX2_init_1
theorem dksX2_init_0 : cX2_init.data.toList.drop 0 = dktX2_init_0 := by decide +kernel
theorem dksX2_init_1 : cX2_init.data.toList.drop 22 = dktX2_init_1 := dk_seg dksX2_init_0 22 rfl rfl
theorem dksX2_init_2 : cX2_init.data.toList.drop 44 = dktX2_init_2 := dk_seg dksX2_init_1 22 rfl rfl
theorem dX2_init_0 : decode cX2_init 0 = .ok (.aload_n 0, 1) := dk_42 (dk_at dksX2_init_0 0 rfl rfl)
theorem dX2_init_1 : decode cX2_init 1 = .ok (.invokespecial 3, 3) := dk_183 0 3 (dk_at dksX2_init_0 1 rfl rfl)
theorem dX2_init_4 : decode cX2_init 4 = .ok (.aload_n 0, 1) := dk_42 (dk_at dksX2_init_0 4 rfl rfl)
theorem dX2_init_5 : decode cX2_init 5 = .ok (.iconst 2, 1) := dk_5 (dk_at dksX2_init_0 5 rfl rfl)
theorem dX2_init_6 : decode cX2_init 6 = .ok (.putfield 9, 3) := dk_181 0 9 (dk_at dksX2_init_0 6 rfl rfl)
theorem dX2_init_9 : decode cX2_init 9 = .ok (.aload_n 0, 1) := dk_42 (dk_at dksX2_init_0 9 rfl rfl)
theorem dX2_init_10 : decode cX2_init 10 = .ok (.iconst 2, 1) := dk_5 (dk_at dksX2_init_0 10 rfl rfl)
theorem dX2_init_11 : decode cX2_init 11 = .ok (.putfield 15, 3) := dk_181 0 15 (dk_at dksX2_init_0 11 rfl rfl)
theorem dX2_init_14 : decode cX2_init 14 = .ok (.aload_n 0, 1) := dk_42 (dk_at dksX2_init_0 14 rfl rfl)
theorem dX2_init_15 : decode cX2_init 15 = .ok (.bipush 12, 2) := dk_16 12 (dk_at dksX2_init_0 15 rfl rfl)
theorem dX2_init_17 : decode cX2_init 17 = .ok (.putfield 18, 3) := dk_181 0 18 (dk_at dksX2_init_0 17 rfl rfl)
theorem dX2_init_20 : decode cX2_init 20 = .ok (.aload_n 0, 1) := dk_42 (dk_at dksX2_init_0 20 rfl rfl)
theorem dX2_init_21 : decode cX2_init 21 = .ok (.iconst (-1), 1) := dk_2 (dk_at dksX2_init_0 21 rfl rfl)
theorem dX2_init_22 : decode cX2_init 22 = .ok (.putfield 21, 3) := dk_181 0 21 (dk_at dksX2_init_1 0 rfl rfl)
theorem dX2_init_25 : decode cX2_init 25 = .ok (.aload_n 0, 1) := dk_42 (dk_at dksX2_init_1 3 rfl rfl)
theorem dX2_init_26 : decode cX2_init 26 = .ok (.new 24, 3) := dk_187 0 24 (dk_at dksX2_init_1 4 rfl rfl)
theorem dX2_init_29 : decode cX2_init 29 = .ok (.dup, 1) := dk_89 (dk_at dksX2_init_1 7 rfl rfl)
theorem dX2_init_30 : decode cX2_init 30 = .ok (.invokespecial 26, 3) := dk_183 0 26 (dk_at dksX2_init_1 8 rfl rfl)
theorem dX2_init_33 : decode cX2_init 33 = .ok (.putfield 27, 3) := dk_181 0 27 (dk_at dksX2_init_1 11 rfl rfl)
theorem dX2_init_36 : decode cX2_init 36 = .ok (.aload_n 0, 1) := dk_42 (dk_at dksX2_init_1 14 rfl rfl)
theorem dX2_init_37 : decode cX2_init 37 = .ok (.new 24, 3) := dk_187 0 24 (dk_at dksX2_init_1 15 rfl rfl)
theorem dX2_init_40 : decode cX2_init 40 = .ok (.dup, 1) := dk_89 (dk_at dksX2_init_1 18 rfl rfl)
theorem dX2_init_41 : decode cX2_init 41 = .ok (.invokespecial 26, 3) := dk_183 0 26 (dk_at dksX2_init_1 19 rfl rfl)
theorem dX2_init_44 : decode cX2_init 44 = .ok (.putfield 31, 3) := dk_181 0 31 (dk_at dksX2_init_2 0 rfl rfl)
theorem dX2_init_47 : decode cX2_init 47 = .ok (.aload_n 0, 1) := dk_42 (dk_at dksX2_init_2 3 rfl rfl)
theorem dX2_init_48 : decode cX2_init 48 = .ok (.new 24, 3) := dk_187 0 24 (dk_at dksX2_init_2 4 rfl rfl)
theorem dX2_init_51 : decode cX2_init 51 = .ok (.dup, 1) := dk_89 (dk_at dksX2_init_2 7 rfl rfl)
theorem dX2_init_52 : decode cX2_init 52 = .ok (.invokespecial 26, 3) := dk_183 0 26 (dk_at dksX2_init_2 8 rfl rfl)
theorem dX2_init_55 : decode cX2_init 55 = .ok (.putfield 34, 3) := dk_181 0 34 (dk_at dksX2_init_2 11 rfl rfl)
theorem dX2_init_58 : decode cX2_init 58 = .ok (.return_, 1) := dk_177 (dk_at dksX2_init_2 14 rfl rfl)
abbrev cX2_renames : ByteArray := prog_16_method_4_code
def yX2_renames : MethodName := ⟨RX2, "renames", "(IILjava/lang/String;)V"⟩
def dkwX2_renames_1 : List UInt8 := [96, 181, 0, 41, 177]
abbrev dktX2_renames_1 : List UInt8 := dkwX2_renames_1 ++ []
def dkwX2_renames_0 : List UInt8 := [42, 180, 0, 31, 27, 185, 0, 54, 2, 0, 192, 0, 64, 28, 45, 182, 0, 97, 42, 89, 180, 0, 41, 4]
abbrev dktX2_renames_0 : List UInt8 := dkwX2_renames_0 ++ dktX2_renames_1
theorem dksX2_renames_0 : cX2_renames.data.toList.drop 0 = dktX2_renames_0 := by decide +kernel
theorem dksX2_renames_1 : cX2_renames.data.toList.drop 24 = dktX2_renames_1 := dk_seg dksX2_renames_0 24 rfl rfl
theorem dX2_renames_0 : decode cX2_renames 0 = .ok (.aload_n 0, 1) := dk_42 (dk_at dksX2_renames_0 0 rfl rfl)
theorem dX2_renames_1 : decode cX2_renames 1 = .ok (.getfield 31, 3) := dk_180 0 31 (dk_at dksX2_renames_0 1 rfl rfl)
theorem dX2_renames_4 : decode cX2_renames 4 = .ok (.iload_n 1, 1) := dk_27 (dk_at dksX2_renames_0 4 rfl rfl)
theorem dX2_renames_5 : decode cX2_renames 5 = .ok (.invokeinterface 54 2, 5) := by decide +kernel
theorem dX2_renames_10 : decode cX2_renames 10 = .ok (.checkcast 64, 3) := dk_192 0 64 (dk_at dksX2_renames_0 10 rfl rfl)
theorem dX2_renames_13 : decode cX2_renames 13 = .ok (.iload_n 2, 1) := dk_28 (dk_at dksX2_renames_0 13 rfl rfl)
theorem dX2_renames_14 : decode cX2_renames 14 = .ok (.aload_n 3, 1) := dk_45 (dk_at dksX2_renames_0 14 rfl rfl)
theorem dX2_renames_15 : decode cX2_renames 15 = .ok (.invokevirtual 97, 3) := dk_182 0 97 (dk_at dksX2_renames_0 15 rfl rfl)
theorem dX2_renames_18 : decode cX2_renames 18 = .ok (.aload_n 0, 1) := dk_42 (dk_at dksX2_renames_0 18 rfl rfl)
theorem dX2_renames_19 : decode cX2_renames 19 = .ok (.dup, 1) := dk_89 (dk_at dksX2_renames_0 19 rfl rfl)
theorem dX2_renames_20 : decode cX2_renames 20 = .ok (.getfield 41, 3) := dk_180 0 41 (dk_at dksX2_renames_0 20 rfl rfl)
theorem dX2_renames_23 : decode cX2_renames 23 = .ok (.iconst 1, 1) := dk_4 (dk_at dksX2_renames_0 23 rfl rfl)
theorem dX2_renames_24 : decode cX2_renames 24 = .ok (.iadd, 1) := dk_96 (dk_at dksX2_renames_1 0 rfl rfl)
theorem dX2_renames_25 : decode cX2_renames 25 = .ok (.putfield 41, 3) := dk_181 0 41 (dk_at dksX2_renames_1 1 rfl rfl)
theorem dX2_renames_28 : decode cX2_renames 28 = .ok (.return_, 1) := dk_177 (dk_at dksX2_renames_1 4 rfl rfl)
abbrev cX2_byYears : ByteArray := prog_16_method_3_code
def yX2_byYears : MethodName := ⟨RX2, "byYears", "()Ljava/util/TreeMap;"⟩
def dkwX2_byYears_4 : List UInt8 := [185, 0, 54, 2, 0, 192, 0, 70, 182, 0, 93, 132, 2, 1, 167, 255, 161, 43, 176]
abbrev dktX2_byYears_4 : List UInt8 := dkwX2_byYears_4 ++ []
def dkwX2_byYears_3 : List UInt8 := [184, 0, 77, 25, 4, 182, 0, 89, 192, 0, 86, 58, 5, 25, 4, 42, 180, 0, 34, 28]
abbrev dktX2_byYears_3 : List UInt8 := dkwX2_byYears_3 ++ dktX2_byYears_4
def dkwX2_byYears_2 : List UInt8 := [182, 0, 83, 192, 0, 86, 58, 4, 25, 4, 199, 0, 27, 187, 0, 86, 89, 183, 0, 88, 58, 4, 43, 29]
abbrev dktX2_byYears_2 : List UInt8 := dkwX2_byYears_2 ++ dktX2_byYears_3
def dkwX2_byYears_1 : List UInt8 := [180, 0, 34, 28, 185, 0, 54, 2, 0, 192, 0, 70, 185, 0, 75, 1, 0, 62, 43, 29, 184, 0, 77]
abbrev dktX2_byYears_1 : List UInt8 := dkwX2_byYears_1 ++ dktX2_byYears_2
def dkwX2_byYears_0 : List UInt8 := [187, 0, 72, 89, 183, 0, 74, 76, 3, 61, 28, 42, 180, 0, 34, 185, 0, 48, 1, 0, 162, 0, 88, 42]
abbrev dktX2_byYears_0 : List UInt8 := dkwX2_byYears_0 ++ dktX2_byYears_1
theorem dksX2_byYears_0 : cX2_byYears.data.toList.drop 0 = dktX2_byYears_0 := by decide +kernel
theorem dksX2_byYears_1 : cX2_byYears.data.toList.drop 24 = dktX2_byYears_1 := dk_seg dksX2_byYears_0 24 rfl rfl
theorem dksX2_byYears_2 : cX2_byYears.data.toList.drop 47 = dktX2_byYears_2 := dk_seg dksX2_byYears_1 23 rfl rfl
theorem dksX2_byYears_3 : cX2_byYears.data.toList.drop 71 = dktX2_byYears_3 := dk_seg dksX2_byYears_2 24 rfl rfl
theorem dksX2_byYears_4 : cX2_byYears.data.toList.drop 91 = dktX2_byYears_4 := dk_seg dksX2_byYears_3 20 rfl rfl
theorem dX2_byYears_0 : decode cX2_byYears 0 = .ok (.new 72, 3) := dk_187 0 72 (dk_at dksX2_byYears_0 0 rfl rfl)
theorem dX2_byYears_3 : decode cX2_byYears 3 = .ok (.dup, 1) := dk_89 (dk_at dksX2_byYears_0 3 rfl rfl)
theorem dX2_byYears_4 : decode cX2_byYears 4 = .ok (.invokespecial 74, 3) := dk_183 0 74 (dk_at dksX2_byYears_0 4 rfl rfl)
theorem dX2_byYears_7 : decode cX2_byYears 7 = .ok (.astore_n 1, 1) := dk_76 (dk_at dksX2_byYears_0 7 rfl rfl)
theorem dX2_byYears_8 : decode cX2_byYears 8 = .ok (.iconst 0, 1) := dk_3 (dk_at dksX2_byYears_0 8 rfl rfl)
theorem dX2_byYears_9 : decode cX2_byYears 9 = .ok (.istore_n 2, 1) := dk_61 (dk_at dksX2_byYears_0 9 rfl rfl)
theorem dX2_byYears_10 : decode cX2_byYears 10 = .ok (.iload_n 2, 1) := dk_28 (dk_at dksX2_byYears_0 10 rfl rfl)
theorem dX2_byYears_11 : decode cX2_byYears 11 = .ok (.aload_n 0, 1) := dk_42 (dk_at dksX2_byYears_0 11 rfl rfl)
theorem dX2_byYears_12 : decode cX2_byYears 12 = .ok (.getfield 34, 3) := dk_180 0 34 (dk_at dksX2_byYears_0 12 rfl rfl)
theorem dX2_byYears_15 : decode cX2_byYears 15 = .ok (.invokeinterface 48 1, 5) := by decide +kernel
theorem dX2_byYears_20 : decode cX2_byYears 20 = .ok (.if_icmp .ge 88, 3) := dk_162 0 88 (dk_at dksX2_byYears_0 20 rfl rfl)
theorem dX2_byYears_23 : decode cX2_byYears 23 = .ok (.aload_n 0, 1) := dk_42 (dk_at dksX2_byYears_0 23 rfl rfl)
theorem dX2_byYears_24 : decode cX2_byYears 24 = .ok (.getfield 34, 3) := dk_180 0 34 (dk_at dksX2_byYears_1 0 rfl rfl)
theorem dX2_byYears_27 : decode cX2_byYears 27 = .ok (.iload_n 2, 1) := dk_28 (dk_at dksX2_byYears_1 3 rfl rfl)
theorem dX2_byYears_28 : decode cX2_byYears 28 = .ok (.invokeinterface 54 2, 5) := by decide +kernel
theorem dX2_byYears_33 : decode cX2_byYears 33 = .ok (.checkcast 70, 3) := dk_192 0 70 (dk_at dksX2_byYears_1 9 rfl rfl)
theorem dX2_byYears_36 : decode cX2_byYears 36 = .ok (.invokeinterface 75 1, 5) := by decide +kernel
theorem dX2_byYears_41 : decode cX2_byYears 41 = .ok (.istore_n 3, 1) := dk_62 (dk_at dksX2_byYears_1 17 rfl rfl)
theorem dX2_byYears_42 : decode cX2_byYears 42 = .ok (.aload_n 1, 1) := dk_43 (dk_at dksX2_byYears_1 18 rfl rfl)
theorem dX2_byYears_43 : decode cX2_byYears 43 = .ok (.iload_n 3, 1) := dk_29 (dk_at dksX2_byYears_1 19 rfl rfl)
theorem dX2_byYears_44 : decode cX2_byYears 44 = .ok (.invokestatic 77, 3) := dk_184 0 77 (dk_at dksX2_byYears_1 20 rfl rfl)
theorem dX2_byYears_47 : decode cX2_byYears 47 = .ok (.invokevirtual 83, 3) := dk_182 0 83 (dk_at dksX2_byYears_2 0 rfl rfl)
theorem dX2_byYears_50 : decode cX2_byYears 50 = .ok (.checkcast 86, 3) := dk_192 0 86 (dk_at dksX2_byYears_2 3 rfl rfl)
theorem dX2_byYears_53 : decode cX2_byYears 53 = .ok (.astore 4, 2) := dk_58 4 (dk_at dksX2_byYears_2 6 rfl rfl)
theorem dX2_byYears_55 : decode cX2_byYears 55 = .ok (.aload 4, 2) := dk_25 4 (dk_at dksX2_byYears_2 8 rfl rfl)
theorem dX2_byYears_57 : decode cX2_byYears 57 = .ok (.ifnonnull 27, 3) := dk_199 0 27 (dk_at dksX2_byYears_2 10 rfl rfl)
theorem dX2_byYears_60 : decode cX2_byYears 60 = .ok (.new 86, 3) := dk_187 0 86 (dk_at dksX2_byYears_2 13 rfl rfl)
theorem dX2_byYears_63 : decode cX2_byYears 63 = .ok (.dup, 1) := dk_89 (dk_at dksX2_byYears_2 16 rfl rfl)
theorem dX2_byYears_64 : decode cX2_byYears 64 = .ok (.invokespecial 88, 3) := dk_183 0 88 (dk_at dksX2_byYears_2 17 rfl rfl)
theorem dX2_byYears_67 : decode cX2_byYears 67 = .ok (.astore 4, 2) := dk_58 4 (dk_at dksX2_byYears_2 20 rfl rfl)
theorem dX2_byYears_69 : decode cX2_byYears 69 = .ok (.aload_n 1, 1) := dk_43 (dk_at dksX2_byYears_2 22 rfl rfl)
theorem dX2_byYears_70 : decode cX2_byYears 70 = .ok (.iload_n 3, 1) := dk_29 (dk_at dksX2_byYears_2 23 rfl rfl)
theorem dX2_byYears_71 : decode cX2_byYears 71 = .ok (.invokestatic 77, 3) := dk_184 0 77 (dk_at dksX2_byYears_3 0 rfl rfl)
theorem dX2_byYears_74 : decode cX2_byYears 74 = .ok (.aload 4, 2) := dk_25 4 (dk_at dksX2_byYears_3 3 rfl rfl)
theorem dX2_byYears_76 : decode cX2_byYears 76 = .ok (.invokevirtual 89, 3) := dk_182 0 89 (dk_at dksX2_byYears_3 5 rfl rfl)
theorem dX2_byYears_79 : decode cX2_byYears 79 = .ok (.checkcast 86, 3) := dk_192 0 86 (dk_at dksX2_byYears_3 8 rfl rfl)
theorem dX2_byYears_82 : decode cX2_byYears 82 = .ok (.astore 5, 2) := dk_58 5 (dk_at dksX2_byYears_3 11 rfl rfl)
theorem dX2_byYears_84 : decode cX2_byYears 84 = .ok (.aload 4, 2) := dk_25 4 (dk_at dksX2_byYears_3 13 rfl rfl)
theorem dX2_byYears_86 : decode cX2_byYears 86 = .ok (.aload_n 0, 1) := dk_42 (dk_at dksX2_byYears_3 15 rfl rfl)
theorem dX2_byYears_87 : decode cX2_byYears 87 = .ok (.getfield 34, 3) := dk_180 0 34 (dk_at dksX2_byYears_3 16 rfl rfl)
theorem dX2_byYears_90 : decode cX2_byYears 90 = .ok (.iload_n 2, 1) := dk_28 (dk_at dksX2_byYears_3 19 rfl rfl)
theorem dX2_byYears_91 : decode cX2_byYears 91 = .ok (.invokeinterface 54 2, 5) := by decide +kernel
theorem dX2_byYears_96 : decode cX2_byYears 96 = .ok (.checkcast 70, 3) := dk_192 0 70 (dk_at dksX2_byYears_4 5 rfl rfl)
theorem dX2_byYears_99 : decode cX2_byYears 99 = .ok (.invokevirtual 93, 3) := dk_182 0 93 (dk_at dksX2_byYears_4 8 rfl rfl)
theorem dX2_byYears_102 : decode cX2_byYears 102 = .ok (.iinc 2 1, 3) := dk_132 2 1 (dk_at dksX2_byYears_4 11 rfl rfl)
theorem dX2_byYears_105 : decode cX2_byYears 105 = .ok (.goto (-95), 3) := dk_167 255 161 (dk_at dksX2_byYears_4 14 rfl rfl)
theorem dX2_byYears_108 : decode cX2_byYears 108 = .ok (.aload_n 1, 1) := dk_43 (dk_at dksX2_byYears_4 17 rfl rfl)
theorem dX2_byYears_109 : decode cX2_byYears 109 = .ok (.areturn, 1) := dk_176 (dk_at dksX2_byYears_4 18 rfl rfl)
abbrev cX2_copy : ByteArray := prog_16_method_2_code
def yX2_copy : MethodName := ⟨RX2, "copy", "()LCountyGazetteer$State;"⟩
def dkwX2_copy_8 : List UInt8 := [185, 0, 54, 2, 0, 192, 0, 70, 185, 0, 60, 2, 0, 87, 132, 2, 1, 167, 255, 217, 43, 176]
abbrev dktX2_copy_8 : List UInt8 := dkwX2_copy_8 ++ []
def dkwX2_copy_7 : List UInt8 := [180, 0, 34, 185, 0, 48, 1, 0, 162, 0, 32, 43, 180, 0, 34, 42, 180, 0, 34, 28]
abbrev dktX2_copy_7 : List UInt8 := dkwX2_copy_7 ++ dktX2_copy_8
def dkwX2_copy_6 : List UInt8 := [192, 0, 64, 182, 0, 66, 185, 0, 60, 2, 0, 87, 132, 2, 1, 167, 255, 214, 3, 61, 28, 42]
abbrev dktX2_copy_6 : List UInt8 := dkwX2_copy_6 ++ dktX2_copy_7
def dkwX2_copy_5 : List UInt8 := [185, 0, 48, 1, 0, 162, 0, 35, 43, 180, 0, 31, 42, 180, 0, 31, 28, 185, 0, 54, 2, 0]
abbrev dktX2_copy_5 : List UInt8 := dkwX2_copy_5 ++ dktX2_copy_6
def dkwX2_copy_4 : List UInt8 := [192, 0, 58, 185, 0, 60, 2, 0, 87, 132, 2, 1, 167, 255, 217, 3, 61, 28, 42, 180, 0, 31]
abbrev dktX2_copy_4 : List UInt8 := dkwX2_copy_4 ++ dktX2_copy_5
def dkwX2_copy_3 : List UInt8 := [185, 0, 48, 1, 0, 162, 0, 32, 43, 180, 0, 27, 42, 180, 0, 27, 28, 185, 0, 54, 2, 0]
abbrev dktX2_copy_3 : List UInt8 := dkwX2_copy_3 ++ dktX2_copy_4
def dkwX2_copy_2 : List UInt8 := [43, 42, 180, 0, 41, 181, 0, 41, 43, 42, 180, 0, 44, 181, 0, 44, 3, 61, 28, 42, 180, 0, 27]
abbrev dktX2_copy_2 : List UInt8 := dkwX2_copy_2 ++ dktX2_copy_3
def dkwX2_copy_1 : List UInt8 := [43, 42, 180, 0, 18, 181, 0, 18, 43, 42, 180, 0, 38, 181, 0, 38, 43, 42, 180, 0, 21, 181, 0, 21]
abbrev dktX2_copy_1 : List UInt8 := dkwX2_copy_1 ++ dktX2_copy_2
def dkwX2_copy_0 : List UInt8 := [187, 0, 10, 89, 183, 0, 37, 76, 43, 42, 180, 0, 9, 181, 0, 9, 43, 42, 180, 0, 15, 181, 0, 15]
abbrev dktX2_copy_0 : List UInt8 := dkwX2_copy_0 ++ dktX2_copy_1
theorem dksX2_copy_0 : cX2_copy.data.toList.drop 0 = dktX2_copy_0 := by decide +kernel
theorem dksX2_copy_1 : cX2_copy.data.toList.drop 24 = dktX2_copy_1 := dk_seg dksX2_copy_0 24 rfl rfl
theorem dksX2_copy_2 : cX2_copy.data.toList.drop 48 = dktX2_copy_2 := dk_seg dksX2_copy_1 24 rfl rfl
theorem dksX2_copy_3 : cX2_copy.data.toList.drop 71 = dktX2_copy_3 := dk_seg dksX2_copy_2 23 rfl rfl
theorem dksX2_copy_4 : cX2_copy.data.toList.drop 93 = dktX2_copy_4 := dk_seg dksX2_copy_3 22 rfl rfl
theorem dksX2_copy_5 : cX2_copy.data.toList.drop 115 = dktX2_copy_5 := dk_seg dksX2_copy_4 22 rfl rfl
theorem dksX2_copy_6 : cX2_copy.data.toList.drop 137 = dktX2_copy_6 := dk_seg dksX2_copy_5 22 rfl rfl
theorem dksX2_copy_7 : cX2_copy.data.toList.drop 159 = dktX2_copy_7 := dk_seg dksX2_copy_6 22 rfl rfl
theorem dksX2_copy_8 : cX2_copy.data.toList.drop 179 = dktX2_copy_8 := dk_seg dksX2_copy_7 20 rfl rfl
theorem dX2_copy_0 : decode cX2_copy 0 = .ok (.new 10, 3) := dk_187 0 10 (dk_at dksX2_copy_0 0 rfl rfl)
theorem dX2_copy_3 : decode cX2_copy 3 = .ok (.dup, 1) := dk_89 (dk_at dksX2_copy_0 3 rfl rfl)
theorem dX2_copy_4 : decode cX2_copy 4 = .ok (.invokespecial 37, 3) := dk_183 0 37 (dk_at dksX2_copy_0 4 rfl rfl)
theorem dX2_copy_7 : decode cX2_copy 7 = .ok (.astore_n 1, 1) := dk_76 (dk_at dksX2_copy_0 7 rfl rfl)
theorem dX2_copy_8 : decode cX2_copy 8 = .ok (.aload_n 1, 1) := dk_43 (dk_at dksX2_copy_0 8 rfl rfl)
theorem dX2_copy_9 : decode cX2_copy 9 = .ok (.aload_n 0, 1) := dk_42 (dk_at dksX2_copy_0 9 rfl rfl)
theorem dX2_copy_10 : decode cX2_copy 10 = .ok (.getfield 9, 3) := dk_180 0 9 (dk_at dksX2_copy_0 10 rfl rfl)
theorem dX2_copy_13 : decode cX2_copy 13 = .ok (.putfield 9, 3) := dk_181 0 9 (dk_at dksX2_copy_0 13 rfl rfl)
theorem dX2_copy_16 : decode cX2_copy 16 = .ok (.aload_n 1, 1) := dk_43 (dk_at dksX2_copy_0 16 rfl rfl)
theorem dX2_copy_17 : decode cX2_copy 17 = .ok (.aload_n 0, 1) := dk_42 (dk_at dksX2_copy_0 17 rfl rfl)
theorem dX2_copy_18 : decode cX2_copy 18 = .ok (.getfield 15, 3) := dk_180 0 15 (dk_at dksX2_copy_0 18 rfl rfl)
theorem dX2_copy_21 : decode cX2_copy 21 = .ok (.putfield 15, 3) := dk_181 0 15 (dk_at dksX2_copy_0 21 rfl rfl)
theorem dX2_copy_24 : decode cX2_copy 24 = .ok (.aload_n 1, 1) := dk_43 (dk_at dksX2_copy_1 0 rfl rfl)
theorem dX2_copy_25 : decode cX2_copy 25 = .ok (.aload_n 0, 1) := dk_42 (dk_at dksX2_copy_1 1 rfl rfl)
theorem dX2_copy_26 : decode cX2_copy 26 = .ok (.getfield 18, 3) := dk_180 0 18 (dk_at dksX2_copy_1 2 rfl rfl)
theorem dX2_copy_29 : decode cX2_copy 29 = .ok (.putfield 18, 3) := dk_181 0 18 (dk_at dksX2_copy_1 5 rfl rfl)
theorem dX2_copy_32 : decode cX2_copy 32 = .ok (.aload_n 1, 1) := dk_43 (dk_at dksX2_copy_1 8 rfl rfl)
theorem dX2_copy_33 : decode cX2_copy 33 = .ok (.aload_n 0, 1) := dk_42 (dk_at dksX2_copy_1 9 rfl rfl)
theorem dX2_copy_34 : decode cX2_copy 34 = .ok (.getfield 38, 3) := dk_180 0 38 (dk_at dksX2_copy_1 10 rfl rfl)
theorem dX2_copy_37 : decode cX2_copy 37 = .ok (.putfield 38, 3) := dk_181 0 38 (dk_at dksX2_copy_1 13 rfl rfl)
theorem dX2_copy_40 : decode cX2_copy 40 = .ok (.aload_n 1, 1) := dk_43 (dk_at dksX2_copy_1 16 rfl rfl)
theorem dX2_copy_41 : decode cX2_copy 41 = .ok (.aload_n 0, 1) := dk_42 (dk_at dksX2_copy_1 17 rfl rfl)
theorem dX2_copy_42 : decode cX2_copy 42 = .ok (.getfield 21, 3) := dk_180 0 21 (dk_at dksX2_copy_1 18 rfl rfl)
theorem dX2_copy_45 : decode cX2_copy 45 = .ok (.putfield 21, 3) := dk_181 0 21 (dk_at dksX2_copy_1 21 rfl rfl)
theorem dX2_copy_48 : decode cX2_copy 48 = .ok (.aload_n 1, 1) := dk_43 (dk_at dksX2_copy_2 0 rfl rfl)
theorem dX2_copy_49 : decode cX2_copy 49 = .ok (.aload_n 0, 1) := dk_42 (dk_at dksX2_copy_2 1 rfl rfl)
theorem dX2_copy_50 : decode cX2_copy 50 = .ok (.getfield 41, 3) := dk_180 0 41 (dk_at dksX2_copy_2 2 rfl rfl)
theorem dX2_copy_53 : decode cX2_copy 53 = .ok (.putfield 41, 3) := dk_181 0 41 (dk_at dksX2_copy_2 5 rfl rfl)
theorem dX2_copy_56 : decode cX2_copy 56 = .ok (.aload_n 1, 1) := dk_43 (dk_at dksX2_copy_2 8 rfl rfl)
theorem dX2_copy_57 : decode cX2_copy 57 = .ok (.aload_n 0, 1) := dk_42 (dk_at dksX2_copy_2 9 rfl rfl)
theorem dX2_copy_58 : decode cX2_copy 58 = .ok (.getfield 44, 3) := dk_180 0 44 (dk_at dksX2_copy_2 10 rfl rfl)
theorem dX2_copy_61 : decode cX2_copy 61 = .ok (.putfield 44, 3) := dk_181 0 44 (dk_at dksX2_copy_2 13 rfl rfl)
theorem dX2_copy_64 : decode cX2_copy 64 = .ok (.iconst 0, 1) := dk_3 (dk_at dksX2_copy_2 16 rfl rfl)
theorem dX2_copy_65 : decode cX2_copy 65 = .ok (.istore_n 2, 1) := dk_61 (dk_at dksX2_copy_2 17 rfl rfl)
theorem dX2_copy_66 : decode cX2_copy 66 = .ok (.iload_n 2, 1) := dk_28 (dk_at dksX2_copy_2 18 rfl rfl)
theorem dX2_copy_67 : decode cX2_copy 67 = .ok (.aload_n 0, 1) := dk_42 (dk_at dksX2_copy_2 19 rfl rfl)
theorem dX2_copy_68 : decode cX2_copy 68 = .ok (.getfield 27, 3) := dk_180 0 27 (dk_at dksX2_copy_2 20 rfl rfl)
theorem dX2_copy_71 : decode cX2_copy 71 = .ok (.invokeinterface 48 1, 5) := by decide +kernel
theorem dX2_copy_76 : decode cX2_copy 76 = .ok (.if_icmp .ge 32, 3) := dk_162 0 32 (dk_at dksX2_copy_3 5 rfl rfl)
theorem dX2_copy_79 : decode cX2_copy 79 = .ok (.aload_n 1, 1) := dk_43 (dk_at dksX2_copy_3 8 rfl rfl)
theorem dX2_copy_80 : decode cX2_copy 80 = .ok (.getfield 27, 3) := dk_180 0 27 (dk_at dksX2_copy_3 9 rfl rfl)
theorem dX2_copy_83 : decode cX2_copy 83 = .ok (.aload_n 0, 1) := dk_42 (dk_at dksX2_copy_3 12 rfl rfl)
theorem dX2_copy_84 : decode cX2_copy 84 = .ok (.getfield 27, 3) := dk_180 0 27 (dk_at dksX2_copy_3 13 rfl rfl)
theorem dX2_copy_87 : decode cX2_copy 87 = .ok (.iload_n 2, 1) := dk_28 (dk_at dksX2_copy_3 16 rfl rfl)
theorem dX2_copy_88 : decode cX2_copy 88 = .ok (.invokeinterface 54 2, 5) := by decide +kernel
theorem dX2_copy_93 : decode cX2_copy 93 = .ok (.checkcast 58, 3) := dk_192 0 58 (dk_at dksX2_copy_4 0 rfl rfl)
theorem dX2_copy_96 : decode cX2_copy 96 = .ok (.invokeinterface 60 2, 5) := by decide +kernel
theorem dX2_copy_101 : decode cX2_copy 101 = .ok (.pop, 1) := dk_87 (dk_at dksX2_copy_4 8 rfl rfl)
theorem dX2_copy_102 : decode cX2_copy 102 = .ok (.iinc 2 1, 3) := dk_132 2 1 (dk_at dksX2_copy_4 9 rfl rfl)
theorem dX2_copy_105 : decode cX2_copy 105 = .ok (.goto (-39), 3) := dk_167 255 217 (dk_at dksX2_copy_4 12 rfl rfl)
theorem dX2_copy_108 : decode cX2_copy 108 = .ok (.iconst 0, 1) := dk_3 (dk_at dksX2_copy_4 15 rfl rfl)
theorem dX2_copy_109 : decode cX2_copy 109 = .ok (.istore_n 2, 1) := dk_61 (dk_at dksX2_copy_4 16 rfl rfl)
theorem dX2_copy_110 : decode cX2_copy 110 = .ok (.iload_n 2, 1) := dk_28 (dk_at dksX2_copy_4 17 rfl rfl)
theorem dX2_copy_111 : decode cX2_copy 111 = .ok (.aload_n 0, 1) := dk_42 (dk_at dksX2_copy_4 18 rfl rfl)
theorem dX2_copy_112 : decode cX2_copy 112 = .ok (.getfield 31, 3) := dk_180 0 31 (dk_at dksX2_copy_4 19 rfl rfl)
theorem dX2_copy_115 : decode cX2_copy 115 = .ok (.invokeinterface 48 1, 5) := by decide +kernel
theorem dX2_copy_120 : decode cX2_copy 120 = .ok (.if_icmp .ge 35, 3) := dk_162 0 35 (dk_at dksX2_copy_5 5 rfl rfl)
theorem dX2_copy_123 : decode cX2_copy 123 = .ok (.aload_n 1, 1) := dk_43 (dk_at dksX2_copy_5 8 rfl rfl)
theorem dX2_copy_124 : decode cX2_copy 124 = .ok (.getfield 31, 3) := dk_180 0 31 (dk_at dksX2_copy_5 9 rfl rfl)
theorem dX2_copy_127 : decode cX2_copy 127 = .ok (.aload_n 0, 1) := dk_42 (dk_at dksX2_copy_5 12 rfl rfl)
theorem dX2_copy_128 : decode cX2_copy 128 = .ok (.getfield 31, 3) := dk_180 0 31 (dk_at dksX2_copy_5 13 rfl rfl)
theorem dX2_copy_131 : decode cX2_copy 131 = .ok (.iload_n 2, 1) := dk_28 (dk_at dksX2_copy_5 16 rfl rfl)
theorem dX2_copy_132 : decode cX2_copy 132 = .ok (.invokeinterface 54 2, 5) := by decide +kernel
theorem dX2_copy_137 : decode cX2_copy 137 = .ok (.checkcast 64, 3) := dk_192 0 64 (dk_at dksX2_copy_6 0 rfl rfl)
theorem dX2_copy_140 : decode cX2_copy 140 = .ok (.invokevirtual 66, 3) := dk_182 0 66 (dk_at dksX2_copy_6 3 rfl rfl)
theorem dX2_copy_143 : decode cX2_copy 143 = .ok (.invokeinterface 60 2, 5) := by decide +kernel
theorem dX2_copy_148 : decode cX2_copy 148 = .ok (.pop, 1) := dk_87 (dk_at dksX2_copy_6 11 rfl rfl)
theorem dX2_copy_149 : decode cX2_copy 149 = .ok (.iinc 2 1, 3) := dk_132 2 1 (dk_at dksX2_copy_6 12 rfl rfl)
theorem dX2_copy_152 : decode cX2_copy 152 = .ok (.goto (-42), 3) := dk_167 255 214 (dk_at dksX2_copy_6 15 rfl rfl)
theorem dX2_copy_155 : decode cX2_copy 155 = .ok (.iconst 0, 1) := dk_3 (dk_at dksX2_copy_6 18 rfl rfl)
theorem dX2_copy_156 : decode cX2_copy 156 = .ok (.istore_n 2, 1) := dk_61 (dk_at dksX2_copy_6 19 rfl rfl)
theorem dX2_copy_157 : decode cX2_copy 157 = .ok (.iload_n 2, 1) := dk_28 (dk_at dksX2_copy_6 20 rfl rfl)
theorem dX2_copy_158 : decode cX2_copy 158 = .ok (.aload_n 0, 1) := dk_42 (dk_at dksX2_copy_6 21 rfl rfl)
theorem dX2_copy_159 : decode cX2_copy 159 = .ok (.getfield 34, 3) := dk_180 0 34 (dk_at dksX2_copy_7 0 rfl rfl)
theorem dX2_copy_162 : decode cX2_copy 162 = .ok (.invokeinterface 48 1, 5) := by decide +kernel
theorem dX2_copy_167 : decode cX2_copy 167 = .ok (.if_icmp .ge 32, 3) := dk_162 0 32 (dk_at dksX2_copy_7 8 rfl rfl)
theorem dX2_copy_170 : decode cX2_copy 170 = .ok (.aload_n 1, 1) := dk_43 (dk_at dksX2_copy_7 11 rfl rfl)
theorem dX2_copy_171 : decode cX2_copy 171 = .ok (.getfield 34, 3) := dk_180 0 34 (dk_at dksX2_copy_7 12 rfl rfl)
theorem dX2_copy_174 : decode cX2_copy 174 = .ok (.aload_n 0, 1) := dk_42 (dk_at dksX2_copy_7 15 rfl rfl)
theorem dX2_copy_175 : decode cX2_copy 175 = .ok (.getfield 34, 3) := dk_180 0 34 (dk_at dksX2_copy_7 16 rfl rfl)
theorem dX2_copy_178 : decode cX2_copy 178 = .ok (.iload_n 2, 1) := dk_28 (dk_at dksX2_copy_7 19 rfl rfl)
theorem dX2_copy_179 : decode cX2_copy 179 = .ok (.invokeinterface 54 2, 5) := by decide +kernel
theorem dX2_copy_184 : decode cX2_copy 184 = .ok (.checkcast 70, 3) := dk_192 0 70 (dk_at dksX2_copy_8 5 rfl rfl)
theorem dX2_copy_187 : decode cX2_copy 187 = .ok (.invokeinterface 60 2, 5) := by decide +kernel
theorem dX2_copy_192 : decode cX2_copy 192 = .ok (.pop, 1) := dk_87 (dk_at dksX2_copy_8 13 rfl rfl)
theorem dX2_copy_193 : decode cX2_copy 193 = .ok (.iinc 2 1, 3) := dk_132 2 1 (dk_at dksX2_copy_8 14 rfl rfl)
theorem dX2_copy_196 : decode cX2_copy 196 = .ok (.goto (-39), 3) := dk_167 255 217 (dk_at dksX2_copy_8 17 rfl rfl)
theorem dX2_copy_199 : decode cX2_copy 199 = .ok (.aload_n 1, 1) := dk_43 (dk_at dksX2_copy_8 20 rfl rfl)
theorem dX2_copy_200 : decode cX2_copy 200 = .ok (.areturn, 1) := dk_176 (dk_at dksX2_copy_8 21 rfl rfl)
theorem q178 : (Jvm.Cond.initialized "CountyGazetteer$State") ∈ lw_all := lw_g (lw_at lw_m1 2 rfl) rfl
theorem q256 : (Jvm.Cond.instantiable "CountyGazetteer$State" (10 : Nat)) ∈ lw_all := lw_g (lw_at lw_m1 80 rfl) rfl
theorem q258 : (Jvm.Cond.instanceMethod ({ cls := "CountyGazetteer$State", name := "<init>", desc := "()V" } : Jvm.MethodName)) ∈ lw_all := lw_g (lw_at lw_m1 82 rfl) rfl
theorem q259 : (Jvm.Cond.code ({ cls := "CountyGazetteer$State", name := "<init>", desc := "()V" } : Jvm.MethodName) prog_16_method_1_code (1 : Nat) (Option.none : Option Jvm.ClassFile.FieldType)) ∈ lw_all := lw_g (lw_at lw_m1 83 rfl) rfl
theorem q260 : (Jvm.Cond.methodLink "CountyGazetteer$State" (3 : Nat) ({ cls := "java/lang/Object", name := "<init>", desc := "()V" } : Jvm.MethodName)) ∈ lw_all := lw_g (lw_at lw_m1 84 rfl) rfl
theorem q261 : (Jvm.Cond.classLink "CountyGazetteer$State" (24 : Nat) "java/util/ArrayList") ∈ lw_all := lw_g (lw_at lw_m1 85 rfl) rfl
theorem q263 : (Jvm.Cond.methodLink "CountyGazetteer$State" (26 : Nat) ({ cls := "java/util/ArrayList", name := "<init>", desc := "()V" } : Jvm.MethodName)) ∈ lw_all := lw_g (lw_at lw_m1 87 rfl) rfl
theorem q295 : (Jvm.Cond.fieldLink "CountyGazetteer$State" (9 : Nat) "CountyGazetteer$State" "width" "I") ∈ lw_all := lw_g (lw_at lw_m1 119 rfl) rfl
theorem q299 : (Jvm.Cond.fieldLink "CountyGazetteer$State" (15 : Nat) "CountyGazetteer$State" "height" "I") ∈ lw_all := lw_g (lw_at lw_m1 123 rfl) rfl
theorem q302 : (Jvm.Cond.fieldLink "CountyGazetteer$State" (18 : Nat) "CountyGazetteer$State" "lines" "I") ∈ lw_all := lw_g (lw_at lw_m1 126 rfl) rfl
theorem q307 : (Jvm.Cond.fieldLink "CountyGazetteer$State" (38 : Nat) "CountyGazetteer$State" "year" "I") ∈ lw_all := lw_g (lw_at lw_m1 131 rfl) rfl
theorem q310 : (Jvm.Cond.fieldLink "CountyGazetteer$State" (21 : Nat) "CountyGazetteer$State" "before" "I") ∈ lw_all := lw_g (lw_at lw_m1 134 rfl) rfl
theorem q313 : (Jvm.Cond.fieldLink "CountyGazetteer$State" (41 : Nat) "CountyGazetteer$State" "renames" "I") ∈ lw_all := lw_g (lw_at lw_m1 137 rfl) rfl
theorem q317 : (Jvm.Cond.fieldLink "CountyGazetteer$State" (44 : Nat) "CountyGazetteer$State" "isFresh" "Z") ∈ lw_all := lw_g (lw_at lw_m1 141 rfl) rfl
theorem q321 : (Jvm.Cond.fieldLink "CountyGazetteer$State" (27 : Nat) "CountyGazetteer$State" "counties" "Ljava/util/List;") ∈ lw_all := lw_g (lw_at lw_m1 145 rfl) rfl
theorem q324 : (Jvm.Cond.fieldLink "CountyGazetteer$State" (31 : Nat) "CountyGazetteer$State" "villages" "Ljava/util/List;") ∈ lw_all := lw_g (lw_at lw_m1 148 rfl) rfl
theorem q328 : (Jvm.Cond.fieldLink "CountyGazetteer$State" (34 : Nat) "CountyGazetteer$State" "reforms" "Ljava/util/List;") ∈ lw_all := lw_g (lw_at lw_m1 152 rfl) rfl
theorem q331 : (Jvm.Cond.lays "CountyGazetteer$State" "CountyGazetteer$State" "width" "I") ∈ lw_all := lw_g (lw_at lw_m1 155 rfl) rfl
theorem q332 : (Jvm.Cond.soleField "CountyGazetteer$State" "width") ∈ lw_all := lw_g (lw_at lw_m1 156 rfl) rfl
theorem q333 : (Jvm.Cond.lays "CountyGazetteer$State" "CountyGazetteer$State" "height" "I") ∈ lw_all := lw_g (lw_at lw_m1 157 rfl) rfl
theorem q334 : (Jvm.Cond.soleField "CountyGazetteer$State" "height") ∈ lw_all := lw_g (lw_at lw_m1 158 rfl) rfl
theorem q335 : (Jvm.Cond.lays "CountyGazetteer$State" "CountyGazetteer$State" "lines" "I") ∈ lw_all := lw_g (lw_at lw_m1 159 rfl) rfl
theorem q336 : (Jvm.Cond.soleField "CountyGazetteer$State" "lines") ∈ lw_all := lw_g (lw_at lw_m1 160 rfl) rfl
theorem q337 : (Jvm.Cond.lays "CountyGazetteer$State" "CountyGazetteer$State" "year" "I") ∈ lw_all := lw_g (lw_at lw_m1 161 rfl) rfl
theorem q338 : (Jvm.Cond.soleField "CountyGazetteer$State" "year") ∈ lw_all := lw_g (lw_at lw_m1 162 rfl) rfl
theorem q339 : (Jvm.Cond.lays "CountyGazetteer$State" "CountyGazetteer$State" "before" "I") ∈ lw_all := lw_g (lw_at lw_m1 163 rfl) rfl
theorem q340 : (Jvm.Cond.soleField "CountyGazetteer$State" "before") ∈ lw_all := lw_g (lw_at lw_m1 164 rfl) rfl
theorem q341 : (Jvm.Cond.lays "CountyGazetteer$State" "CountyGazetteer$State" "renames" "I") ∈ lw_all := lw_g (lw_at lw_m1 165 rfl) rfl
theorem q342 : (Jvm.Cond.soleField "CountyGazetteer$State" "renames") ∈ lw_all := lw_g (lw_at lw_m1 166 rfl) rfl
theorem q343 : (Jvm.Cond.lays "CountyGazetteer$State" "CountyGazetteer$State" "isFresh" "Z") ∈ lw_all := lw_g (lw_at lw_m1 167 rfl) rfl
theorem q344 : (Jvm.Cond.soleField "CountyGazetteer$State" "isFresh") ∈ lw_all := lw_g (lw_at lw_m1 168 rfl) rfl
theorem q345 : (Jvm.Cond.laysFinal "CountyGazetteer$State" "CountyGazetteer$State" "counties" "Ljava/util/List;") ∈ lw_all := lw_g (lw_at lw_m1 169 rfl) rfl
theorem q346 : (Jvm.Cond.soleField "CountyGazetteer$State" "counties") ∈ lw_all := lw_g (lw_at lw_m1 170 rfl) rfl
theorem q347 : (Jvm.Cond.laysFinal "CountyGazetteer$State" "CountyGazetteer$State" "villages" "Ljava/util/List;") ∈ lw_all := lw_g (lw_at lw_m1 171 rfl) rfl
theorem q348 : (Jvm.Cond.soleField "CountyGazetteer$State" "villages") ∈ lw_all := lw_g (lw_at lw_m1 172 rfl) rfl
theorem q349 : (Jvm.Cond.laysFinal "CountyGazetteer$State" "CountyGazetteer$State" "reforms" "Ljava/util/List;") ∈ lw_all := lw_g (lw_at lw_m1 173 rfl) rfl
theorem q350 : (Jvm.Cond.soleField "CountyGazetteer$State" "reforms") ∈ lw_all := lw_g (lw_at lw_m1 174 rfl) rfl
theorem q351 : (Jvm.Cond.superclass "CountyGazetteer$State" "java/lang/Object") ∈ lw_all := lw_g (lw_at lw_m1 175 rfl) rfl
theorem q413 : (Jvm.Cond.selects "CountyGazetteer$State" ({ cls := "java/lang/Object", name := "getClass", desc := "()Ljava/lang/Class;" } : Jvm.MethodName) ({ cls := "java/lang/Object", name := "getClass", desc := "()Ljava/lang/Class;" } : Jvm.MethodName)) ∈ lw_all := lw_g (lw_at lw_m1 237 rfl) rfl
theorem q1450 : (Jvm.Cond.instanceMethod ({ cls := "CountyGazetteer$State", name := "renames", desc := "(IILjava/lang/String;)V" } : Jvm.MethodName)) ∈ lw_all := lw_g (lw_at lw_m6 74 rfl) rfl
theorem q1451 : (Jvm.Cond.selects "CountyGazetteer$State" ({ cls := "CountyGazetteer$State", name := "renames", desc := "(IILjava/lang/String;)V" } : Jvm.MethodName) ({ cls := "CountyGazetteer$State", name := "renames", desc := "(IILjava/lang/String;)V" } : Jvm.MethodName)) ∈ lw_all := lw_g (lw_at lw_m6 75 rfl) rfl
theorem q1452 : (Jvm.Cond.code ({ cls := "CountyGazetteer$State", name := "renames", desc := "(IILjava/lang/String;)V" } : Jvm.MethodName) prog_16_method_4_code (4 : Nat) (Option.none : Option Jvm.ClassFile.FieldType)) ∈ lw_all := lw_g (lw_at lw_m6 76 rfl) rfl
theorem q1453 : (Jvm.Cond.interfaceEntry "CountyGazetteer$State" (54 : Nat)) ∈ lw_tbl := lw_at lw_m6 77 rfl
theorem q1454 : (Jvm.Cond.methodLink "CountyGazetteer$State" (54 : Nat) ({ cls := "java/util/List", name := "get", desc := "(I)Ljava/lang/Object;" } : Jvm.MethodName)) ∈ lw_all := lw_g (lw_at lw_m6 78 rfl) rfl
theorem q1455 : (Jvm.Cond.classLink "CountyGazetteer$State" (64 : Nat) "CountyGazetteer$Village") ∈ lw_all := lw_g (lw_at lw_m6 79 rfl) rfl
theorem q1456 : (Jvm.Cond.methodLink "CountyGazetteer$State" (97 : Nat) ({ cls := "CountyGazetteer$Village", name := "takes", desc := "(ILjava/lang/String;)V" } : Jvm.MethodName)) ∈ lw_all := lw_g (lw_at lw_m6 80 rfl) rfl
theorem q2023 : (Jvm.Cond.instanceMethod ({ cls := "CountyGazetteer$State", name := "byYears", desc := "()Ljava/util/TreeMap;" } : Jvm.MethodName)) ∈ lw_all := lw_g (lw_at lw_m8 167 rfl) rfl
theorem q2024 : (Jvm.Cond.selects "CountyGazetteer$State" ({ cls := "CountyGazetteer$State", name := "byYears", desc := "()Ljava/util/TreeMap;" } : Jvm.MethodName) ({ cls := "CountyGazetteer$State", name := "byYears", desc := "()Ljava/util/TreeMap;" } : Jvm.MethodName)) ∈ lw_all := lw_g (lw_at lw_m8 168 rfl) rfl
theorem q2025 : (Jvm.Cond.code ({ cls := "CountyGazetteer$State", name := "byYears", desc := "()Ljava/util/TreeMap;" } : Jvm.MethodName) prog_16_method_3_code (6 : Nat) (Option.some (Jvm.ClassFile.FieldType.object "java/util/TreeMap"))) ∈ lw_all := lw_g (lw_at lw_m8 169 rfl) rfl
theorem q2026 : (Jvm.Cond.classLink "CountyGazetteer$State" (72 : Nat) "java/util/TreeMap") ∈ lw_all := lw_g (lw_at lw_m8 170 rfl) rfl
theorem q2027 : (Jvm.Cond.methodLink "CountyGazetteer$State" (74 : Nat) ({ cls := "java/util/TreeMap", name := "<init>", desc := "()V" } : Jvm.MethodName)) ∈ lw_all := lw_g (lw_at lw_m8 171 rfl) rfl
theorem q2028 : (Jvm.Cond.interfaceEntry "CountyGazetteer$State" (48 : Nat)) ∈ lw_tbl := lw_at lw_m8 172 rfl
theorem q2029 : (Jvm.Cond.methodLink "CountyGazetteer$State" (48 : Nat) ({ cls := "java/util/List", name := "size", desc := "()I" } : Jvm.MethodName)) ∈ lw_all := lw_g (lw_at lw_m8 173 rfl) rfl
theorem q2030 : (Jvm.Cond.classLink "CountyGazetteer$State" (70 : Nat) "CountyGazetteer$Reform") ∈ lw_all := lw_g (lw_at lw_m8 174 rfl) rfl
theorem q2031 : (Jvm.Cond.interfaceEntry "CountyGazetteer$State" (75 : Nat)) ∈ lw_tbl := lw_at lw_m8 175 rfl
theorem q2032 : (Jvm.Cond.methodLink "CountyGazetteer$State" (75 : Nat) ({ cls := "CountyGazetteer$Reform", name := "year", desc := "()I" } : Jvm.MethodName)) ∈ lw_all := lw_g (lw_at lw_m8 176 rfl) rfl
theorem q2047 : (Jvm.Cond.methodLink "CountyGazetteer$State" (77 : Nat) ({ cls := "java/lang/Integer", name := "valueOf", desc := "(I)Ljava/lang/Integer;" } : Jvm.MethodName)) ∈ lw_all := lw_g (lw_at lw_m8 191 rfl) rfl
theorem q2048 : (Jvm.Cond.methodLink "CountyGazetteer$State" (83 : Nat) ({ cls := "java/util/TreeMap", name := "get", desc := "(Ljava/lang/Object;)Ljava/lang/Object;" } : Jvm.MethodName)) ∈ lw_all := lw_g (lw_at lw_m8 192 rfl) rfl
theorem q2049 : (Jvm.Cond.classLink "CountyGazetteer$State" (86 : Nat) "java/util/LinkedList") ∈ lw_all := lw_g (lw_at lw_m8 193 rfl) rfl
theorem q2050 : (Jvm.Cond.methodLink "CountyGazetteer$State" (88 : Nat) ({ cls := "java/util/LinkedList", name := "<init>", desc := "()V" } : Jvm.MethodName)) ∈ lw_all := lw_g (lw_at lw_m8 194 rfl) rfl
theorem q2069 : (Jvm.Cond.methodLink "CountyGazetteer$State" (89 : Nat) ({ cls := "java/util/TreeMap", name := "put", desc := "(Ljava/lang/Object;Ljava/lang/Object;)Ljava/lang/Object;" } : Jvm.MethodName)) ∈ lw_all := lw_g (lw_at lw_m8 213 rfl) rfl
theorem q2070 : (Jvm.Cond.methodLink "CountyGazetteer$State" (93 : Nat) ({ cls := "java/util/LinkedList", name := "addLast", desc := "(Ljava/lang/Object;)V" } : Jvm.MethodName)) ∈ lw_all := lw_g (lw_at lw_m8 214 rfl) rfl
theorem q2768 : (Jvm.Cond.instanceMethod ({ cls := "CountyGazetteer$State", name := "copy", desc := "()LCountyGazetteer$State;" } : Jvm.MethodName)) ∈ lw_all := lw_g (lw_at lw_m11 192 rfl) rfl
theorem q2769 : (Jvm.Cond.selects "CountyGazetteer$State" ({ cls := "CountyGazetteer$State", name := "copy", desc := "()LCountyGazetteer$State;" } : Jvm.MethodName) ({ cls := "CountyGazetteer$State", name := "copy", desc := "()LCountyGazetteer$State;" } : Jvm.MethodName)) ∈ lw_all := lw_g (lw_at lw_m11 193 rfl) rfl
theorem q2770 : (Jvm.Cond.code ({ cls := "CountyGazetteer$State", name := "copy", desc := "()LCountyGazetteer$State;" } : Jvm.MethodName) prog_16_method_2_code (3 : Nat) (Option.some (Jvm.ClassFile.FieldType.object "CountyGazetteer$State"))) ∈ lw_all := lw_g (lw_at lw_m11 194 rfl) rfl
theorem q2771 : (Jvm.Cond.classLink "CountyGazetteer$State" (10 : Nat) "CountyGazetteer$State") ∈ lw_all := lw_g (lw_at lw_m11 195 rfl) rfl
theorem q2772 : (Jvm.Cond.methodLink "CountyGazetteer$State" (37 : Nat) ({ cls := "CountyGazetteer$State", name := "<init>", desc := "()V" } : Jvm.MethodName)) ∈ lw_all := lw_g (lw_at lw_m11 196 rfl) rfl
theorem q2773 : (Jvm.Cond.classLink "CountyGazetteer$State" (58 : Nat) "CountyGazetteer$County") ∈ lw_all := lw_g (lw_at lw_m11 197 rfl) rfl
theorem q2774 : (Jvm.Cond.interfaceEntry "CountyGazetteer$State" (60 : Nat)) ∈ lw_tbl := lw_at lw_m11 198 rfl
theorem q2775 : (Jvm.Cond.methodLink "CountyGazetteer$State" (60 : Nat) ({ cls := "java/util/List", name := "add", desc := "(Ljava/lang/Object;)Z" } : Jvm.MethodName)) ∈ lw_all := lw_g (lw_at lw_m11 199 rfl) rfl
theorem q2776 : (Jvm.Cond.methodLink "CountyGazetteer$State" (66 : Nat) ({ cls := "CountyGazetteer$Village", name := "copy", desc := "()LCountyGazetteer$Village;" } : Jvm.MethodName)) ∈ lw_all := lw_g (lw_at lw_m11 200 rfl) rfl
theorem q2820 : (Jvm.Cond.selects "CountyGazetteer$State" ({ cls := "java/lang/Object", name := "equals", desc := "(Ljava/lang/Object;)Z" } : Jvm.MethodName) ({ cls := "java/lang/Object", name := "equals", desc := "(Ljava/lang/Object;)Z" } : Jvm.MethodName)) ∈ lw_all := lw_g (lw_at lw_m12 4 rfl) rfl
theorem q4481 : (Jvm.Cond.castable "CountyGazetteer$State" "java/lang/Object") ∈ lw_tbl := lw_at lw_m18 225 rfl
theorem in_X2 : ∀ w ∈ wsX20, w ∈ lw_all := lw_in wsX20 [331, 333, 335, 337, 339, 341, 343, 345, 347, 349] (by decide +kernel) (by decide +kernel)

/-! CountyGazetteer$County -/
set_option maxRecDepth 100000
def RX3 : String := "CountyGazetteer$County"
def TX3 : u_T := fun k => match k with
  | _ => ("CountyGazetteer$County", "name", "Ljava/lang/String;", true)
def tyX3 : Nat → FieldType := fun k => match k with
  | _ => .object "java/lang/String"
abbrev wsX30 : List Cond := u_ws RX3 TX3 1
theorem nmX3 : ∀ a, a < 1 → ∀ b, b < 1 → a ≠ b → (TX3 a).2.1 ≠ (TX3 b).2.1 := by decide +kernel
theorem tyX3_ok : ∀ k, k < 1 → parseFieldDescriptor (TX3 k).2.2.1 = some (tyX3 k) := by decide +kernel
abbrev cX3_init : ByteArray := prog_6_method_1_code
def yX3_init : MethodName := ⟨RX3, "<init>", "(Ljava/lang/String;)V"⟩
def dkwX3_init_0 : List UInt8 := [42, 183, 0, 1, 42, 43, 181, 0, 7, 177]
abbrev dktX3_init_0 : List UInt8 := dkwX3_init_0 ++ []
theorem dksX3_init_0 : cX3_init.data.toList.drop 0 = dktX3_init_0 := by decide +kernel
theorem dX3_init_0 : decode cX3_init 0 = .ok (.aload_n 0, 1) := dk_42 (dk_at dksX3_init_0 0 rfl rfl)
theorem dX3_init_1 : decode cX3_init 1 = .ok (.invokespecial 1, 3) := dk_183 0 1 (dk_at dksX3_init_0 1 rfl rfl)
theorem dX3_init_4 : decode cX3_init 4 = .ok (.aload_n 0, 1) := dk_42 (dk_at dksX3_init_0 4 rfl rfl)
theorem dX3_init_5 : decode cX3_init 5 = .ok (.aload_n 1, 1) := dk_43 (dk_at dksX3_init_0 5 rfl rfl)
theorem dX3_init_6 : decode cX3_init 6 = .ok (.putfield 7, 3) := dk_181 0 7 (dk_at dksX3_init_0 6 rfl rfl)
theorem dX3_init_9 : decode cX3_init 9 = .ok (.return_, 1) := dk_177 (dk_at dksX3_init_0 9 rfl rfl)
abbrev cX3_name : ByteArray := prog_6_method_2_code
def yX3_name : MethodName := ⟨RX3, "name", "()Ljava/lang/String;"⟩
theorem dX3_name_0 : decode cX3_name 0 = .ok (.aload_n 0, 1) := by decide +kernel
theorem dX3_name_1 : decode cX3_name 1 = .ok (.getfield 7, 3) := by decide +kernel
theorem dX3_name_4 : decode cX3_name 4 = .ok (.areturn, 1) := by decide +kernel
theorem q182 : (Jvm.Cond.initialized "CountyGazetteer$County") ∈ lw_all := lw_g (lw_at lw_m1 6 rfl) rfl
theorem q353 : (Jvm.Cond.instantiable "CountyGazetteer$County" (1 : Nat)) ∈ lw_all := lw_g (lw_at lw_m1 177 rfl) rfl
theorem q356 : (Jvm.Cond.instanceMethod ({ cls := "CountyGazetteer$County", name := "<init>", desc := "(Ljava/lang/String;)V" } : Jvm.MethodName)) ∈ lw_all := lw_g (lw_at lw_m1 180 rfl) rfl
theorem q357 : (Jvm.Cond.code ({ cls := "CountyGazetteer$County", name := "<init>", desc := "(Ljava/lang/String;)V" } : Jvm.MethodName) prog_6_method_1_code (2 : Nat) (Option.none : Option Jvm.ClassFile.FieldType)) ∈ lw_all := lw_g (lw_at lw_m1 181 rfl) rfl
theorem q358 : (Jvm.Cond.methodLink "CountyGazetteer$County" (1 : Nat) ({ cls := "java/lang/Object", name := "<init>", desc := "()V" } : Jvm.MethodName)) ∈ lw_all := lw_g (lw_at lw_m1 182 rfl) rfl
theorem q359 : (Jvm.Cond.fieldLink "CountyGazetteer$County" (7 : Nat) "CountyGazetteer$County" "name" "Ljava/lang/String;") ∈ lw_all := lw_g (lw_at lw_m1 183 rfl) rfl
theorem q360 : (Jvm.Cond.laysFinal "CountyGazetteer$County" "CountyGazetteer$County" "name" "Ljava/lang/String;") ∈ lw_all := lw_g (lw_at lw_m1 184 rfl) rfl
theorem q361 : (Jvm.Cond.soleField "CountyGazetteer$County" "name") ∈ lw_all := lw_g (lw_at lw_m1 185 rfl) rfl
theorem q362 : (Jvm.Cond.superclass "CountyGazetteer$County" "java/lang/Object") ∈ lw_all := lw_g (lw_at lw_m1 186 rfl) rfl
theorem q405 : (Jvm.Cond.selects "CountyGazetteer$County" ({ cls := "java/lang/Object", name := "getClass", desc := "()Ljava/lang/Class;" } : Jvm.MethodName) ({ cls := "java/lang/Object", name := "getClass", desc := "()Ljava/lang/Class;" } : Jvm.MethodName)) ∈ lw_all := lw_g (lw_at lw_m1 229 rfl) rfl
theorem q1243 : (Jvm.Cond.castable "CountyGazetteer$County" "CountyGazetteer$Named") ∈ lw_tbl := lw_at lw_m5 107 rfl
theorem q1244 : (Jvm.Cond.unhidden "CountyGazetteer$County" "isNamed" "(Ljava/lang/CharSequence;)Z") ∈ lw_tbl := lw_at lw_m5 108 rfl
theorem q1252 : (Jvm.Cond.selects "CountyGazetteer$County" ({ cls := "CountyGazetteer$Named", name := "name", desc := "()Ljava/lang/String;" } : Jvm.MethodName) ({ cls := "CountyGazetteer$County", name := "name", desc := "()Ljava/lang/String;" } : Jvm.MethodName)) ∈ lw_all := lw_g (lw_at lw_m5 116 rfl) rfl
theorem q1253 : (Jvm.Cond.unhidden "CountyGazetteer$County" "name" "()Ljava/lang/String;") ∈ lw_tbl := lw_at lw_m5 117 rfl
theorem q1254 : (Jvm.Cond.instanceMethod ({ cls := "CountyGazetteer$County", name := "name", desc := "()Ljava/lang/String;" } : Jvm.MethodName)) ∈ lw_all := lw_g (lw_at lw_m5 118 rfl) rfl
theorem q1255 : (Jvm.Cond.publicMethod ({ cls := "CountyGazetteer$County", name := "name", desc := "()Ljava/lang/String;" } : Jvm.MethodName)) ∈ lw_tbl := lw_at lw_m5 119 rfl
theorem q1256 : (Jvm.Cond.code ({ cls := "CountyGazetteer$County", name := "name", desc := "()Ljava/lang/String;" } : Jvm.MethodName) prog_6_method_2_code (1 : Nat) (Option.some (Jvm.ClassFile.FieldType.object "java/lang/String"))) ∈ lw_all := lw_g (lw_at lw_m5 120 rfl) rfl
theorem q2812 : (Jvm.Cond.selects "CountyGazetteer$County" ({ cls := "java/lang/Object", name := "equals", desc := "(Ljava/lang/Object;)Z" } : Jvm.MethodName) ({ cls := "java/lang/Object", name := "equals", desc := "(Ljava/lang/Object;)Z" } : Jvm.MethodName)) ∈ lw_all := lw_g (lw_at lw_m11 236 rfl) rfl
theorem q4463 : (Jvm.Cond.selects "CountyGazetteer$County" ({ cls := "CountyGazetteer$County", name := "name", desc := "()Ljava/lang/String;" } : Jvm.MethodName) ({ cls := "CountyGazetteer$County", name := "name", desc := "()Ljava/lang/String;" } : Jvm.MethodName)) ∈ lw_all := lw_g (lw_at lw_m18 207 rfl) rfl
theorem q4483 : (Jvm.Cond.castable "CountyGazetteer$County" "java/lang/Object") ∈ lw_tbl := lw_at lw_m18 227 rfl
theorem in_X3 : ∀ w ∈ wsX30, w ∈ lw_all := lw_in wsX30 [360] (by decide +kernel) (by decide +kernel)

/-! CountyGazetteer$Board -/
set_option maxRecDepth 100000
def RX4 : String := "CountyGazetteer$Board"
def TX4 : u_T := fun k => match k with
  | 0 => ("CountyGazetteer$Board", "width", "I", false)
  | 1 => ("CountyGazetteer$Board", "height", "I", false)
  | _ => ("CountyGazetteer$Board", "owners", "[I", true)
def tyX4 : Nat → FieldType := fun k => match k with
  | 0 => .int
  | 1 => .int
  | _ => .array .int
abbrev wsX40 : List Cond := u_ws RX4 TX4 3
theorem nmX4 : ∀ a, a < 3 → ∀ b, b < 3 → a ≠ b → (TX4 a).2.1 ≠ (TX4 b).2.1 := by decide +kernel
theorem tyX4_ok : ∀ k, k < 3 → parseFieldDescriptor (TX4 k).2.2.1 = some (tyX4 k) := by decide +kernel
abbrev cX4_init : ByteArray := prog_3_method_1_code
def yX4_init : MethodName := ⟨RX4, "<init>", "()V"⟩
def dkwX4_init_0 : List UInt8 := [42, 183, 0, 3, 42, 17, 0, 144, 188, 10, 181, 0, 9, 177]
abbrev dktX4_init_0 : List UInt8 := dkwX4_init_0 ++ []
theorem dksX4_init_0 : cX4_init.data.toList.drop 0 = dktX4_init_0 := by decide +kernel
theorem dX4_init_0 : decode cX4_init 0 = .ok (.aload_n 0, 1) := dk_42 (dk_at dksX4_init_0 0 rfl rfl)
theorem dX4_init_1 : decode cX4_init 1 = .ok (.invokespecial 3, 3) := dk_183 0 3 (dk_at dksX4_init_0 1 rfl rfl)
theorem dX4_init_4 : decode cX4_init 4 = .ok (.aload_n 0, 1) := dk_42 (dk_at dksX4_init_0 4 rfl rfl)
theorem dX4_init_5 : decode cX4_init 5 = .ok (.sipush 144, 3) := dk_17 0 144 (dk_at dksX4_init_0 5 rfl rfl)
theorem dX4_init_8 : decode cX4_init 8 = .ok (.newarray .int, 2) := dk_188_10 (dk_at dksX4_init_0 8 rfl rfl)
theorem dX4_init_10 : decode cX4_init 10 = .ok (.putfield 9, 3) := dk_181 0 9 (dk_at dksX4_init_0 10 rfl rfl)
theorem dX4_init_13 : decode cX4_init 13 = .ok (.return_, 1) := dk_177 (dk_at dksX4_init_0 13 rfl rfl)
abbrev cX4_begins : ByteArray := prog_3_method_2_code
def yX4_begins : MethodName := ⟨RX4, "begins", "(II)V"⟩
def dkwX4_begins_1 : List UInt8 := [180, 0, 9, 29, 3, 79, 132, 3, 1, 167, 255, 237, 177]
abbrev dktX4_begins_1 : List UInt8 := dkwX4_begins_1 ++ []
def dkwX4_begins_0 : List UInt8 := [42, 27, 181, 0, 15, 42, 28, 181, 0, 19, 3, 62, 29, 42, 180, 0, 9, 190, 162, 0, 16, 42]
abbrev dktX4_begins_0 : List UInt8 := dkwX4_begins_0 ++ dktX4_begins_1
theorem dksX4_begins_0 : cX4_begins.data.toList.drop 0 = dktX4_begins_0 := by decide +kernel
theorem dksX4_begins_1 : cX4_begins.data.toList.drop 22 = dktX4_begins_1 := dk_seg dksX4_begins_0 22 rfl rfl
theorem dX4_begins_0 : decode cX4_begins 0 = .ok (.aload_n 0, 1) := dk_42 (dk_at dksX4_begins_0 0 rfl rfl)
theorem dX4_begins_1 : decode cX4_begins 1 = .ok (.iload_n 1, 1) := dk_27 (dk_at dksX4_begins_0 1 rfl rfl)
theorem dX4_begins_2 : decode cX4_begins 2 = .ok (.putfield 15, 3) := dk_181 0 15 (dk_at dksX4_begins_0 2 rfl rfl)
theorem dX4_begins_5 : decode cX4_begins 5 = .ok (.aload_n 0, 1) := dk_42 (dk_at dksX4_begins_0 5 rfl rfl)
theorem dX4_begins_6 : decode cX4_begins 6 = .ok (.iload_n 2, 1) := dk_28 (dk_at dksX4_begins_0 6 rfl rfl)
theorem dX4_begins_7 : decode cX4_begins 7 = .ok (.putfield 19, 3) := dk_181 0 19 (dk_at dksX4_begins_0 7 rfl rfl)
theorem dX4_begins_10 : decode cX4_begins 10 = .ok (.iconst 0, 1) := dk_3 (dk_at dksX4_begins_0 10 rfl rfl)
theorem dX4_begins_11 : decode cX4_begins 11 = .ok (.istore_n 3, 1) := dk_62 (dk_at dksX4_begins_0 11 rfl rfl)
theorem dX4_begins_12 : decode cX4_begins 12 = .ok (.iload_n 3, 1) := dk_29 (dk_at dksX4_begins_0 12 rfl rfl)
theorem dX4_begins_13 : decode cX4_begins 13 = .ok (.aload_n 0, 1) := dk_42 (dk_at dksX4_begins_0 13 rfl rfl)
theorem dX4_begins_14 : decode cX4_begins 14 = .ok (.getfield 9, 3) := dk_180 0 9 (dk_at dksX4_begins_0 14 rfl rfl)
theorem dX4_begins_17 : decode cX4_begins 17 = .ok (.arraylength, 1) := dk_190 (dk_at dksX4_begins_0 17 rfl rfl)
theorem dX4_begins_18 : decode cX4_begins 18 = .ok (.if_icmp .ge 16, 3) := dk_162 0 16 (dk_at dksX4_begins_0 18 rfl rfl)
theorem dX4_begins_21 : decode cX4_begins 21 = .ok (.aload_n 0, 1) := dk_42 (dk_at dksX4_begins_0 21 rfl rfl)
theorem dX4_begins_22 : decode cX4_begins 22 = .ok (.getfield 9, 3) := dk_180 0 9 (dk_at dksX4_begins_1 0 rfl rfl)
theorem dX4_begins_25 : decode cX4_begins 25 = .ok (.iload_n 3, 1) := dk_29 (dk_at dksX4_begins_1 3 rfl rfl)
theorem dX4_begins_26 : decode cX4_begins 26 = .ok (.iconst 0, 1) := dk_3 (dk_at dksX4_begins_1 4 rfl rfl)
theorem dX4_begins_27 : decode cX4_begins 27 = .ok (.iastore, 1) := dk_79 (dk_at dksX4_begins_1 5 rfl rfl)
theorem dX4_begins_28 : decode cX4_begins 28 = .ok (.iinc 3 1, 3) := dk_132 3 1 (dk_at dksX4_begins_1 6 rfl rfl)
theorem dX4_begins_31 : decode cX4_begins 31 = .ok (.goto (-19), 3) := dk_167 255 237 (dk_at dksX4_begins_1 9 rfl rfl)
theorem dX4_begins_34 : decode cX4_begins 34 = .ok (.return_, 1) := dk_177 (dk_at dksX4_begins_1 12 rfl rfl)
abbrev cX4_gives : ByteArray := prog_3_method_6_code
def yX4_gives : MethodName := ⟨RX4, "gives", "(LCountyGazetteer$CellAsker;I)I"⟩
def dkwX4_gives_2 : List UInt8 := [79, 132, 3, 1, 132, 4, 1, 167, 255, 208, 29, 172]
abbrev dktX4_gives_2 : List UInt8 := dkwX4_gives_2 ++ []
def dkwX4_gives_1 : List UInt8 := [153, 0, 28, 42, 180, 0, 9, 21, 4, 46, 28, 160, 0, 6, 167, 0, 14, 42, 180, 0, 9, 21, 4, 28]
abbrev dktX4_gives_1 : List UInt8 := dkwX4_gives_1 ++ dktX4_gives_2
def dkwX4_gives_0 : List UInt8 := [3, 62, 3, 54, 4, 21, 4, 42, 182, 0, 22, 162, 0, 45, 43, 21, 4, 185, 0, 26, 2, 0]
abbrev dktX4_gives_0 : List UInt8 := dkwX4_gives_0 ++ dktX4_gives_1
theorem dksX4_gives_0 : cX4_gives.data.toList.drop 0 = dktX4_gives_0 := by decide +kernel
theorem dksX4_gives_1 : cX4_gives.data.toList.drop 22 = dktX4_gives_1 := dk_seg dksX4_gives_0 22 rfl rfl
theorem dksX4_gives_2 : cX4_gives.data.toList.drop 46 = dktX4_gives_2 := dk_seg dksX4_gives_1 24 rfl rfl
theorem dX4_gives_0 : decode cX4_gives 0 = .ok (.iconst 0, 1) := dk_3 (dk_at dksX4_gives_0 0 rfl rfl)
theorem dX4_gives_1 : decode cX4_gives 1 = .ok (.istore_n 3, 1) := dk_62 (dk_at dksX4_gives_0 1 rfl rfl)
theorem dX4_gives_2 : decode cX4_gives 2 = .ok (.iconst 0, 1) := dk_3 (dk_at dksX4_gives_0 2 rfl rfl)
theorem dX4_gives_3 : decode cX4_gives 3 = .ok (.istore 4, 2) := dk_54 4 (dk_at dksX4_gives_0 3 rfl rfl)
theorem dX4_gives_5 : decode cX4_gives 5 = .ok (.iload 4, 2) := dk_21 4 (dk_at dksX4_gives_0 5 rfl rfl)
theorem dX4_gives_7 : decode cX4_gives 7 = .ok (.aload_n 0, 1) := dk_42 (dk_at dksX4_gives_0 7 rfl rfl)
theorem dX4_gives_8 : decode cX4_gives 8 = .ok (.invokevirtual 22, 3) := dk_182 0 22 (dk_at dksX4_gives_0 8 rfl rfl)
theorem dX4_gives_11 : decode cX4_gives 11 = .ok (.if_icmp .ge 45, 3) := dk_162 0 45 (dk_at dksX4_gives_0 11 rfl rfl)
theorem dX4_gives_14 : decode cX4_gives 14 = .ok (.aload_n 1, 1) := dk_43 (dk_at dksX4_gives_0 14 rfl rfl)
theorem dX4_gives_15 : decode cX4_gives 15 = .ok (.iload 4, 2) := dk_21 4 (dk_at dksX4_gives_0 15 rfl rfl)
theorem dX4_gives_17 : decode cX4_gives 17 = .ok (.invokeinterface 26 2, 5) := by decide +kernel
theorem dX4_gives_22 : decode cX4_gives 22 = .ok (.ifCond .eq 28, 3) := dk_153 0 28 (dk_at dksX4_gives_1 0 rfl rfl)
theorem dX4_gives_25 : decode cX4_gives 25 = .ok (.aload_n 0, 1) := dk_42 (dk_at dksX4_gives_1 3 rfl rfl)
theorem dX4_gives_26 : decode cX4_gives 26 = .ok (.getfield 9, 3) := dk_180 0 9 (dk_at dksX4_gives_1 4 rfl rfl)
theorem dX4_gives_29 : decode cX4_gives 29 = .ok (.iload 4, 2) := dk_21 4 (dk_at dksX4_gives_1 7 rfl rfl)
theorem dX4_gives_31 : decode cX4_gives 31 = .ok (.iaload, 1) := dk_46 (dk_at dksX4_gives_1 9 rfl rfl)
theorem dX4_gives_32 : decode cX4_gives 32 = .ok (.iload_n 2, 1) := dk_28 (dk_at dksX4_gives_1 10 rfl rfl)
theorem dX4_gives_33 : decode cX4_gives 33 = .ok (.if_icmp .ne 6, 3) := dk_160 0 6 (dk_at dksX4_gives_1 11 rfl rfl)
theorem dX4_gives_36 : decode cX4_gives 36 = .ok (.goto 14, 3) := dk_167 0 14 (dk_at dksX4_gives_1 14 rfl rfl)
theorem dX4_gives_39 : decode cX4_gives 39 = .ok (.aload_n 0, 1) := dk_42 (dk_at dksX4_gives_1 17 rfl rfl)
theorem dX4_gives_40 : decode cX4_gives 40 = .ok (.getfield 9, 3) := dk_180 0 9 (dk_at dksX4_gives_1 18 rfl rfl)
theorem dX4_gives_43 : decode cX4_gives 43 = .ok (.iload 4, 2) := dk_21 4 (dk_at dksX4_gives_1 21 rfl rfl)
theorem dX4_gives_45 : decode cX4_gives 45 = .ok (.iload_n 2, 1) := dk_28 (dk_at dksX4_gives_1 23 rfl rfl)
theorem dX4_gives_46 : decode cX4_gives 46 = .ok (.iastore, 1) := dk_79 (dk_at dksX4_gives_2 0 rfl rfl)
theorem dX4_gives_47 : decode cX4_gives 47 = .ok (.iinc 3 1, 3) := dk_132 3 1 (dk_at dksX4_gives_2 1 rfl rfl)
theorem dX4_gives_50 : decode cX4_gives 50 = .ok (.iinc 4 1, 3) := dk_132 4 1 (dk_at dksX4_gives_2 4 rfl rfl)
theorem dX4_gives_53 : decode cX4_gives 53 = .ok (.goto (-48), 3) := dk_167 255 208 (dk_at dksX4_gives_2 7 rfl rfl)
theorem dX4_gives_56 : decode cX4_gives 56 = .ok (.iload_n 3, 1) := dk_29 (dk_at dksX4_gives_2 10 rfl rfl)
theorem dX4_gives_57 : decode cX4_gives 57 = .ok (.ireturn, 1) := dk_172 (dk_at dksX4_gives_2 11 rfl rfl)
abbrev cX4_cells : ByteArray := prog_3_method_3_code
def yX4_cells : MethodName := ⟨RX4, "cells", "()I"⟩
def dkwX4_cells_0 : List UInt8 := [42, 180, 0, 15, 42, 180, 0, 19, 104, 172]
abbrev dktX4_cells_0 : List UInt8 := dkwX4_cells_0 ++ []
theorem dksX4_cells_0 : cX4_cells.data.toList.drop 0 = dktX4_cells_0 := by decide +kernel
theorem dX4_cells_0 : decode cX4_cells 0 = .ok (.aload_n 0, 1) := dk_42 (dk_at dksX4_cells_0 0 rfl rfl)
theorem dX4_cells_1 : decode cX4_cells 1 = .ok (.getfield 15, 3) := dk_180 0 15 (dk_at dksX4_cells_0 1 rfl rfl)
theorem dX4_cells_4 : decode cX4_cells 4 = .ok (.aload_n 0, 1) := dk_42 (dk_at dksX4_cells_0 4 rfl rfl)
theorem dX4_cells_5 : decode cX4_cells 5 = .ok (.getfield 19, 3) := dk_180 0 19 (dk_at dksX4_cells_0 5 rfl rfl)
theorem dX4_cells_8 : decode cX4_cells 8 = .ok (.imul, 1) := dk_104 (dk_at dksX4_cells_0 8 rfl rfl)
theorem dX4_cells_9 : decode cX4_cells 9 = .ok (.ireturn, 1) := dk_172 (dk_at dksX4_cells_0 9 rfl rfl)
abbrev cX4_x : ByteArray := prog_3_method_4_code
def yX4_x : MethodName := ⟨RX4, "x", "(I)I"⟩
def dkwX4_x_0 : List UInt8 := [27, 42, 180, 0, 15, 112, 172]
abbrev dktX4_x_0 : List UInt8 := dkwX4_x_0 ++ []
theorem dksX4_x_0 : cX4_x.data.toList.drop 0 = dktX4_x_0 := by decide +kernel
theorem dX4_x_0 : decode cX4_x 0 = .ok (.iload_n 1, 1) := dk_27 (dk_at dksX4_x_0 0 rfl rfl)
theorem dX4_x_1 : decode cX4_x 1 = .ok (.aload_n 0, 1) := dk_42 (dk_at dksX4_x_0 1 rfl rfl)
theorem dX4_x_2 : decode cX4_x 2 = .ok (.getfield 15, 3) := dk_180 0 15 (dk_at dksX4_x_0 2 rfl rfl)
theorem dX4_x_5 : decode cX4_x 5 = .ok (.irem, 1) := dk_112 (dk_at dksX4_x_0 5 rfl rfl)
theorem dX4_x_6 : decode cX4_x 6 = .ok (.ireturn, 1) := dk_172 (dk_at dksX4_x_0 6 rfl rfl)
abbrev cX4_y : ByteArray := prog_3_method_5_code
def yX4_y : MethodName := ⟨RX4, "y", "(I)I"⟩
def dkwX4_y_0 : List UInt8 := [27, 42, 180, 0, 15, 108, 172]
abbrev dktX4_y_0 : List UInt8 := dkwX4_y_0 ++ []
theorem dksX4_y_0 : cX4_y.data.toList.drop 0 = dktX4_y_0 := by decide +kernel
theorem dX4_y_0 : decode cX4_y 0 = .ok (.iload_n 1, 1) := dk_27 (dk_at dksX4_y_0 0 rfl rfl)
theorem dX4_y_1 : decode cX4_y 1 = .ok (.aload_n 0, 1) := dk_42 (dk_at dksX4_y_0 1 rfl rfl)
theorem dX4_y_2 : decode cX4_y 2 = .ok (.getfield 15, 3) := dk_180 0 15 (dk_at dksX4_y_0 2 rfl rfl)
theorem dX4_y_5 : decode cX4_y 5 = .ok (.idiv, 1) := dk_108 (dk_at dksX4_y_0 5 rfl rfl)
theorem dX4_y_6 : decode cX4_y 6 = .ok (.ireturn, 1) := dk_172 (dk_at dksX4_y_0 6 rfl rfl)
abbrev cX4_count : ByteArray := prog_3_method_8_code
def yX4_count : MethodName := ⟨RX4, "count", "(I)I"⟩
def dkwX4_count_1 : List UInt8 := [167, 0, 4, 3, 96, 61, 132, 3, 1, 167, 255, 227, 28, 172]
abbrev dktX4_count_1 : List UInt8 := dkwX4_count_1 ++ []
def dkwX4_count_0 : List UInt8 := [3, 61, 3, 62, 29, 42, 182, 0, 22, 162, 0, 27, 28, 42, 180, 0, 9, 29, 46, 27, 160, 0, 7, 4]
abbrev dktX4_count_0 : List UInt8 := dkwX4_count_0 ++ dktX4_count_1
theorem dksX4_count_0 : cX4_count.data.toList.drop 0 = dktX4_count_0 := by decide +kernel
theorem dksX4_count_1 : cX4_count.data.toList.drop 24 = dktX4_count_1 := dk_seg dksX4_count_0 24 rfl rfl
theorem dX4_count_0 : decode cX4_count 0 = .ok (.iconst 0, 1) := dk_3 (dk_at dksX4_count_0 0 rfl rfl)
theorem dX4_count_1 : decode cX4_count 1 = .ok (.istore_n 2, 1) := dk_61 (dk_at dksX4_count_0 1 rfl rfl)
theorem dX4_count_2 : decode cX4_count 2 = .ok (.iconst 0, 1) := dk_3 (dk_at dksX4_count_0 2 rfl rfl)
theorem dX4_count_3 : decode cX4_count 3 = .ok (.istore_n 3, 1) := dk_62 (dk_at dksX4_count_0 3 rfl rfl)
theorem dX4_count_4 : decode cX4_count 4 = .ok (.iload_n 3, 1) := dk_29 (dk_at dksX4_count_0 4 rfl rfl)
theorem dX4_count_5 : decode cX4_count 5 = .ok (.aload_n 0, 1) := dk_42 (dk_at dksX4_count_0 5 rfl rfl)
theorem dX4_count_6 : decode cX4_count 6 = .ok (.invokevirtual 22, 3) := dk_182 0 22 (dk_at dksX4_count_0 6 rfl rfl)
theorem dX4_count_9 : decode cX4_count 9 = .ok (.if_icmp .ge 27, 3) := dk_162 0 27 (dk_at dksX4_count_0 9 rfl rfl)
theorem dX4_count_12 : decode cX4_count 12 = .ok (.iload_n 2, 1) := dk_28 (dk_at dksX4_count_0 12 rfl rfl)
theorem dX4_count_13 : decode cX4_count 13 = .ok (.aload_n 0, 1) := dk_42 (dk_at dksX4_count_0 13 rfl rfl)
theorem dX4_count_14 : decode cX4_count 14 = .ok (.getfield 9, 3) := dk_180 0 9 (dk_at dksX4_count_0 14 rfl rfl)
theorem dX4_count_17 : decode cX4_count 17 = .ok (.iload_n 3, 1) := dk_29 (dk_at dksX4_count_0 17 rfl rfl)
theorem dX4_count_18 : decode cX4_count 18 = .ok (.iaload, 1) := dk_46 (dk_at dksX4_count_0 18 rfl rfl)
theorem dX4_count_19 : decode cX4_count 19 = .ok (.iload_n 1, 1) := dk_27 (dk_at dksX4_count_0 19 rfl rfl)
theorem dX4_count_20 : decode cX4_count 20 = .ok (.if_icmp .ne 7, 3) := dk_160 0 7 (dk_at dksX4_count_0 20 rfl rfl)
theorem dX4_count_23 : decode cX4_count 23 = .ok (.iconst 1, 1) := dk_4 (dk_at dksX4_count_0 23 rfl rfl)
theorem dX4_count_24 : decode cX4_count 24 = .ok (.goto 4, 3) := dk_167 0 4 (dk_at dksX4_count_1 0 rfl rfl)
theorem dX4_count_27 : decode cX4_count 27 = .ok (.iconst 0, 1) := dk_3 (dk_at dksX4_count_1 3 rfl rfl)
theorem dX4_count_28 : decode cX4_count 28 = .ok (.iadd, 1) := dk_96 (dk_at dksX4_count_1 4 rfl rfl)
theorem dX4_count_29 : decode cX4_count 29 = .ok (.istore_n 2, 1) := dk_61 (dk_at dksX4_count_1 5 rfl rfl)
theorem dX4_count_30 : decode cX4_count 30 = .ok (.iinc 3 1, 3) := dk_132 3 1 (dk_at dksX4_count_1 6 rfl rfl)
theorem dX4_count_33 : decode cX4_count 33 = .ok (.goto (-29), 3) := dk_167 255 227 (dk_at dksX4_count_1 9 rfl rfl)
theorem dX4_count_36 : decode cX4_count 36 = .ok (.iload_n 2, 1) := dk_28 (dk_at dksX4_count_1 12 rfl rfl)
theorem dX4_count_37 : decode cX4_count 37 = .ok (.ireturn, 1) := dk_172 (dk_at dksX4_count_1 13 rfl rfl)
abbrev cX4_parts : ByteArray := prog_3_method_9_code
def yX4_parts : MethodName := ⟨RX4, "parts", "(I)I"⟩
def dkwX4_parts_7 : List UInt8 := [167, 255, 112, 21, 4, 172]
abbrev dktX4_parts_7 : List UInt8 := dkwX4_parts_7 ++ []
def dkwX4_parts_6 : List UInt8 := [182, 0, 52, 45, 21, 8, 184, 0, 56, 182, 0, 62, 132, 7, 1, 167, 255, 193, 167, 255, 168, 132, 5, 1]
abbrev dktX4_parts_6 : List UInt8 := dkwX4_parts_6 ++ dktX4_parts_7
def dkwX4_parts_5 : List UInt8 := [21, 8, 46, 27, 160, 0, 30, 44, 21, 8, 182, 0, 49, 153, 0, 6, 167, 0, 18, 44, 21, 8]
abbrev dktX4_parts_5 : List UInt8 := dkwX4_parts_5 ++ dktX4_parts_6
def dkwX4_parts_4 : List UInt8 := [7, 162, 0, 63, 42, 21, 6, 21, 7, 182, 0, 77, 54, 8, 21, 8, 2, 159, 0, 41, 42, 180, 0, 9]
abbrev dktX4_parts_4 : List UInt8 := dkwX4_parts_4 ++ dktX4_parts_5
def dkwX4_parts_3 : List UInt8 := [45, 182, 0, 66, 154, 0, 87, 45, 182, 0, 70, 192, 0, 57, 182, 0, 74, 54, 6, 3, 54, 7, 21, 7]
abbrev dktX4_parts_3 : List UInt8 := dkwX4_parts_3 ++ dktX4_parts_4
def dkwX4_parts_2 : List UInt8 := [153, 0, 6, 167, 0, 112, 132, 4, 1, 44, 21, 5, 182, 0, 52, 45, 21, 5, 184, 0, 56, 182, 0, 62]
abbrev dktX4_parts_2 : List UInt8 := dkwX4_parts_2 ++ dktX4_parts_3
def dkwX4_parts_1 : List UInt8 := [42, 182, 0, 22, 162, 0, 141, 42, 180, 0, 9, 21, 5, 46, 27, 160, 0, 124, 44, 21, 5, 182, 0, 49]
abbrev dktX4_parts_1 : List UInt8 := dkwX4_parts_1 ++ dktX4_parts_2
def dkwX4_parts_0 : List UInt8 := [187, 0, 43, 89, 183, 0, 45, 77, 187, 0, 46, 89, 183, 0, 48, 78, 3, 54, 4, 3, 54, 5, 21, 5]
abbrev dktX4_parts_0 : List UInt8 := dkwX4_parts_0 ++ dktX4_parts_1
theorem dksX4_parts_0 : cX4_parts.data.toList.drop 0 = dktX4_parts_0 := by decide +kernel
theorem dksX4_parts_1 : cX4_parts.data.toList.drop 24 = dktX4_parts_1 := dk_seg dksX4_parts_0 24 rfl rfl
theorem dksX4_parts_2 : cX4_parts.data.toList.drop 48 = dktX4_parts_2 := dk_seg dksX4_parts_1 24 rfl rfl
theorem dksX4_parts_3 : cX4_parts.data.toList.drop 72 = dktX4_parts_3 := dk_seg dksX4_parts_2 24 rfl rfl
theorem dksX4_parts_4 : cX4_parts.data.toList.drop 96 = dktX4_parts_4 := dk_seg dksX4_parts_3 24 rfl rfl
theorem dksX4_parts_5 : cX4_parts.data.toList.drop 120 = dktX4_parts_5 := dk_seg dksX4_parts_4 24 rfl rfl
theorem dksX4_parts_6 : cX4_parts.data.toList.drop 142 = dktX4_parts_6 := dk_seg dksX4_parts_5 22 rfl rfl
theorem dksX4_parts_7 : cX4_parts.data.toList.drop 166 = dktX4_parts_7 := dk_seg dksX4_parts_6 24 rfl rfl
theorem dX4_parts_0 : decode cX4_parts 0 = .ok (.new 43, 3) := dk_187 0 43 (dk_at dksX4_parts_0 0 rfl rfl)
theorem dX4_parts_3 : decode cX4_parts 3 = .ok (.dup, 1) := dk_89 (dk_at dksX4_parts_0 3 rfl rfl)
theorem dX4_parts_4 : decode cX4_parts 4 = .ok (.invokespecial 45, 3) := dk_183 0 45 (dk_at dksX4_parts_0 4 rfl rfl)
theorem dX4_parts_7 : decode cX4_parts 7 = .ok (.astore_n 2, 1) := dk_77 (dk_at dksX4_parts_0 7 rfl rfl)
theorem dX4_parts_8 : decode cX4_parts 8 = .ok (.new 46, 3) := dk_187 0 46 (dk_at dksX4_parts_0 8 rfl rfl)
theorem dX4_parts_11 : decode cX4_parts 11 = .ok (.dup, 1) := dk_89 (dk_at dksX4_parts_0 11 rfl rfl)
theorem dX4_parts_12 : decode cX4_parts 12 = .ok (.invokespecial 48, 3) := dk_183 0 48 (dk_at dksX4_parts_0 12 rfl rfl)
theorem dX4_parts_15 : decode cX4_parts 15 = .ok (.astore_n 3, 1) := dk_78 (dk_at dksX4_parts_0 15 rfl rfl)
theorem dX4_parts_16 : decode cX4_parts 16 = .ok (.iconst 0, 1) := dk_3 (dk_at dksX4_parts_0 16 rfl rfl)
theorem dX4_parts_17 : decode cX4_parts 17 = .ok (.istore 4, 2) := dk_54 4 (dk_at dksX4_parts_0 17 rfl rfl)
theorem dX4_parts_19 : decode cX4_parts 19 = .ok (.iconst 0, 1) := dk_3 (dk_at dksX4_parts_0 19 rfl rfl)
theorem dX4_parts_20 : decode cX4_parts 20 = .ok (.istore 5, 2) := dk_54 5 (dk_at dksX4_parts_0 20 rfl rfl)
theorem dX4_parts_22 : decode cX4_parts 22 = .ok (.iload 5, 2) := dk_21 5 (dk_at dksX4_parts_0 22 rfl rfl)
theorem dX4_parts_24 : decode cX4_parts 24 = .ok (.aload_n 0, 1) := dk_42 (dk_at dksX4_parts_1 0 rfl rfl)
theorem dX4_parts_25 : decode cX4_parts 25 = .ok (.invokevirtual 22, 3) := dk_182 0 22 (dk_at dksX4_parts_1 1 rfl rfl)
theorem dX4_parts_28 : decode cX4_parts 28 = .ok (.if_icmp .ge 141, 3) := dk_162 0 141 (dk_at dksX4_parts_1 4 rfl rfl)
theorem dX4_parts_31 : decode cX4_parts 31 = .ok (.aload_n 0, 1) := dk_42 (dk_at dksX4_parts_1 7 rfl rfl)
theorem dX4_parts_32 : decode cX4_parts 32 = .ok (.getfield 9, 3) := dk_180 0 9 (dk_at dksX4_parts_1 8 rfl rfl)
theorem dX4_parts_35 : decode cX4_parts 35 = .ok (.iload 5, 2) := dk_21 5 (dk_at dksX4_parts_1 11 rfl rfl)
theorem dX4_parts_37 : decode cX4_parts 37 = .ok (.iaload, 1) := dk_46 (dk_at dksX4_parts_1 13 rfl rfl)
theorem dX4_parts_38 : decode cX4_parts 38 = .ok (.iload_n 1, 1) := dk_27 (dk_at dksX4_parts_1 14 rfl rfl)
theorem dX4_parts_39 : decode cX4_parts 39 = .ok (.if_icmp .ne 124, 3) := dk_160 0 124 (dk_at dksX4_parts_1 15 rfl rfl)
theorem dX4_parts_42 : decode cX4_parts 42 = .ok (.aload_n 2, 1) := dk_44 (dk_at dksX4_parts_1 18 rfl rfl)
theorem dX4_parts_43 : decode cX4_parts 43 = .ok (.iload 5, 2) := dk_21 5 (dk_at dksX4_parts_1 19 rfl rfl)
theorem dX4_parts_45 : decode cX4_parts 45 = .ok (.invokevirtual 49, 3) := dk_182 0 49 (dk_at dksX4_parts_1 21 rfl rfl)
theorem dX4_parts_48 : decode cX4_parts 48 = .ok (.ifCond .eq 6, 3) := dk_153 0 6 (dk_at dksX4_parts_2 0 rfl rfl)
theorem dX4_parts_51 : decode cX4_parts 51 = .ok (.goto 112, 3) := dk_167 0 112 (dk_at dksX4_parts_2 3 rfl rfl)
theorem dX4_parts_54 : decode cX4_parts 54 = .ok (.iinc 4 1, 3) := dk_132 4 1 (dk_at dksX4_parts_2 6 rfl rfl)
theorem dX4_parts_57 : decode cX4_parts 57 = .ok (.aload_n 2, 1) := dk_44 (dk_at dksX4_parts_2 9 rfl rfl)
theorem dX4_parts_58 : decode cX4_parts 58 = .ok (.iload 5, 2) := dk_21 5 (dk_at dksX4_parts_2 10 rfl rfl)
theorem dX4_parts_60 : decode cX4_parts 60 = .ok (.invokevirtual 52, 3) := dk_182 0 52 (dk_at dksX4_parts_2 12 rfl rfl)
theorem dX4_parts_63 : decode cX4_parts 63 = .ok (.aload_n 3, 1) := dk_45 (dk_at dksX4_parts_2 15 rfl rfl)
theorem dX4_parts_64 : decode cX4_parts 64 = .ok (.iload 5, 2) := dk_21 5 (dk_at dksX4_parts_2 16 rfl rfl)
theorem dX4_parts_66 : decode cX4_parts 66 = .ok (.invokestatic 56, 3) := dk_184 0 56 (dk_at dksX4_parts_2 18 rfl rfl)
theorem dX4_parts_69 : decode cX4_parts 69 = .ok (.invokevirtual 62, 3) := dk_182 0 62 (dk_at dksX4_parts_2 21 rfl rfl)
theorem dX4_parts_72 : decode cX4_parts 72 = .ok (.aload_n 3, 1) := dk_45 (dk_at dksX4_parts_3 0 rfl rfl)
theorem dX4_parts_73 : decode cX4_parts 73 = .ok (.invokevirtual 66, 3) := dk_182 0 66 (dk_at dksX4_parts_3 1 rfl rfl)
theorem dX4_parts_76 : decode cX4_parts 76 = .ok (.ifCond .ne 87, 3) := dk_154 0 87 (dk_at dksX4_parts_3 4 rfl rfl)
theorem dX4_parts_79 : decode cX4_parts 79 = .ok (.aload_n 3, 1) := dk_45 (dk_at dksX4_parts_3 7 rfl rfl)
theorem dX4_parts_80 : decode cX4_parts 80 = .ok (.invokevirtual 70, 3) := dk_182 0 70 (dk_at dksX4_parts_3 8 rfl rfl)
theorem dX4_parts_83 : decode cX4_parts 83 = .ok (.checkcast 57, 3) := dk_192 0 57 (dk_at dksX4_parts_3 11 rfl rfl)
theorem dX4_parts_86 : decode cX4_parts 86 = .ok (.invokevirtual 74, 3) := dk_182 0 74 (dk_at dksX4_parts_3 14 rfl rfl)
theorem dX4_parts_89 : decode cX4_parts 89 = .ok (.istore 6, 2) := dk_54 6 (dk_at dksX4_parts_3 17 rfl rfl)
theorem dX4_parts_91 : decode cX4_parts 91 = .ok (.iconst 0, 1) := dk_3 (dk_at dksX4_parts_3 19 rfl rfl)
theorem dX4_parts_92 : decode cX4_parts 92 = .ok (.istore 7, 2) := dk_54 7 (dk_at dksX4_parts_3 20 rfl rfl)
theorem dX4_parts_94 : decode cX4_parts 94 = .ok (.iload 7, 2) := dk_21 7 (dk_at dksX4_parts_3 22 rfl rfl)
theorem dX4_parts_96 : decode cX4_parts 96 = .ok (.iconst 4, 1) := dk_7 (dk_at dksX4_parts_4 0 rfl rfl)
theorem dX4_parts_97 : decode cX4_parts 97 = .ok (.if_icmp .ge 63, 3) := dk_162 0 63 (dk_at dksX4_parts_4 1 rfl rfl)
theorem dX4_parts_100 : decode cX4_parts 100 = .ok (.aload_n 0, 1) := dk_42 (dk_at dksX4_parts_4 4 rfl rfl)
theorem dX4_parts_101 : decode cX4_parts 101 = .ok (.iload 6, 2) := dk_21 6 (dk_at dksX4_parts_4 5 rfl rfl)
theorem dX4_parts_103 : decode cX4_parts 103 = .ok (.iload 7, 2) := dk_21 7 (dk_at dksX4_parts_4 7 rfl rfl)
theorem dX4_parts_105 : decode cX4_parts 105 = .ok (.invokevirtual 77, 3) := dk_182 0 77 (dk_at dksX4_parts_4 9 rfl rfl)
theorem dX4_parts_108 : decode cX4_parts 108 = .ok (.istore 8, 2) := dk_54 8 (dk_at dksX4_parts_4 12 rfl rfl)
theorem dX4_parts_110 : decode cX4_parts 110 = .ok (.iload 8, 2) := dk_21 8 (dk_at dksX4_parts_4 14 rfl rfl)
theorem dX4_parts_112 : decode cX4_parts 112 = .ok (.iconst (-1), 1) := dk_2 (dk_at dksX4_parts_4 16 rfl rfl)
theorem dX4_parts_113 : decode cX4_parts 113 = .ok (.if_icmp .eq 41, 3) := dk_159 0 41 (dk_at dksX4_parts_4 17 rfl rfl)
theorem dX4_parts_116 : decode cX4_parts 116 = .ok (.aload_n 0, 1) := dk_42 (dk_at dksX4_parts_4 20 rfl rfl)
theorem dX4_parts_117 : decode cX4_parts 117 = .ok (.getfield 9, 3) := dk_180 0 9 (dk_at dksX4_parts_4 21 rfl rfl)
theorem dX4_parts_120 : decode cX4_parts 120 = .ok (.iload 8, 2) := dk_21 8 (dk_at dksX4_parts_5 0 rfl rfl)
theorem dX4_parts_122 : decode cX4_parts 122 = .ok (.iaload, 1) := dk_46 (dk_at dksX4_parts_5 2 rfl rfl)
theorem dX4_parts_123 : decode cX4_parts 123 = .ok (.iload_n 1, 1) := dk_27 (dk_at dksX4_parts_5 3 rfl rfl)
theorem dX4_parts_124 : decode cX4_parts 124 = .ok (.if_icmp .ne 30, 3) := dk_160 0 30 (dk_at dksX4_parts_5 4 rfl rfl)
theorem dX4_parts_127 : decode cX4_parts 127 = .ok (.aload_n 2, 1) := dk_44 (dk_at dksX4_parts_5 7 rfl rfl)
theorem dX4_parts_128 : decode cX4_parts 128 = .ok (.iload 8, 2) := dk_21 8 (dk_at dksX4_parts_5 8 rfl rfl)
theorem dX4_parts_130 : decode cX4_parts 130 = .ok (.invokevirtual 49, 3) := dk_182 0 49 (dk_at dksX4_parts_5 10 rfl rfl)
theorem dX4_parts_133 : decode cX4_parts 133 = .ok (.ifCond .eq 6, 3) := dk_153 0 6 (dk_at dksX4_parts_5 13 rfl rfl)
theorem dX4_parts_136 : decode cX4_parts 136 = .ok (.goto 18, 3) := dk_167 0 18 (dk_at dksX4_parts_5 16 rfl rfl)
theorem dX4_parts_139 : decode cX4_parts 139 = .ok (.aload_n 2, 1) := dk_44 (dk_at dksX4_parts_5 19 rfl rfl)
theorem dX4_parts_140 : decode cX4_parts 140 = .ok (.iload 8, 2) := dk_21 8 (dk_at dksX4_parts_5 20 rfl rfl)
theorem dX4_parts_142 : decode cX4_parts 142 = .ok (.invokevirtual 52, 3) := dk_182 0 52 (dk_at dksX4_parts_6 0 rfl rfl)
theorem dX4_parts_145 : decode cX4_parts 145 = .ok (.aload_n 3, 1) := dk_45 (dk_at dksX4_parts_6 3 rfl rfl)
theorem dX4_parts_146 : decode cX4_parts 146 = .ok (.iload 8, 2) := dk_21 8 (dk_at dksX4_parts_6 4 rfl rfl)
theorem dX4_parts_148 : decode cX4_parts 148 = .ok (.invokestatic 56, 3) := dk_184 0 56 (dk_at dksX4_parts_6 6 rfl rfl)
theorem dX4_parts_151 : decode cX4_parts 151 = .ok (.invokevirtual 62, 3) := dk_182 0 62 (dk_at dksX4_parts_6 9 rfl rfl)
theorem dX4_parts_154 : decode cX4_parts 154 = .ok (.iinc 7 1, 3) := dk_132 7 1 (dk_at dksX4_parts_6 12 rfl rfl)
theorem dX4_parts_157 : decode cX4_parts 157 = .ok (.goto (-63), 3) := dk_167 255 193 (dk_at dksX4_parts_6 15 rfl rfl)
theorem dX4_parts_160 : decode cX4_parts 160 = .ok (.goto (-88), 3) := dk_167 255 168 (dk_at dksX4_parts_6 18 rfl rfl)
theorem dX4_parts_163 : decode cX4_parts 163 = .ok (.iinc 5 1, 3) := dk_132 5 1 (dk_at dksX4_parts_6 21 rfl rfl)
theorem dX4_parts_166 : decode cX4_parts 166 = .ok (.goto (-144), 3) := dk_167 255 112 (dk_at dksX4_parts_7 0 rfl rfl)
theorem dX4_parts_169 : decode cX4_parts 169 = .ok (.iload 4, 2) := dk_21 4 (dk_at dksX4_parts_7 3 rfl rfl)
theorem dX4_parts_171 : decode cX4_parts 171 = .ok (.ireturn, 1) := dk_172 (dk_at dksX4_parts_7 5 rfl rfl)
abbrev cX4_beside : ByteArray := prog_3_method_7_code
def yX4_beside : MethodName := ⟨RX4, "beside", "(II)I"⟩
def dkwX4_beside_4 : List UInt8 := [167, 0, 4, 2, 172]
abbrev dktX4_beside_4 : List UInt8 := dkwX4_beside_4 ++ []
def dkwX4_beside_3 : List UInt8 := [42, 180, 0, 19, 4, 100, 133, 184, 0, 39, 153, 0, 15, 42, 180, 0, 15, 21, 4, 104, 29, 96]
abbrev dktX4_beside_3 : List UInt8 := dkwX4_beside_3 ++ dktX4_beside_4
def dkwX4_beside_2 : List UInt8 := [3, 96, 54, 4, 29, 133, 9, 42, 180, 0, 15, 4, 100, 133, 184, 0, 39, 153, 0, 32, 21, 4, 133, 9]
abbrev dktX4_beside_2 : List UInt8 := dkwX4_beside_2 ++ dktX4_beside_3
def dkwX4_beside_1 : List UInt8 := [62, 42, 27, 182, 0, 36, 28, 5, 160, 0, 7, 4, 167, 0, 13, 28, 6, 160, 0, 7, 2, 167, 0, 4]
abbrev dktX4_beside_1 : List UInt8 := dkwX4_beside_1 ++ dktX4_beside_2
def dkwX4_beside_0 : List UInt8 := [42, 27, 182, 0, 32, 28, 154, 0, 7, 4, 167, 0, 13, 28, 4, 160, 0, 7, 2, 167, 0, 4, 3, 96]
abbrev dktX4_beside_0 : List UInt8 := dkwX4_beside_0 ++ dktX4_beside_1
theorem dksX4_beside_0 : cX4_beside.data.toList.drop 0 = dktX4_beside_0 := by decide +kernel
theorem dksX4_beside_1 : cX4_beside.data.toList.drop 24 = dktX4_beside_1 := dk_seg dksX4_beside_0 24 rfl rfl
theorem dksX4_beside_2 : cX4_beside.data.toList.drop 48 = dktX4_beside_2 := dk_seg dksX4_beside_1 24 rfl rfl
theorem dksX4_beside_3 : cX4_beside.data.toList.drop 72 = dktX4_beside_3 := dk_seg dksX4_beside_2 24 rfl rfl
theorem dksX4_beside_4 : cX4_beside.data.toList.drop 94 = dktX4_beside_4 := dk_seg dksX4_beside_3 22 rfl rfl
theorem dX4_beside_0 : decode cX4_beside 0 = .ok (.aload_n 0, 1) := dk_42 (dk_at dksX4_beside_0 0 rfl rfl)
theorem dX4_beside_1 : decode cX4_beside 1 = .ok (.iload_n 1, 1) := dk_27 (dk_at dksX4_beside_0 1 rfl rfl)
theorem dX4_beside_2 : decode cX4_beside 2 = .ok (.invokevirtual 32, 3) := dk_182 0 32 (dk_at dksX4_beside_0 2 rfl rfl)
theorem dX4_beside_5 : decode cX4_beside 5 = .ok (.iload_n 2, 1) := dk_28 (dk_at dksX4_beside_0 5 rfl rfl)
theorem dX4_beside_6 : decode cX4_beside 6 = .ok (.ifCond .ne 7, 3) := dk_154 0 7 (dk_at dksX4_beside_0 6 rfl rfl)
theorem dX4_beside_9 : decode cX4_beside 9 = .ok (.iconst 1, 1) := dk_4 (dk_at dksX4_beside_0 9 rfl rfl)
theorem dX4_beside_10 : decode cX4_beside 10 = .ok (.goto 13, 3) := dk_167 0 13 (dk_at dksX4_beside_0 10 rfl rfl)
theorem dX4_beside_13 : decode cX4_beside 13 = .ok (.iload_n 2, 1) := dk_28 (dk_at dksX4_beside_0 13 rfl rfl)
theorem dX4_beside_14 : decode cX4_beside 14 = .ok (.iconst 1, 1) := dk_4 (dk_at dksX4_beside_0 14 rfl rfl)
theorem dX4_beside_15 : decode cX4_beside 15 = .ok (.if_icmp .ne 7, 3) := dk_160 0 7 (dk_at dksX4_beside_0 15 rfl rfl)
theorem dX4_beside_18 : decode cX4_beside 18 = .ok (.iconst (-1), 1) := dk_2 (dk_at dksX4_beside_0 18 rfl rfl)
theorem dX4_beside_19 : decode cX4_beside 19 = .ok (.goto 4, 3) := dk_167 0 4 (dk_at dksX4_beside_0 19 rfl rfl)
theorem dX4_beside_22 : decode cX4_beside 22 = .ok (.iconst 0, 1) := dk_3 (dk_at dksX4_beside_0 22 rfl rfl)
theorem dX4_beside_23 : decode cX4_beside 23 = .ok (.iadd, 1) := dk_96 (dk_at dksX4_beside_0 23 rfl rfl)
theorem dX4_beside_24 : decode cX4_beside 24 = .ok (.istore_n 3, 1) := dk_62 (dk_at dksX4_beside_1 0 rfl rfl)
theorem dX4_beside_25 : decode cX4_beside 25 = .ok (.aload_n 0, 1) := dk_42 (dk_at dksX4_beside_1 1 rfl rfl)
theorem dX4_beside_26 : decode cX4_beside 26 = .ok (.iload_n 1, 1) := dk_27 (dk_at dksX4_beside_1 2 rfl rfl)
theorem dX4_beside_27 : decode cX4_beside 27 = .ok (.invokevirtual 36, 3) := dk_182 0 36 (dk_at dksX4_beside_1 3 rfl rfl)
theorem dX4_beside_30 : decode cX4_beside 30 = .ok (.iload_n 2, 1) := dk_28 (dk_at dksX4_beside_1 6 rfl rfl)
theorem dX4_beside_31 : decode cX4_beside 31 = .ok (.iconst 2, 1) := dk_5 (dk_at dksX4_beside_1 7 rfl rfl)
theorem dX4_beside_32 : decode cX4_beside 32 = .ok (.if_icmp .ne 7, 3) := dk_160 0 7 (dk_at dksX4_beside_1 8 rfl rfl)
theorem dX4_beside_35 : decode cX4_beside 35 = .ok (.iconst 1, 1) := dk_4 (dk_at dksX4_beside_1 11 rfl rfl)
theorem dX4_beside_36 : decode cX4_beside 36 = .ok (.goto 13, 3) := dk_167 0 13 (dk_at dksX4_beside_1 12 rfl rfl)
theorem dX4_beside_39 : decode cX4_beside 39 = .ok (.iload_n 2, 1) := dk_28 (dk_at dksX4_beside_1 15 rfl rfl)
theorem dX4_beside_40 : decode cX4_beside 40 = .ok (.iconst 3, 1) := dk_6 (dk_at dksX4_beside_1 16 rfl rfl)
theorem dX4_beside_41 : decode cX4_beside 41 = .ok (.if_icmp .ne 7, 3) := dk_160 0 7 (dk_at dksX4_beside_1 17 rfl rfl)
theorem dX4_beside_44 : decode cX4_beside 44 = .ok (.iconst (-1), 1) := dk_2 (dk_at dksX4_beside_1 20 rfl rfl)
theorem dX4_beside_45 : decode cX4_beside 45 = .ok (.goto 4, 3) := dk_167 0 4 (dk_at dksX4_beside_1 21 rfl rfl)
theorem dX4_beside_48 : decode cX4_beside 48 = .ok (.iconst 0, 1) := dk_3 (dk_at dksX4_beside_2 0 rfl rfl)
theorem dX4_beside_49 : decode cX4_beside 49 = .ok (.iadd, 1) := dk_96 (dk_at dksX4_beside_2 1 rfl rfl)
theorem dX4_beside_50 : decode cX4_beside 50 = .ok (.istore 4, 2) := dk_54 4 (dk_at dksX4_beside_2 2 rfl rfl)
theorem dX4_beside_52 : decode cX4_beside 52 = .ok (.iload_n 3, 1) := dk_29 (dk_at dksX4_beside_2 4 rfl rfl)
theorem dX4_beside_53 : decode cX4_beside 53 = .ok (.i2l, 1) := dk_133 (dk_at dksX4_beside_2 5 rfl rfl)
theorem dX4_beside_54 : decode cX4_beside 54 = .ok (.lconst 0, 1) := dk_9 (dk_at dksX4_beside_2 6 rfl rfl)
theorem dX4_beside_55 : decode cX4_beside 55 = .ok (.aload_n 0, 1) := dk_42 (dk_at dksX4_beside_2 7 rfl rfl)
theorem dX4_beside_56 : decode cX4_beside 56 = .ok (.getfield 15, 3) := dk_180 0 15 (dk_at dksX4_beside_2 8 rfl rfl)
theorem dX4_beside_59 : decode cX4_beside 59 = .ok (.iconst 1, 1) := dk_4 (dk_at dksX4_beside_2 11 rfl rfl)
theorem dX4_beside_60 : decode cX4_beside 60 = .ok (.isub, 1) := dk_100 (dk_at dksX4_beside_2 12 rfl rfl)
theorem dX4_beside_61 : decode cX4_beside 61 = .ok (.i2l, 1) := dk_133 (dk_at dksX4_beside_2 13 rfl rfl)
theorem dX4_beside_62 : decode cX4_beside 62 = .ok (.invokestatic 39, 3) := dk_184 0 39 (dk_at dksX4_beside_2 14 rfl rfl)
theorem dX4_beside_65 : decode cX4_beside 65 = .ok (.ifCond .eq 32, 3) := dk_153 0 32 (dk_at dksX4_beside_2 17 rfl rfl)
theorem dX4_beside_68 : decode cX4_beside 68 = .ok (.iload 4, 2) := dk_21 4 (dk_at dksX4_beside_2 20 rfl rfl)
theorem dX4_beside_70 : decode cX4_beside 70 = .ok (.i2l, 1) := dk_133 (dk_at dksX4_beside_2 22 rfl rfl)
theorem dX4_beside_71 : decode cX4_beside 71 = .ok (.lconst 0, 1) := dk_9 (dk_at dksX4_beside_2 23 rfl rfl)
theorem dX4_beside_72 : decode cX4_beside 72 = .ok (.aload_n 0, 1) := dk_42 (dk_at dksX4_beside_3 0 rfl rfl)
theorem dX4_beside_73 : decode cX4_beside 73 = .ok (.getfield 19, 3) := dk_180 0 19 (dk_at dksX4_beside_3 1 rfl rfl)
theorem dX4_beside_76 : decode cX4_beside 76 = .ok (.iconst 1, 1) := dk_4 (dk_at dksX4_beside_3 4 rfl rfl)
theorem dX4_beside_77 : decode cX4_beside 77 = .ok (.isub, 1) := dk_100 (dk_at dksX4_beside_3 5 rfl rfl)
theorem dX4_beside_78 : decode cX4_beside 78 = .ok (.i2l, 1) := dk_133 (dk_at dksX4_beside_3 6 rfl rfl)
theorem dX4_beside_79 : decode cX4_beside 79 = .ok (.invokestatic 39, 3) := dk_184 0 39 (dk_at dksX4_beside_3 7 rfl rfl)
theorem dX4_beside_82 : decode cX4_beside 82 = .ok (.ifCond .eq 15, 3) := dk_153 0 15 (dk_at dksX4_beside_3 10 rfl rfl)
theorem dX4_beside_85 : decode cX4_beside 85 = .ok (.aload_n 0, 1) := dk_42 (dk_at dksX4_beside_3 13 rfl rfl)
theorem dX4_beside_86 : decode cX4_beside 86 = .ok (.getfield 15, 3) := dk_180 0 15 (dk_at dksX4_beside_3 14 rfl rfl)
theorem dX4_beside_89 : decode cX4_beside 89 = .ok (.iload 4, 2) := dk_21 4 (dk_at dksX4_beside_3 17 rfl rfl)
theorem dX4_beside_91 : decode cX4_beside 91 = .ok (.imul, 1) := dk_104 (dk_at dksX4_beside_3 19 rfl rfl)
theorem dX4_beside_92 : decode cX4_beside 92 = .ok (.iload_n 3, 1) := dk_29 (dk_at dksX4_beside_3 20 rfl rfl)
theorem dX4_beside_93 : decode cX4_beside 93 = .ok (.iadd, 1) := dk_96 (dk_at dksX4_beside_3 21 rfl rfl)
theorem dX4_beside_94 : decode cX4_beside 94 = .ok (.goto 4, 3) := dk_167 0 4 (dk_at dksX4_beside_4 0 rfl rfl)
theorem dX4_beside_97 : decode cX4_beside 97 = .ok (.iconst (-1), 1) := dk_2 (dk_at dksX4_beside_4 3 rfl rfl)
theorem dX4_beside_98 : decode cX4_beside 98 = .ok (.ireturn, 1) := dk_172 (dk_at dksX4_beside_4 4 rfl rfl)
abbrev cX4_neighbours : ByteArray := prog_3_method_10_code
def yX4_neighbours : MethodName := ⟨RX4, "neighbours", "(I)I"⟩
def dkwX4_neighbours_3 : List UInt8 := [21, 5, 46, 182, 0, 52, 132, 4, 1, 167, 255, 210, 132, 3, 1, 167, 255, 180, 44, 182, 0, 81, 172]
abbrev dktX4_neighbours_3 : List UInt8 := dkwX4_neighbours_3 ++ []
def dkwX4_neighbours_2 : List UInt8 := [54, 5, 21, 5, 2, 159, 0, 25, 42, 180, 0, 9, 21, 5, 46, 27, 159, 0, 14, 44, 42, 180, 0, 9]
abbrev dktX4_neighbours_2 : List UInt8 := dkwX4_neighbours_2 ++ dktX4_neighbours_3
def dkwX4_neighbours_1 : List UInt8 := [27, 159, 0, 6, 167, 0, 55, 3, 54, 4, 21, 4, 7, 162, 0, 46, 42, 29, 21, 4, 182, 0, 77]
abbrev dktX4_neighbours_1 : List UInt8 := dkwX4_neighbours_1 ++ dktX4_neighbours_2
def dkwX4_neighbours_0 : List UInt8 := [187, 0, 43, 89, 183, 0, 45, 77, 3, 62, 29, 42, 182, 0, 22, 162, 0, 74, 42, 180, 0, 9, 29, 46]
abbrev dktX4_neighbours_0 : List UInt8 := dkwX4_neighbours_0 ++ dktX4_neighbours_1
theorem dksX4_neighbours_0 : cX4_neighbours.data.toList.drop 0 = dktX4_neighbours_0 := by decide +kernel
theorem dksX4_neighbours_1 : cX4_neighbours.data.toList.drop 24 = dktX4_neighbours_1 := dk_seg dksX4_neighbours_0 24 rfl rfl
theorem dksX4_neighbours_2 : cX4_neighbours.data.toList.drop 47 = dktX4_neighbours_2 := dk_seg dksX4_neighbours_1 23 rfl rfl
theorem dksX4_neighbours_3 : cX4_neighbours.data.toList.drop 71 = dktX4_neighbours_3 := dk_seg dksX4_neighbours_2 24 rfl rfl
theorem dX4_neighbours_0 : decode cX4_neighbours 0 = .ok (.new 43, 3) := dk_187 0 43 (dk_at dksX4_neighbours_0 0 rfl rfl)
theorem dX4_neighbours_3 : decode cX4_neighbours 3 = .ok (.dup, 1) := dk_89 (dk_at dksX4_neighbours_0 3 rfl rfl)
theorem dX4_neighbours_4 : decode cX4_neighbours 4 = .ok (.invokespecial 45, 3) := dk_183 0 45 (dk_at dksX4_neighbours_0 4 rfl rfl)
theorem dX4_neighbours_7 : decode cX4_neighbours 7 = .ok (.astore_n 2, 1) := dk_77 (dk_at dksX4_neighbours_0 7 rfl rfl)
theorem dX4_neighbours_8 : decode cX4_neighbours 8 = .ok (.iconst 0, 1) := dk_3 (dk_at dksX4_neighbours_0 8 rfl rfl)
theorem dX4_neighbours_9 : decode cX4_neighbours 9 = .ok (.istore_n 3, 1) := dk_62 (dk_at dksX4_neighbours_0 9 rfl rfl)
theorem dX4_neighbours_10 : decode cX4_neighbours 10 = .ok (.iload_n 3, 1) := dk_29 (dk_at dksX4_neighbours_0 10 rfl rfl)
theorem dX4_neighbours_11 : decode cX4_neighbours 11 = .ok (.aload_n 0, 1) := dk_42 (dk_at dksX4_neighbours_0 11 rfl rfl)
theorem dX4_neighbours_12 : decode cX4_neighbours 12 = .ok (.invokevirtual 22, 3) := dk_182 0 22 (dk_at dksX4_neighbours_0 12 rfl rfl)
theorem dX4_neighbours_15 : decode cX4_neighbours 15 = .ok (.if_icmp .ge 74, 3) := dk_162 0 74 (dk_at dksX4_neighbours_0 15 rfl rfl)
theorem dX4_neighbours_18 : decode cX4_neighbours 18 = .ok (.aload_n 0, 1) := dk_42 (dk_at dksX4_neighbours_0 18 rfl rfl)
theorem dX4_neighbours_19 : decode cX4_neighbours 19 = .ok (.getfield 9, 3) := dk_180 0 9 (dk_at dksX4_neighbours_0 19 rfl rfl)
theorem dX4_neighbours_22 : decode cX4_neighbours 22 = .ok (.iload_n 3, 1) := dk_29 (dk_at dksX4_neighbours_0 22 rfl rfl)
theorem dX4_neighbours_23 : decode cX4_neighbours 23 = .ok (.iaload, 1) := dk_46 (dk_at dksX4_neighbours_0 23 rfl rfl)
theorem dX4_neighbours_24 : decode cX4_neighbours 24 = .ok (.iload_n 1, 1) := dk_27 (dk_at dksX4_neighbours_1 0 rfl rfl)
theorem dX4_neighbours_25 : decode cX4_neighbours 25 = .ok (.if_icmp .eq 6, 3) := dk_159 0 6 (dk_at dksX4_neighbours_1 1 rfl rfl)
theorem dX4_neighbours_28 : decode cX4_neighbours 28 = .ok (.goto 55, 3) := dk_167 0 55 (dk_at dksX4_neighbours_1 4 rfl rfl)
theorem dX4_neighbours_31 : decode cX4_neighbours 31 = .ok (.iconst 0, 1) := dk_3 (dk_at dksX4_neighbours_1 7 rfl rfl)
theorem dX4_neighbours_32 : decode cX4_neighbours 32 = .ok (.istore 4, 2) := dk_54 4 (dk_at dksX4_neighbours_1 8 rfl rfl)
theorem dX4_neighbours_34 : decode cX4_neighbours 34 = .ok (.iload 4, 2) := dk_21 4 (dk_at dksX4_neighbours_1 10 rfl rfl)
theorem dX4_neighbours_36 : decode cX4_neighbours 36 = .ok (.iconst 4, 1) := dk_7 (dk_at dksX4_neighbours_1 12 rfl rfl)
theorem dX4_neighbours_37 : decode cX4_neighbours 37 = .ok (.if_icmp .ge 46, 3) := dk_162 0 46 (dk_at dksX4_neighbours_1 13 rfl rfl)
theorem dX4_neighbours_40 : decode cX4_neighbours 40 = .ok (.aload_n 0, 1) := dk_42 (dk_at dksX4_neighbours_1 16 rfl rfl)
theorem dX4_neighbours_41 : decode cX4_neighbours 41 = .ok (.iload_n 3, 1) := dk_29 (dk_at dksX4_neighbours_1 17 rfl rfl)
theorem dX4_neighbours_42 : decode cX4_neighbours 42 = .ok (.iload 4, 2) := dk_21 4 (dk_at dksX4_neighbours_1 18 rfl rfl)
theorem dX4_neighbours_44 : decode cX4_neighbours 44 = .ok (.invokevirtual 77, 3) := dk_182 0 77 (dk_at dksX4_neighbours_1 20 rfl rfl)
theorem dX4_neighbours_47 : decode cX4_neighbours 47 = .ok (.istore 5, 2) := dk_54 5 (dk_at dksX4_neighbours_2 0 rfl rfl)
theorem dX4_neighbours_49 : decode cX4_neighbours 49 = .ok (.iload 5, 2) := dk_21 5 (dk_at dksX4_neighbours_2 2 rfl rfl)
theorem dX4_neighbours_51 : decode cX4_neighbours 51 = .ok (.iconst (-1), 1) := dk_2 (dk_at dksX4_neighbours_2 4 rfl rfl)
theorem dX4_neighbours_52 : decode cX4_neighbours 52 = .ok (.if_icmp .eq 25, 3) := dk_159 0 25 (dk_at dksX4_neighbours_2 5 rfl rfl)
theorem dX4_neighbours_55 : decode cX4_neighbours 55 = .ok (.aload_n 0, 1) := dk_42 (dk_at dksX4_neighbours_2 8 rfl rfl)
theorem dX4_neighbours_56 : decode cX4_neighbours 56 = .ok (.getfield 9, 3) := dk_180 0 9 (dk_at dksX4_neighbours_2 9 rfl rfl)
theorem dX4_neighbours_59 : decode cX4_neighbours 59 = .ok (.iload 5, 2) := dk_21 5 (dk_at dksX4_neighbours_2 12 rfl rfl)
theorem dX4_neighbours_61 : decode cX4_neighbours 61 = .ok (.iaload, 1) := dk_46 (dk_at dksX4_neighbours_2 14 rfl rfl)
theorem dX4_neighbours_62 : decode cX4_neighbours 62 = .ok (.iload_n 1, 1) := dk_27 (dk_at dksX4_neighbours_2 15 rfl rfl)
theorem dX4_neighbours_63 : decode cX4_neighbours 63 = .ok (.if_icmp .eq 14, 3) := dk_159 0 14 (dk_at dksX4_neighbours_2 16 rfl rfl)
theorem dX4_neighbours_66 : decode cX4_neighbours 66 = .ok (.aload_n 2, 1) := dk_44 (dk_at dksX4_neighbours_2 19 rfl rfl)
theorem dX4_neighbours_67 : decode cX4_neighbours 67 = .ok (.aload_n 0, 1) := dk_42 (dk_at dksX4_neighbours_2 20 rfl rfl)
theorem dX4_neighbours_68 : decode cX4_neighbours 68 = .ok (.getfield 9, 3) := dk_180 0 9 (dk_at dksX4_neighbours_2 21 rfl rfl)
theorem dX4_neighbours_71 : decode cX4_neighbours 71 = .ok (.iload 5, 2) := dk_21 5 (dk_at dksX4_neighbours_3 0 rfl rfl)
theorem dX4_neighbours_73 : decode cX4_neighbours 73 = .ok (.iaload, 1) := dk_46 (dk_at dksX4_neighbours_3 2 rfl rfl)
theorem dX4_neighbours_74 : decode cX4_neighbours 74 = .ok (.invokevirtual 52, 3) := dk_182 0 52 (dk_at dksX4_neighbours_3 3 rfl rfl)
theorem dX4_neighbours_77 : decode cX4_neighbours 77 = .ok (.iinc 4 1, 3) := dk_132 4 1 (dk_at dksX4_neighbours_3 6 rfl rfl)
theorem dX4_neighbours_80 : decode cX4_neighbours 80 = .ok (.goto (-46), 3) := dk_167 255 210 (dk_at dksX4_neighbours_3 9 rfl rfl)
theorem dX4_neighbours_83 : decode cX4_neighbours 83 = .ok (.iinc 3 1, 3) := dk_132 3 1 (dk_at dksX4_neighbours_3 12 rfl rfl)
theorem dX4_neighbours_86 : decode cX4_neighbours 86 = .ok (.goto (-76), 3) := dk_167 255 180 (dk_at dksX4_neighbours_3 15 rfl rfl)
theorem dX4_neighbours_89 : decode cX4_neighbours 89 = .ok (.aload_n 2, 1) := dk_44 (dk_at dksX4_neighbours_3 18 rfl rfl)
theorem dX4_neighbours_90 : decode cX4_neighbours 90 = .ok (.invokevirtual 81, 3) := dk_182 0 81 (dk_at dksX4_neighbours_3 19 rfl rfl)
theorem dX4_neighbours_93 : decode cX4_neighbours 93 = .ok (.ireturn, 1) := dk_172 (dk_at dksX4_neighbours_3 22 rfl rfl)
theorem q189 : (Jvm.Cond.initialized "CountyGazetteer$Board") ∈ lw_all := lw_g (lw_at lw_m1 13 rfl) rfl
theorem q403 : (Jvm.Cond.selects "CountyGazetteer$Board" ({ cls := "java/lang/Object", name := "getClass", desc := "()Ljava/lang/Class;" } : Jvm.MethodName) ({ cls := "java/lang/Object", name := "getClass", desc := "()Ljava/lang/Class;" } : Jvm.MethodName)) ∈ lw_all := lw_g (lw_at lw_m1 227 rfl) rfl
theorem q508 : (Jvm.Cond.instantiable "CountyGazetteer$Board" (3 : Nat)) ∈ lw_all := lw_g (lw_at lw_m2 92 rfl) rfl
theorem q510 : (Jvm.Cond.instanceMethod ({ cls := "CountyGazetteer$Board", name := "<init>", desc := "()V" } : Jvm.MethodName)) ∈ lw_all := lw_g (lw_at lw_m2 94 rfl) rfl
theorem q511 : (Jvm.Cond.code ({ cls := "CountyGazetteer$Board", name := "<init>", desc := "()V" } : Jvm.MethodName) prog_3_method_1_code (1 : Nat) (Option.none : Option Jvm.ClassFile.FieldType)) ∈ lw_all := lw_g (lw_at lw_m2 95 rfl) rfl
theorem q512 : (Jvm.Cond.methodLink "CountyGazetteer$Board" (3 : Nat) ({ cls := "java/lang/Object", name := "<init>", desc := "()V" } : Jvm.MethodName)) ∈ lw_all := lw_g (lw_at lw_m2 96 rfl) rfl
theorem q513 : (Jvm.Cond.fieldLink "CountyGazetteer$Board" (15 : Nat) "CountyGazetteer$Board" "width" "I") ∈ lw_all := lw_g (lw_at lw_m2 97 rfl) rfl
theorem q514 : (Jvm.Cond.fieldLink "CountyGazetteer$Board" (19 : Nat) "CountyGazetteer$Board" "height" "I") ∈ lw_all := lw_g (lw_at lw_m2 98 rfl) rfl
theorem q515 : (Jvm.Cond.fieldLink "CountyGazetteer$Board" (9 : Nat) "CountyGazetteer$Board" "owners" "[I") ∈ lw_all := lw_g (lw_at lw_m2 99 rfl) rfl
theorem q519 : (Jvm.Cond.lays "CountyGazetteer$Board" "CountyGazetteer$Board" "width" "I") ∈ lw_all := lw_g (lw_at lw_m2 103 rfl) rfl
theorem q520 : (Jvm.Cond.soleField "CountyGazetteer$Board" "width") ∈ lw_all := lw_g (lw_at lw_m2 104 rfl) rfl
theorem q521 : (Jvm.Cond.lays "CountyGazetteer$Board" "CountyGazetteer$Board" "height" "I") ∈ lw_all := lw_g (lw_at lw_m2 105 rfl) rfl
theorem q522 : (Jvm.Cond.soleField "CountyGazetteer$Board" "height") ∈ lw_all := lw_g (lw_at lw_m2 106 rfl) rfl
theorem q523 : (Jvm.Cond.laysFinal "CountyGazetteer$Board" "CountyGazetteer$Board" "owners" "[I") ∈ lw_all := lw_g (lw_at lw_m2 107 rfl) rfl
theorem q524 : (Jvm.Cond.soleField "CountyGazetteer$Board" "owners") ∈ lw_all := lw_g (lw_at lw_m2 108 rfl) rfl
theorem q525 : (Jvm.Cond.superclass "CountyGazetteer$Board" "java/lang/Object") ∈ lw_all := lw_g (lw_at lw_m2 109 rfl) rfl
theorem q2019 : (Jvm.Cond.instanceMethod ({ cls := "CountyGazetteer$Board", name := "begins", desc := "(II)V" } : Jvm.MethodName)) ∈ lw_all := lw_g (lw_at lw_m8 163 rfl) rfl
theorem q2020 : (Jvm.Cond.selects "CountyGazetteer$Board" ({ cls := "CountyGazetteer$Board", name := "begins", desc := "(II)V" } : Jvm.MethodName) ({ cls := "CountyGazetteer$Board", name := "begins", desc := "(II)V" } : Jvm.MethodName)) ∈ lw_all := lw_g (lw_at lw_m8 164 rfl) rfl
theorem q2021 : (Jvm.Cond.code ({ cls := "CountyGazetteer$Board", name := "begins", desc := "(II)V" } : Jvm.MethodName) prog_3_method_2_code (4 : Nat) (Option.none : Option Jvm.ClassFile.FieldType)) ∈ lw_all := lw_g (lw_at lw_m8 165 rfl) rfl
theorem q2472 : (Jvm.Cond.instanceMethod ({ cls := "CountyGazetteer$Board", name := "gives", desc := "(LCountyGazetteer$CellAsker;I)I" } : Jvm.MethodName)) ∈ lw_all := lw_g (lw_at lw_m10 136 rfl) rfl
theorem q2473 : (Jvm.Cond.selects "CountyGazetteer$Board" ({ cls := "CountyGazetteer$Board", name := "gives", desc := "(LCountyGazetteer$CellAsker;I)I" } : Jvm.MethodName) ({ cls := "CountyGazetteer$Board", name := "gives", desc := "(LCountyGazetteer$CellAsker;I)I" } : Jvm.MethodName)) ∈ lw_all := lw_g (lw_at lw_m10 137 rfl) rfl
theorem q2474 : (Jvm.Cond.code ({ cls := "CountyGazetteer$Board", name := "gives", desc := "(LCountyGazetteer$CellAsker;I)I" } : Jvm.MethodName) prog_3_method_6_code (5 : Nat) (Option.some Jvm.ClassFile.FieldType.int)) ∈ lw_all := lw_g (lw_at lw_m10 138 rfl) rfl
theorem q2475 : (Jvm.Cond.methodLink "CountyGazetteer$Board" (22 : Nat) ({ cls := "CountyGazetteer$Board", name := "cells", desc := "()I" } : Jvm.MethodName)) ∈ lw_all := lw_g (lw_at lw_m10 139 rfl) rfl
theorem q2476 : (Jvm.Cond.instanceMethod ({ cls := "CountyGazetteer$Board", name := "cells", desc := "()I" } : Jvm.MethodName)) ∈ lw_all := lw_g (lw_at lw_m10 140 rfl) rfl
theorem q2477 : (Jvm.Cond.selects "CountyGazetteer$Board" ({ cls := "CountyGazetteer$Board", name := "cells", desc := "()I" } : Jvm.MethodName) ({ cls := "CountyGazetteer$Board", name := "cells", desc := "()I" } : Jvm.MethodName)) ∈ lw_all := lw_g (lw_at lw_m10 141 rfl) rfl
theorem q2478 : (Jvm.Cond.code ({ cls := "CountyGazetteer$Board", name := "cells", desc := "()I" } : Jvm.MethodName) prog_3_method_3_code (1 : Nat) (Option.some Jvm.ClassFile.FieldType.int)) ∈ lw_all := lw_g (lw_at lw_m10 142 rfl) rfl
theorem q2479 : (Jvm.Cond.interfaceEntry "CountyGazetteer$Board" (26 : Nat)) ∈ lw_tbl := lw_at lw_m10 143 rfl
theorem q2480 : (Jvm.Cond.methodLink "CountyGazetteer$Board" (26 : Nat) ({ cls := "CountyGazetteer$CellAsker", name := "is", desc := "(I)Z" } : Jvm.MethodName)) ∈ lw_all := lw_g (lw_at lw_m10 144 rfl) rfl
theorem q2492 : (Jvm.Cond.instanceMethod ({ cls := "CountyGazetteer$Board", name := "x", desc := "(I)I" } : Jvm.MethodName)) ∈ lw_all := lw_g (lw_at lw_m10 156 rfl) rfl
theorem q2493 : (Jvm.Cond.selects "CountyGazetteer$Board" ({ cls := "CountyGazetteer$Board", name := "x", desc := "(I)I" } : Jvm.MethodName) ({ cls := "CountyGazetteer$Board", name := "x", desc := "(I)I" } : Jvm.MethodName)) ∈ lw_all := lw_g (lw_at lw_m10 157 rfl) rfl
theorem q2494 : (Jvm.Cond.code ({ cls := "CountyGazetteer$Board", name := "x", desc := "(I)I" } : Jvm.MethodName) prog_3_method_4_code (2 : Nat) (Option.some Jvm.ClassFile.FieldType.int)) ∈ lw_all := lw_g (lw_at lw_m10 158 rfl) rfl
theorem q2497 : (Jvm.Cond.instanceMethod ({ cls := "CountyGazetteer$Board", name := "y", desc := "(I)I" } : Jvm.MethodName)) ∈ lw_all := lw_g (lw_at lw_m10 161 rfl) rfl
theorem q2498 : (Jvm.Cond.selects "CountyGazetteer$Board" ({ cls := "CountyGazetteer$Board", name := "y", desc := "(I)I" } : Jvm.MethodName) ({ cls := "CountyGazetteer$Board", name := "y", desc := "(I)I" } : Jvm.MethodName)) ∈ lw_all := lw_g (lw_at lw_m10 162 rfl) rfl
theorem q2499 : (Jvm.Cond.code ({ cls := "CountyGazetteer$Board", name := "y", desc := "(I)I" } : Jvm.MethodName) prog_3_method_5_code (2 : Nat) (Option.some Jvm.ClassFile.FieldType.int)) ∈ lw_all := lw_g (lw_at lw_m10 163 rfl) rfl
theorem q2810 : (Jvm.Cond.selects "CountyGazetteer$Board" ({ cls := "java/lang/Object", name := "equals", desc := "(Ljava/lang/Object;)Z" } : Jvm.MethodName) ({ cls := "java/lang/Object", name := "equals", desc := "(Ljava/lang/Object;)Z" } : Jvm.MethodName)) ∈ lw_all := lw_g (lw_at lw_m11 234 rfl) rfl
theorem q3060 : (Jvm.Cond.instanceMethod ({ cls := "CountyGazetteer$Board", name := "count", desc := "(I)I" } : Jvm.MethodName)) ∈ lw_all := lw_g (lw_at lw_m13 4 rfl) rfl
theorem q3061 : (Jvm.Cond.selects "CountyGazetteer$Board" ({ cls := "CountyGazetteer$Board", name := "count", desc := "(I)I" } : Jvm.MethodName) ({ cls := "CountyGazetteer$Board", name := "count", desc := "(I)I" } : Jvm.MethodName)) ∈ lw_all := lw_g (lw_at lw_m13 5 rfl) rfl
theorem q3062 : (Jvm.Cond.code ({ cls := "CountyGazetteer$Board", name := "count", desc := "(I)I" } : Jvm.MethodName) prog_3_method_8_code (4 : Nat) (Option.some Jvm.ClassFile.FieldType.int)) ∈ lw_all := lw_g (lw_at lw_m13 6 rfl) rfl
theorem q3099 : (Jvm.Cond.instanceMethod ({ cls := "CountyGazetteer$Board", name := "parts", desc := "(I)I" } : Jvm.MethodName)) ∈ lw_all := lw_g (lw_at lw_m13 43 rfl) rfl
theorem q3100 : (Jvm.Cond.selects "CountyGazetteer$Board" ({ cls := "CountyGazetteer$Board", name := "parts", desc := "(I)I" } : Jvm.MethodName) ({ cls := "CountyGazetteer$Board", name := "parts", desc := "(I)I" } : Jvm.MethodName)) ∈ lw_all := lw_g (lw_at lw_m13 44 rfl) rfl
theorem q3101 : (Jvm.Cond.code ({ cls := "CountyGazetteer$Board", name := "parts", desc := "(I)I" } : Jvm.MethodName) prog_3_method_9_code (9 : Nat) (Option.some Jvm.ClassFile.FieldType.int)) ∈ lw_all := lw_g (lw_at lw_m13 45 rfl) rfl
theorem q3102 : (Jvm.Cond.classLink "CountyGazetteer$Board" (43 : Nat) "java/util/BitSet") ∈ lw_all := lw_g (lw_at lw_m13 46 rfl) rfl
theorem q3103 : (Jvm.Cond.methodLink "CountyGazetteer$Board" (45 : Nat) ({ cls := "java/util/BitSet", name := "<init>", desc := "()V" } : Jvm.MethodName)) ∈ lw_all := lw_g (lw_at lw_m13 47 rfl) rfl
theorem q3104 : (Jvm.Cond.classLink "CountyGazetteer$Board" (46 : Nat) "java/util/LinkedList") ∈ lw_all := lw_g (lw_at lw_m13 48 rfl) rfl
theorem q3105 : (Jvm.Cond.methodLink "CountyGazetteer$Board" (48 : Nat) ({ cls := "java/util/LinkedList", name := "<init>", desc := "()V" } : Jvm.MethodName)) ∈ lw_all := lw_g (lw_at lw_m13 49 rfl) rfl
theorem q3106 : (Jvm.Cond.methodLink "CountyGazetteer$Board" (49 : Nat) ({ cls := "java/util/BitSet", name := "get", desc := "(I)Z" } : Jvm.MethodName)) ∈ lw_all := lw_g (lw_at lw_m13 50 rfl) rfl
theorem q3107 : (Jvm.Cond.methodLink "CountyGazetteer$Board" (52 : Nat) ({ cls := "java/util/BitSet", name := "set", desc := "(I)V" } : Jvm.MethodName)) ∈ lw_all := lw_g (lw_at lw_m13 51 rfl) rfl
theorem q3108 : (Jvm.Cond.methodLink "CountyGazetteer$Board" (56 : Nat) ({ cls := "java/lang/Integer", name := "valueOf", desc := "(I)Ljava/lang/Integer;" } : Jvm.MethodName)) ∈ lw_all := lw_g (lw_at lw_m13 52 rfl) rfl
theorem q3109 : (Jvm.Cond.methodLink "CountyGazetteer$Board" (62 : Nat) ({ cls := "java/util/LinkedList", name := "addLast", desc := "(Ljava/lang/Object;)V" } : Jvm.MethodName)) ∈ lw_all := lw_g (lw_at lw_m13 53 rfl) rfl
theorem q3110 : (Jvm.Cond.methodLink "CountyGazetteer$Board" (66 : Nat) ({ cls := "java/util/LinkedList", name := "isEmpty", desc := "()Z" } : Jvm.MethodName)) ∈ lw_all := lw_g (lw_at lw_m13 54 rfl) rfl
theorem q3114 : (Jvm.Cond.methodLink "CountyGazetteer$Board" (70 : Nat) ({ cls := "java/util/LinkedList", name := "removeFirst", desc := "()Ljava/lang/Object;" } : Jvm.MethodName)) ∈ lw_all := lw_g (lw_at lw_m13 58 rfl) rfl
theorem q3124 : (Jvm.Cond.classLink "CountyGazetteer$Board" (57 : Nat) "java/lang/Integer") ∈ lw_all := lw_g (lw_at lw_m13 68 rfl) rfl
theorem q3125 : (Jvm.Cond.methodLink "CountyGazetteer$Board" (74 : Nat) ({ cls := "java/lang/Integer", name := "intValue", desc := "()I" } : Jvm.MethodName)) ∈ lw_all := lw_g (lw_at lw_m13 69 rfl) rfl
theorem q3126 : (Jvm.Cond.methodLink "CountyGazetteer$Board" (77 : Nat) ({ cls := "CountyGazetteer$Board", name := "beside", desc := "(II)I" } : Jvm.MethodName)) ∈ lw_all := lw_g (lw_at lw_m13 70 rfl) rfl
theorem q3127 : (Jvm.Cond.instanceMethod ({ cls := "CountyGazetteer$Board", name := "beside", desc := "(II)I" } : Jvm.MethodName)) ∈ lw_all := lw_g (lw_at lw_m13 71 rfl) rfl
theorem q3128 : (Jvm.Cond.selects "CountyGazetteer$Board" ({ cls := "CountyGazetteer$Board", name := "beside", desc := "(II)I" } : Jvm.MethodName) ({ cls := "CountyGazetteer$Board", name := "beside", desc := "(II)I" } : Jvm.MethodName)) ∈ lw_all := lw_g (lw_at lw_m13 72 rfl) rfl
theorem q3129 : (Jvm.Cond.code ({ cls := "CountyGazetteer$Board", name := "beside", desc := "(II)I" } : Jvm.MethodName) prog_3_method_7_code (5 : Nat) (Option.some Jvm.ClassFile.FieldType.int)) ∈ lw_all := lw_g (lw_at lw_m13 73 rfl) rfl
theorem q3130 : (Jvm.Cond.methodLink "CountyGazetteer$Board" (32 : Nat) ({ cls := "CountyGazetteer$Board", name := "x", desc := "(I)I" } : Jvm.MethodName)) ∈ lw_all := lw_g (lw_at lw_m13 74 rfl) rfl
theorem q3131 : (Jvm.Cond.methodLink "CountyGazetteer$Board" (36 : Nat) ({ cls := "CountyGazetteer$Board", name := "y", desc := "(I)I" } : Jvm.MethodName)) ∈ lw_all := lw_g (lw_at lw_m13 75 rfl) rfl
theorem q3132 : (Jvm.Cond.methodLinkNest "CountyGazetteer$Board" (39 : Nat) ({ cls := "CountyGazetteer", name := "isIn", desc := "(JJJ)Z" } : Jvm.MethodName) "CountyGazetteer") ∈ lw_tbl := lw_at lw_m13 76 rfl
theorem q3134 : (Jvm.Cond.instanceMethod ({ cls := "CountyGazetteer$Board", name := "neighbours", desc := "(I)I" } : Jvm.MethodName)) ∈ lw_all := lw_g (lw_at lw_m13 78 rfl) rfl
theorem q3135 : (Jvm.Cond.selects "CountyGazetteer$Board" ({ cls := "CountyGazetteer$Board", name := "neighbours", desc := "(I)I" } : Jvm.MethodName) ({ cls := "CountyGazetteer$Board", name := "neighbours", desc := "(I)I" } : Jvm.MethodName)) ∈ lw_all := lw_g (lw_at lw_m13 79 rfl) rfl
theorem q3136 : (Jvm.Cond.code ({ cls := "CountyGazetteer$Board", name := "neighbours", desc := "(I)I" } : Jvm.MethodName) prog_3_method_10_code (6 : Nat) (Option.some Jvm.ClassFile.FieldType.int)) ∈ lw_all := lw_g (lw_at lw_m13 80 rfl) rfl
theorem q3137 : (Jvm.Cond.methodLink "CountyGazetteer$Board" (81 : Nat) ({ cls := "java/util/BitSet", name := "cardinality", desc := "()I" } : Jvm.MethodName)) ∈ lw_all := lw_g (lw_at lw_m13 81 rfl) rfl
theorem q4485 : (Jvm.Cond.castable "CountyGazetteer$Board" "java/lang/Object") ∈ lw_tbl := lw_at lw_m18 229 rfl
theorem in_X4 : ∀ w ∈ wsX40, w ∈ lw_all := lw_in wsX40 [519, 521, 523] (by decide +kernel) (by decide +kernel)
