/-! CountyGazetteer -/
set_option maxRecDepth 100000
def RX1 : String := "CountyGazetteer"
def TX1 : u_T := fun k => match k with
  | 0 => ("CountyGazetteer", "input", "[B", true)
  | 1 => ("CountyGazetteer", "inputLength", "I", false)
  | 2 => ("CountyGazetteer", "errorCode", "I", false)
  | 3 => ("CountyGazetteer", "errorOffset", "I", false)
  | 4 => ("CountyGazetteer", "now", "LCountyGazetteer$State;", false)
  | 5 => ("CountyGazetteer", "saved", "LCountyGazetteer$State;", false)
  | 6 => ("CountyGazetteer", "history", "Ljava/util/ArrayDeque;", true)
  | 7 => ("CountyGazetteer", "board", "LCountyGazetteer$Board;", true)
  | 8 => ("CountyGazetteer", "earlier", "LCountyGazetteer$Board;", true)
  | _ => ("CountyGazetteer", "output", "Ljava/lang/StringBuilder;", true)
def tyX1 : Nat → FieldType := fun k => match k with
  | 0 => .array .byte
  | 1 => .int
  | 2 => .int
  | 3 => .int
  | 4 => .object "CountyGazetteer$State"
  | 5 => .object "CountyGazetteer$State"
  | 6 => .object "java/util/ArrayDeque"
  | 7 => .object "CountyGazetteer$Board"
  | 8 => .object "CountyGazetteer$Board"
  | _ => .object "java/lang/StringBuilder"
abbrev wsX10 : List Cond := u_ws RX1 TX1 10
theorem nmX1 : ∀ a, a < 10 → ∀ b, b < 10 → a ≠ b → (TX1 a).2.1 ≠ (TX1 b).2.1 := by decide +kernel
theorem tyX1_ok : ∀ k, k < 10 → parseFieldDescriptor (TX1 k).2.2.1 = some (tyX1 k) := by decide +kernel
abbrev cX1_init : ByteArray := prog_1_method_8_code
def yX1_init : MethodName := ⟨RX1, "<init>", "()V"⟩
def dkwX1_init_3 : List UInt8 := [181, 0, 93, 177]
abbrev dktX1_init_3 : List UInt8 := dkwX1_init_3 ++ []
def dkwX1_init_2 : List UInt8 := [181, 0, 83, 42, 187, 0, 80, 89, 183, 0, 82, 181, 0, 87, 42, 187, 0, 90, 89, 183, 0, 92]
abbrev dktX1_init_2 : List UInt8 := dkwX1_init_2 ++ dktX1_init_3
def dkwX1_init_1 : List UInt8 := [181, 0, 69, 42, 187, 0, 73, 89, 183, 0, 75, 181, 0, 76, 42, 187, 0, 80, 89, 183, 0, 82]
abbrev dktX1_init_1 : List UInt8 := dkwX1_init_1 ++ dktX1_init_2
def dkwX1_init_0 : List UInt8 := [42, 183, 0, 55, 42, 17, 3, 132, 188, 8, 181, 0, 58, 42, 2, 181, 0, 62, 42, 184, 0, 65]
abbrev dktX1_init_0 : List UInt8 := dkwX1_init_0 ++ dktX1_init_1
theorem dksX1_init_0 : cX1_init.data.toList.drop 0 = dktX1_init_0 := by decide +kernel
theorem dksX1_init_1 : cX1_init.data.toList.drop 22 = dktX1_init_1 := dk_seg dksX1_init_0 22 rfl rfl
theorem dksX1_init_2 : cX1_init.data.toList.drop 44 = dktX1_init_2 := dk_seg dksX1_init_1 22 rfl rfl
theorem dksX1_init_3 : cX1_init.data.toList.drop 66 = dktX1_init_3 := dk_seg dksX1_init_2 22 rfl rfl
theorem dX1_init_0 : decode cX1_init 0 = .ok (.aload_n 0, 1) := dk_42 (dk_at dksX1_init_0 0 rfl rfl)
theorem dX1_init_1 : decode cX1_init 1 = .ok (.invokespecial 55, 3) := dk_183 0 55 (dk_at dksX1_init_0 1 rfl rfl)
theorem dX1_init_4 : decode cX1_init 4 = .ok (.aload_n 0, 1) := dk_42 (dk_at dksX1_init_0 4 rfl rfl)
theorem dX1_init_5 : decode cX1_init 5 = .ok (.sipush 900, 3) := dk_17 3 132 (dk_at dksX1_init_0 5 rfl rfl)
theorem dX1_init_8 : decode cX1_init 8 = .ok (.newarray .byte, 2) := dk_188_8 (dk_at dksX1_init_0 8 rfl rfl)
theorem dX1_init_10 : decode cX1_init 10 = .ok (.putfield 58, 3) := dk_181 0 58 (dk_at dksX1_init_0 10 rfl rfl)
theorem dX1_init_13 : decode cX1_init 13 = .ok (.aload_n 0, 1) := dk_42 (dk_at dksX1_init_0 13 rfl rfl)
theorem dX1_init_14 : decode cX1_init 14 = .ok (.iconst (-1), 1) := dk_2 (dk_at dksX1_init_0 14 rfl rfl)
theorem dX1_init_15 : decode cX1_init 15 = .ok (.putfield 62, 3) := dk_181 0 62 (dk_at dksX1_init_0 15 rfl rfl)
theorem dX1_init_18 : decode cX1_init 18 = .ok (.aload_n 0, 1) := dk_42 (dk_at dksX1_init_0 18 rfl rfl)
theorem dX1_init_19 : decode cX1_init 19 = .ok (.invokestatic 65, 3) := dk_184 0 65 (dk_at dksX1_init_0 19 rfl rfl)
theorem dX1_init_22 : decode cX1_init 22 = .ok (.putfield 69, 3) := dk_181 0 69 (dk_at dksX1_init_1 0 rfl rfl)
theorem dX1_init_25 : decode cX1_init 25 = .ok (.aload_n 0, 1) := dk_42 (dk_at dksX1_init_1 3 rfl rfl)
theorem dX1_init_26 : decode cX1_init 26 = .ok (.new 73, 3) := dk_187 0 73 (dk_at dksX1_init_1 4 rfl rfl)
theorem dX1_init_29 : decode cX1_init 29 = .ok (.dup, 1) := dk_89 (dk_at dksX1_init_1 7 rfl rfl)
theorem dX1_init_30 : decode cX1_init 30 = .ok (.invokespecial 75, 3) := dk_183 0 75 (dk_at dksX1_init_1 8 rfl rfl)
theorem dX1_init_33 : decode cX1_init 33 = .ok (.putfield 76, 3) := dk_181 0 76 (dk_at dksX1_init_1 11 rfl rfl)
theorem dX1_init_36 : decode cX1_init 36 = .ok (.aload_n 0, 1) := dk_42 (dk_at dksX1_init_1 14 rfl rfl)
theorem dX1_init_37 : decode cX1_init 37 = .ok (.new 80, 3) := dk_187 0 80 (dk_at dksX1_init_1 15 rfl rfl)
theorem dX1_init_40 : decode cX1_init 40 = .ok (.dup, 1) := dk_89 (dk_at dksX1_init_1 18 rfl rfl)
theorem dX1_init_41 : decode cX1_init 41 = .ok (.invokespecial 82, 3) := dk_183 0 82 (dk_at dksX1_init_1 19 rfl rfl)
theorem dX1_init_44 : decode cX1_init 44 = .ok (.putfield 83, 3) := dk_181 0 83 (dk_at dksX1_init_2 0 rfl rfl)
theorem dX1_init_47 : decode cX1_init 47 = .ok (.aload_n 0, 1) := dk_42 (dk_at dksX1_init_2 3 rfl rfl)
theorem dX1_init_48 : decode cX1_init 48 = .ok (.new 80, 3) := dk_187 0 80 (dk_at dksX1_init_2 4 rfl rfl)
theorem dX1_init_51 : decode cX1_init 51 = .ok (.dup, 1) := dk_89 (dk_at dksX1_init_2 7 rfl rfl)
theorem dX1_init_52 : decode cX1_init 52 = .ok (.invokespecial 82, 3) := dk_183 0 82 (dk_at dksX1_init_2 8 rfl rfl)
theorem dX1_init_55 : decode cX1_init 55 = .ok (.putfield 87, 3) := dk_181 0 87 (dk_at dksX1_init_2 11 rfl rfl)
theorem dX1_init_58 : decode cX1_init 58 = .ok (.aload_n 0, 1) := dk_42 (dk_at dksX1_init_2 14 rfl rfl)
theorem dX1_init_59 : decode cX1_init 59 = .ok (.new 90, 3) := dk_187 0 90 (dk_at dksX1_init_2 15 rfl rfl)
theorem dX1_init_62 : decode cX1_init 62 = .ok (.dup, 1) := dk_89 (dk_at dksX1_init_2 18 rfl rfl)
theorem dX1_init_63 : decode cX1_init 63 = .ok (.invokespecial 92, 3) := dk_183 0 92 (dk_at dksX1_init_2 19 rfl rfl)
theorem dX1_init_66 : decode cX1_init 66 = .ok (.putfield 93, 3) := dk_181 0 93 (dk_at dksX1_init_3 0 rfl rfl)
theorem dX1_init_69 : decode cX1_init 69 = .ok (.return_, 1) := dk_177 (dk_at dksX1_init_3 3 rfl rfl)
abbrev cX1_begun : ByteArray := prog_1_method_7_code
def yX1_begun : MethodName := ⟨RX1, "begun", "()LCountyGazetteer$State;"⟩
def dkwX1_begun_1 : List UInt8 := [187, 0, 42, 89, 18, 44, 183, 0, 46, 185, 0, 49, 2, 0, 87, 42, 176]
abbrev dktX1_begun_1 : List UInt8 := dkwX1_begun_1 ++ []
def dkwX1_begun_0 : List UInt8 := [187, 0, 28, 89, 183, 0, 30, 75, 42, 7, 181, 0, 31, 42, 7, 181, 0, 35, 42, 180, 0, 38]
abbrev dktX1_begun_0 : List UInt8 := dkwX1_begun_0 ++ dktX1_begun_1
theorem dksX1_begun_0 : cX1_begun.data.toList.drop 0 = dktX1_begun_0 := by decide +kernel
theorem dksX1_begun_1 : cX1_begun.data.toList.drop 22 = dktX1_begun_1 := dk_seg dksX1_begun_0 22 rfl rfl
theorem dX1_begun_0 : decode cX1_begun 0 = .ok (.new 28, 3) := dk_187 0 28 (dk_at dksX1_begun_0 0 rfl rfl)
theorem dX1_begun_3 : decode cX1_begun 3 = .ok (.dup, 1) := dk_89 (dk_at dksX1_begun_0 3 rfl rfl)
theorem dX1_begun_4 : decode cX1_begun 4 = .ok (.invokespecial 30, 3) := dk_183 0 30 (dk_at dksX1_begun_0 4 rfl rfl)
theorem dX1_begun_7 : decode cX1_begun 7 = .ok (.astore_n 0, 1) := dk_75 (dk_at dksX1_begun_0 7 rfl rfl)
theorem dX1_begun_8 : decode cX1_begun 8 = .ok (.aload_n 0, 1) := dk_42 (dk_at dksX1_begun_0 8 rfl rfl)
theorem dX1_begun_9 : decode cX1_begun 9 = .ok (.iconst 4, 1) := dk_7 (dk_at dksX1_begun_0 9 rfl rfl)
theorem dX1_begun_10 : decode cX1_begun 10 = .ok (.putfield 31, 3) := dk_181 0 31 (dk_at dksX1_begun_0 10 rfl rfl)
theorem dX1_begun_13 : decode cX1_begun 13 = .ok (.aload_n 0, 1) := dk_42 (dk_at dksX1_begun_0 13 rfl rfl)
theorem dX1_begun_14 : decode cX1_begun 14 = .ok (.iconst 4, 1) := dk_7 (dk_at dksX1_begun_0 14 rfl rfl)
theorem dX1_begun_15 : decode cX1_begun 15 = .ok (.putfield 35, 3) := dk_181 0 35 (dk_at dksX1_begun_0 15 rfl rfl)
theorem dX1_begun_18 : decode cX1_begun 18 = .ok (.aload_n 0, 1) := dk_42 (dk_at dksX1_begun_0 18 rfl rfl)
theorem dX1_begun_19 : decode cX1_begun 19 = .ok (.getfield 38, 3) := dk_180 0 38 (dk_at dksX1_begun_0 19 rfl rfl)
theorem dX1_begun_22 : decode cX1_begun 22 = .ok (.new 42, 3) := dk_187 0 42 (dk_at dksX1_begun_1 0 rfl rfl)
theorem dX1_begun_25 : decode cX1_begun 25 = .ok (.dup, 1) := dk_89 (dk_at dksX1_begun_1 3 rfl rfl)
theorem dX1_begun_26 : decode cX1_begun 26 = .ok (.ldc 44, 2) := dk_18 44 (dk_at dksX1_begun_1 4 rfl rfl)
theorem dX1_begun_28 : decode cX1_begun 28 = .ok (.invokespecial 46, 3) := dk_183 0 46 (dk_at dksX1_begun_1 6 rfl rfl)
theorem dX1_begun_31 : decode cX1_begun 31 = .ok (.invokeinterface 49 2, 5) := by decide +kernel
theorem dX1_begun_36 : decode cX1_begun 36 = .ok (.pop, 1) := dk_87 (dk_at dksX1_begun_1 14 rfl rfl)
theorem dX1_begun_37 : decode cX1_begun 37 = .ok (.aload_n 0, 1) := dk_42 (dk_at dksX1_begun_1 15 rfl rfl)
theorem dX1_begun_38 : decode cX1_begun 38 = .ok (.areturn, 1) := dk_176 (dk_at dksX1_begun_1 16 rfl rfl)
abbrev cX1_appendInput : ByteArray := prog_1_method_10_code
def yX1_appendInput : MethodName := ⟨RX1, "appendInput", "(IIIII)I"⟩
def dkwX1_appendInput_5 : List UInt8 := [172]
abbrev dktX1_appendInput_5 : List UInt8 := dkwX1_appendInput_5 ++ []
def dkwX1_appendInput_4 : List UInt8 := [180, 0, 97, 4, 96, 181, 0, 97, 132, 10, 248, 167, 255, 223, 132, 8, 1, 167, 255, 199, 42, 180, 0, 97]
abbrev dktX1_appendInput_4 : List UInt8 := dkwX1_appendInput_4 ++ dktX1_appendInput_5
def dkwX1_appendInput_3 : List UInt8 := [21, 10, 155, 0, 34, 42, 180, 0, 58, 42, 180, 0, 97, 21, 9, 21, 10, 122, 145, 84, 42, 89]
abbrev dktX1_appendInput_3 : List UInt8 := dkwX1_appendInput_3 ++ dktX1_appendInput_4
def dkwX1_appendInput_2 : List UInt8 := [54, 7, 3, 54, 8, 21, 8, 21, 7, 162, 0, 56, 25, 6, 21, 8, 46, 54, 9, 16, 24, 54, 10]
abbrev dktX1_appendInput_2 : List UInt8 := dkwX1_appendInput_2 ++ dktX1_appendInput_3
def dkwX1_appendInput_1 : List UInt8 := [28, 79, 89, 5, 29, 79, 89, 6, 21, 4, 79, 89, 7, 21, 5, 79, 184, 0, 100, 58, 6, 25, 6, 190]
abbrev dktX1_appendInput_1 : List UInt8 := dkwX1_appendInput_1 ++ dktX1_appendInput_2
def dkwX1_appendInput_0 : List UInt8 := [42, 180, 0, 97, 16, 20, 96, 17, 3, 132, 164, 0, 5, 2, 172, 8, 188, 10, 89, 3, 27, 79, 89, 4]
abbrev dktX1_appendInput_0 : List UInt8 := dkwX1_appendInput_0 ++ dktX1_appendInput_1
theorem dksX1_appendInput_0 : cX1_appendInput.data.toList.drop 0 = dktX1_appendInput_0 := by decide +kernel
theorem dksX1_appendInput_1 : cX1_appendInput.data.toList.drop 24 = dktX1_appendInput_1 := dk_seg dksX1_appendInput_0 24 rfl rfl
theorem dksX1_appendInput_2 : cX1_appendInput.data.toList.drop 48 = dktX1_appendInput_2 := dk_seg dksX1_appendInput_1 24 rfl rfl
theorem dksX1_appendInput_3 : cX1_appendInput.data.toList.drop 71 = dktX1_appendInput_3 := dk_seg dksX1_appendInput_2 23 rfl rfl
theorem dksX1_appendInput_4 : cX1_appendInput.data.toList.drop 93 = dktX1_appendInput_4 := dk_seg dksX1_appendInput_3 22 rfl rfl
theorem dksX1_appendInput_5 : cX1_appendInput.data.toList.drop 117 = dktX1_appendInput_5 := dk_seg dksX1_appendInput_4 24 rfl rfl
theorem dX1_appendInput_0 : decode cX1_appendInput 0 = .ok (.aload_n 0, 1) := dk_42 (dk_at dksX1_appendInput_0 0 rfl rfl)
theorem dX1_appendInput_1 : decode cX1_appendInput 1 = .ok (.getfield 97, 3) := dk_180 0 97 (dk_at dksX1_appendInput_0 1 rfl rfl)
theorem dX1_appendInput_4 : decode cX1_appendInput 4 = .ok (.bipush 20, 2) := dk_16 20 (dk_at dksX1_appendInput_0 4 rfl rfl)
theorem dX1_appendInput_6 : decode cX1_appendInput 6 = .ok (.iadd, 1) := dk_96 (dk_at dksX1_appendInput_0 6 rfl rfl)
theorem dX1_appendInput_7 : decode cX1_appendInput 7 = .ok (.sipush 900, 3) := dk_17 3 132 (dk_at dksX1_appendInput_0 7 rfl rfl)
theorem dX1_appendInput_10 : decode cX1_appendInput 10 = .ok (.if_icmp .le 5, 3) := dk_164 0 5 (dk_at dksX1_appendInput_0 10 rfl rfl)
theorem dX1_appendInput_13 : decode cX1_appendInput 13 = .ok (.iconst (-1), 1) := dk_2 (dk_at dksX1_appendInput_0 13 rfl rfl)
theorem dX1_appendInput_14 : decode cX1_appendInput 14 = .ok (.ireturn, 1) := dk_172 (dk_at dksX1_appendInput_0 14 rfl rfl)
theorem dX1_appendInput_15 : decode cX1_appendInput 15 = .ok (.iconst 5, 1) := dk_8 (dk_at dksX1_appendInput_0 15 rfl rfl)
theorem dX1_appendInput_16 : decode cX1_appendInput 16 = .ok (.newarray .int, 2) := dk_188_10 (dk_at dksX1_appendInput_0 16 rfl rfl)
theorem dX1_appendInput_18 : decode cX1_appendInput 18 = .ok (.dup, 1) := dk_89 (dk_at dksX1_appendInput_0 18 rfl rfl)
theorem dX1_appendInput_19 : decode cX1_appendInput 19 = .ok (.iconst 0, 1) := dk_3 (dk_at dksX1_appendInput_0 19 rfl rfl)
theorem dX1_appendInput_20 : decode cX1_appendInput 20 = .ok (.iload_n 1, 1) := dk_27 (dk_at dksX1_appendInput_0 20 rfl rfl)
theorem dX1_appendInput_21 : decode cX1_appendInput 21 = .ok (.iastore, 1) := dk_79 (dk_at dksX1_appendInput_0 21 rfl rfl)
theorem dX1_appendInput_22 : decode cX1_appendInput 22 = .ok (.dup, 1) := dk_89 (dk_at dksX1_appendInput_0 22 rfl rfl)
theorem dX1_appendInput_23 : decode cX1_appendInput 23 = .ok (.iconst 1, 1) := dk_4 (dk_at dksX1_appendInput_0 23 rfl rfl)
theorem dX1_appendInput_24 : decode cX1_appendInput 24 = .ok (.iload_n 2, 1) := dk_28 (dk_at dksX1_appendInput_1 0 rfl rfl)
theorem dX1_appendInput_25 : decode cX1_appendInput 25 = .ok (.iastore, 1) := dk_79 (dk_at dksX1_appendInput_1 1 rfl rfl)
theorem dX1_appendInput_26 : decode cX1_appendInput 26 = .ok (.dup, 1) := dk_89 (dk_at dksX1_appendInput_1 2 rfl rfl)
theorem dX1_appendInput_27 : decode cX1_appendInput 27 = .ok (.iconst 2, 1) := dk_5 (dk_at dksX1_appendInput_1 3 rfl rfl)
theorem dX1_appendInput_28 : decode cX1_appendInput 28 = .ok (.iload_n 3, 1) := dk_29 (dk_at dksX1_appendInput_1 4 rfl rfl)
theorem dX1_appendInput_29 : decode cX1_appendInput 29 = .ok (.iastore, 1) := dk_79 (dk_at dksX1_appendInput_1 5 rfl rfl)
theorem dX1_appendInput_30 : decode cX1_appendInput 30 = .ok (.dup, 1) := dk_89 (dk_at dksX1_appendInput_1 6 rfl rfl)
theorem dX1_appendInput_31 : decode cX1_appendInput 31 = .ok (.iconst 3, 1) := dk_6 (dk_at dksX1_appendInput_1 7 rfl rfl)
theorem dX1_appendInput_32 : decode cX1_appendInput 32 = .ok (.iload 4, 2) := dk_21 4 (dk_at dksX1_appendInput_1 8 rfl rfl)
theorem dX1_appendInput_34 : decode cX1_appendInput 34 = .ok (.iastore, 1) := dk_79 (dk_at dksX1_appendInput_1 10 rfl rfl)
theorem dX1_appendInput_35 : decode cX1_appendInput 35 = .ok (.dup, 1) := dk_89 (dk_at dksX1_appendInput_1 11 rfl rfl)
theorem dX1_appendInput_36 : decode cX1_appendInput 36 = .ok (.iconst 4, 1) := dk_7 (dk_at dksX1_appendInput_1 12 rfl rfl)
theorem dX1_appendInput_37 : decode cX1_appendInput 37 = .ok (.iload 5, 2) := dk_21 5 (dk_at dksX1_appendInput_1 13 rfl rfl)
theorem dX1_appendInput_39 : decode cX1_appendInput 39 = .ok (.iastore, 1) := dk_79 (dk_at dksX1_appendInput_1 15 rfl rfl)
theorem dX1_appendInput_40 : decode cX1_appendInput 40 = .ok (.invokestatic 100, 3) := dk_184 0 100 (dk_at dksX1_appendInput_1 16 rfl rfl)
theorem dX1_appendInput_43 : decode cX1_appendInput 43 = .ok (.astore 6, 2) := dk_58 6 (dk_at dksX1_appendInput_1 19 rfl rfl)
theorem dX1_appendInput_45 : decode cX1_appendInput 45 = .ok (.aload 6, 2) := dk_25 6 (dk_at dksX1_appendInput_1 21 rfl rfl)
theorem dX1_appendInput_47 : decode cX1_appendInput 47 = .ok (.arraylength, 1) := dk_190 (dk_at dksX1_appendInput_1 23 rfl rfl)
theorem dX1_appendInput_48 : decode cX1_appendInput 48 = .ok (.istore 7, 2) := dk_54 7 (dk_at dksX1_appendInput_2 0 rfl rfl)
theorem dX1_appendInput_50 : decode cX1_appendInput 50 = .ok (.iconst 0, 1) := dk_3 (dk_at dksX1_appendInput_2 2 rfl rfl)
theorem dX1_appendInput_51 : decode cX1_appendInput 51 = .ok (.istore 8, 2) := dk_54 8 (dk_at dksX1_appendInput_2 3 rfl rfl)
theorem dX1_appendInput_53 : decode cX1_appendInput 53 = .ok (.iload 8, 2) := dk_21 8 (dk_at dksX1_appendInput_2 5 rfl rfl)
theorem dX1_appendInput_55 : decode cX1_appendInput 55 = .ok (.iload 7, 2) := dk_21 7 (dk_at dksX1_appendInput_2 7 rfl rfl)
theorem dX1_appendInput_57 : decode cX1_appendInput 57 = .ok (.if_icmp .ge 56, 3) := dk_162 0 56 (dk_at dksX1_appendInput_2 9 rfl rfl)
theorem dX1_appendInput_60 : decode cX1_appendInput 60 = .ok (.aload 6, 2) := dk_25 6 (dk_at dksX1_appendInput_2 12 rfl rfl)
theorem dX1_appendInput_62 : decode cX1_appendInput 62 = .ok (.iload 8, 2) := dk_21 8 (dk_at dksX1_appendInput_2 14 rfl rfl)
theorem dX1_appendInput_64 : decode cX1_appendInput 64 = .ok (.iaload, 1) := dk_46 (dk_at dksX1_appendInput_2 16 rfl rfl)
theorem dX1_appendInput_65 : decode cX1_appendInput 65 = .ok (.istore 9, 2) := dk_54 9 (dk_at dksX1_appendInput_2 17 rfl rfl)
theorem dX1_appendInput_67 : decode cX1_appendInput 67 = .ok (.bipush 24, 2) := dk_16 24 (dk_at dksX1_appendInput_2 19 rfl rfl)
theorem dX1_appendInput_69 : decode cX1_appendInput 69 = .ok (.istore 10, 2) := dk_54 10 (dk_at dksX1_appendInput_2 21 rfl rfl)
theorem dX1_appendInput_71 : decode cX1_appendInput 71 = .ok (.iload 10, 2) := dk_21 10 (dk_at dksX1_appendInput_3 0 rfl rfl)
theorem dX1_appendInput_73 : decode cX1_appendInput 73 = .ok (.ifCond .lt 34, 3) := dk_155 0 34 (dk_at dksX1_appendInput_3 2 rfl rfl)
theorem dX1_appendInput_76 : decode cX1_appendInput 76 = .ok (.aload_n 0, 1) := dk_42 (dk_at dksX1_appendInput_3 5 rfl rfl)
theorem dX1_appendInput_77 : decode cX1_appendInput 77 = .ok (.getfield 58, 3) := dk_180 0 58 (dk_at dksX1_appendInput_3 6 rfl rfl)
theorem dX1_appendInput_80 : decode cX1_appendInput 80 = .ok (.aload_n 0, 1) := dk_42 (dk_at dksX1_appendInput_3 9 rfl rfl)
theorem dX1_appendInput_81 : decode cX1_appendInput 81 = .ok (.getfield 97, 3) := dk_180 0 97 (dk_at dksX1_appendInput_3 10 rfl rfl)
theorem dX1_appendInput_84 : decode cX1_appendInput 84 = .ok (.iload 9, 2) := dk_21 9 (dk_at dksX1_appendInput_3 13 rfl rfl)
theorem dX1_appendInput_86 : decode cX1_appendInput 86 = .ok (.iload 10, 2) := dk_21 10 (dk_at dksX1_appendInput_3 15 rfl rfl)
theorem dX1_appendInput_88 : decode cX1_appendInput 88 = .ok (.ishr, 1) := dk_122 (dk_at dksX1_appendInput_3 17 rfl rfl)
theorem dX1_appendInput_89 : decode cX1_appendInput 89 = .ok (.i2b, 1) := dk_145 (dk_at dksX1_appendInput_3 18 rfl rfl)
theorem dX1_appendInput_90 : decode cX1_appendInput 90 = .ok (.bastore, 1) := dk_84 (dk_at dksX1_appendInput_3 19 rfl rfl)
theorem dX1_appendInput_91 : decode cX1_appendInput 91 = .ok (.aload_n 0, 1) := dk_42 (dk_at dksX1_appendInput_3 20 rfl rfl)
theorem dX1_appendInput_92 : decode cX1_appendInput 92 = .ok (.dup, 1) := dk_89 (dk_at dksX1_appendInput_3 21 rfl rfl)
theorem dX1_appendInput_93 : decode cX1_appendInput 93 = .ok (.getfield 97, 3) := dk_180 0 97 (dk_at dksX1_appendInput_4 0 rfl rfl)
theorem dX1_appendInput_96 : decode cX1_appendInput 96 = .ok (.iconst 1, 1) := dk_4 (dk_at dksX1_appendInput_4 3 rfl rfl)
theorem dX1_appendInput_97 : decode cX1_appendInput 97 = .ok (.iadd, 1) := dk_96 (dk_at dksX1_appendInput_4 4 rfl rfl)
theorem dX1_appendInput_98 : decode cX1_appendInput 98 = .ok (.putfield 97, 3) := dk_181 0 97 (dk_at dksX1_appendInput_4 5 rfl rfl)
theorem dX1_appendInput_101 : decode cX1_appendInput 101 = .ok (.iinc 10 (-8), 3) := dk_132 10 248 (dk_at dksX1_appendInput_4 8 rfl rfl)
theorem dX1_appendInput_104 : decode cX1_appendInput 104 = .ok (.goto (-33), 3) := dk_167 255 223 (dk_at dksX1_appendInput_4 11 rfl rfl)
theorem dX1_appendInput_107 : decode cX1_appendInput 107 = .ok (.iinc 8 1, 3) := dk_132 8 1 (dk_at dksX1_appendInput_4 14 rfl rfl)
theorem dX1_appendInput_110 : decode cX1_appendInput 110 = .ok (.goto (-57), 3) := dk_167 255 199 (dk_at dksX1_appendInput_4 17 rfl rfl)
theorem dX1_appendInput_113 : decode cX1_appendInput 113 = .ok (.aload_n 0, 1) := dk_42 (dk_at dksX1_appendInput_4 20 rfl rfl)
theorem dX1_appendInput_114 : decode cX1_appendInput 114 = .ok (.getfield 97, 3) := dk_180 0 97 (dk_at dksX1_appendInput_4 21 rfl rfl)
theorem dX1_appendInput_117 : decode cX1_appendInput 117 = .ok (.ireturn, 1) := dk_172 (dk_at dksX1_appendInput_5 0 rfl rfl)
abbrev cX1_row : ByteArray := prog_1_method_9_code
def yX1_row : MethodName := ⟨RX1, "row", "([I)[I"⟩
theorem dX1_row_0 : decode cX1_row 0 = .ok (.aload_n 0, 1) := by decide +kernel
theorem dX1_row_1 : decode cX1_row 1 = .ok (.areturn, 1) := by decide +kernel
abbrev cX1_truncateInput : ByteArray := prog_1_method_11_code
def yX1_truncateInput : MethodName := ⟨RX1, "truncateInput", "(I)Z"⟩
def dkwX1_truncateInput_0 : List UInt8 := [27, 133, 9, 42, 180, 0, 97, 133, 184, 0, 20, 154, 0, 5, 3, 172, 42, 27, 181, 0, 97, 4, 172]
abbrev dktX1_truncateInput_0 : List UInt8 := dkwX1_truncateInput_0 ++ []
theorem dksX1_truncateInput_0 : cX1_truncateInput.data.toList.drop 0 = dktX1_truncateInput_0 := by decide +kernel
theorem dX1_truncateInput_0 : decode cX1_truncateInput 0 = .ok (.iload_n 1, 1) := dk_27 (dk_at dksX1_truncateInput_0 0 rfl rfl)
theorem dX1_truncateInput_1 : decode cX1_truncateInput 1 = .ok (.i2l, 1) := dk_133 (dk_at dksX1_truncateInput_0 1 rfl rfl)
theorem dX1_truncateInput_2 : decode cX1_truncateInput 2 = .ok (.lconst 0, 1) := dk_9 (dk_at dksX1_truncateInput_0 2 rfl rfl)
theorem dX1_truncateInput_3 : decode cX1_truncateInput 3 = .ok (.aload_n 0, 1) := dk_42 (dk_at dksX1_truncateInput_0 3 rfl rfl)
theorem dX1_truncateInput_4 : decode cX1_truncateInput 4 = .ok (.getfield 97, 3) := dk_180 0 97 (dk_at dksX1_truncateInput_0 4 rfl rfl)
theorem dX1_truncateInput_7 : decode cX1_truncateInput 7 = .ok (.i2l, 1) := dk_133 (dk_at dksX1_truncateInput_0 7 rfl rfl)
theorem dX1_truncateInput_8 : decode cX1_truncateInput 8 = .ok (.invokestatic 20, 3) := dk_184 0 20 (dk_at dksX1_truncateInput_0 8 rfl rfl)
theorem dX1_truncateInput_11 : decode cX1_truncateInput 11 = .ok (.ifCond .ne 5, 3) := dk_154 0 5 (dk_at dksX1_truncateInput_0 11 rfl rfl)
theorem dX1_truncateInput_14 : decode cX1_truncateInput 14 = .ok (.iconst 0, 1) := dk_3 (dk_at dksX1_truncateInput_0 14 rfl rfl)
theorem dX1_truncateInput_15 : decode cX1_truncateInput 15 = .ok (.ireturn, 1) := dk_172 (dk_at dksX1_truncateInput_0 15 rfl rfl)
theorem dX1_truncateInput_16 : decode cX1_truncateInput 16 = .ok (.aload_n 0, 1) := dk_42 (dk_at dksX1_truncateInput_0 16 rfl rfl)
theorem dX1_truncateInput_17 : decode cX1_truncateInput 17 = .ok (.iload_n 1, 1) := dk_27 (dk_at dksX1_truncateInput_0 17 rfl rfl)
theorem dX1_truncateInput_18 : decode cX1_truncateInput 18 = .ok (.putfield 97, 3) := dk_181 0 97 (dk_at dksX1_truncateInput_0 18 rfl rfl)
theorem dX1_truncateInput_21 : decode cX1_truncateInput 21 = .ok (.iconst 1, 1) := dk_4 (dk_at dksX1_truncateInput_0 21 rfl rfl)
theorem dX1_truncateInput_22 : decode cX1_truncateInput 22 = .ok (.ireturn, 1) := dk_172 (dk_at dksX1_truncateInput_0 22 rfl rfl)
abbrev cX1_isIn : ByteArray := prog_1_method_1_code
def yX1_isIn : MethodName := ⟨RX1, "isIn", "(JJJ)Z"⟩
def dkwX1_isIn_0 : List UInt8 := [30, 32, 148, 155, 0, 14, 30, 22, 4, 148, 157, 0, 7, 4, 167, 0, 4, 3, 172]
abbrev dktX1_isIn_0 : List UInt8 := dkwX1_isIn_0 ++ []
theorem dksX1_isIn_0 : cX1_isIn.data.toList.drop 0 = dktX1_isIn_0 := by decide +kernel
theorem dX1_isIn_0 : decode cX1_isIn 0 = .ok (.lload_n 0, 1) := dk_30 (dk_at dksX1_isIn_0 0 rfl rfl)
theorem dX1_isIn_1 : decode cX1_isIn 1 = .ok (.lload_n 2, 1) := dk_32 (dk_at dksX1_isIn_0 1 rfl rfl)
theorem dX1_isIn_2 : decode cX1_isIn 2 = .ok (.lcmp, 1) := dk_148 (dk_at dksX1_isIn_0 2 rfl rfl)
theorem dX1_isIn_3 : decode cX1_isIn 3 = .ok (.ifCond .lt 14, 3) := dk_155 0 14 (dk_at dksX1_isIn_0 3 rfl rfl)
theorem dX1_isIn_6 : decode cX1_isIn 6 = .ok (.lload_n 0, 1) := dk_30 (dk_at dksX1_isIn_0 6 rfl rfl)
theorem dX1_isIn_7 : decode cX1_isIn 7 = .ok (.lload 4, 2) := dk_22 4 (dk_at dksX1_isIn_0 7 rfl rfl)
theorem dX1_isIn_9 : decode cX1_isIn 9 = .ok (.lcmp, 1) := dk_148 (dk_at dksX1_isIn_0 9 rfl rfl)
theorem dX1_isIn_10 : decode cX1_isIn 10 = .ok (.ifCond .gt 7, 3) := dk_157 0 7 (dk_at dksX1_isIn_0 10 rfl rfl)
theorem dX1_isIn_13 : decode cX1_isIn 13 = .ok (.iconst 1, 1) := dk_4 (dk_at dksX1_isIn_0 13 rfl rfl)
theorem dX1_isIn_14 : decode cX1_isIn 14 = .ok (.goto 4, 3) := dk_167 0 4 (dk_at dksX1_isIn_0 14 rfl rfl)
theorem dX1_isIn_17 : decode cX1_isIn 17 = .ok (.iconst 0, 1) := dk_3 (dk_at dksX1_isIn_0 17 rfl rfl)
theorem dX1_isIn_18 : decode cX1_isIn 18 = .ok (.ireturn, 1) := dk_172 (dk_at dksX1_isIn_0 18 rfl rfl)
abbrev cX1_loadMap : ByteArray := prog_1_method_12_code
def yX1_loadMap : MethodName := ⟨RX1, "loadMap", "()I"⟩
def dkwX1_loadMap_3 : List UInt8 := [180, 0, 133, 181, 0, 62, 2, 61, 42, 3, 181, 0, 97, 28, 172, 78, 42, 3, 181, 0, 97, 45, 191]
abbrev dktX1_loadMap_3 : List UInt8 := dkwX1_loadMap_3 ++ []
def dkwX1_loadMap_2 : List UInt8 := [185, 0, 124, 1, 0, 60, 42, 3, 181, 0, 97, 27, 172, 76, 42, 43, 180, 0, 130, 181, 0, 104, 42, 43]
abbrev dktX1_loadMap_2 : List UInt8 := dkwX1_loadMap_2 ++ dktX1_loadMap_3
def dkwX1_loadMap_1 : List UInt8 := [181, 0, 69, 42, 180, 0, 76, 182, 0, 115, 42, 1, 181, 0, 118, 42, 180, 0, 69, 180, 0, 121]
abbrev dktX1_loadMap_1 : List UInt8 := dkwX1_loadMap_1 ++ dktX1_loadMap_2
def dkwX1_loadMap_0 : List UInt8 := [42, 3, 181, 0, 104, 42, 2, 181, 0, 62, 42, 187, 0, 107, 89, 42, 183, 0, 109, 182, 0, 112]
abbrev dktX1_loadMap_0 : List UInt8 := dkwX1_loadMap_0 ++ dktX1_loadMap_1
theorem dksX1_loadMap_0 : cX1_loadMap.data.toList.drop 0 = dktX1_loadMap_0 := by decide +kernel
theorem dksX1_loadMap_1 : cX1_loadMap.data.toList.drop 22 = dktX1_loadMap_1 := dk_seg dksX1_loadMap_0 22 rfl rfl
theorem dksX1_loadMap_2 : cX1_loadMap.data.toList.drop 44 = dktX1_loadMap_2 := dk_seg dksX1_loadMap_1 22 rfl rfl
theorem dksX1_loadMap_3 : cX1_loadMap.data.toList.drop 68 = dktX1_loadMap_3 := dk_seg dksX1_loadMap_2 24 rfl rfl
theorem dX1_loadMap_0 : decode cX1_loadMap 0 = .ok (.aload_n 0, 1) := dk_42 (dk_at dksX1_loadMap_0 0 rfl rfl)
theorem dX1_loadMap_1 : decode cX1_loadMap 1 = .ok (.iconst 0, 1) := dk_3 (dk_at dksX1_loadMap_0 1 rfl rfl)
theorem dX1_loadMap_2 : decode cX1_loadMap 2 = .ok (.putfield 104, 3) := dk_181 0 104 (dk_at dksX1_loadMap_0 2 rfl rfl)
theorem dX1_loadMap_5 : decode cX1_loadMap 5 = .ok (.aload_n 0, 1) := dk_42 (dk_at dksX1_loadMap_0 5 rfl rfl)
theorem dX1_loadMap_6 : decode cX1_loadMap 6 = .ok (.iconst (-1), 1) := dk_2 (dk_at dksX1_loadMap_0 6 rfl rfl)
theorem dX1_loadMap_7 : decode cX1_loadMap 7 = .ok (.putfield 62, 3) := dk_181 0 62 (dk_at dksX1_loadMap_0 7 rfl rfl)
theorem dX1_loadMap_10 : decode cX1_loadMap 10 = .ok (.aload_n 0, 1) := dk_42 (dk_at dksX1_loadMap_0 10 rfl rfl)
theorem dX1_loadMap_11 : decode cX1_loadMap 11 = .ok (.new 107, 3) := dk_187 0 107 (dk_at dksX1_loadMap_0 11 rfl rfl)
theorem dX1_loadMap_14 : decode cX1_loadMap 14 = .ok (.dup, 1) := dk_89 (dk_at dksX1_loadMap_0 14 rfl rfl)
theorem dX1_loadMap_15 : decode cX1_loadMap 15 = .ok (.aload_n 0, 1) := dk_42 (dk_at dksX1_loadMap_0 15 rfl rfl)
theorem dX1_loadMap_16 : decode cX1_loadMap 16 = .ok (.invokespecial 109, 3) := dk_183 0 109 (dk_at dksX1_loadMap_0 16 rfl rfl)
theorem dX1_loadMap_19 : decode cX1_loadMap 19 = .ok (.invokevirtual 112, 3) := dk_182 0 112 (dk_at dksX1_loadMap_0 19 rfl rfl)
theorem dX1_loadMap_22 : decode cX1_loadMap 22 = .ok (.putfield 69, 3) := dk_181 0 69 (dk_at dksX1_loadMap_1 0 rfl rfl)
theorem dX1_loadMap_25 : decode cX1_loadMap 25 = .ok (.aload_n 0, 1) := dk_42 (dk_at dksX1_loadMap_1 3 rfl rfl)
theorem dX1_loadMap_26 : decode cX1_loadMap 26 = .ok (.getfield 76, 3) := dk_180 0 76 (dk_at dksX1_loadMap_1 4 rfl rfl)
theorem dX1_loadMap_29 : decode cX1_loadMap 29 = .ok (.invokevirtual 115, 3) := dk_182 0 115 (dk_at dksX1_loadMap_1 7 rfl rfl)
theorem dX1_loadMap_32 : decode cX1_loadMap 32 = .ok (.aload_n 0, 1) := dk_42 (dk_at dksX1_loadMap_1 10 rfl rfl)
theorem dX1_loadMap_33 : decode cX1_loadMap 33 = .ok (.aconst_null, 1) := dk_1 (dk_at dksX1_loadMap_1 11 rfl rfl)
theorem dX1_loadMap_34 : decode cX1_loadMap 34 = .ok (.putfield 118, 3) := dk_181 0 118 (dk_at dksX1_loadMap_1 12 rfl rfl)
theorem dX1_loadMap_37 : decode cX1_loadMap 37 = .ok (.aload_n 0, 1) := dk_42 (dk_at dksX1_loadMap_1 15 rfl rfl)
theorem dX1_loadMap_38 : decode cX1_loadMap 38 = .ok (.getfield 69, 3) := dk_180 0 69 (dk_at dksX1_loadMap_1 16 rfl rfl)
theorem dX1_loadMap_41 : decode cX1_loadMap 41 = .ok (.getfield 121, 3) := dk_180 0 121 (dk_at dksX1_loadMap_1 19 rfl rfl)
theorem dX1_loadMap_44 : decode cX1_loadMap 44 = .ok (.invokeinterface 124 1, 5) := by decide +kernel
theorem dX1_loadMap_49 : decode cX1_loadMap 49 = .ok (.istore_n 1, 1) := dk_60 (dk_at dksX1_loadMap_2 5 rfl rfl)
theorem dX1_loadMap_50 : decode cX1_loadMap 50 = .ok (.aload_n 0, 1) := dk_42 (dk_at dksX1_loadMap_2 6 rfl rfl)
theorem dX1_loadMap_51 : decode cX1_loadMap 51 = .ok (.iconst 0, 1) := dk_3 (dk_at dksX1_loadMap_2 7 rfl rfl)
theorem dX1_loadMap_52 : decode cX1_loadMap 52 = .ok (.putfield 97, 3) := dk_181 0 97 (dk_at dksX1_loadMap_2 8 rfl rfl)
theorem dX1_loadMap_55 : decode cX1_loadMap 55 = .ok (.iload_n 1, 1) := dk_27 (dk_at dksX1_loadMap_2 11 rfl rfl)
theorem dX1_loadMap_56 : decode cX1_loadMap 56 = .ok (.ireturn, 1) := dk_172 (dk_at dksX1_loadMap_2 12 rfl rfl)
theorem dX1_loadMap_57 : decode cX1_loadMap 57 = .ok (.astore_n 1, 1) := dk_76 (dk_at dksX1_loadMap_2 13 rfl rfl)
theorem dX1_loadMap_58 : decode cX1_loadMap 58 = .ok (.aload_n 0, 1) := dk_42 (dk_at dksX1_loadMap_2 14 rfl rfl)
theorem dX1_loadMap_59 : decode cX1_loadMap 59 = .ok (.aload_n 1, 1) := dk_43 (dk_at dksX1_loadMap_2 15 rfl rfl)
theorem dX1_loadMap_60 : decode cX1_loadMap 60 = .ok (.getfield 130, 3) := dk_180 0 130 (dk_at dksX1_loadMap_2 16 rfl rfl)
theorem dX1_loadMap_63 : decode cX1_loadMap 63 = .ok (.putfield 104, 3) := dk_181 0 104 (dk_at dksX1_loadMap_2 19 rfl rfl)
theorem dX1_loadMap_66 : decode cX1_loadMap 66 = .ok (.aload_n 0, 1) := dk_42 (dk_at dksX1_loadMap_2 22 rfl rfl)
theorem dX1_loadMap_67 : decode cX1_loadMap 67 = .ok (.aload_n 1, 1) := dk_43 (dk_at dksX1_loadMap_2 23 rfl rfl)
theorem dX1_loadMap_68 : decode cX1_loadMap 68 = .ok (.getfield 133, 3) := dk_180 0 133 (dk_at dksX1_loadMap_3 0 rfl rfl)
theorem dX1_loadMap_71 : decode cX1_loadMap 71 = .ok (.putfield 62, 3) := dk_181 0 62 (dk_at dksX1_loadMap_3 3 rfl rfl)
theorem dX1_loadMap_74 : decode cX1_loadMap 74 = .ok (.iconst (-1), 1) := dk_2 (dk_at dksX1_loadMap_3 6 rfl rfl)
theorem dX1_loadMap_75 : decode cX1_loadMap 75 = .ok (.istore_n 2, 1) := dk_61 (dk_at dksX1_loadMap_3 7 rfl rfl)
theorem dX1_loadMap_76 : decode cX1_loadMap 76 = .ok (.aload_n 0, 1) := dk_42 (dk_at dksX1_loadMap_3 8 rfl rfl)
theorem dX1_loadMap_77 : decode cX1_loadMap 77 = .ok (.iconst 0, 1) := dk_3 (dk_at dksX1_loadMap_3 9 rfl rfl)
theorem dX1_loadMap_78 : decode cX1_loadMap 78 = .ok (.putfield 97, 3) := dk_181 0 97 (dk_at dksX1_loadMap_3 10 rfl rfl)
theorem dX1_loadMap_81 : decode cX1_loadMap 81 = .ok (.iload_n 2, 1) := dk_28 (dk_at dksX1_loadMap_3 13 rfl rfl)
theorem dX1_loadMap_82 : decode cX1_loadMap 82 = .ok (.ireturn, 1) := dk_172 (dk_at dksX1_loadMap_3 14 rfl rfl)
theorem dX1_loadMap_83 : decode cX1_loadMap 83 = .ok (.astore_n 3, 1) := dk_78 (dk_at dksX1_loadMap_3 15 rfl rfl)
theorem dX1_loadMap_84 : decode cX1_loadMap 84 = .ok (.aload_n 0, 1) := dk_42 (dk_at dksX1_loadMap_3 16 rfl rfl)
theorem dX1_loadMap_85 : decode cX1_loadMap 85 = .ok (.iconst 0, 1) := dk_3 (dk_at dksX1_loadMap_3 17 rfl rfl)
theorem dX1_loadMap_86 : decode cX1_loadMap 86 = .ok (.putfield 97, 3) := dk_181 0 97 (dk_at dksX1_loadMap_3 18 rfl rfl)
theorem dX1_loadMap_89 : decode cX1_loadMap 89 = .ok (.aload_n 3, 1) := dk_45 (dk_at dksX1_loadMap_3 21 rfl rfl)
theorem dX1_loadMap_90 : decode cX1_loadMap 90 = .ok (.athrow, 1) := dk_191 (dk_at dksX1_loadMap_3 22 rfl rfl)
abbrev cX1_errorCode : ByteArray := prog_1_method_13_code
def yX1_errorCode : MethodName := ⟨RX1, "errorCode", "()I"⟩
theorem dX1_errorCode_0 : decode cX1_errorCode 0 = .ok (.aload_n 0, 1) := by decide +kernel
theorem dX1_errorCode_1 : decode cX1_errorCode 1 = .ok (.getfield 104, 3) := by decide +kernel
theorem dX1_errorCode_4 : decode cX1_errorCode 4 = .ok (.ireturn, 1) := by decide +kernel
abbrev cX1_errorOffset : ByteArray := prog_1_method_14_code
def yX1_errorOffset : MethodName := ⟨RX1, "errorOffset", "()I"⟩
theorem dX1_errorOffset_0 : decode cX1_errorOffset 0 = .ok (.aload_n 0, 1) := by decide +kernel
theorem dX1_errorOffset_1 : decode cX1_errorOffset 1 = .ok (.getfield 62, 3) := by decide +kernel
theorem dX1_errorOffset_4 : decode cX1_errorOffset 4 = .ok (.ireturn, 1) := by decide +kernel
abbrev cX1_named : ByteArray := prog_1_method_44_code
def yX1_named : MethodName := ⟨RX1, "named", "()I"⟩
def dkwX1_named_0 : List UInt8 := [42, 182, 1, 177, 76, 42, 42, 43, 186, 1, 180, 0, 0, 182, 1, 162, 172]
abbrev dktX1_named_0 : List UInt8 := dkwX1_named_0 ++ []
theorem dksX1_named_0 : cX1_named.data.toList.drop 0 = dktX1_named_0 := by decide +kernel
theorem dX1_named_0 : decode cX1_named 0 = .ok (.aload_n 0, 1) := dk_42 (dk_at dksX1_named_0 0 rfl rfl)
theorem dX1_named_1 : decode cX1_named 1 = .ok (.invokevirtual 433, 3) := dk_182 1 177 (dk_at dksX1_named_0 1 rfl rfl)
theorem dX1_named_4 : decode cX1_named 4 = .ok (.astore_n 1, 1) := dk_76 (dk_at dksX1_named_0 4 rfl rfl)
theorem dX1_named_5 : decode cX1_named 5 = .ok (.aload_n 0, 1) := dk_42 (dk_at dksX1_named_0 5 rfl rfl)
theorem dX1_named_6 : decode cX1_named 6 = .ok (.aload_n 0, 1) := dk_42 (dk_at dksX1_named_0 6 rfl rfl)
theorem dX1_named_7 : decode cX1_named 7 = .ok (.aload_n 1, 1) := dk_43 (dk_at dksX1_named_0 7 rfl rfl)
theorem dX1_named_8 : decode cX1_named 8 = .ok (.invokedynamic 436, 5) := by decide +kernel
theorem dX1_named_13 : decode cX1_named 13 = .ok (.invokevirtual 418, 3) := dk_182 1 162 (dk_at dksX1_named_0 13 rfl rfl)
theorem dX1_named_16 : decode cX1_named 16 = .ok (.ireturn, 1) := dk_172 (dk_at dksX1_named_0 16 rfl rfl)
abbrev cX1_told : ByteArray := prog_1_method_43_code
def yX1_told : MethodName := ⟨RX1, "told", "()Ljava/lang/String;"⟩
def dkwX1_told_1 : List UInt8 := [51, 17, 0, 255, 126, 146, 182, 1, 169, 87, 132, 2, 1, 167, 255, 229, 43, 182, 1, 173, 176]
abbrev dktX1_told_1 : List UInt8 := dkwX1_told_1 ++ []
def dkwX1_told_0 : List UInt8 := [187, 0, 90, 89, 183, 0, 92, 76, 3, 61, 28, 42, 180, 0, 97, 162, 0, 25, 43, 42, 180, 0, 58, 28]
abbrev dktX1_told_0 : List UInt8 := dkwX1_told_0 ++ dktX1_told_1
theorem dksX1_told_0 : cX1_told.data.toList.drop 0 = dktX1_told_0 := by decide +kernel
theorem dksX1_told_1 : cX1_told.data.toList.drop 24 = dktX1_told_1 := dk_seg dksX1_told_0 24 rfl rfl
theorem dX1_told_0 : decode cX1_told 0 = .ok (.new 90, 3) := dk_187 0 90 (dk_at dksX1_told_0 0 rfl rfl)
theorem dX1_told_3 : decode cX1_told 3 = .ok (.dup, 1) := dk_89 (dk_at dksX1_told_0 3 rfl rfl)
theorem dX1_told_4 : decode cX1_told 4 = .ok (.invokespecial 92, 3) := dk_183 0 92 (dk_at dksX1_told_0 4 rfl rfl)
theorem dX1_told_7 : decode cX1_told 7 = .ok (.astore_n 1, 1) := dk_76 (dk_at dksX1_told_0 7 rfl rfl)
theorem dX1_told_8 : decode cX1_told 8 = .ok (.iconst 0, 1) := dk_3 (dk_at dksX1_told_0 8 rfl rfl)
theorem dX1_told_9 : decode cX1_told 9 = .ok (.istore_n 2, 1) := dk_61 (dk_at dksX1_told_0 9 rfl rfl)
theorem dX1_told_10 : decode cX1_told 10 = .ok (.iload_n 2, 1) := dk_28 (dk_at dksX1_told_0 10 rfl rfl)
theorem dX1_told_11 : decode cX1_told 11 = .ok (.aload_n 0, 1) := dk_42 (dk_at dksX1_told_0 11 rfl rfl)
theorem dX1_told_12 : decode cX1_told 12 = .ok (.getfield 97, 3) := dk_180 0 97 (dk_at dksX1_told_0 12 rfl rfl)
theorem dX1_told_15 : decode cX1_told 15 = .ok (.if_icmp .ge 25, 3) := dk_162 0 25 (dk_at dksX1_told_0 15 rfl rfl)
theorem dX1_told_18 : decode cX1_told 18 = .ok (.aload_n 1, 1) := dk_43 (dk_at dksX1_told_0 18 rfl rfl)
theorem dX1_told_19 : decode cX1_told 19 = .ok (.aload_n 0, 1) := dk_42 (dk_at dksX1_told_0 19 rfl rfl)
theorem dX1_told_20 : decode cX1_told 20 = .ok (.getfield 58, 3) := dk_180 0 58 (dk_at dksX1_told_0 20 rfl rfl)
theorem dX1_told_23 : decode cX1_told 23 = .ok (.iload_n 2, 1) := dk_28 (dk_at dksX1_told_0 23 rfl rfl)
theorem dX1_told_24 : decode cX1_told 24 = .ok (.baload, 1) := dk_51 (dk_at dksX1_told_1 0 rfl rfl)
theorem dX1_told_25 : decode cX1_told 25 = .ok (.sipush 255, 3) := dk_17 0 255 (dk_at dksX1_told_1 1 rfl rfl)
theorem dX1_told_28 : decode cX1_told 28 = .ok (.iand, 1) := dk_126 (dk_at dksX1_told_1 4 rfl rfl)
theorem dX1_told_29 : decode cX1_told 29 = .ok (.i2c, 1) := dk_146 (dk_at dksX1_told_1 5 rfl rfl)
theorem dX1_told_30 : decode cX1_told 30 = .ok (.invokevirtual 425, 3) := dk_182 1 169 (dk_at dksX1_told_1 6 rfl rfl)
theorem dX1_told_33 : decode cX1_told 33 = .ok (.pop, 1) := dk_87 (dk_at dksX1_told_1 9 rfl rfl)
theorem dX1_told_34 : decode cX1_told 34 = .ok (.iinc 2 1, 3) := dk_132 2 1 (dk_at dksX1_told_1 10 rfl rfl)
theorem dX1_told_37 : decode cX1_told 37 = .ok (.goto (-27), 3) := dk_167 255 229 (dk_at dksX1_told_1 13 rfl rfl)
theorem dX1_told_40 : decode cX1_told 40 = .ok (.aload_n 1, 1) := dk_43 (dk_at dksX1_told_1 16 rfl rfl)
theorem dX1_told_41 : decode cX1_told 41 = .ok (.invokevirtual 429, 3) := dk_182 1 173 (dk_at dksX1_told_1 17 rfl rfl)
theorem dX1_told_44 : decode cX1_told 44 = .ok (.areturn, 1) := dk_176 (dk_at dksX1_told_1 20 rfl rfl)
abbrev cX1_lambda_named_2 : ByteArray := prog_1_method_87_code
def yX1_lambda_named_2 : MethodName := ⟨RX1, "lambda$named$2", "(Ljava/lang/String;LCountyGazetteer$Village;)Z"⟩
def dkwX1_lambda_named_2_1 : List UInt8 := [182, 1, 115, 43, 182, 2, 94, 153, 0, 7, 4, 167, 0, 4, 3, 172]
abbrev dktX1_lambda_named_2_1 : List UInt8 := dkwX1_lambda_named_2_1 ++ []
def dkwX1_lambda_named_2_0 : List UInt8 := [44, 42, 180, 0, 69, 180, 0, 184, 182, 0, 228, 153, 0, 25, 44, 42, 180, 0, 69, 180, 0, 184]
abbrev dktX1_lambda_named_2_0 : List UInt8 := dkwX1_lambda_named_2_0 ++ dktX1_lambda_named_2_1
theorem dksX1_lambda_named_2_0 : cX1_lambda_named_2.data.toList.drop 0 = dktX1_lambda_named_2_0 := by decide +kernel
theorem dksX1_lambda_named_2_1 : cX1_lambda_named_2.data.toList.drop 22 = dktX1_lambda_named_2_1 := dk_seg dksX1_lambda_named_2_0 22 rfl rfl
theorem dX1_lambda_named_2_0 : decode cX1_lambda_named_2 0 = .ok (.aload_n 2, 1) := dk_44 (dk_at dksX1_lambda_named_2_0 0 rfl rfl)
theorem dX1_lambda_named_2_1 : decode cX1_lambda_named_2 1 = .ok (.aload_n 0, 1) := dk_42 (dk_at dksX1_lambda_named_2_0 1 rfl rfl)
theorem dX1_lambda_named_2_2 : decode cX1_lambda_named_2 2 = .ok (.getfield 69, 3) := dk_180 0 69 (dk_at dksX1_lambda_named_2_0 2 rfl rfl)
theorem dX1_lambda_named_2_5 : decode cX1_lambda_named_2 5 = .ok (.getfield 184, 3) := dk_180 0 184 (dk_at dksX1_lambda_named_2_0 5 rfl rfl)
theorem dX1_lambda_named_2_8 : decode cX1_lambda_named_2 8 = .ok (.invokevirtual 228, 3) := dk_182 0 228 (dk_at dksX1_lambda_named_2_0 8 rfl rfl)
theorem dX1_lambda_named_2_11 : decode cX1_lambda_named_2 11 = .ok (.ifCond .eq 25, 3) := dk_153 0 25 (dk_at dksX1_lambda_named_2_0 11 rfl rfl)
theorem dX1_lambda_named_2_14 : decode cX1_lambda_named_2 14 = .ok (.aload_n 2, 1) := dk_44 (dk_at dksX1_lambda_named_2_0 14 rfl rfl)
theorem dX1_lambda_named_2_15 : decode cX1_lambda_named_2 15 = .ok (.aload_n 0, 1) := dk_42 (dk_at dksX1_lambda_named_2_0 15 rfl rfl)
theorem dX1_lambda_named_2_16 : decode cX1_lambda_named_2 16 = .ok (.getfield 69, 3) := dk_180 0 69 (dk_at dksX1_lambda_named_2_0 16 rfl rfl)
theorem dX1_lambda_named_2_19 : decode cX1_lambda_named_2 19 = .ok (.getfield 184, 3) := dk_180 0 184 (dk_at dksX1_lambda_named_2_0 19 rfl rfl)
theorem dX1_lambda_named_2_22 : decode cX1_lambda_named_2 22 = .ok (.invokevirtual 371, 3) := dk_182 1 115 (dk_at dksX1_lambda_named_2_1 0 rfl rfl)
theorem dX1_lambda_named_2_25 : decode cX1_lambda_named_2 25 = .ok (.aload_n 1, 1) := dk_43 (dk_at dksX1_lambda_named_2_1 3 rfl rfl)
theorem dX1_lambda_named_2_26 : decode cX1_lambda_named_2 26 = .ok (.invokevirtual 606, 3) := dk_182 2 94 (dk_at dksX1_lambda_named_2_1 4 rfl rfl)
theorem dX1_lambda_named_2_29 : decode cX1_lambda_named_2 29 = .ok (.ifCond .eq 7, 3) := dk_153 0 7 (dk_at dksX1_lambda_named_2_1 7 rfl rfl)
theorem dX1_lambda_named_2_32 : decode cX1_lambda_named_2 32 = .ok (.iconst 1, 1) := dk_4 (dk_at dksX1_lambda_named_2_1 10 rfl rfl)
theorem dX1_lambda_named_2_33 : decode cX1_lambda_named_2 33 = .ok (.goto 4, 3) := dk_167 0 4 (dk_at dksX1_lambda_named_2_1 11 rfl rfl)
theorem dX1_lambda_named_2_36 : decode cX1_lambda_named_2 36 = .ok (.iconst 0, 1) := dk_3 (dk_at dksX1_lambda_named_2_1 14 rfl rfl)
theorem dX1_lambda_named_2_37 : decode cX1_lambda_named_2 37 = .ok (.ireturn, 1) := dk_172 (dk_at dksX1_lambda_named_2_1 15 rfl rfl)
abbrev cX1_setOf : ByteArray := prog_1_method_39_code
def yX1_setOf : MethodName := ⟨RX1, "setOf", "(LCountyGazetteer$VillageAsker;)I"⟩
def dkwX1_setOf_2 : List UInt8 := [29, 120, 167, 0, 4, 3, 128, 61, 132, 3, 1, 167, 255, 202, 28, 172]
abbrev dktX1_setOf_2 : List UInt8 := dkwX1_setOf_2 ++ []
def dkwX1_setOf_1 : List UInt8 := [180, 0, 69, 180, 0, 121, 29, 185, 0, 224, 2, 0, 192, 0, 214, 185, 1, 153, 2, 0, 153, 0, 9, 4]
abbrev dktX1_setOf_1 : List UInt8 := dkwX1_setOf_1 ++ dktX1_setOf_2
def dkwX1_setOf_0 : List UInt8 := [3, 61, 3, 62, 29, 42, 180, 0, 69, 180, 0, 121, 185, 0, 124, 1, 0, 162, 0, 44, 28, 43, 42]
abbrev dktX1_setOf_0 : List UInt8 := dkwX1_setOf_0 ++ dktX1_setOf_1
theorem dksX1_setOf_0 : cX1_setOf.data.toList.drop 0 = dktX1_setOf_0 := by decide +kernel
theorem dksX1_setOf_1 : cX1_setOf.data.toList.drop 23 = dktX1_setOf_1 := dk_seg dksX1_setOf_0 23 rfl rfl
theorem dksX1_setOf_2 : cX1_setOf.data.toList.drop 47 = dktX1_setOf_2 := dk_seg dksX1_setOf_1 24 rfl rfl
theorem dX1_setOf_0 : decode cX1_setOf 0 = .ok (.iconst 0, 1) := dk_3 (dk_at dksX1_setOf_0 0 rfl rfl)
theorem dX1_setOf_1 : decode cX1_setOf 1 = .ok (.istore_n 2, 1) := dk_61 (dk_at dksX1_setOf_0 1 rfl rfl)
theorem dX1_setOf_2 : decode cX1_setOf 2 = .ok (.iconst 0, 1) := dk_3 (dk_at dksX1_setOf_0 2 rfl rfl)
theorem dX1_setOf_3 : decode cX1_setOf 3 = .ok (.istore_n 3, 1) := dk_62 (dk_at dksX1_setOf_0 3 rfl rfl)
theorem dX1_setOf_4 : decode cX1_setOf 4 = .ok (.iload_n 3, 1) := dk_29 (dk_at dksX1_setOf_0 4 rfl rfl)
theorem dX1_setOf_5 : decode cX1_setOf 5 = .ok (.aload_n 0, 1) := dk_42 (dk_at dksX1_setOf_0 5 rfl rfl)
theorem dX1_setOf_6 : decode cX1_setOf 6 = .ok (.getfield 69, 3) := dk_180 0 69 (dk_at dksX1_setOf_0 6 rfl rfl)
theorem dX1_setOf_9 : decode cX1_setOf 9 = .ok (.getfield 121, 3) := dk_180 0 121 (dk_at dksX1_setOf_0 9 rfl rfl)
theorem dX1_setOf_12 : decode cX1_setOf 12 = .ok (.invokeinterface 124 1, 5) := by decide +kernel
theorem dX1_setOf_17 : decode cX1_setOf 17 = .ok (.if_icmp .ge 44, 3) := dk_162 0 44 (dk_at dksX1_setOf_0 17 rfl rfl)
theorem dX1_setOf_20 : decode cX1_setOf 20 = .ok (.iload_n 2, 1) := dk_28 (dk_at dksX1_setOf_0 20 rfl rfl)
theorem dX1_setOf_21 : decode cX1_setOf 21 = .ok (.aload_n 1, 1) := dk_43 (dk_at dksX1_setOf_0 21 rfl rfl)
theorem dX1_setOf_22 : decode cX1_setOf 22 = .ok (.aload_n 0, 1) := dk_42 (dk_at dksX1_setOf_0 22 rfl rfl)
theorem dX1_setOf_23 : decode cX1_setOf 23 = .ok (.getfield 69, 3) := dk_180 0 69 (dk_at dksX1_setOf_1 0 rfl rfl)
theorem dX1_setOf_26 : decode cX1_setOf 26 = .ok (.getfield 121, 3) := dk_180 0 121 (dk_at dksX1_setOf_1 3 rfl rfl)
theorem dX1_setOf_29 : decode cX1_setOf 29 = .ok (.iload_n 3, 1) := dk_29 (dk_at dksX1_setOf_1 6 rfl rfl)
theorem dX1_setOf_30 : decode cX1_setOf 30 = .ok (.invokeinterface 224 2, 5) := by decide +kernel
theorem dX1_setOf_35 : decode cX1_setOf 35 = .ok (.checkcast 214, 3) := dk_192 0 214 (dk_at dksX1_setOf_1 12 rfl rfl)
theorem dX1_setOf_38 : decode cX1_setOf 38 = .ok (.invokeinterface 409 2, 5) := by decide +kernel
theorem dX1_setOf_43 : decode cX1_setOf 43 = .ok (.ifCond .eq 9, 3) := dk_153 0 9 (dk_at dksX1_setOf_1 20 rfl rfl)
theorem dX1_setOf_46 : decode cX1_setOf 46 = .ok (.iconst 1, 1) := dk_4 (dk_at dksX1_setOf_1 23 rfl rfl)
theorem dX1_setOf_47 : decode cX1_setOf 47 = .ok (.iload_n 3, 1) := dk_29 (dk_at dksX1_setOf_2 0 rfl rfl)
theorem dX1_setOf_48 : decode cX1_setOf 48 = .ok (.ishl, 1) := dk_120 (dk_at dksX1_setOf_2 1 rfl rfl)
theorem dX1_setOf_49 : decode cX1_setOf 49 = .ok (.goto 4, 3) := dk_167 0 4 (dk_at dksX1_setOf_2 2 rfl rfl)
theorem dX1_setOf_52 : decode cX1_setOf 52 = .ok (.iconst 0, 1) := dk_3 (dk_at dksX1_setOf_2 5 rfl rfl)
theorem dX1_setOf_53 : decode cX1_setOf 53 = .ok (.ior, 1) := dk_128 (dk_at dksX1_setOf_2 6 rfl rfl)
theorem dX1_setOf_54 : decode cX1_setOf 54 = .ok (.istore_n 2, 1) := dk_61 (dk_at dksX1_setOf_2 7 rfl rfl)
theorem dX1_setOf_55 : decode cX1_setOf 55 = .ok (.iinc 3 1, 3) := dk_132 3 1 (dk_at dksX1_setOf_2 8 rfl rfl)
theorem dX1_setOf_58 : decode cX1_setOf 58 = .ok (.goto (-54), 3) := dk_167 255 202 (dk_at dksX1_setOf_2 11 rfl rfl)
theorem dX1_setOf_61 : decode cX1_setOf 61 = .ok (.iload_n 2, 1) := dk_28 (dk_at dksX1_setOf_2 14 rfl rfl)
theorem dX1_setOf_62 : decode cX1_setOf 62 = .ok (.ireturn, 1) := dk_172 (dk_at dksX1_setOf_2 15 rfl rfl)
abbrev cX1_everNamed : ByteArray := prog_1_method_45_code
def yX1_everNamed : MethodName := ⟨RX1, "everNamed", "()I"⟩
def dkwX1_everNamed_0 : List UInt8 := [42, 182, 1, 177, 76, 42, 42, 43, 186, 1, 183, 0, 0, 182, 1, 162, 172]
abbrev dktX1_everNamed_0 : List UInt8 := dkwX1_everNamed_0 ++ []
theorem dksX1_everNamed_0 : cX1_everNamed.data.toList.drop 0 = dktX1_everNamed_0 := by decide +kernel
theorem dX1_everNamed_0 : decode cX1_everNamed 0 = .ok (.aload_n 0, 1) := dk_42 (dk_at dksX1_everNamed_0 0 rfl rfl)
theorem dX1_everNamed_1 : decode cX1_everNamed 1 = .ok (.invokevirtual 433, 3) := dk_182 1 177 (dk_at dksX1_everNamed_0 1 rfl rfl)
theorem dX1_everNamed_4 : decode cX1_everNamed 4 = .ok (.astore_n 1, 1) := dk_76 (dk_at dksX1_everNamed_0 4 rfl rfl)
theorem dX1_everNamed_5 : decode cX1_everNamed 5 = .ok (.aload_n 0, 1) := dk_42 (dk_at dksX1_everNamed_0 5 rfl rfl)
theorem dX1_everNamed_6 : decode cX1_everNamed 6 = .ok (.aload_n 0, 1) := dk_42 (dk_at dksX1_everNamed_0 6 rfl rfl)
theorem dX1_everNamed_7 : decode cX1_everNamed 7 = .ok (.aload_n 1, 1) := dk_43 (dk_at dksX1_everNamed_0 7 rfl rfl)
theorem dX1_everNamed_8 : decode cX1_everNamed 8 = .ok (.invokedynamic 439, 5) := by decide +kernel
theorem dX1_everNamed_13 : decode cX1_everNamed 13 = .ok (.invokevirtual 418, 3) := dk_182 1 162 (dk_at dksX1_everNamed_0 13 rfl rfl)
theorem dX1_everNamed_16 : decode cX1_everNamed 16 = .ok (.ireturn, 1) := dk_172 (dk_at dksX1_everNamed_0 16 rfl rfl)
abbrev cX1_lambda_everNamed_3 : ByteArray := prog_1_method_86_code
def yX1_lambda_everNamed_3 : MethodName := ⟨RX1, "lambda$everNamed$3", "(Ljava/lang/String;LCountyGazetteer$Village;)Z"⟩
def dkwX1_lambda_everNamed_3_2 : List UInt8 := [182, 2, 97, 153, 0, 7, 4, 167, 0, 4, 3, 172]
abbrev dktX1_lambda_everNamed_3_2 : List UInt8 := dkwX1_lambda_everNamed_3_2 ++ []
def dkwX1_lambda_everNamed_3_1 : List UInt8 := [182, 1, 115, 43, 182, 2, 94, 154, 0, 21, 44, 42, 180, 0, 69, 180, 0, 184, 182, 1, 35, 43]
abbrev dktX1_lambda_everNamed_3_1 : List UInt8 := dkwX1_lambda_everNamed_3_1 ++ dktX1_lambda_everNamed_3_2
def dkwX1_lambda_everNamed_3_0 : List UInt8 := [44, 42, 180, 0, 69, 180, 0, 184, 182, 0, 228, 153, 0, 43, 44, 42, 180, 0, 69, 180, 0, 184]
abbrev dktX1_lambda_everNamed_3_0 : List UInt8 := dkwX1_lambda_everNamed_3_0 ++ dktX1_lambda_everNamed_3_1
theorem dksX1_lambda_everNamed_3_0 : cX1_lambda_everNamed_3.data.toList.drop 0 = dktX1_lambda_everNamed_3_0 := by decide +kernel
theorem dksX1_lambda_everNamed_3_1 : cX1_lambda_everNamed_3.data.toList.drop 22 = dktX1_lambda_everNamed_3_1 := dk_seg dksX1_lambda_everNamed_3_0 22 rfl rfl
theorem dksX1_lambda_everNamed_3_2 : cX1_lambda_everNamed_3.data.toList.drop 44 = dktX1_lambda_everNamed_3_2 := dk_seg dksX1_lambda_everNamed_3_1 22 rfl rfl
theorem dX1_lambda_everNamed_3_0 : decode cX1_lambda_everNamed_3 0 = .ok (.aload_n 2, 1) := dk_44 (dk_at dksX1_lambda_everNamed_3_0 0 rfl rfl)
theorem dX1_lambda_everNamed_3_1 : decode cX1_lambda_everNamed_3 1 = .ok (.aload_n 0, 1) := dk_42 (dk_at dksX1_lambda_everNamed_3_0 1 rfl rfl)
theorem dX1_lambda_everNamed_3_2 : decode cX1_lambda_everNamed_3 2 = .ok (.getfield 69, 3) := dk_180 0 69 (dk_at dksX1_lambda_everNamed_3_0 2 rfl rfl)
theorem dX1_lambda_everNamed_3_5 : decode cX1_lambda_everNamed_3 5 = .ok (.getfield 184, 3) := dk_180 0 184 (dk_at dksX1_lambda_everNamed_3_0 5 rfl rfl)
theorem dX1_lambda_everNamed_3_8 : decode cX1_lambda_everNamed_3 8 = .ok (.invokevirtual 228, 3) := dk_182 0 228 (dk_at dksX1_lambda_everNamed_3_0 8 rfl rfl)
theorem dX1_lambda_everNamed_3_11 : decode cX1_lambda_everNamed_3 11 = .ok (.ifCond .eq 43, 3) := dk_153 0 43 (dk_at dksX1_lambda_everNamed_3_0 11 rfl rfl)
theorem dX1_lambda_everNamed_3_14 : decode cX1_lambda_everNamed_3 14 = .ok (.aload_n 2, 1) := dk_44 (dk_at dksX1_lambda_everNamed_3_0 14 rfl rfl)
theorem dX1_lambda_everNamed_3_15 : decode cX1_lambda_everNamed_3 15 = .ok (.aload_n 0, 1) := dk_42 (dk_at dksX1_lambda_everNamed_3_0 15 rfl rfl)
theorem dX1_lambda_everNamed_3_16 : decode cX1_lambda_everNamed_3 16 = .ok (.getfield 69, 3) := dk_180 0 69 (dk_at dksX1_lambda_everNamed_3_0 16 rfl rfl)
theorem dX1_lambda_everNamed_3_19 : decode cX1_lambda_everNamed_3 19 = .ok (.getfield 184, 3) := dk_180 0 184 (dk_at dksX1_lambda_everNamed_3_0 19 rfl rfl)
theorem dX1_lambda_everNamed_3_22 : decode cX1_lambda_everNamed_3 22 = .ok (.invokevirtual 371, 3) := dk_182 1 115 (dk_at dksX1_lambda_everNamed_3_1 0 rfl rfl)
theorem dX1_lambda_everNamed_3_25 : decode cX1_lambda_everNamed_3 25 = .ok (.aload_n 1, 1) := dk_43 (dk_at dksX1_lambda_everNamed_3_1 3 rfl rfl)
theorem dX1_lambda_everNamed_3_26 : decode cX1_lambda_everNamed_3 26 = .ok (.invokevirtual 606, 3) := dk_182 2 94 (dk_at dksX1_lambda_everNamed_3_1 4 rfl rfl)
theorem dX1_lambda_everNamed_3_29 : decode cX1_lambda_everNamed_3 29 = .ok (.ifCond .ne 21, 3) := dk_154 0 21 (dk_at dksX1_lambda_everNamed_3_1 7 rfl rfl)
theorem dX1_lambda_everNamed_3_32 : decode cX1_lambda_everNamed_3 32 = .ok (.aload_n 2, 1) := dk_44 (dk_at dksX1_lambda_everNamed_3_1 10 rfl rfl)
theorem dX1_lambda_everNamed_3_33 : decode cX1_lambda_everNamed_3 33 = .ok (.aload_n 0, 1) := dk_42 (dk_at dksX1_lambda_everNamed_3_1 11 rfl rfl)
theorem dX1_lambda_everNamed_3_34 : decode cX1_lambda_everNamed_3 34 = .ok (.getfield 69, 3) := dk_180 0 69 (dk_at dksX1_lambda_everNamed_3_1 12 rfl rfl)
theorem dX1_lambda_everNamed_3_37 : decode cX1_lambda_everNamed_3 37 = .ok (.getfield 184, 3) := dk_180 0 184 (dk_at dksX1_lambda_everNamed_3_1 15 rfl rfl)
theorem dX1_lambda_everNamed_3_40 : decode cX1_lambda_everNamed_3 40 = .ok (.invokevirtual 291, 3) := dk_182 1 35 (dk_at dksX1_lambda_everNamed_3_1 18 rfl rfl)
theorem dX1_lambda_everNamed_3_43 : decode cX1_lambda_everNamed_3 43 = .ok (.aload_n 1, 1) := dk_43 (dk_at dksX1_lambda_everNamed_3_1 21 rfl rfl)
theorem dX1_lambda_everNamed_3_44 : decode cX1_lambda_everNamed_3 44 = .ok (.invokevirtual 609, 3) := dk_182 2 97 (dk_at dksX1_lambda_everNamed_3_2 0 rfl rfl)
theorem dX1_lambda_everNamed_3_47 : decode cX1_lambda_everNamed_3 47 = .ok (.ifCond .eq 7, 3) := dk_153 0 7 (dk_at dksX1_lambda_everNamed_3_2 3 rfl rfl)
theorem dX1_lambda_everNamed_3_50 : decode cX1_lambda_everNamed_3 50 = .ok (.iconst 1, 1) := dk_4 (dk_at dksX1_lambda_everNamed_3_2 6 rfl rfl)
theorem dX1_lambda_everNamed_3_51 : decode cX1_lambda_everNamed_3 51 = .ok (.goto 4, 3) := dk_167 0 4 (dk_at dksX1_lambda_everNamed_3_2 7 rfl rfl)
theorem dX1_lambda_everNamed_3_54 : decode cX1_lambda_everNamed_3 54 = .ok (.iconst 0, 1) := dk_3 (dk_at dksX1_lambda_everNamed_3_2 10 rfl rfl)
theorem dX1_lambda_everNamed_3_55 : decode cX1_lambda_everNamed_3 55 = .ok (.ireturn, 1) := dk_172 (dk_at dksX1_lambda_everNamed_3_2 11 rfl rfl)
abbrev cX1_countyNamed : ByteArray := prog_1_method_46_code
def yX1_countyNamed : MethodName := ⟨RX1, "countyNamed", "()I"⟩
def dkwX1_countyNamed_0 : List UInt8 := [42, 180, 0, 69, 180, 0, 38, 42, 182, 1, 177, 184, 1, 184, 172]
abbrev dktX1_countyNamed_0 : List UInt8 := dkwX1_countyNamed_0 ++ []
theorem dksX1_countyNamed_0 : cX1_countyNamed.data.toList.drop 0 = dktX1_countyNamed_0 := by decide +kernel
theorem dX1_countyNamed_0 : decode cX1_countyNamed 0 = .ok (.aload_n 0, 1) := dk_42 (dk_at dksX1_countyNamed_0 0 rfl rfl)
theorem dX1_countyNamed_1 : decode cX1_countyNamed 1 = .ok (.getfield 69, 3) := dk_180 0 69 (dk_at dksX1_countyNamed_0 1 rfl rfl)
theorem dX1_countyNamed_4 : decode cX1_countyNamed 4 = .ok (.getfield 38, 3) := dk_180 0 38 (dk_at dksX1_countyNamed_0 4 rfl rfl)
theorem dX1_countyNamed_7 : decode cX1_countyNamed 7 = .ok (.aload_n 0, 1) := dk_42 (dk_at dksX1_countyNamed_0 7 rfl rfl)
theorem dX1_countyNamed_8 : decode cX1_countyNamed 8 = .ok (.invokevirtual 433, 3) := dk_182 1 177 (dk_at dksX1_countyNamed_0 8 rfl rfl)
theorem dX1_countyNamed_11 : decode cX1_countyNamed 11 = .ok (.invokestatic 440, 3) := dk_184 1 184 (dk_at dksX1_countyNamed_0 11 rfl rfl)
theorem dX1_countyNamed_14 : decode cX1_countyNamed 14 = .ok (.ireturn, 1) := dk_172 (dk_at dksX1_countyNamed_0 14 rfl rfl)
abbrev cX1_waste : ByteArray := prog_1_method_56_code
def yX1_waste : MethodName := ⟨RX1, "waste", "()I"⟩
def dkwX1_waste_0 : List UInt8 := [42, 182, 0, 249, 180, 1, 235, 172]
abbrev dktX1_waste_0 : List UInt8 := dkwX1_waste_0 ++ []
theorem dksX1_waste_0 : cX1_waste.data.toList.drop 0 = dktX1_waste_0 := by decide +kernel
theorem dX1_waste_0 : decode cX1_waste 0 = .ok (.aload_n 0, 1) := dk_42 (dk_at dksX1_waste_0 0 rfl rfl)
theorem dX1_waste_1 : decode cX1_waste 1 = .ok (.invokevirtual 249, 3) := dk_182 0 249 (dk_at dksX1_waste_0 1 rfl rfl)
theorem dX1_waste_4 : decode cX1_waste 4 = .ok (.getfield 491, 3) := dk_180 1 235 (dk_at dksX1_waste_0 4 rfl rfl)
theorem dX1_waste_7 : decode cX1_waste 7 = .ok (.ireturn, 1) := dk_172 (dk_at dksX1_waste_0 7 rfl rfl)
abbrev cX1_edition : ByteArray := prog_1_method_17_code
def yX1_edition : MethodName := ⟨RX1, "edition", "()LCountyGazetteer$Edition;"⟩
def dkwX1_edition_0 : List UInt8 := [42, 42, 180, 0, 69, 182, 0, 205, 176]
abbrev dktX1_edition_0 : List UInt8 := dkwX1_edition_0 ++ []
theorem dksX1_edition_0 : cX1_edition.data.toList.drop 0 = dktX1_edition_0 := by decide +kernel
theorem dX1_edition_0 : decode cX1_edition 0 = .ok (.aload_n 0, 1) := dk_42 (dk_at dksX1_edition_0 0 rfl rfl)
theorem dX1_edition_1 : decode cX1_edition 1 = .ok (.aload_n 0, 1) := dk_42 (dk_at dksX1_edition_0 1 rfl rfl)
theorem dX1_edition_2 : decode cX1_edition 2 = .ok (.getfield 69, 3) := dk_180 0 69 (dk_at dksX1_edition_0 2 rfl rfl)
theorem dX1_edition_5 : decode cX1_edition 5 = .ok (.invokevirtual 205, 3) := dk_182 0 205 (dk_at dksX1_edition_0 5 rfl rfl)
theorem dX1_edition_8 : decode cX1_edition 8 = .ok (.areturn, 1) := dk_176 (dk_at dksX1_edition_0 8 rfl rfl)
abbrev cX1_edition_2 : ByteArray := prog_1_method_16_code
def yX1_edition_2 : MethodName := ⟨RX1, "edition", "(LCountyGazetteer$State;)LCountyGazetteer$Edition;"⟩
def dkwX1_edition_2_1 : List UInt8 := [3, 43, 180, 0, 193, 184, 0, 196, 184, 0, 187, 183, 0, 202, 176]
abbrev dktX1_edition_2_1 : List UInt8 := dkwX1_edition_2_1 ++ []
def dkwX1_edition_2_0 : List UInt8 := [42, 180, 0, 83, 43, 43, 180, 0, 184, 184, 0, 187, 77, 187, 0, 191, 89, 43, 44, 42, 180, 0, 87, 43]
abbrev dktX1_edition_2_0 : List UInt8 := dkwX1_edition_2_0 ++ dktX1_edition_2_1
theorem dksX1_edition_2_0 : cX1_edition_2.data.toList.drop 0 = dktX1_edition_2_0 := by decide +kernel
theorem dksX1_edition_2_1 : cX1_edition_2.data.toList.drop 24 = dktX1_edition_2_1 := dk_seg dksX1_edition_2_0 24 rfl rfl
theorem dX1_edition_2_0 : decode cX1_edition_2 0 = .ok (.aload_n 0, 1) := dk_42 (dk_at dksX1_edition_2_0 0 rfl rfl)
theorem dX1_edition_2_1 : decode cX1_edition_2 1 = .ok (.getfield 83, 3) := dk_180 0 83 (dk_at dksX1_edition_2_0 1 rfl rfl)
theorem dX1_edition_2_4 : decode cX1_edition_2 4 = .ok (.aload_n 1, 1) := dk_43 (dk_at dksX1_edition_2_0 4 rfl rfl)
theorem dX1_edition_2_5 : decode cX1_edition_2 5 = .ok (.aload_n 1, 1) := dk_43 (dk_at dksX1_edition_2_0 5 rfl rfl)
theorem dX1_edition_2_6 : decode cX1_edition_2 6 = .ok (.getfield 184, 3) := dk_180 0 184 (dk_at dksX1_edition_2_0 6 rfl rfl)
theorem dX1_edition_2_9 : decode cX1_edition_2 9 = .ok (.invokestatic 187, 3) := dk_184 0 187 (dk_at dksX1_edition_2_0 9 rfl rfl)
theorem dX1_edition_2_12 : decode cX1_edition_2 12 = .ok (.astore_n 2, 1) := dk_77 (dk_at dksX1_edition_2_0 12 rfl rfl)
theorem dX1_edition_2_13 : decode cX1_edition_2 13 = .ok (.new 191, 3) := dk_187 0 191 (dk_at dksX1_edition_2_0 13 rfl rfl)
theorem dX1_edition_2_16 : decode cX1_edition_2 16 = .ok (.dup, 1) := dk_89 (dk_at dksX1_edition_2_0 16 rfl rfl)
theorem dX1_edition_2_17 : decode cX1_edition_2 17 = .ok (.aload_n 1, 1) := dk_43 (dk_at dksX1_edition_2_0 17 rfl rfl)
theorem dX1_edition_2_18 : decode cX1_edition_2 18 = .ok (.aload_n 2, 1) := dk_44 (dk_at dksX1_edition_2_0 18 rfl rfl)
theorem dX1_edition_2_19 : decode cX1_edition_2 19 = .ok (.aload_n 0, 1) := dk_42 (dk_at dksX1_edition_2_0 19 rfl rfl)
theorem dX1_edition_2_20 : decode cX1_edition_2 20 = .ok (.getfield 87, 3) := dk_180 0 87 (dk_at dksX1_edition_2_0 20 rfl rfl)
theorem dX1_edition_2_23 : decode cX1_edition_2 23 = .ok (.aload_n 1, 1) := dk_43 (dk_at dksX1_edition_2_0 23 rfl rfl)
theorem dX1_edition_2_24 : decode cX1_edition_2 24 = .ok (.iconst 0, 1) := dk_3 (dk_at dksX1_edition_2_1 0 rfl rfl)
theorem dX1_edition_2_25 : decode cX1_edition_2 25 = .ok (.aload_n 1, 1) := dk_43 (dk_at dksX1_edition_2_1 1 rfl rfl)
theorem dX1_edition_2_26 : decode cX1_edition_2 26 = .ok (.getfield 193, 3) := dk_180 0 193 (dk_at dksX1_edition_2_1 2 rfl rfl)
theorem dX1_edition_2_29 : decode cX1_edition_2 29 = .ok (.invokestatic 196, 3) := dk_184 0 196 (dk_at dksX1_edition_2_1 5 rfl rfl)
theorem dX1_edition_2_32 : decode cX1_edition_2 32 = .ok (.invokestatic 187, 3) := dk_184 0 187 (dk_at dksX1_edition_2_1 8 rfl rfl)
theorem dX1_edition_2_35 : decode cX1_edition_2 35 = .ok (.invokespecial 202, 3) := dk_183 0 202 (dk_at dksX1_edition_2_1 11 rfl rfl)
theorem dX1_edition_2_38 : decode cX1_edition_2 38 = .ok (.areturn, 1) := dk_176 (dk_at dksX1_edition_2_1 14 rfl rfl)
abbrev cX1_laid : ByteArray := prog_1_method_15_code
def yX1_laid : MethodName := ⟨RX1, "laid", "(LCountyGazetteer$Board;LCountyGazetteer$State;I)LCountyGazetteer$Board;"⟩
def dkwX1_laid_5 : List UInt8 := [167, 255, 174, 42, 176]
abbrev dktX1_laid_5 : List UInt8 := dkwX1_laid_5 ++ []
def dkwX1_laid_4 : List UInt8 := [185, 0, 162, 1, 0, 192, 0, 178, 58, 7, 25, 7, 42, 185, 0, 180, 2, 0, 54, 8, 167, 255, 224]
abbrev dktX1_laid_4 : List UInt8 := dkwX1_laid_4 ++ dktX1_laid_5
def dkwX1_laid_3 : List UInt8 := [192, 0, 175, 182, 0, 177, 58, 6, 25, 6, 185, 0, 156, 1, 0, 153, 0, 28, 25, 6]
abbrev dktX1_laid_3 : List UInt8 := dkwX1_laid_3 ++ dktX1_laid_4
def dkwX1_laid_2 : List UInt8 := [192, 0, 166, 58, 5, 25, 5, 182, 0, 168, 28, 164, 0, 5, 42, 176, 45, 25, 5, 182, 0, 171]
abbrev dktX1_laid_2 : List UInt8 := dkwX1_laid_2 ++ dktX1_laid_3
def dkwX1_laid_1 : List UInt8 := [185, 0, 150, 1, 0, 58, 4, 25, 4, 185, 0, 156, 1, 0, 153, 0, 78, 25, 4, 185, 0, 162, 1, 0]
abbrev dktX1_laid_1 : List UInt8 := dkwX1_laid_1 ++ dktX1_laid_2
def dkwX1_laid_0 : List UInt8 := [42, 43, 180, 0, 31, 43, 180, 0, 35, 182, 0, 136, 43, 182, 0, 140, 78, 45, 182, 0, 144]
abbrev dktX1_laid_0 : List UInt8 := dkwX1_laid_0 ++ dktX1_laid_1
theorem dksX1_laid_0 : cX1_laid.data.toList.drop 0 = dktX1_laid_0 := by decide +kernel
theorem dksX1_laid_1 : cX1_laid.data.toList.drop 21 = dktX1_laid_1 := dk_seg dksX1_laid_0 21 rfl rfl
theorem dksX1_laid_2 : cX1_laid.data.toList.drop 45 = dktX1_laid_2 := dk_seg dksX1_laid_1 24 rfl rfl
theorem dksX1_laid_3 : cX1_laid.data.toList.drop 67 = dktX1_laid_3 := dk_seg dksX1_laid_2 22 rfl rfl
theorem dksX1_laid_4 : cX1_laid.data.toList.drop 87 = dktX1_laid_4 := dk_seg dksX1_laid_3 20 rfl rfl
theorem dksX1_laid_5 : cX1_laid.data.toList.drop 110 = dktX1_laid_5 := dk_seg dksX1_laid_4 23 rfl rfl
theorem dX1_laid_0 : decode cX1_laid 0 = .ok (.aload_n 0, 1) := dk_42 (dk_at dksX1_laid_0 0 rfl rfl)
theorem dX1_laid_1 : decode cX1_laid 1 = .ok (.aload_n 1, 1) := dk_43 (dk_at dksX1_laid_0 1 rfl rfl)
theorem dX1_laid_2 : decode cX1_laid 2 = .ok (.getfield 31, 3) := dk_180 0 31 (dk_at dksX1_laid_0 2 rfl rfl)
theorem dX1_laid_5 : decode cX1_laid 5 = .ok (.aload_n 1, 1) := dk_43 (dk_at dksX1_laid_0 5 rfl rfl)
theorem dX1_laid_6 : decode cX1_laid 6 = .ok (.getfield 35, 3) := dk_180 0 35 (dk_at dksX1_laid_0 6 rfl rfl)
theorem dX1_laid_9 : decode cX1_laid 9 = .ok (.invokevirtual 136, 3) := dk_182 0 136 (dk_at dksX1_laid_0 9 rfl rfl)
theorem dX1_laid_12 : decode cX1_laid 12 = .ok (.aload_n 1, 1) := dk_43 (dk_at dksX1_laid_0 12 rfl rfl)
theorem dX1_laid_13 : decode cX1_laid 13 = .ok (.invokevirtual 140, 3) := dk_182 0 140 (dk_at dksX1_laid_0 13 rfl rfl)
theorem dX1_laid_16 : decode cX1_laid 16 = .ok (.astore_n 3, 1) := dk_78 (dk_at dksX1_laid_0 16 rfl rfl)
theorem dX1_laid_17 : decode cX1_laid 17 = .ok (.aload_n 3, 1) := dk_45 (dk_at dksX1_laid_0 17 rfl rfl)
theorem dX1_laid_18 : decode cX1_laid 18 = .ok (.invokevirtual 144, 3) := dk_182 0 144 (dk_at dksX1_laid_0 18 rfl rfl)
theorem dX1_laid_21 : decode cX1_laid 21 = .ok (.invokeinterface 150 1, 5) := by decide +kernel
theorem dX1_laid_26 : decode cX1_laid 26 = .ok (.astore 4, 2) := dk_58 4 (dk_at dksX1_laid_1 5 rfl rfl)
theorem dX1_laid_28 : decode cX1_laid 28 = .ok (.aload 4, 2) := dk_25 4 (dk_at dksX1_laid_1 7 rfl rfl)
theorem dX1_laid_30 : decode cX1_laid 30 = .ok (.invokeinterface 156 1, 5) := by decide +kernel
theorem dX1_laid_35 : decode cX1_laid 35 = .ok (.ifCond .eq 78, 3) := dk_153 0 78 (dk_at dksX1_laid_1 14 rfl rfl)
theorem dX1_laid_38 : decode cX1_laid 38 = .ok (.aload 4, 2) := dk_25 4 (dk_at dksX1_laid_1 17 rfl rfl)
theorem dX1_laid_40 : decode cX1_laid 40 = .ok (.invokeinterface 162 1, 5) := by decide +kernel
theorem dX1_laid_45 : decode cX1_laid 45 = .ok (.checkcast 166, 3) := dk_192 0 166 (dk_at dksX1_laid_2 0 rfl rfl)
theorem dX1_laid_48 : decode cX1_laid 48 = .ok (.astore 5, 2) := dk_58 5 (dk_at dksX1_laid_2 3 rfl rfl)
theorem dX1_laid_50 : decode cX1_laid 50 = .ok (.aload 5, 2) := dk_25 5 (dk_at dksX1_laid_2 5 rfl rfl)
theorem dX1_laid_52 : decode cX1_laid 52 = .ok (.invokevirtual 168, 3) := dk_182 0 168 (dk_at dksX1_laid_2 7 rfl rfl)
theorem dX1_laid_55 : decode cX1_laid 55 = .ok (.iload_n 2, 1) := dk_28 (dk_at dksX1_laid_2 10 rfl rfl)
theorem dX1_laid_56 : decode cX1_laid 56 = .ok (.if_icmp .le 5, 3) := dk_164 0 5 (dk_at dksX1_laid_2 11 rfl rfl)
theorem dX1_laid_59 : decode cX1_laid 59 = .ok (.aload_n 0, 1) := dk_42 (dk_at dksX1_laid_2 14 rfl rfl)
theorem dX1_laid_60 : decode cX1_laid 60 = .ok (.areturn, 1) := dk_176 (dk_at dksX1_laid_2 15 rfl rfl)
theorem dX1_laid_61 : decode cX1_laid 61 = .ok (.aload_n 3, 1) := dk_45 (dk_at dksX1_laid_2 16 rfl rfl)
theorem dX1_laid_62 : decode cX1_laid 62 = .ok (.aload 5, 2) := dk_25 5 (dk_at dksX1_laid_2 17 rfl rfl)
theorem dX1_laid_64 : decode cX1_laid 64 = .ok (.invokevirtual 171, 3) := dk_182 0 171 (dk_at dksX1_laid_2 19 rfl rfl)
theorem dX1_laid_67 : decode cX1_laid 67 = .ok (.checkcast 175, 3) := dk_192 0 175 (dk_at dksX1_laid_3 0 rfl rfl)
theorem dX1_laid_70 : decode cX1_laid 70 = .ok (.invokevirtual 177, 3) := dk_182 0 177 (dk_at dksX1_laid_3 3 rfl rfl)
theorem dX1_laid_73 : decode cX1_laid 73 = .ok (.astore 6, 2) := dk_58 6 (dk_at dksX1_laid_3 6 rfl rfl)
theorem dX1_laid_75 : decode cX1_laid 75 = .ok (.aload 6, 2) := dk_25 6 (dk_at dksX1_laid_3 8 rfl rfl)
theorem dX1_laid_77 : decode cX1_laid 77 = .ok (.invokeinterface 156 1, 5) := by decide +kernel
theorem dX1_laid_82 : decode cX1_laid 82 = .ok (.ifCond .eq 28, 3) := dk_153 0 28 (dk_at dksX1_laid_3 15 rfl rfl)
theorem dX1_laid_85 : decode cX1_laid 85 = .ok (.aload 6, 2) := dk_25 6 (dk_at dksX1_laid_3 18 rfl rfl)
theorem dX1_laid_87 : decode cX1_laid 87 = .ok (.invokeinterface 162 1, 5) := by decide +kernel
theorem dX1_laid_92 : decode cX1_laid 92 = .ok (.checkcast 178, 3) := dk_192 0 178 (dk_at dksX1_laid_4 5 rfl rfl)
theorem dX1_laid_95 : decode cX1_laid 95 = .ok (.astore 7, 2) := dk_58 7 (dk_at dksX1_laid_4 8 rfl rfl)
theorem dX1_laid_97 : decode cX1_laid 97 = .ok (.aload 7, 2) := dk_25 7 (dk_at dksX1_laid_4 10 rfl rfl)
theorem dX1_laid_99 : decode cX1_laid 99 = .ok (.aload_n 0, 1) := dk_42 (dk_at dksX1_laid_4 12 rfl rfl)
theorem dX1_laid_100 : decode cX1_laid 100 = .ok (.invokeinterface 180 2, 5) := by decide +kernel
theorem dX1_laid_105 : decode cX1_laid 105 = .ok (.istore 8, 2) := dk_54 8 (dk_at dksX1_laid_4 18 rfl rfl)
theorem dX1_laid_107 : decode cX1_laid 107 = .ok (.goto (-32), 3) := dk_167 255 224 (dk_at dksX1_laid_4 20 rfl rfl)
theorem dX1_laid_110 : decode cX1_laid 110 = .ok (.goto (-82), 3) := dk_167 255 174 (dk_at dksX1_laid_5 0 rfl rfl)
theorem dX1_laid_113 : decode cX1_laid 113 = .ok (.aload_n 0, 1) := dk_42 (dk_at dksX1_laid_5 3 rfl rfl)
theorem dX1_laid_114 : decode cX1_laid 114 = .ok (.areturn, 1) := dk_176 (dk_at dksX1_laid_5 4 rfl rfl)
abbrev cX1_fullest : ByteArray := prog_1_method_64_code
def yX1_fullest : MethodName := ⟨RX1, "fullest", "()I"⟩
def dkwX1_fullest_2 : List UInt8 := [29, 60, 21, 4, 61, 132, 3, 1, 167, 255, 206, 27, 172]
abbrev dktX1_fullest_2 : List UInt8 := dkwX1_fullest_2 ++ []
def dkwX1_fullest_1 : List UInt8 := [42, 180, 0, 69, 180, 0, 184, 182, 1, 75, 184, 1, 78, 54, 4, 21, 4, 28, 163, 0, 6, 167, 0, 8]
abbrev dktX1_fullest_1 : List UInt8 := dkwX1_fullest_1 ++ dktX1_fullest_2
def dkwX1_fullest_0 : List UInt8 := [2, 60, 3, 61, 3, 62, 29, 42, 180, 0, 69, 180, 0, 38, 185, 0, 124, 1, 0, 162, 0, 40, 42, 29]
abbrev dktX1_fullest_0 : List UInt8 := dkwX1_fullest_0 ++ dktX1_fullest_1
theorem dksX1_fullest_0 : cX1_fullest.data.toList.drop 0 = dktX1_fullest_0 := by decide +kernel
theorem dksX1_fullest_1 : cX1_fullest.data.toList.drop 24 = dktX1_fullest_1 := dk_seg dksX1_fullest_0 24 rfl rfl
theorem dksX1_fullest_2 : cX1_fullest.data.toList.drop 48 = dktX1_fullest_2 := dk_seg dksX1_fullest_1 24 rfl rfl
theorem dX1_fullest_0 : decode cX1_fullest 0 = .ok (.iconst (-1), 1) := dk_2 (dk_at dksX1_fullest_0 0 rfl rfl)
theorem dX1_fullest_1 : decode cX1_fullest 1 = .ok (.istore_n 1, 1) := dk_60 (dk_at dksX1_fullest_0 1 rfl rfl)
theorem dX1_fullest_2 : decode cX1_fullest 2 = .ok (.iconst 0, 1) := dk_3 (dk_at dksX1_fullest_0 2 rfl rfl)
theorem dX1_fullest_3 : decode cX1_fullest 3 = .ok (.istore_n 2, 1) := dk_61 (dk_at dksX1_fullest_0 3 rfl rfl)
theorem dX1_fullest_4 : decode cX1_fullest 4 = .ok (.iconst 0, 1) := dk_3 (dk_at dksX1_fullest_0 4 rfl rfl)
theorem dX1_fullest_5 : decode cX1_fullest 5 = .ok (.istore_n 3, 1) := dk_62 (dk_at dksX1_fullest_0 5 rfl rfl)
theorem dX1_fullest_6 : decode cX1_fullest 6 = .ok (.iload_n 3, 1) := dk_29 (dk_at dksX1_fullest_0 6 rfl rfl)
theorem dX1_fullest_7 : decode cX1_fullest 7 = .ok (.aload_n 0, 1) := dk_42 (dk_at dksX1_fullest_0 7 rfl rfl)
theorem dX1_fullest_8 : decode cX1_fullest 8 = .ok (.getfield 69, 3) := dk_180 0 69 (dk_at dksX1_fullest_0 8 rfl rfl)
theorem dX1_fullest_11 : decode cX1_fullest 11 = .ok (.getfield 38, 3) := dk_180 0 38 (dk_at dksX1_fullest_0 11 rfl rfl)
theorem dX1_fullest_14 : decode cX1_fullest 14 = .ok (.invokeinterface 124 1, 5) := by decide +kernel
theorem dX1_fullest_19 : decode cX1_fullest 19 = .ok (.if_icmp .ge 40, 3) := dk_162 0 40 (dk_at dksX1_fullest_0 19 rfl rfl)
theorem dX1_fullest_22 : decode cX1_fullest 22 = .ok (.aload_n 0, 1) := dk_42 (dk_at dksX1_fullest_0 22 rfl rfl)
theorem dX1_fullest_23 : decode cX1_fullest 23 = .ok (.iload_n 3, 1) := dk_29 (dk_at dksX1_fullest_0 23 rfl rfl)
theorem dX1_fullest_24 : decode cX1_fullest 24 = .ok (.aload_n 0, 1) := dk_42 (dk_at dksX1_fullest_1 0 rfl rfl)
theorem dX1_fullest_25 : decode cX1_fullest 25 = .ok (.getfield 69, 3) := dk_180 0 69 (dk_at dksX1_fullest_1 1 rfl rfl)
theorem dX1_fullest_28 : decode cX1_fullest 28 = .ok (.getfield 184, 3) := dk_180 0 184 (dk_at dksX1_fullest_1 4 rfl rfl)
theorem dX1_fullest_31 : decode cX1_fullest 31 = .ok (.invokevirtual 331, 3) := dk_182 1 75 (dk_at dksX1_fullest_1 7 rfl rfl)
theorem dX1_fullest_34 : decode cX1_fullest 34 = .ok (.invokestatic 334, 3) := dk_184 1 78 (dk_at dksX1_fullest_1 10 rfl rfl)
theorem dX1_fullest_37 : decode cX1_fullest 37 = .ok (.istore 4, 2) := dk_54 4 (dk_at dksX1_fullest_1 13 rfl rfl)
theorem dX1_fullest_39 : decode cX1_fullest 39 = .ok (.iload 4, 2) := dk_21 4 (dk_at dksX1_fullest_1 15 rfl rfl)
theorem dX1_fullest_41 : decode cX1_fullest 41 = .ok (.iload_n 2, 1) := dk_28 (dk_at dksX1_fullest_1 17 rfl rfl)
theorem dX1_fullest_42 : decode cX1_fullest 42 = .ok (.if_icmp .gt 6, 3) := dk_163 0 6 (dk_at dksX1_fullest_1 18 rfl rfl)
theorem dX1_fullest_45 : decode cX1_fullest 45 = .ok (.goto 8, 3) := dk_167 0 8 (dk_at dksX1_fullest_1 21 rfl rfl)
theorem dX1_fullest_48 : decode cX1_fullest 48 = .ok (.iload_n 3, 1) := dk_29 (dk_at dksX1_fullest_2 0 rfl rfl)
theorem dX1_fullest_49 : decode cX1_fullest 49 = .ok (.istore_n 1, 1) := dk_60 (dk_at dksX1_fullest_2 1 rfl rfl)
theorem dX1_fullest_50 : decode cX1_fullest 50 = .ok (.iload 4, 2) := dk_21 4 (dk_at dksX1_fullest_2 2 rfl rfl)
theorem dX1_fullest_52 : decode cX1_fullest 52 = .ok (.istore_n 2, 1) := dk_61 (dk_at dksX1_fullest_2 4 rfl rfl)
theorem dX1_fullest_53 : decode cX1_fullest 53 = .ok (.iinc 3 1, 3) := dk_132 3 1 (dk_at dksX1_fullest_2 5 rfl rfl)
theorem dX1_fullest_56 : decode cX1_fullest 56 = .ok (.goto (-50), 3) := dk_167 255 206 (dk_at dksX1_fullest_2 8 rfl rfl)
theorem dX1_fullest_59 : decode cX1_fullest 59 = .ok (.iload_n 1, 1) := dk_27 (dk_at dksX1_fullest_2 11 rfl rfl)
theorem dX1_fullest_60 : decode cX1_fullest 60 = .ok (.ireturn, 1) := dk_172 (dk_at dksX1_fullest_2 12 rfl rfl)
abbrev cX1_setIn : ByteArray := prog_1_method_40_code
def yX1_setIn : MethodName := ⟨RX1, "setIn", "(II)I"⟩
def dkwX1_setIn_1 : List UInt8 := [182, 1, 162, 172]
abbrev dktX1_setIn_1 : List UInt8 := dkwX1_setIn_1 ++ []
def dkwX1_setIn_0 : List UInt8 := [42, 180, 0, 83, 42, 180, 0, 69, 28, 184, 0, 187, 78, 42, 42, 28, 45, 27, 186, 1, 159, 0, 0]
abbrev dktX1_setIn_0 : List UInt8 := dkwX1_setIn_0 ++ dktX1_setIn_1
theorem dksX1_setIn_0 : cX1_setIn.data.toList.drop 0 = dktX1_setIn_0 := by decide +kernel
theorem dksX1_setIn_1 : cX1_setIn.data.toList.drop 23 = dktX1_setIn_1 := dk_seg dksX1_setIn_0 23 rfl rfl
theorem dX1_setIn_0 : decode cX1_setIn 0 = .ok (.aload_n 0, 1) := dk_42 (dk_at dksX1_setIn_0 0 rfl rfl)
theorem dX1_setIn_1 : decode cX1_setIn 1 = .ok (.getfield 83, 3) := dk_180 0 83 (dk_at dksX1_setIn_0 1 rfl rfl)
theorem dX1_setIn_4 : decode cX1_setIn 4 = .ok (.aload_n 0, 1) := dk_42 (dk_at dksX1_setIn_0 4 rfl rfl)
theorem dX1_setIn_5 : decode cX1_setIn 5 = .ok (.getfield 69, 3) := dk_180 0 69 (dk_at dksX1_setIn_0 5 rfl rfl)
theorem dX1_setIn_8 : decode cX1_setIn 8 = .ok (.iload_n 2, 1) := dk_28 (dk_at dksX1_setIn_0 8 rfl rfl)
theorem dX1_setIn_9 : decode cX1_setIn 9 = .ok (.invokestatic 187, 3) := dk_184 0 187 (dk_at dksX1_setIn_0 9 rfl rfl)
theorem dX1_setIn_12 : decode cX1_setIn 12 = .ok (.astore_n 3, 1) := dk_78 (dk_at dksX1_setIn_0 12 rfl rfl)
theorem dX1_setIn_13 : decode cX1_setIn 13 = .ok (.aload_n 0, 1) := dk_42 (dk_at dksX1_setIn_0 13 rfl rfl)
theorem dX1_setIn_14 : decode cX1_setIn 14 = .ok (.aload_n 0, 1) := dk_42 (dk_at dksX1_setIn_0 14 rfl rfl)
theorem dX1_setIn_15 : decode cX1_setIn 15 = .ok (.iload_n 2, 1) := dk_28 (dk_at dksX1_setIn_0 15 rfl rfl)
theorem dX1_setIn_16 : decode cX1_setIn 16 = .ok (.aload_n 3, 1) := dk_45 (dk_at dksX1_setIn_0 16 rfl rfl)
theorem dX1_setIn_17 : decode cX1_setIn 17 = .ok (.iload_n 1, 1) := dk_27 (dk_at dksX1_setIn_0 17 rfl rfl)
theorem dX1_setIn_18 : decode cX1_setIn 18 = .ok (.invokedynamic 415, 5) := by decide +kernel
theorem dX1_setIn_23 : decode cX1_setIn 23 = .ok (.invokevirtual 418, 3) := dk_182 1 162 (dk_at dksX1_setIn_1 0 rfl rfl)
theorem dX1_setIn_26 : decode cX1_setIn 26 = .ok (.ireturn, 1) := dk_172 (dk_at dksX1_setIn_1 3 rfl rfl)
abbrev cX1_lambda_setIn_0 : ByteArray := prog_1_method_89_code
def yX1_lambda_setIn_0 : MethodName := ⟨RX1, "lambda$setIn$0", "(ILCountyGazetteer$Board;ILCountyGazetteer$Village;)Z"⟩
def dkwX1_lambda_setIn_0_1 : List UInt8 := [180, 0, 213, 104, 25, 4, 180, 0, 218, 96, 46, 29, 160, 0, 7, 4, 167, 0, 4, 3, 172]
abbrev dktX1_lambda_setIn_0_1 : List UInt8 := dkwX1_lambda_setIn_0_1 ++ []
def dkwX1_lambda_setIn_0_0 : List UInt8 := [25, 4, 27, 182, 0, 228, 153, 0, 35, 44, 180, 0, 209, 42, 180, 0, 69, 180, 0, 31, 25, 4]
abbrev dktX1_lambda_setIn_0_0 : List UInt8 := dkwX1_lambda_setIn_0_0 ++ dktX1_lambda_setIn_0_1
theorem dksX1_lambda_setIn_0_0 : cX1_lambda_setIn_0.data.toList.drop 0 = dktX1_lambda_setIn_0_0 := by decide +kernel
theorem dksX1_lambda_setIn_0_1 : cX1_lambda_setIn_0.data.toList.drop 22 = dktX1_lambda_setIn_0_1 := dk_seg dksX1_lambda_setIn_0_0 22 rfl rfl
theorem dX1_lambda_setIn_0_0 : decode cX1_lambda_setIn_0 0 = .ok (.aload 4, 2) := dk_25 4 (dk_at dksX1_lambda_setIn_0_0 0 rfl rfl)
theorem dX1_lambda_setIn_0_2 : decode cX1_lambda_setIn_0 2 = .ok (.iload_n 1, 1) := dk_27 (dk_at dksX1_lambda_setIn_0_0 2 rfl rfl)
theorem dX1_lambda_setIn_0_3 : decode cX1_lambda_setIn_0 3 = .ok (.invokevirtual 228, 3) := dk_182 0 228 (dk_at dksX1_lambda_setIn_0_0 3 rfl rfl)
theorem dX1_lambda_setIn_0_6 : decode cX1_lambda_setIn_0 6 = .ok (.ifCond .eq 35, 3) := dk_153 0 35 (dk_at dksX1_lambda_setIn_0_0 6 rfl rfl)
theorem dX1_lambda_setIn_0_9 : decode cX1_lambda_setIn_0 9 = .ok (.aload_n 2, 1) := dk_44 (dk_at dksX1_lambda_setIn_0_0 9 rfl rfl)
theorem dX1_lambda_setIn_0_10 : decode cX1_lambda_setIn_0 10 = .ok (.getfield 209, 3) := dk_180 0 209 (dk_at dksX1_lambda_setIn_0_0 10 rfl rfl)
theorem dX1_lambda_setIn_0_13 : decode cX1_lambda_setIn_0 13 = .ok (.aload_n 0, 1) := dk_42 (dk_at dksX1_lambda_setIn_0_0 13 rfl rfl)
theorem dX1_lambda_setIn_0_14 : decode cX1_lambda_setIn_0 14 = .ok (.getfield 69, 3) := dk_180 0 69 (dk_at dksX1_lambda_setIn_0_0 14 rfl rfl)
theorem dX1_lambda_setIn_0_17 : decode cX1_lambda_setIn_0 17 = .ok (.getfield 31, 3) := dk_180 0 31 (dk_at dksX1_lambda_setIn_0_0 17 rfl rfl)
theorem dX1_lambda_setIn_0_20 : decode cX1_lambda_setIn_0 20 = .ok (.aload 4, 2) := dk_25 4 (dk_at dksX1_lambda_setIn_0_0 20 rfl rfl)
theorem dX1_lambda_setIn_0_22 : decode cX1_lambda_setIn_0 22 = .ok (.getfield 213, 3) := dk_180 0 213 (dk_at dksX1_lambda_setIn_0_1 0 rfl rfl)
theorem dX1_lambda_setIn_0_25 : decode cX1_lambda_setIn_0 25 = .ok (.imul, 1) := dk_104 (dk_at dksX1_lambda_setIn_0_1 3 rfl rfl)
theorem dX1_lambda_setIn_0_26 : decode cX1_lambda_setIn_0 26 = .ok (.aload 4, 2) := dk_25 4 (dk_at dksX1_lambda_setIn_0_1 4 rfl rfl)
theorem dX1_lambda_setIn_0_28 : decode cX1_lambda_setIn_0 28 = .ok (.getfield 218, 3) := dk_180 0 218 (dk_at dksX1_lambda_setIn_0_1 6 rfl rfl)
theorem dX1_lambda_setIn_0_31 : decode cX1_lambda_setIn_0 31 = .ok (.iadd, 1) := dk_96 (dk_at dksX1_lambda_setIn_0_1 9 rfl rfl)
theorem dX1_lambda_setIn_0_32 : decode cX1_lambda_setIn_0 32 = .ok (.iaload, 1) := dk_46 (dk_at dksX1_lambda_setIn_0_1 10 rfl rfl)
theorem dX1_lambda_setIn_0_33 : decode cX1_lambda_setIn_0 33 = .ok (.iload_n 3, 1) := dk_29 (dk_at dksX1_lambda_setIn_0_1 11 rfl rfl)
theorem dX1_lambda_setIn_0_34 : decode cX1_lambda_setIn_0 34 = .ok (.if_icmp .ne 7, 3) := dk_160 0 7 (dk_at dksX1_lambda_setIn_0_1 12 rfl rfl)
theorem dX1_lambda_setIn_0_37 : decode cX1_lambda_setIn_0 37 = .ok (.iconst 1, 1) := dk_4 (dk_at dksX1_lambda_setIn_0_1 15 rfl rfl)
theorem dX1_lambda_setIn_0_38 : decode cX1_lambda_setIn_0 38 = .ok (.goto 4, 3) := dk_167 0 4 (dk_at dksX1_lambda_setIn_0_1 16 rfl rfl)
theorem dX1_lambda_setIn_0_41 : decode cX1_lambda_setIn_0 41 = .ok (.iconst 0, 1) := dk_3 (dk_at dksX1_lambda_setIn_0_1 19 rfl rfl)
theorem dX1_lambda_setIn_0_42 : decode cX1_lambda_setIn_0 42 = .ok (.ireturn, 1) := dk_172 (dk_at dksX1_lambda_setIn_0_1 20 rfl rfl)
abbrev cX1_meanVillages : ByteArray := prog_1_method_65_code
def yX1_meanVillages : MethodName := ⟨RX1, "meanVillages", "()D"⟩
def dkwX1_meanVillages_1 : List UInt8 := [43, 180, 0, 254, 190, 135, 111, 175]
abbrev dktX1_meanVillages_1 : List UInt8 := dkwX1_meanVillages_1 ++ []
def dkwX1_meanVillages_0 : List UInt8 := [42, 182, 0, 249, 76, 43, 180, 0, 254, 190, 154, 0, 7, 14, 167, 0, 17, 43, 180, 1, 5, 3, 46, 135]
abbrev dktX1_meanVillages_0 : List UInt8 := dkwX1_meanVillages_0 ++ dktX1_meanVillages_1
theorem dksX1_meanVillages_0 : cX1_meanVillages.data.toList.drop 0 = dktX1_meanVillages_0 := by decide +kernel
theorem dksX1_meanVillages_1 : cX1_meanVillages.data.toList.drop 24 = dktX1_meanVillages_1 := dk_seg dksX1_meanVillages_0 24 rfl rfl
theorem dX1_meanVillages_0 : decode cX1_meanVillages 0 = .ok (.aload_n 0, 1) := dk_42 (dk_at dksX1_meanVillages_0 0 rfl rfl)
theorem dX1_meanVillages_1 : decode cX1_meanVillages 1 = .ok (.invokevirtual 249, 3) := dk_182 0 249 (dk_at dksX1_meanVillages_0 1 rfl rfl)
theorem dX1_meanVillages_4 : decode cX1_meanVillages 4 = .ok (.astore_n 1, 1) := dk_76 (dk_at dksX1_meanVillages_0 4 rfl rfl)
theorem dX1_meanVillages_5 : decode cX1_meanVillages 5 = .ok (.aload_n 1, 1) := dk_43 (dk_at dksX1_meanVillages_0 5 rfl rfl)
theorem dX1_meanVillages_6 : decode cX1_meanVillages 6 = .ok (.getfield 254, 3) := dk_180 0 254 (dk_at dksX1_meanVillages_0 6 rfl rfl)
theorem dX1_meanVillages_9 : decode cX1_meanVillages 9 = .ok (.arraylength, 1) := dk_190 (dk_at dksX1_meanVillages_0 9 rfl rfl)
theorem dX1_meanVillages_10 : decode cX1_meanVillages 10 = .ok (.ifCond .ne 7, 3) := dk_154 0 7 (dk_at dksX1_meanVillages_0 10 rfl rfl)
theorem dX1_meanVillages_13 : decode cX1_meanVillages 13 = .ok (.dconst 0, 1) := dk_14 (dk_at dksX1_meanVillages_0 13 rfl rfl)
theorem dX1_meanVillages_14 : decode cX1_meanVillages 14 = .ok (.goto 17, 3) := dk_167 0 17 (dk_at dksX1_meanVillages_0 14 rfl rfl)
theorem dX1_meanVillages_17 : decode cX1_meanVillages 17 = .ok (.aload_n 1, 1) := dk_43 (dk_at dksX1_meanVillages_0 17 rfl rfl)
theorem dX1_meanVillages_18 : decode cX1_meanVillages 18 = .ok (.getfield 261, 3) := dk_180 1 5 (dk_at dksX1_meanVillages_0 18 rfl rfl)
theorem dX1_meanVillages_21 : decode cX1_meanVillages 21 = .ok (.iconst 0, 1) := dk_3 (dk_at dksX1_meanVillages_0 21 rfl rfl)
theorem dX1_meanVillages_22 : decode cX1_meanVillages 22 = .ok (.iaload, 1) := dk_46 (dk_at dksX1_meanVillages_0 22 rfl rfl)
theorem dX1_meanVillages_23 : decode cX1_meanVillages 23 = .ok (.i2d, 1) := dk_135 (dk_at dksX1_meanVillages_0 23 rfl rfl)
theorem dX1_meanVillages_24 : decode cX1_meanVillages 24 = .ok (.aload_n 1, 1) := dk_43 (dk_at dksX1_meanVillages_1 0 rfl rfl)
theorem dX1_meanVillages_25 : decode cX1_meanVillages 25 = .ok (.getfield 254, 3) := dk_180 0 254 (dk_at dksX1_meanVillages_1 1 rfl rfl)
theorem dX1_meanVillages_28 : decode cX1_meanVillages 28 = .ok (.arraylength, 1) := dk_190 (dk_at dksX1_meanVillages_1 4 rfl rfl)
theorem dX1_meanVillages_29 : decode cX1_meanVillages 29 = .ok (.i2d, 1) := dk_135 (dk_at dksX1_meanVillages_1 5 rfl rfl)
theorem dX1_meanVillages_30 : decode cX1_meanVillages 30 = .ok (.ddiv, 1) := dk_111 (dk_at dksX1_meanVillages_1 6 rfl rfl)
theorem dX1_meanVillages_31 : decode cX1_meanVillages 31 = .ok (.dreturn, 1) := dk_175 (dk_at dksX1_meanVillages_1 7 rfl rfl)
abbrev cX1_seeShare : ByteArray := prog_1_method_66_code
def yX1_seeShare : MethodName := ⟨RX1, "seeShare", "()F"⟩
def dkwX1_seeShare_1 : List UInt8 := [180, 1, 5, 5, 46, 96, 134, 43, 182, 0, 252, 134, 110, 174]
abbrev dktX1_seeShare_1 : List UInt8 := dkwX1_seeShare_1 ++ []
def dkwX1_seeShare_0 : List UInt8 := [42, 182, 0, 249, 76, 43, 182, 0, 252, 154, 0, 7, 11, 167, 0, 23, 43, 180, 1, 5, 4, 46, 43]
abbrev dktX1_seeShare_0 : List UInt8 := dkwX1_seeShare_0 ++ dktX1_seeShare_1
theorem dksX1_seeShare_0 : cX1_seeShare.data.toList.drop 0 = dktX1_seeShare_0 := by decide +kernel
theorem dksX1_seeShare_1 : cX1_seeShare.data.toList.drop 23 = dktX1_seeShare_1 := dk_seg dksX1_seeShare_0 23 rfl rfl
theorem dX1_seeShare_0 : decode cX1_seeShare 0 = .ok (.aload_n 0, 1) := dk_42 (dk_at dksX1_seeShare_0 0 rfl rfl)
theorem dX1_seeShare_1 : decode cX1_seeShare 1 = .ok (.invokevirtual 249, 3) := dk_182 0 249 (dk_at dksX1_seeShare_0 1 rfl rfl)
theorem dX1_seeShare_4 : decode cX1_seeShare 4 = .ok (.astore_n 1, 1) := dk_76 (dk_at dksX1_seeShare_0 4 rfl rfl)
theorem dX1_seeShare_5 : decode cX1_seeShare 5 = .ok (.aload_n 1, 1) := dk_43 (dk_at dksX1_seeShare_0 5 rfl rfl)
theorem dX1_seeShare_6 : decode cX1_seeShare 6 = .ok (.invokevirtual 252, 3) := dk_182 0 252 (dk_at dksX1_seeShare_0 6 rfl rfl)
theorem dX1_seeShare_9 : decode cX1_seeShare 9 = .ok (.ifCond .ne 7, 3) := dk_154 0 7 (dk_at dksX1_seeShare_0 9 rfl rfl)
theorem dX1_seeShare_12 : decode cX1_seeShare 12 = .ok (.fconst 0, 1) := dk_11 (dk_at dksX1_seeShare_0 12 rfl rfl)
theorem dX1_seeShare_13 : decode cX1_seeShare 13 = .ok (.goto 23, 3) := dk_167 0 23 (dk_at dksX1_seeShare_0 13 rfl rfl)
theorem dX1_seeShare_16 : decode cX1_seeShare 16 = .ok (.aload_n 1, 1) := dk_43 (dk_at dksX1_seeShare_0 16 rfl rfl)
theorem dX1_seeShare_17 : decode cX1_seeShare 17 = .ok (.getfield 261, 3) := dk_180 1 5 (dk_at dksX1_seeShare_0 17 rfl rfl)
theorem dX1_seeShare_20 : decode cX1_seeShare 20 = .ok (.iconst 1, 1) := dk_4 (dk_at dksX1_seeShare_0 20 rfl rfl)
theorem dX1_seeShare_21 : decode cX1_seeShare 21 = .ok (.iaload, 1) := dk_46 (dk_at dksX1_seeShare_0 21 rfl rfl)
theorem dX1_seeShare_22 : decode cX1_seeShare 22 = .ok (.aload_n 1, 1) := dk_43 (dk_at dksX1_seeShare_0 22 rfl rfl)
theorem dX1_seeShare_23 : decode cX1_seeShare 23 = .ok (.getfield 261, 3) := dk_180 1 5 (dk_at dksX1_seeShare_1 0 rfl rfl)
theorem dX1_seeShare_26 : decode cX1_seeShare 26 = .ok (.iconst 2, 1) := dk_5 (dk_at dksX1_seeShare_1 3 rfl rfl)
theorem dX1_seeShare_27 : decode cX1_seeShare 27 = .ok (.iaload, 1) := dk_46 (dk_at dksX1_seeShare_1 4 rfl rfl)
theorem dX1_seeShare_28 : decode cX1_seeShare 28 = .ok (.iadd, 1) := dk_96 (dk_at dksX1_seeShare_1 5 rfl rfl)
theorem dX1_seeShare_29 : decode cX1_seeShare 29 = .ok (.i2f, 1) := dk_134 (dk_at dksX1_seeShare_1 6 rfl rfl)
theorem dX1_seeShare_30 : decode cX1_seeShare 30 = .ok (.aload_n 1, 1) := dk_43 (dk_at dksX1_seeShare_1 7 rfl rfl)
theorem dX1_seeShare_31 : decode cX1_seeShare 31 = .ok (.invokevirtual 252, 3) := dk_182 0 252 (dk_at dksX1_seeShare_1 8 rfl rfl)
theorem dX1_seeShare_34 : decode cX1_seeShare 34 = .ok (.i2f, 1) := dk_134 (dk_at dksX1_seeShare_1 11 rfl rfl)
theorem dX1_seeShare_35 : decode cX1_seeShare 35 = .ok (.fdiv, 1) := dk_110 (dk_at dksX1_seeShare_1 12 rfl rfl)
theorem dX1_seeShare_36 : decode cX1_seeShare 36 = .ok (.freturn, 1) := dk_174 (dk_at dksX1_seeShare_1 13 rfl rfl)
abbrev cX1_setFresh : ByteArray := prog_1_method_78_code
def yX1_setFresh : MethodName := ⟨RX1, "setFresh", "(Z)Z"⟩
def dkwX1_setFresh_0 : List UInt8 := [42, 180, 0, 69, 180, 0, 241, 61, 42, 182, 2, 26, 27, 181, 0, 241, 28, 172]
abbrev dktX1_setFresh_0 : List UInt8 := dkwX1_setFresh_0 ++ []
theorem dksX1_setFresh_0 : cX1_setFresh.data.toList.drop 0 = dktX1_setFresh_0 := by decide +kernel
theorem dX1_setFresh_0 : decode cX1_setFresh 0 = .ok (.aload_n 0, 1) := dk_42 (dk_at dksX1_setFresh_0 0 rfl rfl)
theorem dX1_setFresh_1 : decode cX1_setFresh 1 = .ok (.getfield 69, 3) := dk_180 0 69 (dk_at dksX1_setFresh_0 1 rfl rfl)
theorem dX1_setFresh_4 : decode cX1_setFresh 4 = .ok (.getfield 241, 3) := dk_180 0 241 (dk_at dksX1_setFresh_0 4 rfl rfl)
theorem dX1_setFresh_7 : decode cX1_setFresh 7 = .ok (.istore_n 2, 1) := dk_61 (dk_at dksX1_setFresh_0 7 rfl rfl)
theorem dX1_setFresh_8 : decode cX1_setFresh 8 = .ok (.aload_n 0, 1) := dk_42 (dk_at dksX1_setFresh_0 8 rfl rfl)
theorem dX1_setFresh_9 : decode cX1_setFresh 9 = .ok (.invokevirtual 538, 3) := dk_182 2 26 (dk_at dksX1_setFresh_0 9 rfl rfl)
theorem dX1_setFresh_12 : decode cX1_setFresh 12 = .ok (.iload_n 1, 1) := dk_27 (dk_at dksX1_setFresh_0 12 rfl rfl)
theorem dX1_setFresh_13 : decode cX1_setFresh 13 = .ok (.putfield 241, 3) := dk_181 0 241 (dk_at dksX1_setFresh_0 13 rfl rfl)
theorem dX1_setFresh_16 : decode cX1_setFresh 16 = .ok (.iload_n 2, 1) := dk_28 (dk_at dksX1_setFresh_0 16 rfl rfl)
theorem dX1_setFresh_17 : decode cX1_setFresh 17 = .ok (.ireturn, 1) := dk_172 (dk_at dksX1_setFresh_0 17 rfl rfl)
abbrev cX1_changed : ByteArray := prog_1_method_68_code
def yX1_changed : MethodName := ⟨RX1, "changed", "()LCountyGazetteer$State;"⟩
def dkwX1_changed_0 : List UInt8 := [42, 42, 180, 0, 69, 182, 2, 5, 182, 2, 19, 42, 180, 0, 69, 176]
abbrev dktX1_changed_0 : List UInt8 := dkwX1_changed_0 ++ []
theorem dksX1_changed_0 : cX1_changed.data.toList.drop 0 = dktX1_changed_0 := by decide +kernel
theorem dX1_changed_0 : decode cX1_changed 0 = .ok (.aload_n 0, 1) := dk_42 (dk_at dksX1_changed_0 0 rfl rfl)
theorem dX1_changed_1 : decode cX1_changed 1 = .ok (.aload_n 0, 1) := dk_42 (dk_at dksX1_changed_0 1 rfl rfl)
theorem dX1_changed_2 : decode cX1_changed 2 = .ok (.getfield 69, 3) := dk_180 0 69 (dk_at dksX1_changed_0 2 rfl rfl)
theorem dX1_changed_5 : decode cX1_changed 5 = .ok (.invokevirtual 517, 3) := dk_182 2 5 (dk_at dksX1_changed_0 5 rfl rfl)
theorem dX1_changed_8 : decode cX1_changed 8 = .ok (.invokevirtual 531, 3) := dk_182 2 19 (dk_at dksX1_changed_0 8 rfl rfl)
theorem dX1_changed_11 : decode cX1_changed 11 = .ok (.aload_n 0, 1) := dk_42 (dk_at dksX1_changed_0 11 rfl rfl)
theorem dX1_changed_12 : decode cX1_changed 12 = .ok (.getfield 69, 3) := dk_180 0 69 (dk_at dksX1_changed_0 12 rfl rfl)
theorem dX1_changed_15 : decode cX1_changed 15 = .ok (.areturn, 1) := dk_176 (dk_at dksX1_changed_0 15 rfl rfl)
abbrev cX1_becomes : ByteArray := prog_1_method_67_code
def yX1_becomes : MethodName := ⟨RX1, "becomes", "(LCountyGazetteer$State;)V"⟩
def dkwX1_becomes_1 : List UInt8 := [42, 180, 0, 69, 182, 2, 15, 42, 43, 181, 0, 69, 177]
abbrev dktX1_becomes_1 : List UInt8 := dkwX1_becomes_1 ++ []
def dkwX1_becomes_0 : List UInt8 := [42, 180, 0, 76, 182, 1, 8, 16, 8, 160, 0, 11, 42, 180, 0, 76, 182, 2, 12, 87, 42, 180, 0, 76]
abbrev dktX1_becomes_0 : List UInt8 := dkwX1_becomes_0 ++ dktX1_becomes_1
theorem dksX1_becomes_0 : cX1_becomes.data.toList.drop 0 = dktX1_becomes_0 := by decide +kernel
theorem dksX1_becomes_1 : cX1_becomes.data.toList.drop 24 = dktX1_becomes_1 := dk_seg dksX1_becomes_0 24 rfl rfl
theorem dX1_becomes_0 : decode cX1_becomes 0 = .ok (.aload_n 0, 1) := dk_42 (dk_at dksX1_becomes_0 0 rfl rfl)
theorem dX1_becomes_1 : decode cX1_becomes 1 = .ok (.getfield 76, 3) := dk_180 0 76 (dk_at dksX1_becomes_0 1 rfl rfl)
theorem dX1_becomes_4 : decode cX1_becomes 4 = .ok (.invokevirtual 264, 3) := dk_182 1 8 (dk_at dksX1_becomes_0 4 rfl rfl)
theorem dX1_becomes_7 : decode cX1_becomes 7 = .ok (.bipush 8, 2) := dk_16 8 (dk_at dksX1_becomes_0 7 rfl rfl)
theorem dX1_becomes_9 : decode cX1_becomes 9 = .ok (.if_icmp .ne 11, 3) := dk_160 0 11 (dk_at dksX1_becomes_0 9 rfl rfl)
theorem dX1_becomes_12 : decode cX1_becomes 12 = .ok (.aload_n 0, 1) := dk_42 (dk_at dksX1_becomes_0 12 rfl rfl)
theorem dX1_becomes_13 : decode cX1_becomes 13 = .ok (.getfield 76, 3) := dk_180 0 76 (dk_at dksX1_becomes_0 13 rfl rfl)
theorem dX1_becomes_16 : decode cX1_becomes 16 = .ok (.invokevirtual 524, 3) := dk_182 2 12 (dk_at dksX1_becomes_0 16 rfl rfl)
theorem dX1_becomes_19 : decode cX1_becomes 19 = .ok (.pop, 1) := dk_87 (dk_at dksX1_becomes_0 19 rfl rfl)
theorem dX1_becomes_20 : decode cX1_becomes 20 = .ok (.aload_n 0, 1) := dk_42 (dk_at dksX1_becomes_0 20 rfl rfl)
theorem dX1_becomes_21 : decode cX1_becomes 21 = .ok (.getfield 76, 3) := dk_180 0 76 (dk_at dksX1_becomes_0 21 rfl rfl)
theorem dX1_becomes_24 : decode cX1_becomes 24 = .ok (.aload_n 0, 1) := dk_42 (dk_at dksX1_becomes_1 0 rfl rfl)
theorem dX1_becomes_25 : decode cX1_becomes 25 = .ok (.getfield 69, 3) := dk_180 0 69 (dk_at dksX1_becomes_1 1 rfl rfl)
theorem dX1_becomes_28 : decode cX1_becomes 28 = .ok (.invokevirtual 527, 3) := dk_182 2 15 (dk_at dksX1_becomes_1 4 rfl rfl)
theorem dX1_becomes_31 : decode cX1_becomes 31 = .ok (.aload_n 0, 1) := dk_42 (dk_at dksX1_becomes_1 7 rfl rfl)
theorem dX1_becomes_32 : decode cX1_becomes 32 = .ok (.aload_n 1, 1) := dk_43 (dk_at dksX1_becomes_1 8 rfl rfl)
theorem dX1_becomes_33 : decode cX1_becomes 33 = .ok (.putfield 69, 3) := dk_181 0 69 (dk_at dksX1_becomes_1 9 rfl rfl)
theorem dX1_becomes_36 : decode cX1_becomes 36 = .ok (.return_, 1) := dk_177 (dk_at dksX1_becomes_1 12 rfl rfl)
abbrev cX1_outputByte : ByteArray := prog_1_method_83_code
def yX1_outputByte : MethodName := ⟨RX1, "outputByte", "(I)I"⟩
def dkwX1_outputByte_1 : List UInt8 := [182, 2, 93, 167, 0, 4, 2, 172]
abbrev dktX1_outputByte_1 : List UInt8 := dkwX1_outputByte_1 ++ []
def dkwX1_outputByte_0 : List UInt8 := [27, 133, 9, 42, 180, 0, 93, 182, 2, 92, 4, 100, 133, 184, 0, 20, 153, 0, 14, 42, 180, 0, 93, 27]
abbrev dktX1_outputByte_0 : List UInt8 := dkwX1_outputByte_0 ++ dktX1_outputByte_1
theorem dksX1_outputByte_0 : cX1_outputByte.data.toList.drop 0 = dktX1_outputByte_0 := by decide +kernel
theorem dksX1_outputByte_1 : cX1_outputByte.data.toList.drop 24 = dktX1_outputByte_1 := dk_seg dksX1_outputByte_0 24 rfl rfl
theorem dX1_outputByte_0 : decode cX1_outputByte 0 = .ok (.iload_n 1, 1) := dk_27 (dk_at dksX1_outputByte_0 0 rfl rfl)
theorem dX1_outputByte_1 : decode cX1_outputByte 1 = .ok (.i2l, 1) := dk_133 (dk_at dksX1_outputByte_0 1 rfl rfl)
theorem dX1_outputByte_2 : decode cX1_outputByte 2 = .ok (.lconst 0, 1) := dk_9 (dk_at dksX1_outputByte_0 2 rfl rfl)
theorem dX1_outputByte_3 : decode cX1_outputByte 3 = .ok (.aload_n 0, 1) := dk_42 (dk_at dksX1_outputByte_0 3 rfl rfl)
theorem dX1_outputByte_4 : decode cX1_outputByte 4 = .ok (.getfield 93, 3) := dk_180 0 93 (dk_at dksX1_outputByte_0 4 rfl rfl)
theorem dX1_outputByte_7 : decode cX1_outputByte 7 = .ok (.invokevirtual 604, 3) := dk_182 2 92 (dk_at dksX1_outputByte_0 7 rfl rfl)
theorem dX1_outputByte_10 : decode cX1_outputByte 10 = .ok (.iconst 1, 1) := dk_4 (dk_at dksX1_outputByte_0 10 rfl rfl)
theorem dX1_outputByte_11 : decode cX1_outputByte 11 = .ok (.isub, 1) := dk_100 (dk_at dksX1_outputByte_0 11 rfl rfl)
theorem dX1_outputByte_12 : decode cX1_outputByte 12 = .ok (.i2l, 1) := dk_133 (dk_at dksX1_outputByte_0 12 rfl rfl)
theorem dX1_outputByte_13 : decode cX1_outputByte 13 = .ok (.invokestatic 20, 3) := dk_184 0 20 (dk_at dksX1_outputByte_0 13 rfl rfl)
theorem dX1_outputByte_16 : decode cX1_outputByte 16 = .ok (.ifCond .eq 14, 3) := dk_153 0 14 (dk_at dksX1_outputByte_0 16 rfl rfl)
theorem dX1_outputByte_19 : decode cX1_outputByte 19 = .ok (.aload_n 0, 1) := dk_42 (dk_at dksX1_outputByte_0 19 rfl rfl)
theorem dX1_outputByte_20 : decode cX1_outputByte 20 = .ok (.getfield 93, 3) := dk_180 0 93 (dk_at dksX1_outputByte_0 20 rfl rfl)
theorem dX1_outputByte_23 : decode cX1_outputByte 23 = .ok (.iload_n 1, 1) := dk_27 (dk_at dksX1_outputByte_0 23 rfl rfl)
theorem dX1_outputByte_24 : decode cX1_outputByte 24 = .ok (.invokevirtual 605, 3) := dk_182 2 93 (dk_at dksX1_outputByte_1 0 rfl rfl)
theorem dX1_outputByte_27 : decode cX1_outputByte 27 = .ok (.goto 4, 3) := dk_167 0 4 (dk_at dksX1_outputByte_1 3 rfl rfl)
theorem dX1_outputByte_30 : decode cX1_outputByte 30 = .ok (.iconst (-1), 1) := dk_2 (dk_at dksX1_outputByte_1 6 rfl rfl)
theorem dX1_outputByte_31 : decode cX1_outputByte 31 = .ok (.ireturn, 1) := dk_172 (dk_at dksX1_outputByte_1 7 rfl rfl)
abbrev cX1_saveState : ByteArray := prog_1_method_84_code
def yX1_saveState : MethodName := ⟨RX1, "saveState", "()I"⟩
def dkwX1_saveState_0 : List UInt8 := [42, 42, 180, 0, 69, 182, 2, 5, 181, 0, 118, 42, 180, 0, 69, 180, 0, 184, 172]
abbrev dktX1_saveState_0 : List UInt8 := dkwX1_saveState_0 ++ []
theorem dksX1_saveState_0 : cX1_saveState.data.toList.drop 0 = dktX1_saveState_0 := by decide +kernel
theorem dX1_saveState_0 : decode cX1_saveState 0 = .ok (.aload_n 0, 1) := dk_42 (dk_at dksX1_saveState_0 0 rfl rfl)
theorem dX1_saveState_1 : decode cX1_saveState 1 = .ok (.aload_n 0, 1) := dk_42 (dk_at dksX1_saveState_0 1 rfl rfl)
theorem dX1_saveState_2 : decode cX1_saveState 2 = .ok (.getfield 69, 3) := dk_180 0 69 (dk_at dksX1_saveState_0 2 rfl rfl)
theorem dX1_saveState_5 : decode cX1_saveState 5 = .ok (.invokevirtual 517, 3) := dk_182 2 5 (dk_at dksX1_saveState_0 5 rfl rfl)
theorem dX1_saveState_8 : decode cX1_saveState 8 = .ok (.putfield 118, 3) := dk_181 0 118 (dk_at dksX1_saveState_0 8 rfl rfl)
theorem dX1_saveState_11 : decode cX1_saveState 11 = .ok (.aload_n 0, 1) := dk_42 (dk_at dksX1_saveState_0 11 rfl rfl)
theorem dX1_saveState_12 : decode cX1_saveState 12 = .ok (.getfield 69, 3) := dk_180 0 69 (dk_at dksX1_saveState_0 12 rfl rfl)
theorem dX1_saveState_15 : decode cX1_saveState 15 = .ok (.getfield 184, 3) := dk_180 0 184 (dk_at dksX1_saveState_0 15 rfl rfl)
theorem dX1_saveState_18 : decode cX1_saveState 18 = .ok (.ireturn, 1) := dk_172 (dk_at dksX1_saveState_0 18 rfl rfl)
abbrev cX1_count : ByteArray := prog_1_method_22_code
def yX1_count : MethodName := ⟨RX1, "count", "(I)I"⟩
def dkwX1_count_9 : List UInt8 := [89, 183, 0, 9, 191]
abbrev dktX1_count_9 : List UInt8 := dkwX1_count_9 ++ []
def dkwX1_count_8 : List UInt8 := [42, 182, 0, 249, 180, 1, 5, 27, 16, 13, 100, 46, 172, 42, 180, 0, 76, 182, 1, 8, 172, 187, 0, 7]
abbrev dktX1_count_8 : List UInt8 := dkwX1_count_8 ++ dktX1_count_9
def dkwX1_count_7 : List UInt8 := [182, 0, 249, 182, 0, 252, 172, 42, 182, 0, 249, 180, 0, 254, 190, 172, 42, 182, 0, 249, 180, 1, 2, 172]
abbrev dktX1_count_7 : List UInt8 := dkwX1_count_7 ++ dktX1_count_8
def dkwX1_count_6 : List UInt8 := [153, 0, 7, 4, 167, 0, 4, 3, 172, 42, 42, 180, 0, 69, 180, 0, 184, 182, 0, 245, 172, 42]
abbrev dktX1_count_6 : List UInt8 := dkwX1_count_6 ++ dktX1_count_7
def dkwX1_count_5 : List UInt8 := [172, 42, 180, 0, 69, 180, 0, 193, 172, 42, 180, 0, 69, 180, 0, 238, 172, 42, 180, 0, 69, 180, 0, 241]
abbrev dktX1_count_5 : List UInt8 := dkwX1_count_5 ++ dktX1_count_6
def dkwX1_count_4 : List UInt8 := [180, 0, 232, 185, 0, 124, 1, 0, 172, 42, 180, 0, 69, 180, 0, 235, 172, 42, 180, 0, 69, 180, 0, 184]
abbrev dktX1_count_4 : List UInt8 := dkwX1_count_4 ++ dktX1_count_5
def dkwX1_count_3 : List UInt8 := [185, 0, 124, 1, 0, 172, 42, 180, 0, 69, 180, 0, 121, 185, 0, 124, 1, 0, 172, 42, 180, 0, 69]
abbrev dktX1_count_3 : List UInt8 := dkwX1_count_3 ++ dktX1_count_4
def dkwX1_count_2 : List UInt8 := [42, 180, 0, 69, 180, 0, 31, 172, 42, 180, 0, 69, 180, 0, 35, 172, 42, 180, 0, 69, 180, 0, 38]
abbrev dktX1_count_2 : List UInt8 := dkwX1_count_2 ++ dktX1_count_3
def dkwX1_count_1 : List UInt8 := [170, 0, 0, 0, 0, 0, 244, 0, 0, 0, 0, 0, 0, 0, 16, 0, 0, 0, 83, 0, 0, 0, 91, 0, 0, 0, 99, 0, 0, 0, 112, 0, 0, 0, 125, 0, 0, 0, 138, 0, 0, 0, 146, 0, 0, 0, 154, 0, 0, 0, 162, 0, 0, 0, 170, 0, 0, 0, 186, 0, 0, 0, 198, 0, 0, 0, 206, 0, 0, 0, 215, 0, 0, 0, 223, 0, 0, 0, 223, 0, 0, 0, 236]
abbrev dktX1_count_1 : List UInt8 := dkwX1_count_1 ++ dktX1_count_2
def dkwX1_count_0 : List UInt8 := [27]
abbrev dktX1_count_0 : List UInt8 := dkwX1_count_0 ++ dktX1_count_1
theorem dksX1_count_0 : cX1_count.data.toList.drop 0 = dktX1_count_0 := by decide +kernel
theorem dksX1_count_1 : cX1_count.data.toList.drop 1 = dktX1_count_1 := dk_seg dksX1_count_0 1 rfl rfl
theorem dksX1_count_2 : cX1_count.data.toList.drop 84 = dktX1_count_2 := dk_seg dksX1_count_1 83 rfl rfl
theorem dksX1_count_3 : cX1_count.data.toList.drop 107 = dktX1_count_3 := dk_seg dksX1_count_2 23 rfl rfl
theorem dksX1_count_4 : cX1_count.data.toList.drop 130 = dktX1_count_4 := dk_seg dksX1_count_3 23 rfl rfl
theorem dksX1_count_5 : cX1_count.data.toList.drop 154 = dktX1_count_5 := dk_seg dksX1_count_4 24 rfl rfl
theorem dksX1_count_6 : cX1_count.data.toList.drop 178 = dktX1_count_6 := dk_seg dksX1_count_5 24 rfl rfl
theorem dksX1_count_7 : cX1_count.data.toList.drop 200 = dktX1_count_7 := dk_seg dksX1_count_6 22 rfl rfl
theorem dksX1_count_8 : cX1_count.data.toList.drop 224 = dktX1_count_8 := dk_seg dksX1_count_7 24 rfl rfl
theorem dksX1_count_9 : cX1_count.data.toList.drop 248 = dktX1_count_9 := dk_seg dksX1_count_8 24 rfl rfl
theorem dX1_count_0 : decode cX1_count 0 = .ok (.iload_n 1, 1) := dk_27 (dk_at dksX1_count_0 0 rfl rfl)
theorem dX1_count_1 : decode cX1_count 1 = .ok (.tableswitch 244 0 16 #[83, 91, 99, 112, 125, 138, 146, 154, 162, 170, 186, 198, 206, 215, 223, 223, 236], 83) := by decide +kernel
theorem dX1_count_84 : decode cX1_count 84 = .ok (.aload_n 0, 1) := dk_42 (dk_at dksX1_count_2 0 rfl rfl)
theorem dX1_count_85 : decode cX1_count 85 = .ok (.getfield 69, 3) := dk_180 0 69 (dk_at dksX1_count_2 1 rfl rfl)
theorem dX1_count_88 : decode cX1_count 88 = .ok (.getfield 31, 3) := dk_180 0 31 (dk_at dksX1_count_2 4 rfl rfl)
theorem dX1_count_91 : decode cX1_count 91 = .ok (.ireturn, 1) := dk_172 (dk_at dksX1_count_2 7 rfl rfl)
theorem dX1_count_92 : decode cX1_count 92 = .ok (.aload_n 0, 1) := dk_42 (dk_at dksX1_count_2 8 rfl rfl)
theorem dX1_count_93 : decode cX1_count 93 = .ok (.getfield 69, 3) := dk_180 0 69 (dk_at dksX1_count_2 9 rfl rfl)
theorem dX1_count_96 : decode cX1_count 96 = .ok (.getfield 35, 3) := dk_180 0 35 (dk_at dksX1_count_2 12 rfl rfl)
theorem dX1_count_99 : decode cX1_count 99 = .ok (.ireturn, 1) := dk_172 (dk_at dksX1_count_2 15 rfl rfl)
theorem dX1_count_100 : decode cX1_count 100 = .ok (.aload_n 0, 1) := dk_42 (dk_at dksX1_count_2 16 rfl rfl)
theorem dX1_count_101 : decode cX1_count 101 = .ok (.getfield 69, 3) := dk_180 0 69 (dk_at dksX1_count_2 17 rfl rfl)
theorem dX1_count_104 : decode cX1_count 104 = .ok (.getfield 38, 3) := dk_180 0 38 (dk_at dksX1_count_2 20 rfl rfl)
theorem dX1_count_107 : decode cX1_count 107 = .ok (.invokeinterface 124 1, 5) := by decide +kernel
theorem dX1_count_112 : decode cX1_count 112 = .ok (.ireturn, 1) := dk_172 (dk_at dksX1_count_3 5 rfl rfl)
theorem dX1_count_113 : decode cX1_count 113 = .ok (.aload_n 0, 1) := dk_42 (dk_at dksX1_count_3 6 rfl rfl)
theorem dX1_count_114 : decode cX1_count 114 = .ok (.getfield 69, 3) := dk_180 0 69 (dk_at dksX1_count_3 7 rfl rfl)
theorem dX1_count_117 : decode cX1_count 117 = .ok (.getfield 121, 3) := dk_180 0 121 (dk_at dksX1_count_3 10 rfl rfl)
theorem dX1_count_120 : decode cX1_count 120 = .ok (.invokeinterface 124 1, 5) := by decide +kernel
theorem dX1_count_125 : decode cX1_count 125 = .ok (.ireturn, 1) := dk_172 (dk_at dksX1_count_3 18 rfl rfl)
theorem dX1_count_126 : decode cX1_count 126 = .ok (.aload_n 0, 1) := dk_42 (dk_at dksX1_count_3 19 rfl rfl)
theorem dX1_count_127 : decode cX1_count 127 = .ok (.getfield 69, 3) := dk_180 0 69 (dk_at dksX1_count_3 20 rfl rfl)
theorem dX1_count_130 : decode cX1_count 130 = .ok (.getfield 232, 3) := dk_180 0 232 (dk_at dksX1_count_4 0 rfl rfl)
theorem dX1_count_133 : decode cX1_count 133 = .ok (.invokeinterface 124 1, 5) := by decide +kernel
theorem dX1_count_138 : decode cX1_count 138 = .ok (.ireturn, 1) := dk_172 (dk_at dksX1_count_4 8 rfl rfl)
theorem dX1_count_139 : decode cX1_count 139 = .ok (.aload_n 0, 1) := dk_42 (dk_at dksX1_count_4 9 rfl rfl)
theorem dX1_count_140 : decode cX1_count 140 = .ok (.getfield 69, 3) := dk_180 0 69 (dk_at dksX1_count_4 10 rfl rfl)
theorem dX1_count_143 : decode cX1_count 143 = .ok (.getfield 235, 3) := dk_180 0 235 (dk_at dksX1_count_4 13 rfl rfl)
theorem dX1_count_146 : decode cX1_count 146 = .ok (.ireturn, 1) := dk_172 (dk_at dksX1_count_4 16 rfl rfl)
theorem dX1_count_147 : decode cX1_count 147 = .ok (.aload_n 0, 1) := dk_42 (dk_at dksX1_count_4 17 rfl rfl)
theorem dX1_count_148 : decode cX1_count 148 = .ok (.getfield 69, 3) := dk_180 0 69 (dk_at dksX1_count_4 18 rfl rfl)
theorem dX1_count_151 : decode cX1_count 151 = .ok (.getfield 184, 3) := dk_180 0 184 (dk_at dksX1_count_4 21 rfl rfl)
theorem dX1_count_154 : decode cX1_count 154 = .ok (.ireturn, 1) := dk_172 (dk_at dksX1_count_5 0 rfl rfl)
theorem dX1_count_155 : decode cX1_count 155 = .ok (.aload_n 0, 1) := dk_42 (dk_at dksX1_count_5 1 rfl rfl)
theorem dX1_count_156 : decode cX1_count 156 = .ok (.getfield 69, 3) := dk_180 0 69 (dk_at dksX1_count_5 2 rfl rfl)
theorem dX1_count_159 : decode cX1_count 159 = .ok (.getfield 193, 3) := dk_180 0 193 (dk_at dksX1_count_5 5 rfl rfl)
theorem dX1_count_162 : decode cX1_count 162 = .ok (.ireturn, 1) := dk_172 (dk_at dksX1_count_5 8 rfl rfl)
theorem dX1_count_163 : decode cX1_count 163 = .ok (.aload_n 0, 1) := dk_42 (dk_at dksX1_count_5 9 rfl rfl)
theorem dX1_count_164 : decode cX1_count 164 = .ok (.getfield 69, 3) := dk_180 0 69 (dk_at dksX1_count_5 10 rfl rfl)
theorem dX1_count_167 : decode cX1_count 167 = .ok (.getfield 238, 3) := dk_180 0 238 (dk_at dksX1_count_5 13 rfl rfl)
theorem dX1_count_170 : decode cX1_count 170 = .ok (.ireturn, 1) := dk_172 (dk_at dksX1_count_5 16 rfl rfl)
theorem dX1_count_171 : decode cX1_count 171 = .ok (.aload_n 0, 1) := dk_42 (dk_at dksX1_count_5 17 rfl rfl)
theorem dX1_count_172 : decode cX1_count 172 = .ok (.getfield 69, 3) := dk_180 0 69 (dk_at dksX1_count_5 18 rfl rfl)
theorem dX1_count_175 : decode cX1_count 175 = .ok (.getfield 241, 3) := dk_180 0 241 (dk_at dksX1_count_5 21 rfl rfl)
theorem dX1_count_178 : decode cX1_count 178 = .ok (.ifCond .eq 7, 3) := dk_153 0 7 (dk_at dksX1_count_6 0 rfl rfl)
theorem dX1_count_181 : decode cX1_count 181 = .ok (.iconst 1, 1) := dk_4 (dk_at dksX1_count_6 3 rfl rfl)
theorem dX1_count_182 : decode cX1_count 182 = .ok (.goto 4, 3) := dk_167 0 4 (dk_at dksX1_count_6 4 rfl rfl)
theorem dX1_count_185 : decode cX1_count 185 = .ok (.iconst 0, 1) := dk_3 (dk_at dksX1_count_6 7 rfl rfl)
theorem dX1_count_186 : decode cX1_count 186 = .ok (.ireturn, 1) := dk_172 (dk_at dksX1_count_6 8 rfl rfl)
theorem dX1_count_187 : decode cX1_count 187 = .ok (.aload_n 0, 1) := dk_42 (dk_at dksX1_count_6 9 rfl rfl)
theorem dX1_count_188 : decode cX1_count 188 = .ok (.aload_n 0, 1) := dk_42 (dk_at dksX1_count_6 10 rfl rfl)
theorem dX1_count_189 : decode cX1_count 189 = .ok (.getfield 69, 3) := dk_180 0 69 (dk_at dksX1_count_6 11 rfl rfl)
theorem dX1_count_192 : decode cX1_count 192 = .ok (.getfield 184, 3) := dk_180 0 184 (dk_at dksX1_count_6 14 rfl rfl)
theorem dX1_count_195 : decode cX1_count 195 = .ok (.invokevirtual 245, 3) := dk_182 0 245 (dk_at dksX1_count_6 17 rfl rfl)
theorem dX1_count_198 : decode cX1_count 198 = .ok (.ireturn, 1) := dk_172 (dk_at dksX1_count_6 20 rfl rfl)
theorem dX1_count_199 : decode cX1_count 199 = .ok (.aload_n 0, 1) := dk_42 (dk_at dksX1_count_6 21 rfl rfl)
theorem dX1_count_200 : decode cX1_count 200 = .ok (.invokevirtual 249, 3) := dk_182 0 249 (dk_at dksX1_count_7 0 rfl rfl)
theorem dX1_count_203 : decode cX1_count 203 = .ok (.invokevirtual 252, 3) := dk_182 0 252 (dk_at dksX1_count_7 3 rfl rfl)
theorem dX1_count_206 : decode cX1_count 206 = .ok (.ireturn, 1) := dk_172 (dk_at dksX1_count_7 6 rfl rfl)
theorem dX1_count_207 : decode cX1_count 207 = .ok (.aload_n 0, 1) := dk_42 (dk_at dksX1_count_7 7 rfl rfl)
theorem dX1_count_208 : decode cX1_count 208 = .ok (.invokevirtual 249, 3) := dk_182 0 249 (dk_at dksX1_count_7 8 rfl rfl)
theorem dX1_count_211 : decode cX1_count 211 = .ok (.getfield 254, 3) := dk_180 0 254 (dk_at dksX1_count_7 11 rfl rfl)
theorem dX1_count_214 : decode cX1_count 214 = .ok (.arraylength, 1) := dk_190 (dk_at dksX1_count_7 14 rfl rfl)
theorem dX1_count_215 : decode cX1_count 215 = .ok (.ireturn, 1) := dk_172 (dk_at dksX1_count_7 15 rfl rfl)
theorem dX1_count_216 : decode cX1_count 216 = .ok (.aload_n 0, 1) := dk_42 (dk_at dksX1_count_7 16 rfl rfl)
theorem dX1_count_217 : decode cX1_count 217 = .ok (.invokevirtual 249, 3) := dk_182 0 249 (dk_at dksX1_count_7 17 rfl rfl)
theorem dX1_count_220 : decode cX1_count 220 = .ok (.getfield 258, 3) := dk_180 1 2 (dk_at dksX1_count_7 20 rfl rfl)
theorem dX1_count_223 : decode cX1_count 223 = .ok (.ireturn, 1) := dk_172 (dk_at dksX1_count_7 23 rfl rfl)
theorem dX1_count_224 : decode cX1_count 224 = .ok (.aload_n 0, 1) := dk_42 (dk_at dksX1_count_8 0 rfl rfl)
theorem dX1_count_225 : decode cX1_count 225 = .ok (.invokevirtual 249, 3) := dk_182 0 249 (dk_at dksX1_count_8 1 rfl rfl)
theorem dX1_count_228 : decode cX1_count 228 = .ok (.getfield 261, 3) := dk_180 1 5 (dk_at dksX1_count_8 4 rfl rfl)
theorem dX1_count_231 : decode cX1_count 231 = .ok (.iload_n 1, 1) := dk_27 (dk_at dksX1_count_8 7 rfl rfl)
theorem dX1_count_232 : decode cX1_count 232 = .ok (.bipush 13, 2) := dk_16 13 (dk_at dksX1_count_8 8 rfl rfl)
theorem dX1_count_234 : decode cX1_count 234 = .ok (.isub, 1) := dk_100 (dk_at dksX1_count_8 10 rfl rfl)
theorem dX1_count_235 : decode cX1_count 235 = .ok (.iaload, 1) := dk_46 (dk_at dksX1_count_8 11 rfl rfl)
theorem dX1_count_236 : decode cX1_count 236 = .ok (.ireturn, 1) := dk_172 (dk_at dksX1_count_8 12 rfl rfl)
theorem dX1_count_237 : decode cX1_count 237 = .ok (.aload_n 0, 1) := dk_42 (dk_at dksX1_count_8 13 rfl rfl)
theorem dX1_count_238 : decode cX1_count 238 = .ok (.getfield 76, 3) := dk_180 0 76 (dk_at dksX1_count_8 14 rfl rfl)
theorem dX1_count_241 : decode cX1_count 241 = .ok (.invokevirtual 264, 3) := dk_182 1 8 (dk_at dksX1_count_8 17 rfl rfl)
theorem dX1_count_244 : decode cX1_count 244 = .ok (.ireturn, 1) := dk_172 (dk_at dksX1_count_8 20 rfl rfl)
theorem dX1_count_245 : decode cX1_count 245 = .ok (.new 7, 3) := dk_187 0 7 (dk_at dksX1_count_8 21 rfl rfl)
theorem dX1_count_248 : decode cX1_count 248 = .ok (.dup, 1) := dk_89 (dk_at dksX1_count_9 0 rfl rfl)
theorem dX1_count_249 : decode cX1_count 249 = .ok (.invokespecial 9, 3) := dk_183 0 9 (dk_at dksX1_count_9 1 rfl rfl)
theorem dX1_count_252 : decode cX1_count 252 = .ok (.athrow, 1) := dk_191 (dk_at dksX1_count_9 4 rfl rfl)
abbrev cX1_living : ByteArray := prog_1_method_21_code
def yX1_living : MethodName := ⟨RX1, "living", "(I)I"⟩
def dkwX1_living_2 : List UInt8 := [167, 0, 4, 3, 96, 61, 167, 255, 219, 28, 172]
abbrev dktX1_living_2 : List UInt8 := dkwX1_living_2 ++ []
def dkwX1_living_1 : List UInt8 := [45, 185, 0, 162, 1, 0, 192, 0, 214, 58, 4, 28, 25, 4, 27, 182, 0, 228, 153, 0, 7, 4]
abbrev dktX1_living_1 : List UInt8 := dkwX1_living_1 ++ dktX1_living_2
def dkwX1_living_0 : List UInt8 := [3, 61, 42, 180, 0, 69, 180, 0, 121, 185, 0, 227, 1, 0, 78, 45, 185, 0, 156, 1, 0, 153, 0, 34]
abbrev dktX1_living_0 : List UInt8 := dkwX1_living_0 ++ dktX1_living_1
theorem dksX1_living_0 : cX1_living.data.toList.drop 0 = dktX1_living_0 := by decide +kernel
theorem dksX1_living_1 : cX1_living.data.toList.drop 24 = dktX1_living_1 := dk_seg dksX1_living_0 24 rfl rfl
theorem dksX1_living_2 : cX1_living.data.toList.drop 46 = dktX1_living_2 := dk_seg dksX1_living_1 22 rfl rfl
theorem dX1_living_0 : decode cX1_living 0 = .ok (.iconst 0, 1) := dk_3 (dk_at dksX1_living_0 0 rfl rfl)
theorem dX1_living_1 : decode cX1_living 1 = .ok (.istore_n 2, 1) := dk_61 (dk_at dksX1_living_0 1 rfl rfl)
theorem dX1_living_2 : decode cX1_living 2 = .ok (.aload_n 0, 1) := dk_42 (dk_at dksX1_living_0 2 rfl rfl)
theorem dX1_living_3 : decode cX1_living 3 = .ok (.getfield 69, 3) := dk_180 0 69 (dk_at dksX1_living_0 3 rfl rfl)
theorem dX1_living_6 : decode cX1_living 6 = .ok (.getfield 121, 3) := dk_180 0 121 (dk_at dksX1_living_0 6 rfl rfl)
theorem dX1_living_9 : decode cX1_living 9 = .ok (.invokeinterface 227 1, 5) := by decide +kernel
theorem dX1_living_14 : decode cX1_living 14 = .ok (.astore_n 3, 1) := dk_78 (dk_at dksX1_living_0 14 rfl rfl)
theorem dX1_living_15 : decode cX1_living 15 = .ok (.aload_n 3, 1) := dk_45 (dk_at dksX1_living_0 15 rfl rfl)
theorem dX1_living_16 : decode cX1_living 16 = .ok (.invokeinterface 156 1, 5) := by decide +kernel
theorem dX1_living_21 : decode cX1_living 21 = .ok (.ifCond .eq 34, 3) := dk_153 0 34 (dk_at dksX1_living_0 21 rfl rfl)
theorem dX1_living_24 : decode cX1_living 24 = .ok (.aload_n 3, 1) := dk_45 (dk_at dksX1_living_1 0 rfl rfl)
theorem dX1_living_25 : decode cX1_living 25 = .ok (.invokeinterface 162 1, 5) := by decide +kernel
theorem dX1_living_30 : decode cX1_living 30 = .ok (.checkcast 214, 3) := dk_192 0 214 (dk_at dksX1_living_1 6 rfl rfl)
theorem dX1_living_33 : decode cX1_living 33 = .ok (.astore 4, 2) := dk_58 4 (dk_at dksX1_living_1 9 rfl rfl)
theorem dX1_living_35 : decode cX1_living 35 = .ok (.iload_n 2, 1) := dk_28 (dk_at dksX1_living_1 11 rfl rfl)
theorem dX1_living_36 : decode cX1_living 36 = .ok (.aload 4, 2) := dk_25 4 (dk_at dksX1_living_1 12 rfl rfl)
theorem dX1_living_38 : decode cX1_living 38 = .ok (.iload_n 1, 1) := dk_27 (dk_at dksX1_living_1 14 rfl rfl)
theorem dX1_living_39 : decode cX1_living 39 = .ok (.invokevirtual 228, 3) := dk_182 0 228 (dk_at dksX1_living_1 15 rfl rfl)
theorem dX1_living_42 : decode cX1_living 42 = .ok (.ifCond .eq 7, 3) := dk_153 0 7 (dk_at dksX1_living_1 18 rfl rfl)
theorem dX1_living_45 : decode cX1_living 45 = .ok (.iconst 1, 1) := dk_4 (dk_at dksX1_living_1 21 rfl rfl)
theorem dX1_living_46 : decode cX1_living 46 = .ok (.goto 4, 3) := dk_167 0 4 (dk_at dksX1_living_2 0 rfl rfl)
theorem dX1_living_49 : decode cX1_living 49 = .ok (.iconst 0, 1) := dk_3 (dk_at dksX1_living_2 3 rfl rfl)
theorem dX1_living_50 : decode cX1_living 50 = .ok (.iadd, 1) := dk_96 (dk_at dksX1_living_2 4 rfl rfl)
theorem dX1_living_51 : decode cX1_living 51 = .ok (.istore_n 2, 1) := dk_61 (dk_at dksX1_living_2 5 rfl rfl)
theorem dX1_living_52 : decode cX1_living 52 = .ok (.goto (-37), 3) := dk_167 255 219 (dk_at dksX1_living_2 6 rfl rfl)
theorem dX1_living_55 : decode cX1_living 55 = .ok (.iload_n 2, 1) := dk_28 (dk_at dksX1_living_2 9 rfl rfl)
theorem dX1_living_56 : decode cX1_living 56 = .ok (.ireturn, 1) := dk_172 (dk_at dksX1_living_2 10 rfl rfl)
abbrev cX1_village : ByteArray := prog_1_method_24_code
def yX1_village : MethodName := ⟨RX1, "village", "(II)I"⟩
def dkwX1_village_5 : List UInt8 := [182, 1, 39, 172, 42, 27, 182, 1, 42, 172, 187, 0, 7, 89, 183, 0, 9, 191]
abbrev dktX1_village_5 : List UInt8 := dkwX1_village_5 ++ []
def dkwX1_village_4 : List UInt8 := [4, 167, 0, 4, 3, 172, 45, 180, 1, 32, 172, 45, 42, 180, 0, 69, 180, 0, 184, 182, 1, 35]
abbrev dktX1_village_4 : List UInt8 := dkwX1_village_4 ++ dktX1_village_5
def dkwX1_village_3 : List UInt8 := [180, 0, 69, 180, 0, 184, 182, 1, 28, 172, 45, 42, 180, 0, 69, 180, 0, 184, 182, 0, 228, 153, 0, 7]
abbrev dktX1_village_3 : List UInt8 := dkwX1_village_3 ++ dktX1_village_4
def dkwX1_village_2 : List UInt8 := [45, 180, 0, 218, 172, 45, 180, 0, 213, 172, 45, 180, 1, 22, 172, 45, 180, 1, 25, 172, 42, 45, 42]
abbrev dktX1_village_2 : List UInt8 := dkwX1_village_2 ++ dktX1_village_3
def dkwX1_village_1 : List UInt8 := [170, 0, 0, 0, 128, 0, 0, 0, 0, 0, 0, 0, 8, 0, 0, 0, 49, 0, 0, 0, 54, 0, 0, 0, 59, 0, 0, 0, 64, 0, 0, 0, 69, 0, 0, 0, 82, 0, 0, 0, 102, 0, 0, 0, 107, 0, 0, 0, 122]
abbrev dktX1_village_1 : List UInt8 := dkwX1_village_1 ++ dktX1_village_2
def dkwX1_village_0 : List UInt8 := [42, 27, 182, 1, 18, 78, 28]
abbrev dktX1_village_0 : List UInt8 := dkwX1_village_0 ++ dktX1_village_1
theorem dksX1_village_0 : cX1_village.data.toList.drop 0 = dktX1_village_0 := by decide +kernel
theorem dksX1_village_1 : cX1_village.data.toList.drop 7 = dktX1_village_1 := dk_seg dksX1_village_0 7 rfl rfl
theorem dksX1_village_2 : cX1_village.data.toList.drop 56 = dktX1_village_2 := dk_seg dksX1_village_1 49 rfl rfl
theorem dksX1_village_3 : cX1_village.data.toList.drop 79 = dktX1_village_3 := dk_seg dksX1_village_2 23 rfl rfl
theorem dksX1_village_4 : cX1_village.data.toList.drop 103 = dktX1_village_4 := dk_seg dksX1_village_3 24 rfl rfl
theorem dksX1_village_5 : cX1_village.data.toList.drop 125 = dktX1_village_5 := dk_seg dksX1_village_4 22 rfl rfl
theorem dX1_village_0 : decode cX1_village 0 = .ok (.aload_n 0, 1) := dk_42 (dk_at dksX1_village_0 0 rfl rfl)
theorem dX1_village_1 : decode cX1_village 1 = .ok (.iload_n 1, 1) := dk_27 (dk_at dksX1_village_0 1 rfl rfl)
theorem dX1_village_2 : decode cX1_village 2 = .ok (.invokevirtual 274, 3) := dk_182 1 18 (dk_at dksX1_village_0 2 rfl rfl)
theorem dX1_village_5 : decode cX1_village 5 = .ok (.astore_n 3, 1) := dk_78 (dk_at dksX1_village_0 5 rfl rfl)
theorem dX1_village_6 : decode cX1_village 6 = .ok (.iload_n 2, 1) := dk_28 (dk_at dksX1_village_0 6 rfl rfl)
theorem dX1_village_7 : decode cX1_village 7 = .ok (.tableswitch 128 0 8 #[49, 54, 59, 64, 69, 82, 102, 107, 122], 49) := by decide +kernel
theorem dX1_village_56 : decode cX1_village 56 = .ok (.aload_n 3, 1) := dk_45 (dk_at dksX1_village_2 0 rfl rfl)
theorem dX1_village_57 : decode cX1_village 57 = .ok (.getfield 218, 3) := dk_180 0 218 (dk_at dksX1_village_2 1 rfl rfl)
theorem dX1_village_60 : decode cX1_village 60 = .ok (.ireturn, 1) := dk_172 (dk_at dksX1_village_2 4 rfl rfl)
theorem dX1_village_61 : decode cX1_village 61 = .ok (.aload_n 3, 1) := dk_45 (dk_at dksX1_village_2 5 rfl rfl)
theorem dX1_village_62 : decode cX1_village 62 = .ok (.getfield 213, 3) := dk_180 0 213 (dk_at dksX1_village_2 6 rfl rfl)
theorem dX1_village_65 : decode cX1_village 65 = .ok (.ireturn, 1) := dk_172 (dk_at dksX1_village_2 9 rfl rfl)
theorem dX1_village_66 : decode cX1_village 66 = .ok (.aload_n 3, 1) := dk_45 (dk_at dksX1_village_2 10 rfl rfl)
theorem dX1_village_67 : decode cX1_village 67 = .ok (.getfield 278, 3) := dk_180 1 22 (dk_at dksX1_village_2 11 rfl rfl)
theorem dX1_village_70 : decode cX1_village 70 = .ok (.ireturn, 1) := dk_172 (dk_at dksX1_village_2 14 rfl rfl)
theorem dX1_village_71 : decode cX1_village 71 = .ok (.aload_n 3, 1) := dk_45 (dk_at dksX1_village_2 15 rfl rfl)
theorem dX1_village_72 : decode cX1_village 72 = .ok (.getfield 281, 3) := dk_180 1 25 (dk_at dksX1_village_2 16 rfl rfl)
theorem dX1_village_75 : decode cX1_village 75 = .ok (.ireturn, 1) := dk_172 (dk_at dksX1_village_2 19 rfl rfl)
theorem dX1_village_76 : decode cX1_village 76 = .ok (.aload_n 0, 1) := dk_42 (dk_at dksX1_village_2 20 rfl rfl)
theorem dX1_village_77 : decode cX1_village 77 = .ok (.aload_n 3, 1) := dk_45 (dk_at dksX1_village_2 21 rfl rfl)
theorem dX1_village_78 : decode cX1_village 78 = .ok (.aload_n 0, 1) := dk_42 (dk_at dksX1_village_2 22 rfl rfl)
theorem dX1_village_79 : decode cX1_village 79 = .ok (.getfield 69, 3) := dk_180 0 69 (dk_at dksX1_village_3 0 rfl rfl)
theorem dX1_village_82 : decode cX1_village 82 = .ok (.getfield 184, 3) := dk_180 0 184 (dk_at dksX1_village_3 3 rfl rfl)
theorem dX1_village_85 : decode cX1_village 85 = .ok (.invokevirtual 284, 3) := dk_182 1 28 (dk_at dksX1_village_3 6 rfl rfl)
theorem dX1_village_88 : decode cX1_village 88 = .ok (.ireturn, 1) := dk_172 (dk_at dksX1_village_3 9 rfl rfl)
theorem dX1_village_89 : decode cX1_village 89 = .ok (.aload_n 3, 1) := dk_45 (dk_at dksX1_village_3 10 rfl rfl)
theorem dX1_village_90 : decode cX1_village 90 = .ok (.aload_n 0, 1) := dk_42 (dk_at dksX1_village_3 11 rfl rfl)
theorem dX1_village_91 : decode cX1_village 91 = .ok (.getfield 69, 3) := dk_180 0 69 (dk_at dksX1_village_3 12 rfl rfl)
theorem dX1_village_94 : decode cX1_village 94 = .ok (.getfield 184, 3) := dk_180 0 184 (dk_at dksX1_village_3 15 rfl rfl)
theorem dX1_village_97 : decode cX1_village 97 = .ok (.invokevirtual 228, 3) := dk_182 0 228 (dk_at dksX1_village_3 18 rfl rfl)
theorem dX1_village_100 : decode cX1_village 100 = .ok (.ifCond .eq 7, 3) := dk_153 0 7 (dk_at dksX1_village_3 21 rfl rfl)
theorem dX1_village_103 : decode cX1_village 103 = .ok (.iconst 1, 1) := dk_4 (dk_at dksX1_village_4 0 rfl rfl)
theorem dX1_village_104 : decode cX1_village 104 = .ok (.goto 4, 3) := dk_167 0 4 (dk_at dksX1_village_4 1 rfl rfl)
theorem dX1_village_107 : decode cX1_village 107 = .ok (.iconst 0, 1) := dk_3 (dk_at dksX1_village_4 4 rfl rfl)
theorem dX1_village_108 : decode cX1_village 108 = .ok (.ireturn, 1) := dk_172 (dk_at dksX1_village_4 5 rfl rfl)
theorem dX1_village_109 : decode cX1_village 109 = .ok (.aload_n 3, 1) := dk_45 (dk_at dksX1_village_4 6 rfl rfl)
theorem dX1_village_110 : decode cX1_village 110 = .ok (.getfield 288, 3) := dk_180 1 32 (dk_at dksX1_village_4 7 rfl rfl)
theorem dX1_village_113 : decode cX1_village 113 = .ok (.ireturn, 1) := dk_172 (dk_at dksX1_village_4 10 rfl rfl)
theorem dX1_village_114 : decode cX1_village 114 = .ok (.aload_n 3, 1) := dk_45 (dk_at dksX1_village_4 11 rfl rfl)
theorem dX1_village_115 : decode cX1_village 115 = .ok (.aload_n 0, 1) := dk_42 (dk_at dksX1_village_4 12 rfl rfl)
theorem dX1_village_116 : decode cX1_village 116 = .ok (.getfield 69, 3) := dk_180 0 69 (dk_at dksX1_village_4 13 rfl rfl)
theorem dX1_village_119 : decode cX1_village 119 = .ok (.getfield 184, 3) := dk_180 0 184 (dk_at dksX1_village_4 16 rfl rfl)
theorem dX1_village_122 : decode cX1_village 122 = .ok (.invokevirtual 291, 3) := dk_182 1 35 (dk_at dksX1_village_4 19 rfl rfl)
theorem dX1_village_125 : decode cX1_village 125 = .ok (.invokevirtual 295, 3) := dk_182 1 39 (dk_at dksX1_village_5 0 rfl rfl)
theorem dX1_village_128 : decode cX1_village 128 = .ok (.ireturn, 1) := dk_172 (dk_at dksX1_village_5 3 rfl rfl)
theorem dX1_village_129 : decode cX1_village 129 = .ok (.aload_n 0, 1) := dk_42 (dk_at dksX1_village_5 4 rfl rfl)
theorem dX1_village_130 : decode cX1_village 130 = .ok (.iload_n 1, 1) := dk_27 (dk_at dksX1_village_5 5 rfl rfl)
theorem dX1_village_131 : decode cX1_village 131 = .ok (.invokevirtual 298, 3) := dk_182 1 42 (dk_at dksX1_village_5 6 rfl rfl)
theorem dX1_village_134 : decode cX1_village 134 = .ok (.ireturn, 1) := dk_172 (dk_at dksX1_village_5 9 rfl rfl)
theorem dX1_village_135 : decode cX1_village 135 = .ok (.new 7, 3) := dk_187 0 7 (dk_at dksX1_village_5 10 rfl rfl)
theorem dX1_village_138 : decode cX1_village 138 = .ok (.dup, 1) := dk_89 (dk_at dksX1_village_5 13 rfl rfl)
theorem dX1_village_139 : decode cX1_village 139 = .ok (.invokespecial 9, 3) := dk_183 0 9 (dk_at dksX1_village_5 14 rfl rfl)
theorem dX1_village_142 : decode cX1_village 142 = .ok (.athrow, 1) := dk_191 (dk_at dksX1_village_5 17 rfl rfl)
abbrev cX1_villageAt : ByteArray := prog_1_method_19_code
def yX1_villageAt : MethodName := ⟨RX1, "villageAt", "(I)LCountyGazetteer$Village;"⟩
def dkwX1_villageAt_1 : List UInt8 := [42, 180, 0, 69, 180, 0, 121, 27, 185, 0, 224, 2, 0, 192, 0, 214, 176]
abbrev dktX1_villageAt_1 : List UInt8 := dkwX1_villageAt_1 ++ []
def dkwX1_villageAt_0 : List UInt8 := [27, 133, 9, 42, 180, 0, 69, 180, 0, 121, 185, 0, 124, 1, 0, 4, 100, 133, 184, 0, 20, 184, 0, 221]
abbrev dktX1_villageAt_0 : List UInt8 := dkwX1_villageAt_0 ++ dktX1_villageAt_1
theorem dksX1_villageAt_0 : cX1_villageAt.data.toList.drop 0 = dktX1_villageAt_0 := by decide +kernel
theorem dksX1_villageAt_1 : cX1_villageAt.data.toList.drop 24 = dktX1_villageAt_1 := dk_seg dksX1_villageAt_0 24 rfl rfl
theorem dX1_villageAt_0 : decode cX1_villageAt 0 = .ok (.iload_n 1, 1) := dk_27 (dk_at dksX1_villageAt_0 0 rfl rfl)
theorem dX1_villageAt_1 : decode cX1_villageAt 1 = .ok (.i2l, 1) := dk_133 (dk_at dksX1_villageAt_0 1 rfl rfl)
theorem dX1_villageAt_2 : decode cX1_villageAt 2 = .ok (.lconst 0, 1) := dk_9 (dk_at dksX1_villageAt_0 2 rfl rfl)
theorem dX1_villageAt_3 : decode cX1_villageAt 3 = .ok (.aload_n 0, 1) := dk_42 (dk_at dksX1_villageAt_0 3 rfl rfl)
theorem dX1_villageAt_4 : decode cX1_villageAt 4 = .ok (.getfield 69, 3) := dk_180 0 69 (dk_at dksX1_villageAt_0 4 rfl rfl)
theorem dX1_villageAt_7 : decode cX1_villageAt 7 = .ok (.getfield 121, 3) := dk_180 0 121 (dk_at dksX1_villageAt_0 7 rfl rfl)
theorem dX1_villageAt_10 : decode cX1_villageAt 10 = .ok (.invokeinterface 124 1, 5) := by decide +kernel
theorem dX1_villageAt_15 : decode cX1_villageAt 15 = .ok (.iconst 1, 1) := dk_4 (dk_at dksX1_villageAt_0 15 rfl rfl)
theorem dX1_villageAt_16 : decode cX1_villageAt 16 = .ok (.isub, 1) := dk_100 (dk_at dksX1_villageAt_0 16 rfl rfl)
theorem dX1_villageAt_17 : decode cX1_villageAt 17 = .ok (.i2l, 1) := dk_133 (dk_at dksX1_villageAt_0 17 rfl rfl)
theorem dX1_villageAt_18 : decode cX1_villageAt 18 = .ok (.invokestatic 20, 3) := dk_184 0 20 (dk_at dksX1_villageAt_0 18 rfl rfl)
theorem dX1_villageAt_21 : decode cX1_villageAt 21 = .ok (.invokestatic 221, 3) := dk_184 0 221 (dk_at dksX1_villageAt_0 21 rfl rfl)
theorem dX1_villageAt_24 : decode cX1_villageAt 24 = .ok (.aload_n 0, 1) := dk_42 (dk_at dksX1_villageAt_1 0 rfl rfl)
theorem dX1_villageAt_25 : decode cX1_villageAt 25 = .ok (.getfield 69, 3) := dk_180 0 69 (dk_at dksX1_villageAt_1 1 rfl rfl)
theorem dX1_villageAt_28 : decode cX1_villageAt 28 = .ok (.getfield 121, 3) := dk_180 0 121 (dk_at dksX1_villageAt_1 4 rfl rfl)
theorem dX1_villageAt_31 : decode cX1_villageAt 31 = .ok (.iload_n 1, 1) := dk_27 (dk_at dksX1_villageAt_1 7 rfl rfl)
theorem dX1_villageAt_32 : decode cX1_villageAt 32 = .ok (.invokeinterface 224 2, 5) := by decide +kernel
theorem dX1_villageAt_37 : decode cX1_villageAt 37 = .ok (.checkcast 214, 3) := dk_192 0 214 (dk_at dksX1_villageAt_1 13 rfl rfl)
theorem dX1_villageAt_40 : decode cX1_villageAt 40 = .ok (.areturn, 1) := dk_176 (dk_at dksX1_villageAt_1 16 rfl rfl)
abbrev cX1_checkIndex : ByteArray := prog_1_method_2_code
def yX1_checkIndex : MethodName := ⟨RX1, "checkIndex", "(Z)V"⟩
def dkwX1_checkIndex_0 : List UInt8 := [26, 154, 0, 11, 187, 0, 1, 89, 183, 0, 3, 191, 177]
abbrev dktX1_checkIndex_0 : List UInt8 := dkwX1_checkIndex_0 ++ []
theorem dksX1_checkIndex_0 : cX1_checkIndex.data.toList.drop 0 = dktX1_checkIndex_0 := by decide +kernel
theorem dX1_checkIndex_0 : decode cX1_checkIndex 0 = .ok (.iload_n 0, 1) := dk_26 (dk_at dksX1_checkIndex_0 0 rfl rfl)
theorem dX1_checkIndex_1 : decode cX1_checkIndex 1 = .ok (.ifCond .ne 11, 3) := dk_154 0 11 (dk_at dksX1_checkIndex_0 1 rfl rfl)
theorem dX1_checkIndex_4 : decode cX1_checkIndex 4 = .ok (.new 1, 3) := dk_187 0 1 (dk_at dksX1_checkIndex_0 4 rfl rfl)
theorem dX1_checkIndex_7 : decode cX1_checkIndex 7 = .ok (.dup, 1) := dk_89 (dk_at dksX1_checkIndex_0 7 rfl rfl)
theorem dX1_checkIndex_8 : decode cX1_checkIndex 8 = .ok (.invokespecial 3, 3) := dk_183 0 3 (dk_at dksX1_checkIndex_0 8 rfl rfl)
theorem dX1_checkIndex_11 : decode cX1_checkIndex 11 = .ok (.athrow, 1) := dk_191 (dk_at dksX1_checkIndex_0 11 rfl rfl)
theorem dX1_checkIndex_12 : decode cX1_checkIndex 12 = .ok (.return_, 1) := dk_177 (dk_at dksX1_checkIndex_0 12 rfl rfl)
abbrev cX1_ownerIn : ByteArray := prog_1_method_18_code
def yX1_ownerIn : MethodName := ⟨RX1, "ownerIn", "(LCountyGazetteer$Village;I)I"⟩
def dkwX1_ownerIn_1 : List UInt8 := [43, 180, 0, 213, 104, 43, 180, 0, 218, 96, 46, 172]
abbrev dktX1_ownerIn_1 : List UInt8 := dkwX1_ownerIn_1 ++ []
def dkwX1_ownerIn_0 : List UInt8 := [42, 180, 0, 83, 42, 180, 0, 69, 28, 184, 0, 187, 78, 45, 180, 0, 209, 42, 180, 0, 69, 180, 0, 31]
abbrev dktX1_ownerIn_0 : List UInt8 := dkwX1_ownerIn_0 ++ dktX1_ownerIn_1
theorem dksX1_ownerIn_0 : cX1_ownerIn.data.toList.drop 0 = dktX1_ownerIn_0 := by decide +kernel
theorem dksX1_ownerIn_1 : cX1_ownerIn.data.toList.drop 24 = dktX1_ownerIn_1 := dk_seg dksX1_ownerIn_0 24 rfl rfl
theorem dX1_ownerIn_0 : decode cX1_ownerIn 0 = .ok (.aload_n 0, 1) := dk_42 (dk_at dksX1_ownerIn_0 0 rfl rfl)
theorem dX1_ownerIn_1 : decode cX1_ownerIn 1 = .ok (.getfield 83, 3) := dk_180 0 83 (dk_at dksX1_ownerIn_0 1 rfl rfl)
theorem dX1_ownerIn_4 : decode cX1_ownerIn 4 = .ok (.aload_n 0, 1) := dk_42 (dk_at dksX1_ownerIn_0 4 rfl rfl)
theorem dX1_ownerIn_5 : decode cX1_ownerIn 5 = .ok (.getfield 69, 3) := dk_180 0 69 (dk_at dksX1_ownerIn_0 5 rfl rfl)
theorem dX1_ownerIn_8 : decode cX1_ownerIn 8 = .ok (.iload_n 2, 1) := dk_28 (dk_at dksX1_ownerIn_0 8 rfl rfl)
theorem dX1_ownerIn_9 : decode cX1_ownerIn 9 = .ok (.invokestatic 187, 3) := dk_184 0 187 (dk_at dksX1_ownerIn_0 9 rfl rfl)
theorem dX1_ownerIn_12 : decode cX1_ownerIn 12 = .ok (.astore_n 3, 1) := dk_78 (dk_at dksX1_ownerIn_0 12 rfl rfl)
theorem dX1_ownerIn_13 : decode cX1_ownerIn 13 = .ok (.aload_n 3, 1) := dk_45 (dk_at dksX1_ownerIn_0 13 rfl rfl)
theorem dX1_ownerIn_14 : decode cX1_ownerIn 14 = .ok (.getfield 209, 3) := dk_180 0 209 (dk_at dksX1_ownerIn_0 14 rfl rfl)
theorem dX1_ownerIn_17 : decode cX1_ownerIn 17 = .ok (.aload_n 0, 1) := dk_42 (dk_at dksX1_ownerIn_0 17 rfl rfl)
theorem dX1_ownerIn_18 : decode cX1_ownerIn 18 = .ok (.getfield 69, 3) := dk_180 0 69 (dk_at dksX1_ownerIn_0 18 rfl rfl)
theorem dX1_ownerIn_21 : decode cX1_ownerIn 21 = .ok (.getfield 31, 3) := dk_180 0 31 (dk_at dksX1_ownerIn_0 21 rfl rfl)
theorem dX1_ownerIn_24 : decode cX1_ownerIn 24 = .ok (.aload_n 1, 1) := dk_43 (dk_at dksX1_ownerIn_1 0 rfl rfl)
theorem dX1_ownerIn_25 : decode cX1_ownerIn 25 = .ok (.getfield 213, 3) := dk_180 0 213 (dk_at dksX1_ownerIn_1 1 rfl rfl)
theorem dX1_ownerIn_28 : decode cX1_ownerIn 28 = .ok (.imul, 1) := dk_104 (dk_at dksX1_ownerIn_1 4 rfl rfl)
theorem dX1_ownerIn_29 : decode cX1_ownerIn 29 = .ok (.aload_n 1, 1) := dk_43 (dk_at dksX1_ownerIn_1 5 rfl rfl)
theorem dX1_ownerIn_30 : decode cX1_ownerIn 30 = .ok (.getfield 218, 3) := dk_180 0 218 (dk_at dksX1_ownerIn_1 6 rfl rfl)
theorem dX1_ownerIn_33 : decode cX1_ownerIn 33 = .ok (.iadd, 1) := dk_96 (dk_at dksX1_ownerIn_1 9 rfl rfl)
theorem dX1_ownerIn_34 : decode cX1_ownerIn 34 = .ok (.iaload, 1) := dk_46 (dk_at dksX1_ownerIn_1 10 rfl rfl)
theorem dX1_ownerIn_35 : decode cX1_ownerIn 35 = .ok (.ireturn, 1) := dk_172 (dk_at dksX1_ownerIn_1 11 rfl rfl)
abbrev cX1_pageOf : ByteArray := prog_1_method_23_code
def yX1_pageOf : MethodName := ⟨RX1, "pageOf", "(I)I"⟩
def dkwX1_pageOf_0 : List UInt8 := [42, 182, 0, 249, 27, 182, 1, 9, 77, 44, 199, 0, 7, 2, 167, 0, 7, 44, 180, 1, 13, 172]
abbrev dktX1_pageOf_0 : List UInt8 := dkwX1_pageOf_0 ++ []
theorem dksX1_pageOf_0 : cX1_pageOf.data.toList.drop 0 = dktX1_pageOf_0 := by decide +kernel
theorem dX1_pageOf_0 : decode cX1_pageOf 0 = .ok (.aload_n 0, 1) := dk_42 (dk_at dksX1_pageOf_0 0 rfl rfl)
theorem dX1_pageOf_1 : decode cX1_pageOf 1 = .ok (.invokevirtual 249, 3) := dk_182 0 249 (dk_at dksX1_pageOf_0 1 rfl rfl)
theorem dX1_pageOf_4 : decode cX1_pageOf 4 = .ok (.iload_n 1, 1) := dk_27 (dk_at dksX1_pageOf_0 4 rfl rfl)
theorem dX1_pageOf_5 : decode cX1_pageOf 5 = .ok (.invokevirtual 265, 3) := dk_182 1 9 (dk_at dksX1_pageOf_0 5 rfl rfl)
theorem dX1_pageOf_8 : decode cX1_pageOf 8 = .ok (.astore_n 2, 1) := dk_77 (dk_at dksX1_pageOf_0 8 rfl rfl)
theorem dX1_pageOf_9 : decode cX1_pageOf 9 = .ok (.aload_n 2, 1) := dk_44 (dk_at dksX1_pageOf_0 9 rfl rfl)
theorem dX1_pageOf_10 : decode cX1_pageOf 10 = .ok (.ifnonnull 7, 3) := dk_199 0 7 (dk_at dksX1_pageOf_0 10 rfl rfl)
theorem dX1_pageOf_13 : decode cX1_pageOf 13 = .ok (.iconst (-1), 1) := dk_2 (dk_at dksX1_pageOf_0 13 rfl rfl)
theorem dX1_pageOf_14 : decode cX1_pageOf 14 = .ok (.goto 7, 3) := dk_167 0 7 (dk_at dksX1_pageOf_0 14 rfl rfl)
theorem dX1_pageOf_17 : decode cX1_pageOf 17 = .ok (.aload_n 2, 1) := dk_44 (dk_at dksX1_pageOf_0 17 rfl rfl)
theorem dX1_pageOf_18 : decode cX1_pageOf 18 = .ok (.getfield 269, 3) := dk_180 1 13 (dk_at dksX1_pageOf_0 18 rfl rfl)
theorem dX1_pageOf_21 : decode cX1_pageOf 21 = .ok (.ireturn, 1) := dk_172 (dk_at dksX1_pageOf_0 21 rfl rfl)
abbrev cX1_county : ByteArray := prog_1_method_26_code
def yX1_county : MethodName := ⟨RX1, "county", "(II)I"⟩
def dkwX1_county_6 : List UInt8 := [172, 42, 180, 0, 83, 27, 182, 1, 88, 172, 42, 180, 0, 83, 27, 182, 1, 91, 172]
abbrev dktX1_county_6 : List UInt8 := dkwX1_county_6 ++ []
def dkwX1_county_5 : List UInt8 := [2, 167, 0, 17, 25, 4, 180, 1, 48, 182, 1, 81, 192, 1, 14, 180, 1, 13, 172, 25, 4, 184, 1, 84]
abbrev dktX1_county_5 : List UInt8 := dkwX1_county_5 ++ dktX1_county_6
def dkwX1_county_4 : List UInt8 := [172, 25, 4, 199, 0, 7, 3, 167, 0, 11, 25, 4, 180, 1, 48, 182, 1, 39, 172, 25, 4, 199, 0, 7]
abbrev dktX1_county_4 : List UInt8 := dkwX1_county_4 ++ dktX1_county_5
def dkwX1_county_3 : List UInt8 := [42, 180, 0, 83, 27, 182, 1, 72, 172, 42, 27, 42, 180, 0, 69, 180, 0, 184, 182, 1, 75, 184, 1, 78]
abbrev dktX1_county_3 : List UInt8 := dkwX1_county_3 ++ dktX1_county_4
def dkwX1_county_2 : List UInt8 := [170, 0, 0, 0, 0, 0, 121, 0, 0, 0, 0, 0, 0, 0, 5, 0, 0, 0, 39, 0, 0, 0, 48, 0, 0, 0, 64, 0, 0, 0, 82, 0, 0, 0, 106, 0, 0, 0, 112]
abbrev dktX1_county_2 : List UInt8 := dkwX1_county_2 ++ dktX1_county_3
def dkwX1_county_1 : List UInt8 := [182, 1, 68, 58, 4, 28]
abbrev dktX1_county_1 : List UInt8 := dkwX1_county_1 ++ dktX1_county_2
def dkwX1_county_0 : List UInt8 := [42, 27, 182, 1, 62, 78, 28, 133, 9, 20, 1, 66, 184, 0, 20, 184, 0, 24, 42, 182, 0, 249, 27]
abbrev dktX1_county_0 : List UInt8 := dkwX1_county_0 ++ dktX1_county_1
theorem dksX1_county_0 : cX1_county.data.toList.drop 0 = dktX1_county_0 := by decide +kernel
theorem dksX1_county_1 : cX1_county.data.toList.drop 23 = dktX1_county_1 := dk_seg dksX1_county_0 23 rfl rfl
theorem dksX1_county_2 : cX1_county.data.toList.drop 29 = dktX1_county_2 := dk_seg dksX1_county_1 6 rfl rfl
theorem dksX1_county_3 : cX1_county.data.toList.drop 68 = dktX1_county_3 := dk_seg dksX1_county_2 39 rfl rfl
theorem dksX1_county_4 : cX1_county.data.toList.drop 92 = dktX1_county_4 := dk_seg dksX1_county_3 24 rfl rfl
theorem dksX1_county_5 : cX1_county.data.toList.drop 116 = dktX1_county_5 := dk_seg dksX1_county_4 24 rfl rfl
theorem dksX1_county_6 : cX1_county.data.toList.drop 140 = dktX1_county_6 := dk_seg dksX1_county_5 24 rfl rfl
theorem dX1_county_0 : decode cX1_county 0 = .ok (.aload_n 0, 1) := dk_42 (dk_at dksX1_county_0 0 rfl rfl)
theorem dX1_county_1 : decode cX1_county 1 = .ok (.iload_n 1, 1) := dk_27 (dk_at dksX1_county_0 1 rfl rfl)
theorem dX1_county_2 : decode cX1_county 2 = .ok (.invokevirtual 318, 3) := dk_182 1 62 (dk_at dksX1_county_0 2 rfl rfl)
theorem dX1_county_5 : decode cX1_county 5 = .ok (.astore_n 3, 1) := dk_78 (dk_at dksX1_county_0 5 rfl rfl)
theorem dX1_county_6 : decode cX1_county 6 = .ok (.iload_n 2, 1) := dk_28 (dk_at dksX1_county_0 6 rfl rfl)
theorem dX1_county_7 : decode cX1_county 7 = .ok (.i2l, 1) := dk_133 (dk_at dksX1_county_0 7 rfl rfl)
theorem dX1_county_8 : decode cX1_county 8 = .ok (.lconst 0, 1) := dk_9 (dk_at dksX1_county_0 8 rfl rfl)
theorem dX1_county_9 : decode cX1_county 9 = .ok (.ldc2_w 322, 3) := dk_20 1 66 (dk_at dksX1_county_0 9 rfl rfl)
theorem dX1_county_12 : decode cX1_county 12 = .ok (.invokestatic 20, 3) := dk_184 0 20 (dk_at dksX1_county_0 12 rfl rfl)
theorem dX1_county_15 : decode cX1_county 15 = .ok (.invokestatic 24, 3) := dk_184 0 24 (dk_at dksX1_county_0 15 rfl rfl)
theorem dX1_county_18 : decode cX1_county 18 = .ok (.aload_n 0, 1) := dk_42 (dk_at dksX1_county_0 18 rfl rfl)
theorem dX1_county_19 : decode cX1_county 19 = .ok (.invokevirtual 249, 3) := dk_182 0 249 (dk_at dksX1_county_0 19 rfl rfl)
theorem dX1_county_22 : decode cX1_county 22 = .ok (.iload_n 1, 1) := dk_27 (dk_at dksX1_county_0 22 rfl rfl)
theorem dX1_county_23 : decode cX1_county 23 = .ok (.invokevirtual 324, 3) := dk_182 1 68 (dk_at dksX1_county_1 0 rfl rfl)
theorem dX1_county_26 : decode cX1_county 26 = .ok (.astore 4, 2) := dk_58 4 (dk_at dksX1_county_1 3 rfl rfl)
theorem dX1_county_28 : decode cX1_county 28 = .ok (.iload_n 2, 1) := dk_28 (dk_at dksX1_county_1 5 rfl rfl)
theorem dX1_county_29 : decode cX1_county 29 = .ok (.tableswitch 121 0 5 #[39, 48, 64, 82, 106, 112], 39) := by decide +kernel
theorem dX1_county_68 : decode cX1_county 68 = .ok (.aload_n 0, 1) := dk_42 (dk_at dksX1_county_3 0 rfl rfl)
theorem dX1_county_69 : decode cX1_county 69 = .ok (.getfield 83, 3) := dk_180 0 83 (dk_at dksX1_county_3 1 rfl rfl)
theorem dX1_county_72 : decode cX1_county 72 = .ok (.iload_n 1, 1) := dk_27 (dk_at dksX1_county_3 4 rfl rfl)
theorem dX1_county_73 : decode cX1_county 73 = .ok (.invokevirtual 328, 3) := dk_182 1 72 (dk_at dksX1_county_3 5 rfl rfl)
theorem dX1_county_76 : decode cX1_county 76 = .ok (.ireturn, 1) := dk_172 (dk_at dksX1_county_3 8 rfl rfl)
theorem dX1_county_77 : decode cX1_county 77 = .ok (.aload_n 0, 1) := dk_42 (dk_at dksX1_county_3 9 rfl rfl)
theorem dX1_county_78 : decode cX1_county 78 = .ok (.iload_n 1, 1) := dk_27 (dk_at dksX1_county_3 10 rfl rfl)
theorem dX1_county_79 : decode cX1_county 79 = .ok (.aload_n 0, 1) := dk_42 (dk_at dksX1_county_3 11 rfl rfl)
theorem dX1_county_80 : decode cX1_county 80 = .ok (.getfield 69, 3) := dk_180 0 69 (dk_at dksX1_county_3 12 rfl rfl)
theorem dX1_county_83 : decode cX1_county 83 = .ok (.getfield 184, 3) := dk_180 0 184 (dk_at dksX1_county_3 15 rfl rfl)
theorem dX1_county_86 : decode cX1_county 86 = .ok (.invokevirtual 331, 3) := dk_182 1 75 (dk_at dksX1_county_3 18 rfl rfl)
theorem dX1_county_89 : decode cX1_county 89 = .ok (.invokestatic 334, 3) := dk_184 1 78 (dk_at dksX1_county_3 21 rfl rfl)
theorem dX1_county_92 : decode cX1_county 92 = .ok (.ireturn, 1) := dk_172 (dk_at dksX1_county_4 0 rfl rfl)
theorem dX1_county_93 : decode cX1_county 93 = .ok (.aload 4, 2) := dk_25 4 (dk_at dksX1_county_4 1 rfl rfl)
theorem dX1_county_95 : decode cX1_county 95 = .ok (.ifnonnull 7, 3) := dk_199 0 7 (dk_at dksX1_county_4 3 rfl rfl)
theorem dX1_county_98 : decode cX1_county 98 = .ok (.iconst 0, 1) := dk_3 (dk_at dksX1_county_4 6 rfl rfl)
theorem dX1_county_99 : decode cX1_county 99 = .ok (.goto 11, 3) := dk_167 0 11 (dk_at dksX1_county_4 7 rfl rfl)
theorem dX1_county_102 : decode cX1_county 102 = .ok (.aload 4, 2) := dk_25 4 (dk_at dksX1_county_4 10 rfl rfl)
theorem dX1_county_104 : decode cX1_county 104 = .ok (.getfield 304, 3) := dk_180 1 48 (dk_at dksX1_county_4 12 rfl rfl)
theorem dX1_county_107 : decode cX1_county 107 = .ok (.invokevirtual 295, 3) := dk_182 1 39 (dk_at dksX1_county_4 15 rfl rfl)
theorem dX1_county_110 : decode cX1_county 110 = .ok (.ireturn, 1) := dk_172 (dk_at dksX1_county_4 18 rfl rfl)
theorem dX1_county_111 : decode cX1_county 111 = .ok (.aload 4, 2) := dk_25 4 (dk_at dksX1_county_4 19 rfl rfl)
theorem dX1_county_113 : decode cX1_county 113 = .ok (.ifnonnull 7, 3) := dk_199 0 7 (dk_at dksX1_county_4 21 rfl rfl)
theorem dX1_county_116 : decode cX1_county 116 = .ok (.iconst (-1), 1) := dk_2 (dk_at dksX1_county_5 0 rfl rfl)
theorem dX1_county_117 : decode cX1_county 117 = .ok (.goto 17, 3) := dk_167 0 17 (dk_at dksX1_county_5 1 rfl rfl)
theorem dX1_county_120 : decode cX1_county 120 = .ok (.aload 4, 2) := dk_25 4 (dk_at dksX1_county_5 4 rfl rfl)
theorem dX1_county_122 : decode cX1_county 122 = .ok (.getfield 304, 3) := dk_180 1 48 (dk_at dksX1_county_5 6 rfl rfl)
theorem dX1_county_125 : decode cX1_county 125 = .ok (.invokevirtual 337, 3) := dk_182 1 81 (dk_at dksX1_county_5 9 rfl rfl)
theorem dX1_county_128 : decode cX1_county 128 = .ok (.checkcast 270, 3) := dk_192 1 14 (dk_at dksX1_county_5 12 rfl rfl)
theorem dX1_county_131 : decode cX1_county 131 = .ok (.getfield 269, 3) := dk_180 1 13 (dk_at dksX1_county_5 15 rfl rfl)
theorem dX1_county_134 : decode cX1_county 134 = .ok (.ireturn, 1) := dk_172 (dk_at dksX1_county_5 18 rfl rfl)
theorem dX1_county_135 : decode cX1_county 135 = .ok (.aload 4, 2) := dk_25 4 (dk_at dksX1_county_5 19 rfl rfl)
theorem dX1_county_137 : decode cX1_county 137 = .ok (.invokestatic 340, 3) := dk_184 1 84 (dk_at dksX1_county_5 21 rfl rfl)
theorem dX1_county_140 : decode cX1_county 140 = .ok (.ireturn, 1) := dk_172 (dk_at dksX1_county_6 0 rfl rfl)
theorem dX1_county_141 : decode cX1_county 141 = .ok (.aload_n 0, 1) := dk_42 (dk_at dksX1_county_6 1 rfl rfl)
theorem dX1_county_142 : decode cX1_county 142 = .ok (.getfield 83, 3) := dk_180 0 83 (dk_at dksX1_county_6 2 rfl rfl)
theorem dX1_county_145 : decode cX1_county 145 = .ok (.iload_n 1, 1) := dk_27 (dk_at dksX1_county_6 5 rfl rfl)
theorem dX1_county_146 : decode cX1_county 146 = .ok (.invokevirtual 344, 3) := dk_182 1 88 (dk_at dksX1_county_6 6 rfl rfl)
theorem dX1_county_149 : decode cX1_county 149 = .ok (.ireturn, 1) := dk_172 (dk_at dksX1_county_6 9 rfl rfl)
theorem dX1_county_150 : decode cX1_county 150 = .ok (.aload_n 0, 1) := dk_42 (dk_at dksX1_county_6 10 rfl rfl)
theorem dX1_county_151 : decode cX1_county 151 = .ok (.getfield 83, 3) := dk_180 0 83 (dk_at dksX1_county_6 11 rfl rfl)
theorem dX1_county_154 : decode cX1_county 154 = .ok (.iload_n 1, 1) := dk_27 (dk_at dksX1_county_6 14 rfl rfl)
theorem dX1_county_155 : decode cX1_county 155 = .ok (.invokevirtual 347, 3) := dk_182 1 91 (dk_at dksX1_county_6 15 rfl rfl)
theorem dX1_county_158 : decode cX1_county 158 = .ok (.ireturn, 1) := dk_172 (dk_at dksX1_county_6 18 rfl rfl)
abbrev cX1_countyAt : ByteArray := prog_1_method_20_code
def yX1_countyAt : MethodName := ⟨RX1, "countyAt", "(I)LCountyGazetteer$County;"⟩
def dkwX1_countyAt_1 : List UInt8 := [42, 180, 0, 69, 180, 0, 38, 27, 185, 0, 224, 2, 0, 192, 0, 42, 176]
abbrev dktX1_countyAt_1 : List UInt8 := dkwX1_countyAt_1 ++ []
def dkwX1_countyAt_0 : List UInt8 := [27, 133, 9, 42, 180, 0, 69, 180, 0, 38, 185, 0, 124, 1, 0, 4, 100, 133, 184, 0, 20, 184, 0, 221]
abbrev dktX1_countyAt_0 : List UInt8 := dkwX1_countyAt_0 ++ dktX1_countyAt_1
theorem dksX1_countyAt_0 : cX1_countyAt.data.toList.drop 0 = dktX1_countyAt_0 := by decide +kernel
theorem dksX1_countyAt_1 : cX1_countyAt.data.toList.drop 24 = dktX1_countyAt_1 := dk_seg dksX1_countyAt_0 24 rfl rfl
theorem dX1_countyAt_0 : decode cX1_countyAt 0 = .ok (.iload_n 1, 1) := dk_27 (dk_at dksX1_countyAt_0 0 rfl rfl)
theorem dX1_countyAt_1 : decode cX1_countyAt 1 = .ok (.i2l, 1) := dk_133 (dk_at dksX1_countyAt_0 1 rfl rfl)
theorem dX1_countyAt_2 : decode cX1_countyAt 2 = .ok (.lconst 0, 1) := dk_9 (dk_at dksX1_countyAt_0 2 rfl rfl)
theorem dX1_countyAt_3 : decode cX1_countyAt 3 = .ok (.aload_n 0, 1) := dk_42 (dk_at dksX1_countyAt_0 3 rfl rfl)
theorem dX1_countyAt_4 : decode cX1_countyAt 4 = .ok (.getfield 69, 3) := dk_180 0 69 (dk_at dksX1_countyAt_0 4 rfl rfl)
theorem dX1_countyAt_7 : decode cX1_countyAt 7 = .ok (.getfield 38, 3) := dk_180 0 38 (dk_at dksX1_countyAt_0 7 rfl rfl)
theorem dX1_countyAt_10 : decode cX1_countyAt 10 = .ok (.invokeinterface 124 1, 5) := by decide +kernel
theorem dX1_countyAt_15 : decode cX1_countyAt 15 = .ok (.iconst 1, 1) := dk_4 (dk_at dksX1_countyAt_0 15 rfl rfl)
theorem dX1_countyAt_16 : decode cX1_countyAt 16 = .ok (.isub, 1) := dk_100 (dk_at dksX1_countyAt_0 16 rfl rfl)
theorem dX1_countyAt_17 : decode cX1_countyAt 17 = .ok (.i2l, 1) := dk_133 (dk_at dksX1_countyAt_0 17 rfl rfl)
theorem dX1_countyAt_18 : decode cX1_countyAt 18 = .ok (.invokestatic 20, 3) := dk_184 0 20 (dk_at dksX1_countyAt_0 18 rfl rfl)
theorem dX1_countyAt_21 : decode cX1_countyAt 21 = .ok (.invokestatic 221, 3) := dk_184 0 221 (dk_at dksX1_countyAt_0 21 rfl rfl)
theorem dX1_countyAt_24 : decode cX1_countyAt 24 = .ok (.aload_n 0, 1) := dk_42 (dk_at dksX1_countyAt_1 0 rfl rfl)
theorem dX1_countyAt_25 : decode cX1_countyAt 25 = .ok (.getfield 69, 3) := dk_180 0 69 (dk_at dksX1_countyAt_1 1 rfl rfl)
theorem dX1_countyAt_28 : decode cX1_countyAt 28 = .ok (.getfield 38, 3) := dk_180 0 38 (dk_at dksX1_countyAt_1 4 rfl rfl)
theorem dX1_countyAt_31 : decode cX1_countyAt 31 = .ok (.iload_n 1, 1) := dk_27 (dk_at dksX1_countyAt_1 7 rfl rfl)
theorem dX1_countyAt_32 : decode cX1_countyAt 32 = .ok (.invokeinterface 224 2, 5) := by decide +kernel
theorem dX1_countyAt_37 : decode cX1_countyAt 37 = .ok (.checkcast 42, 3) := dk_192 0 42 (dk_at dksX1_countyAt_1 13 rfl rfl)
theorem dX1_countyAt_40 : decode cX1_countyAt 40 = .ok (.areturn, 1) := dk_176 (dk_at dksX1_countyAt_1 16 rfl rfl)
abbrev cX1_checkArgument : ByteArray := prog_1_method_3_code
def yX1_checkArgument : MethodName := ⟨RX1, "checkArgument", "(Z)V"⟩
def dkwX1_checkArgument_0 : List UInt8 := [26, 154, 0, 11, 187, 0, 7, 89, 183, 0, 9, 191, 177]
abbrev dktX1_checkArgument_0 : List UInt8 := dkwX1_checkArgument_0 ++ []
theorem dksX1_checkArgument_0 : cX1_checkArgument.data.toList.drop 0 = dktX1_checkArgument_0 := by decide +kernel
theorem dX1_checkArgument_0 : decode cX1_checkArgument 0 = .ok (.iload_n 0, 1) := dk_26 (dk_at dksX1_checkArgument_0 0 rfl rfl)
theorem dX1_checkArgument_1 : decode cX1_checkArgument 1 = .ok (.ifCond .ne 11, 3) := dk_154 0 11 (dk_at dksX1_checkArgument_0 1 rfl rfl)
theorem dX1_checkArgument_4 : decode cX1_checkArgument 4 = .ok (.new 7, 3) := dk_187 0 7 (dk_at dksX1_checkArgument_0 4 rfl rfl)
theorem dX1_checkArgument_7 : decode cX1_checkArgument 7 = .ok (.dup, 1) := dk_89 (dk_at dksX1_checkArgument_0 7 rfl rfl)
theorem dX1_checkArgument_8 : decode cX1_checkArgument 8 = .ok (.invokespecial 9, 3) := dk_183 0 9 (dk_at dksX1_checkArgument_0 8 rfl rfl)
theorem dX1_checkArgument_11 : decode cX1_checkArgument 11 = .ok (.athrow, 1) := dk_191 (dk_at dksX1_checkArgument_0 11 rfl rfl)
theorem dX1_checkArgument_12 : decode cX1_checkArgument 12 = .ok (.return_, 1) := dk_177 (dk_at dksX1_checkArgument_0 12 rfl rfl)
abbrev cX1_pagesOf : ByteArray := prog_1_method_25_code
def yX1_pagesOf : MethodName := ⟨RX1, "pagesOf", "(LCountyGazetteer$Block;)I"⟩
def dkwX1_pagesOf_2 : List UInt8 := [182, 1, 55, 167, 255, 229, 43, 182, 1, 59, 172]
abbrev dktX1_pagesOf_2 : List UInt8 := dkwX1_pagesOf_2 ++ []
def dkwX1_pagesOf_1 : List UInt8 := [185, 0, 156, 1, 0, 153, 0, 24, 44, 185, 0, 162, 1, 0, 192, 1, 14, 78, 43, 45, 180, 1, 13]
abbrev dktX1_pagesOf_1 : List UInt8 := dkwX1_pagesOf_1 ++ dktX1_pagesOf_2
def dkwX1_pagesOf_0 : List UInt8 := [187, 1, 45, 89, 183, 1, 47, 76, 42, 198, 0, 41, 42, 180, 1, 48, 182, 1, 54, 77, 44]
abbrev dktX1_pagesOf_0 : List UInt8 := dkwX1_pagesOf_0 ++ dktX1_pagesOf_1
theorem dksX1_pagesOf_0 : cX1_pagesOf.data.toList.drop 0 = dktX1_pagesOf_0 := by decide +kernel
theorem dksX1_pagesOf_1 : cX1_pagesOf.data.toList.drop 21 = dktX1_pagesOf_1 := dk_seg dksX1_pagesOf_0 21 rfl rfl
theorem dksX1_pagesOf_2 : cX1_pagesOf.data.toList.drop 44 = dktX1_pagesOf_2 := dk_seg dksX1_pagesOf_1 23 rfl rfl
theorem dX1_pagesOf_0 : decode cX1_pagesOf 0 = .ok (.new 301, 3) := dk_187 1 45 (dk_at dksX1_pagesOf_0 0 rfl rfl)
theorem dX1_pagesOf_3 : decode cX1_pagesOf 3 = .ok (.dup, 1) := dk_89 (dk_at dksX1_pagesOf_0 3 rfl rfl)
theorem dX1_pagesOf_4 : decode cX1_pagesOf 4 = .ok (.invokespecial 303, 3) := dk_183 1 47 (dk_at dksX1_pagesOf_0 4 rfl rfl)
theorem dX1_pagesOf_7 : decode cX1_pagesOf 7 = .ok (.astore_n 1, 1) := dk_76 (dk_at dksX1_pagesOf_0 7 rfl rfl)
theorem dX1_pagesOf_8 : decode cX1_pagesOf 8 = .ok (.aload_n 0, 1) := dk_42 (dk_at dksX1_pagesOf_0 8 rfl rfl)
theorem dX1_pagesOf_9 : decode cX1_pagesOf 9 = .ok (.ifnull 41, 3) := dk_198 0 41 (dk_at dksX1_pagesOf_0 9 rfl rfl)
theorem dX1_pagesOf_12 : decode cX1_pagesOf 12 = .ok (.aload_n 0, 1) := dk_42 (dk_at dksX1_pagesOf_0 12 rfl rfl)
theorem dX1_pagesOf_13 : decode cX1_pagesOf 13 = .ok (.getfield 304, 3) := dk_180 1 48 (dk_at dksX1_pagesOf_0 13 rfl rfl)
theorem dX1_pagesOf_16 : decode cX1_pagesOf 16 = .ok (.invokevirtual 310, 3) := dk_182 1 54 (dk_at dksX1_pagesOf_0 16 rfl rfl)
theorem dX1_pagesOf_19 : decode cX1_pagesOf 19 = .ok (.astore_n 2, 1) := dk_77 (dk_at dksX1_pagesOf_0 19 rfl rfl)
theorem dX1_pagesOf_20 : decode cX1_pagesOf 20 = .ok (.aload_n 2, 1) := dk_44 (dk_at dksX1_pagesOf_0 20 rfl rfl)
theorem dX1_pagesOf_21 : decode cX1_pagesOf 21 = .ok (.invokeinterface 156 1, 5) := by decide +kernel
theorem dX1_pagesOf_26 : decode cX1_pagesOf 26 = .ok (.ifCond .eq 24, 3) := dk_153 0 24 (dk_at dksX1_pagesOf_1 5 rfl rfl)
theorem dX1_pagesOf_29 : decode cX1_pagesOf 29 = .ok (.aload_n 2, 1) := dk_44 (dk_at dksX1_pagesOf_1 8 rfl rfl)
theorem dX1_pagesOf_30 : decode cX1_pagesOf 30 = .ok (.invokeinterface 162 1, 5) := by decide +kernel
theorem dX1_pagesOf_35 : decode cX1_pagesOf 35 = .ok (.checkcast 270, 3) := dk_192 1 14 (dk_at dksX1_pagesOf_1 14 rfl rfl)
theorem dX1_pagesOf_38 : decode cX1_pagesOf 38 = .ok (.astore_n 3, 1) := dk_78 (dk_at dksX1_pagesOf_1 17 rfl rfl)
theorem dX1_pagesOf_39 : decode cX1_pagesOf 39 = .ok (.aload_n 1, 1) := dk_43 (dk_at dksX1_pagesOf_1 18 rfl rfl)
theorem dX1_pagesOf_40 : decode cX1_pagesOf 40 = .ok (.aload_n 3, 1) := dk_45 (dk_at dksX1_pagesOf_1 19 rfl rfl)
theorem dX1_pagesOf_41 : decode cX1_pagesOf 41 = .ok (.getfield 269, 3) := dk_180 1 13 (dk_at dksX1_pagesOf_1 20 rfl rfl)
theorem dX1_pagesOf_44 : decode cX1_pagesOf 44 = .ok (.invokevirtual 311, 3) := dk_182 1 55 (dk_at dksX1_pagesOf_2 0 rfl rfl)
theorem dX1_pagesOf_47 : decode cX1_pagesOf 47 = .ok (.goto (-27), 3) := dk_167 255 229 (dk_at dksX1_pagesOf_2 3 rfl rfl)
theorem dX1_pagesOf_50 : decode cX1_pagesOf 50 = .ok (.aload_n 1, 1) := dk_43 (dk_at dksX1_pagesOf_2 6 rfl rfl)
theorem dX1_pagesOf_51 : decode cX1_pagesOf 51 = .ok (.invokevirtual 315, 3) := dk_182 1 59 (dk_at dksX1_pagesOf_2 7 rfl rfl)
theorem dX1_pagesOf_54 : decode cX1_pagesOf 54 = .ok (.ireturn, 1) := dk_172 (dk_at dksX1_pagesOf_2 10 rfl rfl)
abbrev cX1_reform : ByteArray := prog_1_method_28_code
def yX1_reform : MethodName := ⟨RX1, "reform", "(II)I"⟩
def dkwX1_reform_5 : List UInt8 := [185, 1, 105, 1, 0, 172, 45, 185, 1, 102, 1, 0, 172, 42, 45, 182, 1, 108, 172]
abbrev dktX1_reform_5 : List UInt8 := dkwX1_reform_5 ++ []
def dkwX1_reform_4 : List UInt8 := [45, 185, 1, 94, 1, 0, 172, 45, 185, 1, 102, 1, 0, 2, 160, 0, 7, 3, 167, 0, 4, 4, 172, 45]
abbrev dktX1_reform_4 : List UInt8 := dkwX1_reform_4 ++ dktX1_reform_5
def dkwX1_reform_3 : List UInt8 := [170, 0, 0, 0, 0, 67, 0, 0, 0, 0, 0, 0, 0, 3, 0, 0, 0, 30, 0, 0, 0, 37, 0, 0, 0, 53, 0, 0, 0, 60]
abbrev dktX1_reform_3 : List UInt8 := dkwX1_reform_3 ++ dktX1_reform_4
def dkwX1_reform_2 : List UInt8 := [185, 0, 224, 2, 0, 192, 0, 178, 78, 28]
abbrev dktX1_reform_2 : List UInt8 := dkwX1_reform_2 ++ dktX1_reform_3
def dkwX1_reform_1 : List UInt8 := [28, 133, 9, 20, 1, 100, 184, 0, 20, 184, 0, 24, 42, 180, 0, 69, 180, 0, 232, 27]
abbrev dktX1_reform_1 : List UInt8 := dkwX1_reform_1 ++ dktX1_reform_2
def dkwX1_reform_0 : List UInt8 := [27, 133, 9, 42, 180, 0, 69, 180, 0, 232, 185, 0, 124, 1, 0, 4, 100, 133, 184, 0, 20, 184, 0, 221]
abbrev dktX1_reform_0 : List UInt8 := dkwX1_reform_0 ++ dktX1_reform_1
theorem dksX1_reform_0 : cX1_reform.data.toList.drop 0 = dktX1_reform_0 := by decide +kernel
theorem dksX1_reform_1 : cX1_reform.data.toList.drop 24 = dktX1_reform_1 := dk_seg dksX1_reform_0 24 rfl rfl
theorem dksX1_reform_2 : cX1_reform.data.toList.drop 44 = dktX1_reform_2 := dk_seg dksX1_reform_1 20 rfl rfl
theorem dksX1_reform_3 : cX1_reform.data.toList.drop 54 = dktX1_reform_3 := dk_seg dksX1_reform_2 10 rfl rfl
theorem dksX1_reform_4 : cX1_reform.data.toList.drop 84 = dktX1_reform_4 := dk_seg dksX1_reform_3 30 rfl rfl
theorem dksX1_reform_5 : cX1_reform.data.toList.drop 108 = dktX1_reform_5 := dk_seg dksX1_reform_4 24 rfl rfl
theorem dX1_reform_0 : decode cX1_reform 0 = .ok (.iload_n 1, 1) := dk_27 (dk_at dksX1_reform_0 0 rfl rfl)
theorem dX1_reform_1 : decode cX1_reform 1 = .ok (.i2l, 1) := dk_133 (dk_at dksX1_reform_0 1 rfl rfl)
theorem dX1_reform_2 : decode cX1_reform 2 = .ok (.lconst 0, 1) := dk_9 (dk_at dksX1_reform_0 2 rfl rfl)
theorem dX1_reform_3 : decode cX1_reform 3 = .ok (.aload_n 0, 1) := dk_42 (dk_at dksX1_reform_0 3 rfl rfl)
theorem dX1_reform_4 : decode cX1_reform 4 = .ok (.getfield 69, 3) := dk_180 0 69 (dk_at dksX1_reform_0 4 rfl rfl)
theorem dX1_reform_7 : decode cX1_reform 7 = .ok (.getfield 232, 3) := dk_180 0 232 (dk_at dksX1_reform_0 7 rfl rfl)
theorem dX1_reform_10 : decode cX1_reform 10 = .ok (.invokeinterface 124 1, 5) := by decide +kernel
theorem dX1_reform_15 : decode cX1_reform 15 = .ok (.iconst 1, 1) := dk_4 (dk_at dksX1_reform_0 15 rfl rfl)
theorem dX1_reform_16 : decode cX1_reform 16 = .ok (.isub, 1) := dk_100 (dk_at dksX1_reform_0 16 rfl rfl)
theorem dX1_reform_17 : decode cX1_reform 17 = .ok (.i2l, 1) := dk_133 (dk_at dksX1_reform_0 17 rfl rfl)
theorem dX1_reform_18 : decode cX1_reform 18 = .ok (.invokestatic 20, 3) := dk_184 0 20 (dk_at dksX1_reform_0 18 rfl rfl)
theorem dX1_reform_21 : decode cX1_reform 21 = .ok (.invokestatic 221, 3) := dk_184 0 221 (dk_at dksX1_reform_0 21 rfl rfl)
theorem dX1_reform_24 : decode cX1_reform 24 = .ok (.iload_n 2, 1) := dk_28 (dk_at dksX1_reform_1 0 rfl rfl)
theorem dX1_reform_25 : decode cX1_reform 25 = .ok (.i2l, 1) := dk_133 (dk_at dksX1_reform_1 1 rfl rfl)
theorem dX1_reform_26 : decode cX1_reform 26 = .ok (.lconst 0, 1) := dk_9 (dk_at dksX1_reform_1 2 rfl rfl)
theorem dX1_reform_27 : decode cX1_reform 27 = .ok (.ldc2_w 356, 3) := dk_20 1 100 (dk_at dksX1_reform_1 3 rfl rfl)
theorem dX1_reform_30 : decode cX1_reform 30 = .ok (.invokestatic 20, 3) := dk_184 0 20 (dk_at dksX1_reform_1 6 rfl rfl)
theorem dX1_reform_33 : decode cX1_reform 33 = .ok (.invokestatic 24, 3) := dk_184 0 24 (dk_at dksX1_reform_1 9 rfl rfl)
theorem dX1_reform_36 : decode cX1_reform 36 = .ok (.aload_n 0, 1) := dk_42 (dk_at dksX1_reform_1 12 rfl rfl)
theorem dX1_reform_37 : decode cX1_reform 37 = .ok (.getfield 69, 3) := dk_180 0 69 (dk_at dksX1_reform_1 13 rfl rfl)
theorem dX1_reform_40 : decode cX1_reform 40 = .ok (.getfield 232, 3) := dk_180 0 232 (dk_at dksX1_reform_1 16 rfl rfl)
theorem dX1_reform_43 : decode cX1_reform 43 = .ok (.iload_n 1, 1) := dk_27 (dk_at dksX1_reform_1 19 rfl rfl)
theorem dX1_reform_44 : decode cX1_reform 44 = .ok (.invokeinterface 224 2, 5) := by decide +kernel
theorem dX1_reform_49 : decode cX1_reform 49 = .ok (.checkcast 178, 3) := dk_192 0 178 (dk_at dksX1_reform_2 5 rfl rfl)
theorem dX1_reform_52 : decode cX1_reform 52 = .ok (.astore_n 3, 1) := dk_78 (dk_at dksX1_reform_2 8 rfl rfl)
theorem dX1_reform_53 : decode cX1_reform 53 = .ok (.iload_n 2, 1) := dk_28 (dk_at dksX1_reform_2 9 rfl rfl)
theorem dX1_reform_54 : decode cX1_reform 54 = .ok (.tableswitch 67 0 3 #[30, 37, 53, 60], 30) := by decide +kernel
theorem dX1_reform_84 : decode cX1_reform 84 = .ok (.aload_n 3, 1) := dk_45 (dk_at dksX1_reform_4 0 rfl rfl)
theorem dX1_reform_85 : decode cX1_reform 85 = .ok (.invokeinterface 350 1, 5) := by decide +kernel
theorem dX1_reform_90 : decode cX1_reform 90 = .ok (.ireturn, 1) := dk_172 (dk_at dksX1_reform_4 6 rfl rfl)
theorem dX1_reform_91 : decode cX1_reform 91 = .ok (.aload_n 3, 1) := dk_45 (dk_at dksX1_reform_4 7 rfl rfl)
theorem dX1_reform_92 : decode cX1_reform 92 = .ok (.invokeinterface 358 1, 5) := by decide +kernel
theorem dX1_reform_97 : decode cX1_reform 97 = .ok (.iconst (-1), 1) := dk_2 (dk_at dksX1_reform_4 13 rfl rfl)
theorem dX1_reform_98 : decode cX1_reform 98 = .ok (.if_icmp .ne 7, 3) := dk_160 0 7 (dk_at dksX1_reform_4 14 rfl rfl)
theorem dX1_reform_101 : decode cX1_reform 101 = .ok (.iconst 0, 1) := dk_3 (dk_at dksX1_reform_4 17 rfl rfl)
theorem dX1_reform_102 : decode cX1_reform 102 = .ok (.goto 4, 3) := dk_167 0 4 (dk_at dksX1_reform_4 18 rfl rfl)
theorem dX1_reform_105 : decode cX1_reform 105 = .ok (.iconst 1, 1) := dk_4 (dk_at dksX1_reform_4 21 rfl rfl)
theorem dX1_reform_106 : decode cX1_reform 106 = .ok (.ireturn, 1) := dk_172 (dk_at dksX1_reform_4 22 rfl rfl)
theorem dX1_reform_107 : decode cX1_reform 107 = .ok (.aload_n 3, 1) := dk_45 (dk_at dksX1_reform_4 23 rfl rfl)
theorem dX1_reform_108 : decode cX1_reform 108 = .ok (.invokeinterface 361 1, 5) := by decide +kernel
theorem dX1_reform_113 : decode cX1_reform 113 = .ok (.ireturn, 1) := dk_172 (dk_at dksX1_reform_5 5 rfl rfl)
theorem dX1_reform_114 : decode cX1_reform 114 = .ok (.aload_n 3, 1) := dk_45 (dk_at dksX1_reform_5 6 rfl rfl)
theorem dX1_reform_115 : decode cX1_reform 115 = .ok (.invokeinterface 358 1, 5) := by decide +kernel
theorem dX1_reform_120 : decode cX1_reform 120 = .ok (.ireturn, 1) := dk_172 (dk_at dksX1_reform_5 12 rfl rfl)
theorem dX1_reform_121 : decode cX1_reform 121 = .ok (.aload_n 0, 1) := dk_42 (dk_at dksX1_reform_5 13 rfl rfl)
theorem dX1_reform_122 : decode cX1_reform 122 = .ok (.aload_n 3, 1) := dk_45 (dk_at dksX1_reform_5 14 rfl rfl)
theorem dX1_reform_123 : decode cX1_reform 123 = .ok (.invokevirtual 364, 3) := dk_182 1 108 (dk_at dksX1_reform_5 15 rfl rfl)
theorem dX1_reform_126 : decode cX1_reform 126 = .ok (.ireturn, 1) := dk_172 (dk_at dksX1_reform_5 18 rfl rfl)
abbrev cX1_changedBy : ByteArray := prog_1_method_27_code
def yX1_changedBy : MethodName := ⟨RX1, "changedBy", "(LCountyGazetteer$Reform;)I"⟩
def dkwX1_changedBy_4 : List UInt8 := [167, 255, 215, 21, 4, 172]
abbrev dktX1_changedBy_4 : List UInt8 := dkwX1_changedBy_4 ++ []
def dkwX1_changedBy_3 : List UInt8 := [192, 0, 178, 58, 6, 25, 6, 44, 185, 0, 180, 2, 0, 54, 4, 25, 6, 43, 166, 0, 6, 21, 4, 172]
abbrev dktX1_changedBy_3 : List UInt8 := dkwX1_changedBy_3 ++ dktX1_changedBy_4
def dkwX1_changedBy_2 : List UInt8 := [182, 0, 177, 58, 5, 25, 5, 185, 0, 156, 1, 0, 153, 0, 37, 25, 5, 185, 0, 162, 1, 0]
abbrev dktX1_changedBy_2 : List UInt8 := dkwX1_changedBy_2 ++ dktX1_changedBy_3
def dkwX1_changedBy_1 : List UInt8 := [182, 0, 140, 43, 185, 1, 94, 1, 0, 184, 1, 96, 182, 0, 171, 192, 0, 175, 78, 3, 54, 4, 45]
abbrev dktX1_changedBy_1 : List UInt8 := dkwX1_changedBy_1 ++ dktX1_changedBy_2
def dkwX1_changedBy_0 : List UInt8 := [42, 180, 0, 83, 42, 180, 0, 69, 43, 185, 1, 94, 1, 0, 4, 100, 184, 0, 187, 77, 42, 180, 0, 69]
abbrev dktX1_changedBy_0 : List UInt8 := dkwX1_changedBy_0 ++ dktX1_changedBy_1
theorem dksX1_changedBy_0 : cX1_changedBy.data.toList.drop 0 = dktX1_changedBy_0 := by decide +kernel
theorem dksX1_changedBy_1 : cX1_changedBy.data.toList.drop 24 = dktX1_changedBy_1 := dk_seg dksX1_changedBy_0 24 rfl rfl
theorem dksX1_changedBy_2 : cX1_changedBy.data.toList.drop 47 = dktX1_changedBy_2 := dk_seg dksX1_changedBy_1 23 rfl rfl
theorem dksX1_changedBy_3 : cX1_changedBy.data.toList.drop 69 = dktX1_changedBy_3 := dk_seg dksX1_changedBy_2 22 rfl rfl
theorem dksX1_changedBy_4 : cX1_changedBy.data.toList.drop 93 = dktX1_changedBy_4 := dk_seg dksX1_changedBy_3 24 rfl rfl
theorem dX1_changedBy_0 : decode cX1_changedBy 0 = .ok (.aload_n 0, 1) := dk_42 (dk_at dksX1_changedBy_0 0 rfl rfl)
theorem dX1_changedBy_1 : decode cX1_changedBy 1 = .ok (.getfield 83, 3) := dk_180 0 83 (dk_at dksX1_changedBy_0 1 rfl rfl)
theorem dX1_changedBy_4 : decode cX1_changedBy 4 = .ok (.aload_n 0, 1) := dk_42 (dk_at dksX1_changedBy_0 4 rfl rfl)
theorem dX1_changedBy_5 : decode cX1_changedBy 5 = .ok (.getfield 69, 3) := dk_180 0 69 (dk_at dksX1_changedBy_0 5 rfl rfl)
theorem dX1_changedBy_8 : decode cX1_changedBy 8 = .ok (.aload_n 1, 1) := dk_43 (dk_at dksX1_changedBy_0 8 rfl rfl)
theorem dX1_changedBy_9 : decode cX1_changedBy 9 = .ok (.invokeinterface 350 1, 5) := by decide +kernel
theorem dX1_changedBy_14 : decode cX1_changedBy 14 = .ok (.iconst 1, 1) := dk_4 (dk_at dksX1_changedBy_0 14 rfl rfl)
theorem dX1_changedBy_15 : decode cX1_changedBy 15 = .ok (.isub, 1) := dk_100 (dk_at dksX1_changedBy_0 15 rfl rfl)
theorem dX1_changedBy_16 : decode cX1_changedBy 16 = .ok (.invokestatic 187, 3) := dk_184 0 187 (dk_at dksX1_changedBy_0 16 rfl rfl)
theorem dX1_changedBy_19 : decode cX1_changedBy 19 = .ok (.astore_n 2, 1) := dk_77 (dk_at dksX1_changedBy_0 19 rfl rfl)
theorem dX1_changedBy_20 : decode cX1_changedBy 20 = .ok (.aload_n 0, 1) := dk_42 (dk_at dksX1_changedBy_0 20 rfl rfl)
theorem dX1_changedBy_21 : decode cX1_changedBy 21 = .ok (.getfield 69, 3) := dk_180 0 69 (dk_at dksX1_changedBy_0 21 rfl rfl)
theorem dX1_changedBy_24 : decode cX1_changedBy 24 = .ok (.invokevirtual 140, 3) := dk_182 0 140 (dk_at dksX1_changedBy_1 0 rfl rfl)
theorem dX1_changedBy_27 : decode cX1_changedBy 27 = .ok (.aload_n 1, 1) := dk_43 (dk_at dksX1_changedBy_1 3 rfl rfl)
theorem dX1_changedBy_28 : decode cX1_changedBy 28 = .ok (.invokeinterface 350 1, 5) := by decide +kernel
theorem dX1_changedBy_33 : decode cX1_changedBy 33 = .ok (.invokestatic 352, 3) := dk_184 1 96 (dk_at dksX1_changedBy_1 9 rfl rfl)
theorem dX1_changedBy_36 : decode cX1_changedBy 36 = .ok (.invokevirtual 171, 3) := dk_182 0 171 (dk_at dksX1_changedBy_1 12 rfl rfl)
theorem dX1_changedBy_39 : decode cX1_changedBy 39 = .ok (.checkcast 175, 3) := dk_192 0 175 (dk_at dksX1_changedBy_1 15 rfl rfl)
theorem dX1_changedBy_42 : decode cX1_changedBy 42 = .ok (.astore_n 3, 1) := dk_78 (dk_at dksX1_changedBy_1 18 rfl rfl)
theorem dX1_changedBy_43 : decode cX1_changedBy 43 = .ok (.iconst 0, 1) := dk_3 (dk_at dksX1_changedBy_1 19 rfl rfl)
theorem dX1_changedBy_44 : decode cX1_changedBy 44 = .ok (.istore 4, 2) := dk_54 4 (dk_at dksX1_changedBy_1 20 rfl rfl)
theorem dX1_changedBy_46 : decode cX1_changedBy 46 = .ok (.aload_n 3, 1) := dk_45 (dk_at dksX1_changedBy_1 22 rfl rfl)
theorem dX1_changedBy_47 : decode cX1_changedBy 47 = .ok (.invokevirtual 177, 3) := dk_182 0 177 (dk_at dksX1_changedBy_2 0 rfl rfl)
theorem dX1_changedBy_50 : decode cX1_changedBy 50 = .ok (.astore 5, 2) := dk_58 5 (dk_at dksX1_changedBy_2 3 rfl rfl)
theorem dX1_changedBy_52 : decode cX1_changedBy 52 = .ok (.aload 5, 2) := dk_25 5 (dk_at dksX1_changedBy_2 5 rfl rfl)
theorem dX1_changedBy_54 : decode cX1_changedBy 54 = .ok (.invokeinterface 156 1, 5) := by decide +kernel
theorem dX1_changedBy_59 : decode cX1_changedBy 59 = .ok (.ifCond .eq 37, 3) := dk_153 0 37 (dk_at dksX1_changedBy_2 12 rfl rfl)
theorem dX1_changedBy_62 : decode cX1_changedBy 62 = .ok (.aload 5, 2) := dk_25 5 (dk_at dksX1_changedBy_2 15 rfl rfl)
theorem dX1_changedBy_64 : decode cX1_changedBy 64 = .ok (.invokeinterface 162 1, 5) := by decide +kernel
theorem dX1_changedBy_69 : decode cX1_changedBy 69 = .ok (.checkcast 178, 3) := dk_192 0 178 (dk_at dksX1_changedBy_3 0 rfl rfl)
theorem dX1_changedBy_72 : decode cX1_changedBy 72 = .ok (.astore 6, 2) := dk_58 6 (dk_at dksX1_changedBy_3 3 rfl rfl)
theorem dX1_changedBy_74 : decode cX1_changedBy 74 = .ok (.aload 6, 2) := dk_25 6 (dk_at dksX1_changedBy_3 5 rfl rfl)
theorem dX1_changedBy_76 : decode cX1_changedBy 76 = .ok (.aload_n 2, 1) := dk_44 (dk_at dksX1_changedBy_3 7 rfl rfl)
theorem dX1_changedBy_77 : decode cX1_changedBy 77 = .ok (.invokeinterface 180 2, 5) := by decide +kernel
theorem dX1_changedBy_82 : decode cX1_changedBy 82 = .ok (.istore 4, 2) := dk_54 4 (dk_at dksX1_changedBy_3 13 rfl rfl)
theorem dX1_changedBy_84 : decode cX1_changedBy 84 = .ok (.aload 6, 2) := dk_25 6 (dk_at dksX1_changedBy_3 15 rfl rfl)
theorem dX1_changedBy_86 : decode cX1_changedBy 86 = .ok (.aload_n 1, 1) := dk_43 (dk_at dksX1_changedBy_3 17 rfl rfl)
theorem dX1_changedBy_87 : decode cX1_changedBy 87 = .ok (.if_acmp .ne 6, 3) := dk_166 0 6 (dk_at dksX1_changedBy_3 18 rfl rfl)
theorem dX1_changedBy_90 : decode cX1_changedBy 90 = .ok (.iload 4, 2) := dk_21 4 (dk_at dksX1_changedBy_3 21 rfl rfl)
theorem dX1_changedBy_92 : decode cX1_changedBy 92 = .ok (.ireturn, 1) := dk_172 (dk_at dksX1_changedBy_3 23 rfl rfl)
theorem dX1_changedBy_93 : decode cX1_changedBy 93 = .ok (.goto (-41), 3) := dk_167 255 215 (dk_at dksX1_changedBy_4 0 rfl rfl)
theorem dX1_changedBy_96 : decode cX1_changedBy 96 = .ok (.iload 4, 2) := dk_21 4 (dk_at dksX1_changedBy_4 3 rfl rfl)
theorem dX1_changedBy_98 : decode cX1_changedBy 98 = .ok (.ireturn, 1) := dk_172 (dk_at dksX1_changedBy_4 5 rfl rfl)
abbrev cX1_ownerOf : ByteArray := prog_1_method_29_code
def yX1_ownerOf : MethodName := ⟨RX1, "ownerOf", "(III)I"⟩
def dkwX1_ownerOf_3 : List UInt8 := [58, 4, 25, 4, 180, 0, 209, 42, 180, 0, 69, 180, 0, 31, 28, 104, 27, 96, 46, 172]
abbrev dktX1_ownerOf_3 : List UInt8 := dkwX1_ownerOf_3 ++ []
def dkwX1_ownerOf_2 : List UInt8 := [153, 0, 7, 4, 167, 0, 4, 3, 184, 0, 24, 42, 180, 0, 83, 42, 180, 0, 69, 29, 184, 0, 187]
abbrev dktX1_ownerOf_2 : List UInt8 := dkwX1_ownerOf_2 ++ dktX1_ownerOf_3
def dkwX1_ownerOf_1 : List UInt8 := [180, 0, 69, 180, 0, 35, 4, 100, 133, 184, 0, 20, 153, 0, 19, 29, 133, 9, 20, 0, 18, 184, 0, 20]
abbrev dktX1_ownerOf_1 : List UInt8 := dkwX1_ownerOf_1 ++ dktX1_ownerOf_2
def dkwX1_ownerOf_0 : List UInt8 := [27, 133, 9, 42, 180, 0, 69, 180, 0, 31, 4, 100, 133, 184, 0, 20, 153, 0, 38, 28, 133, 9, 42]
abbrev dktX1_ownerOf_0 : List UInt8 := dkwX1_ownerOf_0 ++ dktX1_ownerOf_1
theorem dksX1_ownerOf_0 : cX1_ownerOf.data.toList.drop 0 = dktX1_ownerOf_0 := by decide +kernel
theorem dksX1_ownerOf_1 : cX1_ownerOf.data.toList.drop 23 = dktX1_ownerOf_1 := dk_seg dksX1_ownerOf_0 23 rfl rfl
theorem dksX1_ownerOf_2 : cX1_ownerOf.data.toList.drop 47 = dktX1_ownerOf_2 := dk_seg dksX1_ownerOf_1 24 rfl rfl
theorem dksX1_ownerOf_3 : cX1_ownerOf.data.toList.drop 70 = dktX1_ownerOf_3 := dk_seg dksX1_ownerOf_2 23 rfl rfl
theorem dX1_ownerOf_0 : decode cX1_ownerOf 0 = .ok (.iload_n 1, 1) := dk_27 (dk_at dksX1_ownerOf_0 0 rfl rfl)
theorem dX1_ownerOf_1 : decode cX1_ownerOf 1 = .ok (.i2l, 1) := dk_133 (dk_at dksX1_ownerOf_0 1 rfl rfl)
theorem dX1_ownerOf_2 : decode cX1_ownerOf 2 = .ok (.lconst 0, 1) := dk_9 (dk_at dksX1_ownerOf_0 2 rfl rfl)
theorem dX1_ownerOf_3 : decode cX1_ownerOf 3 = .ok (.aload_n 0, 1) := dk_42 (dk_at dksX1_ownerOf_0 3 rfl rfl)
theorem dX1_ownerOf_4 : decode cX1_ownerOf 4 = .ok (.getfield 69, 3) := dk_180 0 69 (dk_at dksX1_ownerOf_0 4 rfl rfl)
theorem dX1_ownerOf_7 : decode cX1_ownerOf 7 = .ok (.getfield 31, 3) := dk_180 0 31 (dk_at dksX1_ownerOf_0 7 rfl rfl)
theorem dX1_ownerOf_10 : decode cX1_ownerOf 10 = .ok (.iconst 1, 1) := dk_4 (dk_at dksX1_ownerOf_0 10 rfl rfl)
theorem dX1_ownerOf_11 : decode cX1_ownerOf 11 = .ok (.isub, 1) := dk_100 (dk_at dksX1_ownerOf_0 11 rfl rfl)
theorem dX1_ownerOf_12 : decode cX1_ownerOf 12 = .ok (.i2l, 1) := dk_133 (dk_at dksX1_ownerOf_0 12 rfl rfl)
theorem dX1_ownerOf_13 : decode cX1_ownerOf 13 = .ok (.invokestatic 20, 3) := dk_184 0 20 (dk_at dksX1_ownerOf_0 13 rfl rfl)
theorem dX1_ownerOf_16 : decode cX1_ownerOf 16 = .ok (.ifCond .eq 38, 3) := dk_153 0 38 (dk_at dksX1_ownerOf_0 16 rfl rfl)
theorem dX1_ownerOf_19 : decode cX1_ownerOf 19 = .ok (.iload_n 2, 1) := dk_28 (dk_at dksX1_ownerOf_0 19 rfl rfl)
theorem dX1_ownerOf_20 : decode cX1_ownerOf 20 = .ok (.i2l, 1) := dk_133 (dk_at dksX1_ownerOf_0 20 rfl rfl)
theorem dX1_ownerOf_21 : decode cX1_ownerOf 21 = .ok (.lconst 0, 1) := dk_9 (dk_at dksX1_ownerOf_0 21 rfl rfl)
theorem dX1_ownerOf_22 : decode cX1_ownerOf 22 = .ok (.aload_n 0, 1) := dk_42 (dk_at dksX1_ownerOf_0 22 rfl rfl)
theorem dX1_ownerOf_23 : decode cX1_ownerOf 23 = .ok (.getfield 69, 3) := dk_180 0 69 (dk_at dksX1_ownerOf_1 0 rfl rfl)
theorem dX1_ownerOf_26 : decode cX1_ownerOf 26 = .ok (.getfield 35, 3) := dk_180 0 35 (dk_at dksX1_ownerOf_1 3 rfl rfl)
theorem dX1_ownerOf_29 : decode cX1_ownerOf 29 = .ok (.iconst 1, 1) := dk_4 (dk_at dksX1_ownerOf_1 6 rfl rfl)
theorem dX1_ownerOf_30 : decode cX1_ownerOf 30 = .ok (.isub, 1) := dk_100 (dk_at dksX1_ownerOf_1 7 rfl rfl)
theorem dX1_ownerOf_31 : decode cX1_ownerOf 31 = .ok (.i2l, 1) := dk_133 (dk_at dksX1_ownerOf_1 8 rfl rfl)
theorem dX1_ownerOf_32 : decode cX1_ownerOf 32 = .ok (.invokestatic 20, 3) := dk_184 0 20 (dk_at dksX1_ownerOf_1 9 rfl rfl)
theorem dX1_ownerOf_35 : decode cX1_ownerOf 35 = .ok (.ifCond .eq 19, 3) := dk_153 0 19 (dk_at dksX1_ownerOf_1 12 rfl rfl)
theorem dX1_ownerOf_38 : decode cX1_ownerOf 38 = .ok (.iload_n 3, 1) := dk_29 (dk_at dksX1_ownerOf_1 15 rfl rfl)
theorem dX1_ownerOf_39 : decode cX1_ownerOf 39 = .ok (.i2l, 1) := dk_133 (dk_at dksX1_ownerOf_1 16 rfl rfl)
theorem dX1_ownerOf_40 : decode cX1_ownerOf 40 = .ok (.lconst 0, 1) := dk_9 (dk_at dksX1_ownerOf_1 17 rfl rfl)
theorem dX1_ownerOf_41 : decode cX1_ownerOf 41 = .ok (.ldc2_w 18, 3) := dk_20 0 18 (dk_at dksX1_ownerOf_1 18 rfl rfl)
theorem dX1_ownerOf_44 : decode cX1_ownerOf 44 = .ok (.invokestatic 20, 3) := dk_184 0 20 (dk_at dksX1_ownerOf_1 21 rfl rfl)
theorem dX1_ownerOf_47 : decode cX1_ownerOf 47 = .ok (.ifCond .eq 7, 3) := dk_153 0 7 (dk_at dksX1_ownerOf_2 0 rfl rfl)
theorem dX1_ownerOf_50 : decode cX1_ownerOf 50 = .ok (.iconst 1, 1) := dk_4 (dk_at dksX1_ownerOf_2 3 rfl rfl)
theorem dX1_ownerOf_51 : decode cX1_ownerOf 51 = .ok (.goto 4, 3) := dk_167 0 4 (dk_at dksX1_ownerOf_2 4 rfl rfl)
theorem dX1_ownerOf_54 : decode cX1_ownerOf 54 = .ok (.iconst 0, 1) := dk_3 (dk_at dksX1_ownerOf_2 7 rfl rfl)
theorem dX1_ownerOf_55 : decode cX1_ownerOf 55 = .ok (.invokestatic 24, 3) := dk_184 0 24 (dk_at dksX1_ownerOf_2 8 rfl rfl)
theorem dX1_ownerOf_58 : decode cX1_ownerOf 58 = .ok (.aload_n 0, 1) := dk_42 (dk_at dksX1_ownerOf_2 11 rfl rfl)
theorem dX1_ownerOf_59 : decode cX1_ownerOf 59 = .ok (.getfield 83, 3) := dk_180 0 83 (dk_at dksX1_ownerOf_2 12 rfl rfl)
theorem dX1_ownerOf_62 : decode cX1_ownerOf 62 = .ok (.aload_n 0, 1) := dk_42 (dk_at dksX1_ownerOf_2 15 rfl rfl)
theorem dX1_ownerOf_63 : decode cX1_ownerOf 63 = .ok (.getfield 69, 3) := dk_180 0 69 (dk_at dksX1_ownerOf_2 16 rfl rfl)
theorem dX1_ownerOf_66 : decode cX1_ownerOf 66 = .ok (.iload_n 3, 1) := dk_29 (dk_at dksX1_ownerOf_2 19 rfl rfl)
theorem dX1_ownerOf_67 : decode cX1_ownerOf 67 = .ok (.invokestatic 187, 3) := dk_184 0 187 (dk_at dksX1_ownerOf_2 20 rfl rfl)
theorem dX1_ownerOf_70 : decode cX1_ownerOf 70 = .ok (.astore 4, 2) := dk_58 4 (dk_at dksX1_ownerOf_3 0 rfl rfl)
theorem dX1_ownerOf_72 : decode cX1_ownerOf 72 = .ok (.aload 4, 2) := dk_25 4 (dk_at dksX1_ownerOf_3 2 rfl rfl)
theorem dX1_ownerOf_74 : decode cX1_ownerOf 74 = .ok (.getfield 209, 3) := dk_180 0 209 (dk_at dksX1_ownerOf_3 4 rfl rfl)
theorem dX1_ownerOf_77 : decode cX1_ownerOf 77 = .ok (.aload_n 0, 1) := dk_42 (dk_at dksX1_ownerOf_3 7 rfl rfl)
theorem dX1_ownerOf_78 : decode cX1_ownerOf 78 = .ok (.getfield 69, 3) := dk_180 0 69 (dk_at dksX1_ownerOf_3 8 rfl rfl)
theorem dX1_ownerOf_81 : decode cX1_ownerOf 81 = .ok (.getfield 31, 3) := dk_180 0 31 (dk_at dksX1_ownerOf_3 11 rfl rfl)
theorem dX1_ownerOf_84 : decode cX1_ownerOf 84 = .ok (.iload_n 2, 1) := dk_28 (dk_at dksX1_ownerOf_3 14 rfl rfl)
theorem dX1_ownerOf_85 : decode cX1_ownerOf 85 = .ok (.imul, 1) := dk_104 (dk_at dksX1_ownerOf_3 15 rfl rfl)
theorem dX1_ownerOf_86 : decode cX1_ownerOf 86 = .ok (.iload_n 1, 1) := dk_27 (dk_at dksX1_ownerOf_3 16 rfl rfl)
theorem dX1_ownerOf_87 : decode cX1_ownerOf 87 = .ok (.iadd, 1) := dk_96 (dk_at dksX1_ownerOf_3 17 rfl rfl)
theorem dX1_ownerOf_88 : decode cX1_ownerOf 88 = .ok (.iaload, 1) := dk_46 (dk_at dksX1_ownerOf_3 18 rfl rfl)
theorem dX1_ownerOf_89 : decode cX1_ownerOf 89 = .ok (.ireturn, 1) := dk_172 (dk_at dksX1_ownerOf_3 19 rfl rfl)
abbrev cX1_countyIn : ByteArray := prog_1_method_30_code
def yX1_countyIn : MethodName := ⟨RX1, "countyIn", "(II)I"⟩
def dkwX1_countyIn_0 : List UInt8 := [42, 27, 182, 1, 18, 78, 28, 184, 1, 112, 42, 45, 28, 182, 1, 28, 172]
abbrev dktX1_countyIn_0 : List UInt8 := dkwX1_countyIn_0 ++ []
theorem dksX1_countyIn_0 : cX1_countyIn.data.toList.drop 0 = dktX1_countyIn_0 := by decide +kernel
theorem dX1_countyIn_0 : decode cX1_countyIn 0 = .ok (.aload_n 0, 1) := dk_42 (dk_at dksX1_countyIn_0 0 rfl rfl)
theorem dX1_countyIn_1 : decode cX1_countyIn 1 = .ok (.iload_n 1, 1) := dk_27 (dk_at dksX1_countyIn_0 1 rfl rfl)
theorem dX1_countyIn_2 : decode cX1_countyIn 2 = .ok (.invokevirtual 274, 3) := dk_182 1 18 (dk_at dksX1_countyIn_0 2 rfl rfl)
theorem dX1_countyIn_5 : decode cX1_countyIn 5 = .ok (.astore_n 3, 1) := dk_78 (dk_at dksX1_countyIn_0 5 rfl rfl)
theorem dX1_countyIn_6 : decode cX1_countyIn 6 = .ok (.iload_n 2, 1) := dk_28 (dk_at dksX1_countyIn_0 6 rfl rfl)
theorem dX1_countyIn_7 : decode cX1_countyIn 7 = .ok (.invokestatic 368, 3) := dk_184 1 112 (dk_at dksX1_countyIn_0 7 rfl rfl)
theorem dX1_countyIn_10 : decode cX1_countyIn 10 = .ok (.aload_n 0, 1) := dk_42 (dk_at dksX1_countyIn_0 10 rfl rfl)
theorem dX1_countyIn_11 : decode cX1_countyIn 11 = .ok (.aload_n 3, 1) := dk_45 (dk_at dksX1_countyIn_0 11 rfl rfl)
theorem dX1_countyIn_12 : decode cX1_countyIn 12 = .ok (.iload_n 2, 1) := dk_28 (dk_at dksX1_countyIn_0 12 rfl rfl)
theorem dX1_countyIn_13 : decode cX1_countyIn 13 = .ok (.invokevirtual 284, 3) := dk_182 1 28 (dk_at dksX1_countyIn_0 13 rfl rfl)
theorem dX1_countyIn_16 : decode cX1_countyIn 16 = .ok (.ireturn, 1) := dk_172 (dk_at dksX1_countyIn_0 16 rfl rfl)
abbrev cX1_checkYear : ByteArray := prog_1_method_6_code
def yX1_checkYear : MethodName := ⟨RX1, "checkYear", "(I)V"⟩
def dkwX1_checkYear_0 : List UInt8 := [26, 133, 9, 20, 0, 18, 184, 0, 20, 184, 0, 24, 177]
abbrev dktX1_checkYear_0 : List UInt8 := dkwX1_checkYear_0 ++ []
theorem dksX1_checkYear_0 : cX1_checkYear.data.toList.drop 0 = dktX1_checkYear_0 := by decide +kernel
theorem dX1_checkYear_0 : decode cX1_checkYear 0 = .ok (.iload_n 0, 1) := dk_26 (dk_at dksX1_checkYear_0 0 rfl rfl)
theorem dX1_checkYear_1 : decode cX1_checkYear 1 = .ok (.i2l, 1) := dk_133 (dk_at dksX1_checkYear_0 1 rfl rfl)
theorem dX1_checkYear_2 : decode cX1_checkYear 2 = .ok (.lconst 0, 1) := dk_9 (dk_at dksX1_checkYear_0 2 rfl rfl)
theorem dX1_checkYear_3 : decode cX1_checkYear 3 = .ok (.ldc2_w 18, 3) := dk_20 0 18 (dk_at dksX1_checkYear_0 3 rfl rfl)
theorem dX1_checkYear_6 : decode cX1_checkYear 6 = .ok (.invokestatic 20, 3) := dk_184 0 20 (dk_at dksX1_checkYear_0 6 rfl rfl)
theorem dX1_checkYear_9 : decode cX1_checkYear 9 = .ok (.invokestatic 24, 3) := dk_184 0 24 (dk_at dksX1_checkYear_0 9 rfl rfl)
theorem dX1_checkYear_12 : decode cX1_checkYear 12 = .ok (.return_, 1) := dk_177 (dk_at dksX1_checkYear_0 12 rfl rfl)
abbrev cX1_nameLength : ByteArray := prog_1_method_31_code
def yX1_nameLength : MethodName := ⟨RX1, "nameLength", "(II)I"⟩
def dkwX1_nameLength_0 : List UInt8 := [42, 27, 182, 1, 18, 78, 28, 184, 1, 112, 45, 28, 182, 1, 115, 182, 1, 119, 172]
abbrev dktX1_nameLength_0 : List UInt8 := dkwX1_nameLength_0 ++ []
theorem dksX1_nameLength_0 : cX1_nameLength.data.toList.drop 0 = dktX1_nameLength_0 := by decide +kernel
theorem dX1_nameLength_0 : decode cX1_nameLength 0 = .ok (.aload_n 0, 1) := dk_42 (dk_at dksX1_nameLength_0 0 rfl rfl)
theorem dX1_nameLength_1 : decode cX1_nameLength 1 = .ok (.iload_n 1, 1) := dk_27 (dk_at dksX1_nameLength_0 1 rfl rfl)
theorem dX1_nameLength_2 : decode cX1_nameLength 2 = .ok (.invokevirtual 274, 3) := dk_182 1 18 (dk_at dksX1_nameLength_0 2 rfl rfl)
theorem dX1_nameLength_5 : decode cX1_nameLength 5 = .ok (.astore_n 3, 1) := dk_78 (dk_at dksX1_nameLength_0 5 rfl rfl)
theorem dX1_nameLength_6 : decode cX1_nameLength 6 = .ok (.iload_n 2, 1) := dk_28 (dk_at dksX1_nameLength_0 6 rfl rfl)
theorem dX1_nameLength_7 : decode cX1_nameLength 7 = .ok (.invokestatic 368, 3) := dk_184 1 112 (dk_at dksX1_nameLength_0 7 rfl rfl)
theorem dX1_nameLength_10 : decode cX1_nameLength 10 = .ok (.aload_n 3, 1) := dk_45 (dk_at dksX1_nameLength_0 10 rfl rfl)
theorem dX1_nameLength_11 : decode cX1_nameLength 11 = .ok (.iload_n 2, 1) := dk_28 (dk_at dksX1_nameLength_0 11 rfl rfl)
theorem dX1_nameLength_12 : decode cX1_nameLength 12 = .ok (.invokevirtual 371, 3) := dk_182 1 115 (dk_at dksX1_nameLength_0 12 rfl rfl)
theorem dX1_nameLength_15 : decode cX1_nameLength 15 = .ok (.invokevirtual 375, 3) := dk_182 1 119 (dk_at dksX1_nameLength_0 15 rfl rfl)
theorem dX1_nameLength_18 : decode cX1_nameLength 18 = .ok (.ireturn, 1) := dk_172 (dk_at dksX1_nameLength_0 18 rfl rfl)
abbrev cX1_nameLetter : ByteArray := prog_1_method_33_code
def yX1_nameLetter : MethodName := ⟨RX1, "nameLetter", "(III)I"⟩
def dkwX1_nameLetter_0 : List UInt8 := [42, 27, 182, 1, 18, 58, 4, 28, 184, 1, 112, 25, 4, 28, 182, 1, 115, 29, 184, 1, 128, 172]
abbrev dktX1_nameLetter_0 : List UInt8 := dkwX1_nameLetter_0 ++ []
theorem dksX1_nameLetter_0 : cX1_nameLetter.data.toList.drop 0 = dktX1_nameLetter_0 := by decide +kernel
theorem dX1_nameLetter_0 : decode cX1_nameLetter 0 = .ok (.aload_n 0, 1) := dk_42 (dk_at dksX1_nameLetter_0 0 rfl rfl)
theorem dX1_nameLetter_1 : decode cX1_nameLetter 1 = .ok (.iload_n 1, 1) := dk_27 (dk_at dksX1_nameLetter_0 1 rfl rfl)
theorem dX1_nameLetter_2 : decode cX1_nameLetter 2 = .ok (.invokevirtual 274, 3) := dk_182 1 18 (dk_at dksX1_nameLetter_0 2 rfl rfl)
theorem dX1_nameLetter_5 : decode cX1_nameLetter 5 = .ok (.astore 4, 2) := dk_58 4 (dk_at dksX1_nameLetter_0 5 rfl rfl)
theorem dX1_nameLetter_7 : decode cX1_nameLetter 7 = .ok (.iload_n 2, 1) := dk_28 (dk_at dksX1_nameLetter_0 7 rfl rfl)
theorem dX1_nameLetter_8 : decode cX1_nameLetter 8 = .ok (.invokestatic 368, 3) := dk_184 1 112 (dk_at dksX1_nameLetter_0 8 rfl rfl)
theorem dX1_nameLetter_11 : decode cX1_nameLetter 11 = .ok (.aload 4, 2) := dk_25 4 (dk_at dksX1_nameLetter_0 11 rfl rfl)
theorem dX1_nameLetter_13 : decode cX1_nameLetter 13 = .ok (.iload_n 2, 1) := dk_28 (dk_at dksX1_nameLetter_0 13 rfl rfl)
theorem dX1_nameLetter_14 : decode cX1_nameLetter 14 = .ok (.invokevirtual 371, 3) := dk_182 1 115 (dk_at dksX1_nameLetter_0 14 rfl rfl)
theorem dX1_nameLetter_17 : decode cX1_nameLetter 17 = .ok (.iload_n 3, 1) := dk_29 (dk_at dksX1_nameLetter_0 17 rfl rfl)
theorem dX1_nameLetter_18 : decode cX1_nameLetter 18 = .ok (.invokestatic 384, 3) := dk_184 1 128 (dk_at dksX1_nameLetter_0 18 rfl rfl)
theorem dX1_nameLetter_21 : decode cX1_nameLetter 21 = .ok (.ireturn, 1) := dk_172 (dk_at dksX1_nameLetter_0 21 rfl rfl)
abbrev cX1_letter : ByteArray := prog_1_method_32_code
def yX1_letter : MethodName := ⟨RX1, "letter", "(Ljava/lang/String;I)I"⟩
def dkwX1_letter_1 : List UInt8 := [3, 172]
abbrev dktX1_letter_1 : List UInt8 := dkwX1_letter_1 ++ []
def dkwX1_letter_0 : List UInt8 := [27, 133, 9, 42, 182, 1, 119, 4, 100, 133, 184, 0, 20, 153, 0, 11, 42, 27, 182, 1, 124, 167, 0, 4]
abbrev dktX1_letter_0 : List UInt8 := dkwX1_letter_0 ++ dktX1_letter_1
theorem dksX1_letter_0 : cX1_letter.data.toList.drop 0 = dktX1_letter_0 := by decide +kernel
theorem dksX1_letter_1 : cX1_letter.data.toList.drop 24 = dktX1_letter_1 := dk_seg dksX1_letter_0 24 rfl rfl
theorem dX1_letter_0 : decode cX1_letter 0 = .ok (.iload_n 1, 1) := dk_27 (dk_at dksX1_letter_0 0 rfl rfl)
theorem dX1_letter_1 : decode cX1_letter 1 = .ok (.i2l, 1) := dk_133 (dk_at dksX1_letter_0 1 rfl rfl)
theorem dX1_letter_2 : decode cX1_letter 2 = .ok (.lconst 0, 1) := dk_9 (dk_at dksX1_letter_0 2 rfl rfl)
theorem dX1_letter_3 : decode cX1_letter 3 = .ok (.aload_n 0, 1) := dk_42 (dk_at dksX1_letter_0 3 rfl rfl)
theorem dX1_letter_4 : decode cX1_letter 4 = .ok (.invokevirtual 375, 3) := dk_182 1 119 (dk_at dksX1_letter_0 4 rfl rfl)
theorem dX1_letter_7 : decode cX1_letter 7 = .ok (.iconst 1, 1) := dk_4 (dk_at dksX1_letter_0 7 rfl rfl)
theorem dX1_letter_8 : decode cX1_letter 8 = .ok (.isub, 1) := dk_100 (dk_at dksX1_letter_0 8 rfl rfl)
theorem dX1_letter_9 : decode cX1_letter 9 = .ok (.i2l, 1) := dk_133 (dk_at dksX1_letter_0 9 rfl rfl)
theorem dX1_letter_10 : decode cX1_letter 10 = .ok (.invokestatic 20, 3) := dk_184 0 20 (dk_at dksX1_letter_0 10 rfl rfl)
theorem dX1_letter_13 : decode cX1_letter 13 = .ok (.ifCond .eq 11, 3) := dk_153 0 11 (dk_at dksX1_letter_0 13 rfl rfl)
theorem dX1_letter_16 : decode cX1_letter 16 = .ok (.aload_n 0, 1) := dk_42 (dk_at dksX1_letter_0 16 rfl rfl)
theorem dX1_letter_17 : decode cX1_letter 17 = .ok (.iload_n 1, 1) := dk_27 (dk_at dksX1_letter_0 17 rfl rfl)
theorem dX1_letter_18 : decode cX1_letter 18 = .ok (.invokevirtual 380, 3) := dk_182 1 124 (dk_at dksX1_letter_0 18 rfl rfl)
theorem dX1_letter_21 : decode cX1_letter 21 = .ok (.goto 4, 3) := dk_167 0 4 (dk_at dksX1_letter_0 21 rfl rfl)
theorem dX1_letter_24 : decode cX1_letter 24 = .ok (.iconst 0, 1) := dk_3 (dk_at dksX1_letter_1 0 rfl rfl)
theorem dX1_letter_25 : decode cX1_letter 25 = .ok (.ireturn, 1) := dk_172 (dk_at dksX1_letter_1 1 rfl rfl)
abbrev cX1_movesOf : ByteArray := prog_1_method_36_code
def yX1_movesOf : MethodName := ⟨RX1, "movesOf", "(I)I"⟩
def dkwX1_movesOf_0 : List UInt8 := [42, 42, 27, 182, 1, 18, 182, 1, 141, 182, 1, 39, 172]
abbrev dktX1_movesOf_0 : List UInt8 := dkwX1_movesOf_0 ++ []
theorem dksX1_movesOf_0 : cX1_movesOf.data.toList.drop 0 = dktX1_movesOf_0 := by decide +kernel
theorem dX1_movesOf_0 : decode cX1_movesOf 0 = .ok (.aload_n 0, 1) := dk_42 (dk_at dksX1_movesOf_0 0 rfl rfl)
theorem dX1_movesOf_1 : decode cX1_movesOf 1 = .ok (.aload_n 0, 1) := dk_42 (dk_at dksX1_movesOf_0 1 rfl rfl)
theorem dX1_movesOf_2 : decode cX1_movesOf 2 = .ok (.iload_n 1, 1) := dk_27 (dk_at dksX1_movesOf_0 2 rfl rfl)
theorem dX1_movesOf_3 : decode cX1_movesOf 3 = .ok (.invokevirtual 274, 3) := dk_182 1 18 (dk_at dksX1_movesOf_0 3 rfl rfl)
theorem dX1_movesOf_6 : decode cX1_movesOf 6 = .ok (.invokevirtual 397, 3) := dk_182 1 141 (dk_at dksX1_movesOf_0 6 rfl rfl)
theorem dX1_movesOf_9 : decode cX1_movesOf 9 = .ok (.invokevirtual 295, 3) := dk_182 1 39 (dk_at dksX1_movesOf_0 9 rfl rfl)
theorem dX1_movesOf_12 : decode cX1_movesOf 12 = .ok (.ireturn, 1) := dk_172 (dk_at dksX1_movesOf_0 12 rfl rfl)
abbrev cX1_movesOf_2 : ByteArray := prog_1_method_35_code
def yX1_movesOf_2 : MethodName := ⟨RX1, "movesOf", "(LCountyGazetteer$Village;)Ljava/util/TreeSet;"⟩
def dkwX1_movesOf_2_3 : List UInt8 := [133, 184, 0, 20, 154, 0, 6, 167, 255, 213, 44, 25, 5, 182, 1, 133, 54, 6, 167, 255, 202, 44, 176]
abbrev dktX1_movesOf_2_3 : List UInt8 := dkwX1_movesOf_2_3 ++ []
def dkwX1_movesOf_2_2 : List UInt8 := [185, 0, 162, 1, 0, 192, 0, 166, 58, 5, 25, 5, 182, 0, 168, 133, 43, 180, 1, 22, 4, 96, 133, 29]
abbrev dktX1_movesOf_2_2 : List UInt8 := dkwX1_movesOf_2_2 ++ dktX1_movesOf_2_3
def dkwX1_movesOf_2_1 : List UInt8 := [62, 42, 43, 182, 1, 137, 182, 1, 54, 58, 4, 25, 4, 185, 0, 156, 1, 0, 153, 0, 50, 25, 4]
abbrev dktX1_movesOf_2_1 : List UInt8 := dkwX1_movesOf_2_1 ++ dktX1_movesOf_2_2
def dkwX1_movesOf_2_0 : List UInt8 := [187, 1, 40, 89, 183, 1, 132, 77, 42, 180, 0, 69, 180, 0, 184, 43, 180, 1, 25, 4, 100, 184, 1, 134]
abbrev dktX1_movesOf_2_0 : List UInt8 := dkwX1_movesOf_2_0 ++ dktX1_movesOf_2_1
theorem dksX1_movesOf_2_0 : cX1_movesOf_2.data.toList.drop 0 = dktX1_movesOf_2_0 := by decide +kernel
theorem dksX1_movesOf_2_1 : cX1_movesOf_2.data.toList.drop 24 = dktX1_movesOf_2_1 := dk_seg dksX1_movesOf_2_0 24 rfl rfl
theorem dksX1_movesOf_2_2 : cX1_movesOf_2.data.toList.drop 47 = dktX1_movesOf_2_2 := dk_seg dksX1_movesOf_2_1 23 rfl rfl
theorem dksX1_movesOf_2_3 : cX1_movesOf_2.data.toList.drop 71 = dktX1_movesOf_2_3 := dk_seg dksX1_movesOf_2_2 24 rfl rfl
theorem dX1_movesOf_2_0 : decode cX1_movesOf_2 0 = .ok (.new 296, 3) := dk_187 1 40 (dk_at dksX1_movesOf_2_0 0 rfl rfl)
theorem dX1_movesOf_2_3 : decode cX1_movesOf_2 3 = .ok (.dup, 1) := dk_89 (dk_at dksX1_movesOf_2_0 3 rfl rfl)
theorem dX1_movesOf_2_4 : decode cX1_movesOf_2 4 = .ok (.invokespecial 388, 3) := dk_183 1 132 (dk_at dksX1_movesOf_2_0 4 rfl rfl)
theorem dX1_movesOf_2_7 : decode cX1_movesOf_2 7 = .ok (.astore_n 2, 1) := dk_77 (dk_at dksX1_movesOf_2_0 7 rfl rfl)
theorem dX1_movesOf_2_8 : decode cX1_movesOf_2 8 = .ok (.aload_n 0, 1) := dk_42 (dk_at dksX1_movesOf_2_0 8 rfl rfl)
theorem dX1_movesOf_2_9 : decode cX1_movesOf_2 9 = .ok (.getfield 69, 3) := dk_180 0 69 (dk_at dksX1_movesOf_2_0 9 rfl rfl)
theorem dX1_movesOf_2_12 : decode cX1_movesOf_2 12 = .ok (.getfield 184, 3) := dk_180 0 184 (dk_at dksX1_movesOf_2_0 12 rfl rfl)
theorem dX1_movesOf_2_15 : decode cX1_movesOf_2 15 = .ok (.aload_n 1, 1) := dk_43 (dk_at dksX1_movesOf_2_0 15 rfl rfl)
theorem dX1_movesOf_2_16 : decode cX1_movesOf_2 16 = .ok (.getfield 281, 3) := dk_180 1 25 (dk_at dksX1_movesOf_2_0 16 rfl rfl)
theorem dX1_movesOf_2_19 : decode cX1_movesOf_2 19 = .ok (.iconst 1, 1) := dk_4 (dk_at dksX1_movesOf_2_0 19 rfl rfl)
theorem dX1_movesOf_2_20 : decode cX1_movesOf_2 20 = .ok (.isub, 1) := dk_100 (dk_at dksX1_movesOf_2_0 20 rfl rfl)
theorem dX1_movesOf_2_21 : decode cX1_movesOf_2 21 = .ok (.invokestatic 390, 3) := dk_184 1 134 (dk_at dksX1_movesOf_2_0 21 rfl rfl)
theorem dX1_movesOf_2_24 : decode cX1_movesOf_2 24 = .ok (.istore_n 3, 1) := dk_62 (dk_at dksX1_movesOf_2_1 0 rfl rfl)
theorem dX1_movesOf_2_25 : decode cX1_movesOf_2 25 = .ok (.aload_n 0, 1) := dk_42 (dk_at dksX1_movesOf_2_1 1 rfl rfl)
theorem dX1_movesOf_2_26 : decode cX1_movesOf_2 26 = .ok (.aload_n 1, 1) := dk_43 (dk_at dksX1_movesOf_2_1 2 rfl rfl)
theorem dX1_movesOf_2_27 : decode cX1_movesOf_2 27 = .ok (.invokevirtual 393, 3) := dk_182 1 137 (dk_at dksX1_movesOf_2_1 3 rfl rfl)
theorem dX1_movesOf_2_30 : decode cX1_movesOf_2 30 = .ok (.invokevirtual 310, 3) := dk_182 1 54 (dk_at dksX1_movesOf_2_1 6 rfl rfl)
theorem dX1_movesOf_2_33 : decode cX1_movesOf_2 33 = .ok (.astore 4, 2) := dk_58 4 (dk_at dksX1_movesOf_2_1 9 rfl rfl)
theorem dX1_movesOf_2_35 : decode cX1_movesOf_2 35 = .ok (.aload 4, 2) := dk_25 4 (dk_at dksX1_movesOf_2_1 11 rfl rfl)
theorem dX1_movesOf_2_37 : decode cX1_movesOf_2 37 = .ok (.invokeinterface 156 1, 5) := by decide +kernel
theorem dX1_movesOf_2_42 : decode cX1_movesOf_2 42 = .ok (.ifCond .eq 50, 3) := dk_153 0 50 (dk_at dksX1_movesOf_2_1 18 rfl rfl)
theorem dX1_movesOf_2_45 : decode cX1_movesOf_2 45 = .ok (.aload 4, 2) := dk_25 4 (dk_at dksX1_movesOf_2_1 21 rfl rfl)
theorem dX1_movesOf_2_47 : decode cX1_movesOf_2 47 = .ok (.invokeinterface 162 1, 5) := by decide +kernel
theorem dX1_movesOf_2_52 : decode cX1_movesOf_2 52 = .ok (.checkcast 166, 3) := dk_192 0 166 (dk_at dksX1_movesOf_2_2 5 rfl rfl)
theorem dX1_movesOf_2_55 : decode cX1_movesOf_2 55 = .ok (.astore 5, 2) := dk_58 5 (dk_at dksX1_movesOf_2_2 8 rfl rfl)
theorem dX1_movesOf_2_57 : decode cX1_movesOf_2 57 = .ok (.aload 5, 2) := dk_25 5 (dk_at dksX1_movesOf_2_2 10 rfl rfl)
theorem dX1_movesOf_2_59 : decode cX1_movesOf_2 59 = .ok (.invokevirtual 168, 3) := dk_182 0 168 (dk_at dksX1_movesOf_2_2 12 rfl rfl)
theorem dX1_movesOf_2_62 : decode cX1_movesOf_2 62 = .ok (.i2l, 1) := dk_133 (dk_at dksX1_movesOf_2_2 15 rfl rfl)
theorem dX1_movesOf_2_63 : decode cX1_movesOf_2 63 = .ok (.aload_n 1, 1) := dk_43 (dk_at dksX1_movesOf_2_2 16 rfl rfl)
theorem dX1_movesOf_2_64 : decode cX1_movesOf_2 64 = .ok (.getfield 278, 3) := dk_180 1 22 (dk_at dksX1_movesOf_2_2 17 rfl rfl)
theorem dX1_movesOf_2_67 : decode cX1_movesOf_2 67 = .ok (.iconst 1, 1) := dk_4 (dk_at dksX1_movesOf_2_2 20 rfl rfl)
theorem dX1_movesOf_2_68 : decode cX1_movesOf_2 68 = .ok (.iadd, 1) := dk_96 (dk_at dksX1_movesOf_2_2 21 rfl rfl)
theorem dX1_movesOf_2_69 : decode cX1_movesOf_2 69 = .ok (.i2l, 1) := dk_133 (dk_at dksX1_movesOf_2_2 22 rfl rfl)
theorem dX1_movesOf_2_70 : decode cX1_movesOf_2 70 = .ok (.iload_n 3, 1) := dk_29 (dk_at dksX1_movesOf_2_2 23 rfl rfl)
theorem dX1_movesOf_2_71 : decode cX1_movesOf_2 71 = .ok (.i2l, 1) := dk_133 (dk_at dksX1_movesOf_2_3 0 rfl rfl)
theorem dX1_movesOf_2_72 : decode cX1_movesOf_2 72 = .ok (.invokestatic 20, 3) := dk_184 0 20 (dk_at dksX1_movesOf_2_3 1 rfl rfl)
theorem dX1_movesOf_2_75 : decode cX1_movesOf_2 75 = .ok (.ifCond .ne 6, 3) := dk_154 0 6 (dk_at dksX1_movesOf_2_3 4 rfl rfl)
theorem dX1_movesOf_2_78 : decode cX1_movesOf_2 78 = .ok (.goto (-43), 3) := dk_167 255 213 (dk_at dksX1_movesOf_2_3 7 rfl rfl)
theorem dX1_movesOf_2_81 : decode cX1_movesOf_2 81 = .ok (.aload_n 2, 1) := dk_44 (dk_at dksX1_movesOf_2_3 10 rfl rfl)
theorem dX1_movesOf_2_82 : decode cX1_movesOf_2 82 = .ok (.aload 5, 2) := dk_25 5 (dk_at dksX1_movesOf_2_3 11 rfl rfl)
theorem dX1_movesOf_2_84 : decode cX1_movesOf_2 84 = .ok (.invokevirtual 389, 3) := dk_182 1 133 (dk_at dksX1_movesOf_2_3 13 rfl rfl)
theorem dX1_movesOf_2_87 : decode cX1_movesOf_2 87 = .ok (.istore 6, 2) := dk_54 6 (dk_at dksX1_movesOf_2_3 16 rfl rfl)
theorem dX1_movesOf_2_89 : decode cX1_movesOf_2 89 = .ok (.goto (-54), 3) := dk_167 255 202 (dk_at dksX1_movesOf_2_3 18 rfl rfl)
theorem dX1_movesOf_2_92 : decode cX1_movesOf_2 92 = .ok (.aload_n 2, 1) := dk_44 (dk_at dksX1_movesOf_2_3 21 rfl rfl)
theorem dX1_movesOf_2_93 : decode cX1_movesOf_2 93 = .ok (.areturn, 1) := dk_176 (dk_at dksX1_movesOf_2_3 22 rfl rfl)
abbrev cX1_changesOf : ByteArray := prog_1_method_34_code
def yX1_changesOf : MethodName := ⟨RX1, "changesOf", "(LCountyGazetteer$Village;)Ljava/util/TreeSet;"⟩
def dkwX1_changesOf_7 : List UInt8 := [160, 0, 6, 167, 255, 156, 44, 25, 6, 182, 1, 133, 54, 8, 167, 255, 145, 44, 176]
abbrev dktX1_changesOf_7 : List UInt8 := dkwX1_changesOf_7 ++ []
def dkwX1_changesOf_6 : List UInt8 := [180, 0, 83, 185, 0, 180, 2, 0, 54, 10, 167, 255, 221, 42, 180, 0, 83, 180, 0, 209, 29, 46, 21, 7]
abbrev dktX1_changesOf_6 : List UInt8 := dkwX1_changesOf_6 ++ dktX1_changesOf_7
def dkwX1_changesOf_5 : List UInt8 := [185, 0, 156, 1, 0, 153, 0, 31, 25, 8, 185, 0, 162, 1, 0, 192, 0, 178, 58, 9, 25, 9, 42]
abbrev dktX1_changesOf_5 : List UInt8 := dkwX1_changesOf_5 ++ dktX1_changesOf_6
def dkwX1_changesOf_4 : List UInt8 := [180, 0, 209, 29, 46, 54, 7, 25, 4, 25, 6, 182, 0, 171, 192, 0, 175, 182, 0, 177, 58, 8, 25, 8]
abbrev dktX1_changesOf_4 : List UInt8 := dkwX1_changesOf_4 ++ dktX1_changesOf_5
def dkwX1_changesOf_3 : List UInt8 := [185, 0, 156, 1, 0, 153, 0, 107, 25, 5, 185, 0, 162, 1, 0, 192, 0, 166, 58, 6, 42, 180, 0, 83]
abbrev dktX1_changesOf_3 : List UInt8 := dkwX1_changesOf_3 ++ dktX1_changesOf_4
def dkwX1_changesOf_2 : List UInt8 := [180, 0, 69, 182, 0, 140, 58, 4, 25, 4, 182, 0, 144, 185, 0, 150, 1, 0, 58, 5, 25, 5]
abbrev dktX1_changesOf_2 : List UInt8 := dkwX1_changesOf_2 ++ dktX1_changesOf_3
def dkwX1_changesOf_1 : List UInt8 := [96, 62, 42, 180, 0, 83, 42, 180, 0, 69, 180, 0, 31, 42, 180, 0, 69, 180, 0, 35, 182, 0, 136, 42]
abbrev dktX1_changesOf_1 : List UInt8 := dkwX1_changesOf_1 ++ dktX1_changesOf_2
def dkwX1_changesOf_0 : List UInt8 := [187, 1, 40, 89, 183, 1, 132, 77, 42, 180, 0, 69, 180, 0, 31, 43, 180, 0, 213, 104, 43, 180, 0, 218]
abbrev dktX1_changesOf_0 : List UInt8 := dkwX1_changesOf_0 ++ dktX1_changesOf_1
theorem dksX1_changesOf_0 : cX1_changesOf.data.toList.drop 0 = dktX1_changesOf_0 := by decide +kernel
theorem dksX1_changesOf_1 : cX1_changesOf.data.toList.drop 24 = dktX1_changesOf_1 := dk_seg dksX1_changesOf_0 24 rfl rfl
theorem dksX1_changesOf_2 : cX1_changesOf.data.toList.drop 48 = dktX1_changesOf_2 := dk_seg dksX1_changesOf_1 24 rfl rfl
theorem dksX1_changesOf_3 : cX1_changesOf.data.toList.drop 70 = dktX1_changesOf_3 := dk_seg dksX1_changesOf_2 22 rfl rfl
theorem dksX1_changesOf_4 : cX1_changesOf.data.toList.drop 94 = dktX1_changesOf_4 := dk_seg dksX1_changesOf_3 24 rfl rfl
theorem dksX1_changesOf_5 : cX1_changesOf.data.toList.drop 118 = dktX1_changesOf_5 := dk_seg dksX1_changesOf_4 24 rfl rfl
theorem dksX1_changesOf_6 : cX1_changesOf.data.toList.drop 141 = dktX1_changesOf_6 := dk_seg dksX1_changesOf_5 23 rfl rfl
theorem dksX1_changesOf_7 : cX1_changesOf.data.toList.drop 165 = dktX1_changesOf_7 := dk_seg dksX1_changesOf_6 24 rfl rfl
theorem dX1_changesOf_0 : decode cX1_changesOf 0 = .ok (.new 296, 3) := dk_187 1 40 (dk_at dksX1_changesOf_0 0 rfl rfl)
theorem dX1_changesOf_3 : decode cX1_changesOf 3 = .ok (.dup, 1) := dk_89 (dk_at dksX1_changesOf_0 3 rfl rfl)
theorem dX1_changesOf_4 : decode cX1_changesOf 4 = .ok (.invokespecial 388, 3) := dk_183 1 132 (dk_at dksX1_changesOf_0 4 rfl rfl)
theorem dX1_changesOf_7 : decode cX1_changesOf 7 = .ok (.astore_n 2, 1) := dk_77 (dk_at dksX1_changesOf_0 7 rfl rfl)
theorem dX1_changesOf_8 : decode cX1_changesOf 8 = .ok (.aload_n 0, 1) := dk_42 (dk_at dksX1_changesOf_0 8 rfl rfl)
theorem dX1_changesOf_9 : decode cX1_changesOf 9 = .ok (.getfield 69, 3) := dk_180 0 69 (dk_at dksX1_changesOf_0 9 rfl rfl)
theorem dX1_changesOf_12 : decode cX1_changesOf 12 = .ok (.getfield 31, 3) := dk_180 0 31 (dk_at dksX1_changesOf_0 12 rfl rfl)
theorem dX1_changesOf_15 : decode cX1_changesOf 15 = .ok (.aload_n 1, 1) := dk_43 (dk_at dksX1_changesOf_0 15 rfl rfl)
theorem dX1_changesOf_16 : decode cX1_changesOf 16 = .ok (.getfield 213, 3) := dk_180 0 213 (dk_at dksX1_changesOf_0 16 rfl rfl)
theorem dX1_changesOf_19 : decode cX1_changesOf 19 = .ok (.imul, 1) := dk_104 (dk_at dksX1_changesOf_0 19 rfl rfl)
theorem dX1_changesOf_20 : decode cX1_changesOf 20 = .ok (.aload_n 1, 1) := dk_43 (dk_at dksX1_changesOf_0 20 rfl rfl)
theorem dX1_changesOf_21 : decode cX1_changesOf 21 = .ok (.getfield 218, 3) := dk_180 0 218 (dk_at dksX1_changesOf_0 21 rfl rfl)
theorem dX1_changesOf_24 : decode cX1_changesOf 24 = .ok (.iadd, 1) := dk_96 (dk_at dksX1_changesOf_1 0 rfl rfl)
theorem dX1_changesOf_25 : decode cX1_changesOf 25 = .ok (.istore_n 3, 1) := dk_62 (dk_at dksX1_changesOf_1 1 rfl rfl)
theorem dX1_changesOf_26 : decode cX1_changesOf 26 = .ok (.aload_n 0, 1) := dk_42 (dk_at dksX1_changesOf_1 2 rfl rfl)
theorem dX1_changesOf_27 : decode cX1_changesOf 27 = .ok (.getfield 83, 3) := dk_180 0 83 (dk_at dksX1_changesOf_1 3 rfl rfl)
theorem dX1_changesOf_30 : decode cX1_changesOf 30 = .ok (.aload_n 0, 1) := dk_42 (dk_at dksX1_changesOf_1 6 rfl rfl)
theorem dX1_changesOf_31 : decode cX1_changesOf 31 = .ok (.getfield 69, 3) := dk_180 0 69 (dk_at dksX1_changesOf_1 7 rfl rfl)
theorem dX1_changesOf_34 : decode cX1_changesOf 34 = .ok (.getfield 31, 3) := dk_180 0 31 (dk_at dksX1_changesOf_1 10 rfl rfl)
theorem dX1_changesOf_37 : decode cX1_changesOf 37 = .ok (.aload_n 0, 1) := dk_42 (dk_at dksX1_changesOf_1 13 rfl rfl)
theorem dX1_changesOf_38 : decode cX1_changesOf 38 = .ok (.getfield 69, 3) := dk_180 0 69 (dk_at dksX1_changesOf_1 14 rfl rfl)
theorem dX1_changesOf_41 : decode cX1_changesOf 41 = .ok (.getfield 35, 3) := dk_180 0 35 (dk_at dksX1_changesOf_1 17 rfl rfl)
theorem dX1_changesOf_44 : decode cX1_changesOf 44 = .ok (.invokevirtual 136, 3) := dk_182 0 136 (dk_at dksX1_changesOf_1 20 rfl rfl)
theorem dX1_changesOf_47 : decode cX1_changesOf 47 = .ok (.aload_n 0, 1) := dk_42 (dk_at dksX1_changesOf_1 23 rfl rfl)
theorem dX1_changesOf_48 : decode cX1_changesOf 48 = .ok (.getfield 69, 3) := dk_180 0 69 (dk_at dksX1_changesOf_2 0 rfl rfl)
theorem dX1_changesOf_51 : decode cX1_changesOf 51 = .ok (.invokevirtual 140, 3) := dk_182 0 140 (dk_at dksX1_changesOf_2 3 rfl rfl)
theorem dX1_changesOf_54 : decode cX1_changesOf 54 = .ok (.astore 4, 2) := dk_58 4 (dk_at dksX1_changesOf_2 6 rfl rfl)
theorem dX1_changesOf_56 : decode cX1_changesOf 56 = .ok (.aload 4, 2) := dk_25 4 (dk_at dksX1_changesOf_2 8 rfl rfl)
theorem dX1_changesOf_58 : decode cX1_changesOf 58 = .ok (.invokevirtual 144, 3) := dk_182 0 144 (dk_at dksX1_changesOf_2 10 rfl rfl)
theorem dX1_changesOf_61 : decode cX1_changesOf 61 = .ok (.invokeinterface 150 1, 5) := by decide +kernel
theorem dX1_changesOf_66 : decode cX1_changesOf 66 = .ok (.astore 5, 2) := dk_58 5 (dk_at dksX1_changesOf_2 18 rfl rfl)
theorem dX1_changesOf_68 : decode cX1_changesOf 68 = .ok (.aload 5, 2) := dk_25 5 (dk_at dksX1_changesOf_2 20 rfl rfl)
theorem dX1_changesOf_70 : decode cX1_changesOf 70 = .ok (.invokeinterface 156 1, 5) := by decide +kernel
theorem dX1_changesOf_75 : decode cX1_changesOf 75 = .ok (.ifCond .eq 107, 3) := dk_153 0 107 (dk_at dksX1_changesOf_3 5 rfl rfl)
theorem dX1_changesOf_78 : decode cX1_changesOf 78 = .ok (.aload 5, 2) := dk_25 5 (dk_at dksX1_changesOf_3 8 rfl rfl)
theorem dX1_changesOf_80 : decode cX1_changesOf 80 = .ok (.invokeinterface 162 1, 5) := by decide +kernel
theorem dX1_changesOf_85 : decode cX1_changesOf 85 = .ok (.checkcast 166, 3) := dk_192 0 166 (dk_at dksX1_changesOf_3 15 rfl rfl)
theorem dX1_changesOf_88 : decode cX1_changesOf 88 = .ok (.astore 6, 2) := dk_58 6 (dk_at dksX1_changesOf_3 18 rfl rfl)
theorem dX1_changesOf_90 : decode cX1_changesOf 90 = .ok (.aload_n 0, 1) := dk_42 (dk_at dksX1_changesOf_3 20 rfl rfl)
theorem dX1_changesOf_91 : decode cX1_changesOf 91 = .ok (.getfield 83, 3) := dk_180 0 83 (dk_at dksX1_changesOf_3 21 rfl rfl)
theorem dX1_changesOf_94 : decode cX1_changesOf 94 = .ok (.getfield 209, 3) := dk_180 0 209 (dk_at dksX1_changesOf_4 0 rfl rfl)
theorem dX1_changesOf_97 : decode cX1_changesOf 97 = .ok (.iload_n 3, 1) := dk_29 (dk_at dksX1_changesOf_4 3 rfl rfl)
theorem dX1_changesOf_98 : decode cX1_changesOf 98 = .ok (.iaload, 1) := dk_46 (dk_at dksX1_changesOf_4 4 rfl rfl)
theorem dX1_changesOf_99 : decode cX1_changesOf 99 = .ok (.istore 7, 2) := dk_54 7 (dk_at dksX1_changesOf_4 5 rfl rfl)
theorem dX1_changesOf_101 : decode cX1_changesOf 101 = .ok (.aload 4, 2) := dk_25 4 (dk_at dksX1_changesOf_4 7 rfl rfl)
theorem dX1_changesOf_103 : decode cX1_changesOf 103 = .ok (.aload 6, 2) := dk_25 6 (dk_at dksX1_changesOf_4 9 rfl rfl)
theorem dX1_changesOf_105 : decode cX1_changesOf 105 = .ok (.invokevirtual 171, 3) := dk_182 0 171 (dk_at dksX1_changesOf_4 11 rfl rfl)
theorem dX1_changesOf_108 : decode cX1_changesOf 108 = .ok (.checkcast 175, 3) := dk_192 0 175 (dk_at dksX1_changesOf_4 14 rfl rfl)
theorem dX1_changesOf_111 : decode cX1_changesOf 111 = .ok (.invokevirtual 177, 3) := dk_182 0 177 (dk_at dksX1_changesOf_4 17 rfl rfl)
theorem dX1_changesOf_114 : decode cX1_changesOf 114 = .ok (.astore 8, 2) := dk_58 8 (dk_at dksX1_changesOf_4 20 rfl rfl)
theorem dX1_changesOf_116 : decode cX1_changesOf 116 = .ok (.aload 8, 2) := dk_25 8 (dk_at dksX1_changesOf_4 22 rfl rfl)
theorem dX1_changesOf_118 : decode cX1_changesOf 118 = .ok (.invokeinterface 156 1, 5) := by decide +kernel
theorem dX1_changesOf_123 : decode cX1_changesOf 123 = .ok (.ifCond .eq 31, 3) := dk_153 0 31 (dk_at dksX1_changesOf_5 5 rfl rfl)
theorem dX1_changesOf_126 : decode cX1_changesOf 126 = .ok (.aload 8, 2) := dk_25 8 (dk_at dksX1_changesOf_5 8 rfl rfl)
theorem dX1_changesOf_128 : decode cX1_changesOf 128 = .ok (.invokeinterface 162 1, 5) := by decide +kernel
theorem dX1_changesOf_133 : decode cX1_changesOf 133 = .ok (.checkcast 178, 3) := dk_192 0 178 (dk_at dksX1_changesOf_5 15 rfl rfl)
theorem dX1_changesOf_136 : decode cX1_changesOf 136 = .ok (.astore 9, 2) := dk_58 9 (dk_at dksX1_changesOf_5 18 rfl rfl)
theorem dX1_changesOf_138 : decode cX1_changesOf 138 = .ok (.aload 9, 2) := dk_25 9 (dk_at dksX1_changesOf_5 20 rfl rfl)
theorem dX1_changesOf_140 : decode cX1_changesOf 140 = .ok (.aload_n 0, 1) := dk_42 (dk_at dksX1_changesOf_5 22 rfl rfl)
theorem dX1_changesOf_141 : decode cX1_changesOf 141 = .ok (.getfield 83, 3) := dk_180 0 83 (dk_at dksX1_changesOf_6 0 rfl rfl)
theorem dX1_changesOf_144 : decode cX1_changesOf 144 = .ok (.invokeinterface 180 2, 5) := by decide +kernel
theorem dX1_changesOf_149 : decode cX1_changesOf 149 = .ok (.istore 10, 2) := dk_54 10 (dk_at dksX1_changesOf_6 8 rfl rfl)
theorem dX1_changesOf_151 : decode cX1_changesOf 151 = .ok (.goto (-35), 3) := dk_167 255 221 (dk_at dksX1_changesOf_6 10 rfl rfl)
theorem dX1_changesOf_154 : decode cX1_changesOf 154 = .ok (.aload_n 0, 1) := dk_42 (dk_at dksX1_changesOf_6 13 rfl rfl)
theorem dX1_changesOf_155 : decode cX1_changesOf 155 = .ok (.getfield 83, 3) := dk_180 0 83 (dk_at dksX1_changesOf_6 14 rfl rfl)
theorem dX1_changesOf_158 : decode cX1_changesOf 158 = .ok (.getfield 209, 3) := dk_180 0 209 (dk_at dksX1_changesOf_6 17 rfl rfl)
theorem dX1_changesOf_161 : decode cX1_changesOf 161 = .ok (.iload_n 3, 1) := dk_29 (dk_at dksX1_changesOf_6 20 rfl rfl)
theorem dX1_changesOf_162 : decode cX1_changesOf 162 = .ok (.iaload, 1) := dk_46 (dk_at dksX1_changesOf_6 21 rfl rfl)
theorem dX1_changesOf_163 : decode cX1_changesOf 163 = .ok (.iload 7, 2) := dk_21 7 (dk_at dksX1_changesOf_6 22 rfl rfl)
theorem dX1_changesOf_165 : decode cX1_changesOf 165 = .ok (.if_icmp .ne 6, 3) := dk_160 0 6 (dk_at dksX1_changesOf_7 0 rfl rfl)
theorem dX1_changesOf_168 : decode cX1_changesOf 168 = .ok (.goto (-100), 3) := dk_167 255 156 (dk_at dksX1_changesOf_7 3 rfl rfl)
theorem dX1_changesOf_171 : decode cX1_changesOf 171 = .ok (.aload_n 2, 1) := dk_44 (dk_at dksX1_changesOf_7 6 rfl rfl)
theorem dX1_changesOf_172 : decode cX1_changesOf 172 = .ok (.aload 6, 2) := dk_25 6 (dk_at dksX1_changesOf_7 7 rfl rfl)
theorem dX1_changesOf_174 : decode cX1_changesOf 174 = .ok (.invokevirtual 389, 3) := dk_182 1 133 (dk_at dksX1_changesOf_7 9 rfl rfl)
theorem dX1_changesOf_177 : decode cX1_changesOf 177 = .ok (.istore 8, 2) := dk_54 8 (dk_at dksX1_changesOf_7 12 rfl rfl)
theorem dX1_changesOf_179 : decode cX1_changesOf 179 = .ok (.goto (-111), 3) := dk_167 255 145 (dk_at dksX1_changesOf_7 14 rfl rfl)
theorem dX1_changesOf_182 : decode cX1_changesOf 182 = .ok (.aload_n 2, 1) := dk_44 (dk_at dksX1_changesOf_7 17 rfl rfl)
theorem dX1_changesOf_183 : decode cX1_changesOf 183 = .ok (.areturn, 1) := dk_176 (dk_at dksX1_changesOf_7 18 rfl rfl)
abbrev cX1_lastMove : ByteArray := prog_1_method_37_code
def yX1_lastMove : MethodName := ⟨RX1, "lastMove", "(I)I"⟩
def dkwX1_lastMove_1 : List UInt8 := [182, 1, 147, 192, 0, 166, 182, 0, 168, 172]
abbrev dktX1_lastMove_1 : List UInt8 := dkwX1_lastMove_1 ++ []
def dkwX1_lastMove_0 : List UInt8 := [42, 42, 27, 182, 1, 18, 182, 1, 141, 77, 44, 182, 1, 144, 153, 0, 7, 2, 167, 0, 13, 44]
abbrev dktX1_lastMove_0 : List UInt8 := dkwX1_lastMove_0 ++ dktX1_lastMove_1
theorem dksX1_lastMove_0 : cX1_lastMove.data.toList.drop 0 = dktX1_lastMove_0 := by decide +kernel
theorem dksX1_lastMove_1 : cX1_lastMove.data.toList.drop 22 = dktX1_lastMove_1 := dk_seg dksX1_lastMove_0 22 rfl rfl
theorem dX1_lastMove_0 : decode cX1_lastMove 0 = .ok (.aload_n 0, 1) := dk_42 (dk_at dksX1_lastMove_0 0 rfl rfl)
theorem dX1_lastMove_1 : decode cX1_lastMove 1 = .ok (.aload_n 0, 1) := dk_42 (dk_at dksX1_lastMove_0 1 rfl rfl)
theorem dX1_lastMove_2 : decode cX1_lastMove 2 = .ok (.iload_n 1, 1) := dk_27 (dk_at dksX1_lastMove_0 2 rfl rfl)
theorem dX1_lastMove_3 : decode cX1_lastMove 3 = .ok (.invokevirtual 274, 3) := dk_182 1 18 (dk_at dksX1_lastMove_0 3 rfl rfl)
theorem dX1_lastMove_6 : decode cX1_lastMove 6 = .ok (.invokevirtual 397, 3) := dk_182 1 141 (dk_at dksX1_lastMove_0 6 rfl rfl)
theorem dX1_lastMove_9 : decode cX1_lastMove 9 = .ok (.astore_n 2, 1) := dk_77 (dk_at dksX1_lastMove_0 9 rfl rfl)
theorem dX1_lastMove_10 : decode cX1_lastMove 10 = .ok (.aload_n 2, 1) := dk_44 (dk_at dksX1_lastMove_0 10 rfl rfl)
theorem dX1_lastMove_11 : decode cX1_lastMove 11 = .ok (.invokevirtual 400, 3) := dk_182 1 144 (dk_at dksX1_lastMove_0 11 rfl rfl)
theorem dX1_lastMove_14 : decode cX1_lastMove 14 = .ok (.ifCond .eq 7, 3) := dk_153 0 7 (dk_at dksX1_lastMove_0 14 rfl rfl)
theorem dX1_lastMove_17 : decode cX1_lastMove 17 = .ok (.iconst (-1), 1) := dk_2 (dk_at dksX1_lastMove_0 17 rfl rfl)
theorem dX1_lastMove_18 : decode cX1_lastMove 18 = .ok (.goto 13, 3) := dk_167 0 13 (dk_at dksX1_lastMove_0 18 rfl rfl)
theorem dX1_lastMove_21 : decode cX1_lastMove 21 = .ok (.aload_n 2, 1) := dk_44 (dk_at dksX1_lastMove_0 21 rfl rfl)
theorem dX1_lastMove_22 : decode cX1_lastMove 22 = .ok (.invokevirtual 403, 3) := dk_182 1 147 (dk_at dksX1_lastMove_1 0 rfl rfl)
theorem dX1_lastMove_25 : decode cX1_lastMove 25 = .ok (.checkcast 166, 3) := dk_192 0 166 (dk_at dksX1_lastMove_1 3 rfl rfl)
theorem dX1_lastMove_28 : decode cX1_lastMove 28 = .ok (.invokevirtual 168, 3) := dk_182 0 168 (dk_at dksX1_lastMove_1 6 rfl rfl)
theorem dX1_lastMove_31 : decode cX1_lastMove 31 = .ok (.ireturn, 1) := dk_172 (dk_at dksX1_lastMove_1 9 rfl rfl)
abbrev cX1_villagesIn : ByteArray := prog_1_method_41_code
def yX1_villagesIn : MethodName := ⟨RX1, "villagesIn", "(II)I"⟩
def dkwX1_villagesIn_0 : List UInt8 := [42, 27, 182, 1, 62, 78, 28, 184, 1, 112, 42, 27, 28, 182, 1, 75, 172]
abbrev dktX1_villagesIn_0 : List UInt8 := dkwX1_villagesIn_0 ++ []
theorem dksX1_villagesIn_0 : cX1_villagesIn.data.toList.drop 0 = dktX1_villagesIn_0 := by decide +kernel
theorem dX1_villagesIn_0 : decode cX1_villagesIn 0 = .ok (.aload_n 0, 1) := dk_42 (dk_at dksX1_villagesIn_0 0 rfl rfl)
theorem dX1_villagesIn_1 : decode cX1_villagesIn 1 = .ok (.iload_n 1, 1) := dk_27 (dk_at dksX1_villagesIn_0 1 rfl rfl)
theorem dX1_villagesIn_2 : decode cX1_villagesIn 2 = .ok (.invokevirtual 318, 3) := dk_182 1 62 (dk_at dksX1_villagesIn_0 2 rfl rfl)
theorem dX1_villagesIn_5 : decode cX1_villagesIn 5 = .ok (.astore_n 3, 1) := dk_78 (dk_at dksX1_villagesIn_0 5 rfl rfl)
theorem dX1_villagesIn_6 : decode cX1_villagesIn 6 = .ok (.iload_n 2, 1) := dk_28 (dk_at dksX1_villagesIn_0 6 rfl rfl)
theorem dX1_villagesIn_7 : decode cX1_villagesIn 7 = .ok (.invokestatic 368, 3) := dk_184 1 112 (dk_at dksX1_villagesIn_0 7 rfl rfl)
theorem dX1_villagesIn_10 : decode cX1_villagesIn 10 = .ok (.aload_n 0, 1) := dk_42 (dk_at dksX1_villagesIn_0 10 rfl rfl)
theorem dX1_villagesIn_11 : decode cX1_villagesIn 11 = .ok (.iload_n 1, 1) := dk_27 (dk_at dksX1_villagesIn_0 11 rfl rfl)
theorem dX1_villagesIn_12 : decode cX1_villagesIn 12 = .ok (.iload_n 2, 1) := dk_28 (dk_at dksX1_villagesIn_0 12 rfl rfl)
theorem dX1_villagesIn_13 : decode cX1_villagesIn 13 = .ok (.invokevirtual 331, 3) := dk_182 1 75 (dk_at dksX1_villagesIn_0 13 rfl rfl)
theorem dX1_villagesIn_16 : decode cX1_villagesIn 16 = .ok (.ireturn, 1) := dk_172 (dk_at dksX1_villagesIn_0 16 rfl rfl)
abbrev cX1_movedBetween : ByteArray := prog_1_method_42_code
def yX1_movedBetween : MethodName := ⟨RX1, "movedBetween", "(II)I"⟩
def dkwX1_movedBetween_2 : List UInt8 := [186, 1, 166, 0, 0, 182, 1, 162, 172]
abbrev dktX1_movedBetween_2 : List UInt8 := dkwX1_movedBetween_2 ++ []
def dkwX1_movedBetween_1 : List UInt8 := [180, 0, 87, 42, 180, 0, 69, 28, 184, 0, 187, 58, 4, 42, 42, 27, 28, 45, 25, 4]
abbrev dktX1_movedBetween_1 : List UInt8 := dkwX1_movedBetween_1 ++ dktX1_movedBetween_2
def dkwX1_movedBetween_0 : List UInt8 := [27, 184, 1, 112, 28, 184, 1, 112, 42, 180, 0, 83, 42, 180, 0, 69, 27, 184, 0, 187, 78, 42]
abbrev dktX1_movedBetween_0 : List UInt8 := dkwX1_movedBetween_0 ++ dktX1_movedBetween_1
theorem dksX1_movedBetween_0 : cX1_movedBetween.data.toList.drop 0 = dktX1_movedBetween_0 := by decide +kernel
theorem dksX1_movedBetween_1 : cX1_movedBetween.data.toList.drop 22 = dktX1_movedBetween_1 := dk_seg dksX1_movedBetween_0 22 rfl rfl
theorem dksX1_movedBetween_2 : cX1_movedBetween.data.toList.drop 42 = dktX1_movedBetween_2 := dk_seg dksX1_movedBetween_1 20 rfl rfl
theorem dX1_movedBetween_0 : decode cX1_movedBetween 0 = .ok (.iload_n 1, 1) := dk_27 (dk_at dksX1_movedBetween_0 0 rfl rfl)
theorem dX1_movedBetween_1 : decode cX1_movedBetween 1 = .ok (.invokestatic 368, 3) := dk_184 1 112 (dk_at dksX1_movedBetween_0 1 rfl rfl)
theorem dX1_movedBetween_4 : decode cX1_movedBetween 4 = .ok (.iload_n 2, 1) := dk_28 (dk_at dksX1_movedBetween_0 4 rfl rfl)
theorem dX1_movedBetween_5 : decode cX1_movedBetween 5 = .ok (.invokestatic 368, 3) := dk_184 1 112 (dk_at dksX1_movedBetween_0 5 rfl rfl)
theorem dX1_movedBetween_8 : decode cX1_movedBetween 8 = .ok (.aload_n 0, 1) := dk_42 (dk_at dksX1_movedBetween_0 8 rfl rfl)
theorem dX1_movedBetween_9 : decode cX1_movedBetween 9 = .ok (.getfield 83, 3) := dk_180 0 83 (dk_at dksX1_movedBetween_0 9 rfl rfl)
theorem dX1_movedBetween_12 : decode cX1_movedBetween 12 = .ok (.aload_n 0, 1) := dk_42 (dk_at dksX1_movedBetween_0 12 rfl rfl)
theorem dX1_movedBetween_13 : decode cX1_movedBetween 13 = .ok (.getfield 69, 3) := dk_180 0 69 (dk_at dksX1_movedBetween_0 13 rfl rfl)
theorem dX1_movedBetween_16 : decode cX1_movedBetween 16 = .ok (.iload_n 1, 1) := dk_27 (dk_at dksX1_movedBetween_0 16 rfl rfl)
theorem dX1_movedBetween_17 : decode cX1_movedBetween 17 = .ok (.invokestatic 187, 3) := dk_184 0 187 (dk_at dksX1_movedBetween_0 17 rfl rfl)
theorem dX1_movedBetween_20 : decode cX1_movedBetween 20 = .ok (.astore_n 3, 1) := dk_78 (dk_at dksX1_movedBetween_0 20 rfl rfl)
theorem dX1_movedBetween_21 : decode cX1_movedBetween 21 = .ok (.aload_n 0, 1) := dk_42 (dk_at dksX1_movedBetween_0 21 rfl rfl)
theorem dX1_movedBetween_22 : decode cX1_movedBetween 22 = .ok (.getfield 87, 3) := dk_180 0 87 (dk_at dksX1_movedBetween_1 0 rfl rfl)
theorem dX1_movedBetween_25 : decode cX1_movedBetween 25 = .ok (.aload_n 0, 1) := dk_42 (dk_at dksX1_movedBetween_1 3 rfl rfl)
theorem dX1_movedBetween_26 : decode cX1_movedBetween 26 = .ok (.getfield 69, 3) := dk_180 0 69 (dk_at dksX1_movedBetween_1 4 rfl rfl)
theorem dX1_movedBetween_29 : decode cX1_movedBetween 29 = .ok (.iload_n 2, 1) := dk_28 (dk_at dksX1_movedBetween_1 7 rfl rfl)
theorem dX1_movedBetween_30 : decode cX1_movedBetween 30 = .ok (.invokestatic 187, 3) := dk_184 0 187 (dk_at dksX1_movedBetween_1 8 rfl rfl)
theorem dX1_movedBetween_33 : decode cX1_movedBetween 33 = .ok (.astore 4, 2) := dk_58 4 (dk_at dksX1_movedBetween_1 11 rfl rfl)
theorem dX1_movedBetween_35 : decode cX1_movedBetween 35 = .ok (.aload_n 0, 1) := dk_42 (dk_at dksX1_movedBetween_1 13 rfl rfl)
theorem dX1_movedBetween_36 : decode cX1_movedBetween 36 = .ok (.aload_n 0, 1) := dk_42 (dk_at dksX1_movedBetween_1 14 rfl rfl)
theorem dX1_movedBetween_37 : decode cX1_movedBetween 37 = .ok (.iload_n 1, 1) := dk_27 (dk_at dksX1_movedBetween_1 15 rfl rfl)
theorem dX1_movedBetween_38 : decode cX1_movedBetween 38 = .ok (.iload_n 2, 1) := dk_28 (dk_at dksX1_movedBetween_1 16 rfl rfl)
theorem dX1_movedBetween_39 : decode cX1_movedBetween 39 = .ok (.aload_n 3, 1) := dk_45 (dk_at dksX1_movedBetween_1 17 rfl rfl)
theorem dX1_movedBetween_40 : decode cX1_movedBetween 40 = .ok (.aload 4, 2) := dk_25 4 (dk_at dksX1_movedBetween_1 18 rfl rfl)
theorem dX1_movedBetween_42 : decode cX1_movedBetween 42 = .ok (.invokedynamic 422, 5) := by decide +kernel
theorem dX1_movedBetween_47 : decode cX1_movedBetween 47 = .ok (.invokevirtual 418, 3) := dk_182 1 162 (dk_at dksX1_movedBetween_2 5 rfl rfl)
theorem dX1_movedBetween_50 : decode cX1_movedBetween 50 = .ok (.ireturn, 1) := dk_172 (dk_at dksX1_movedBetween_2 8 rfl rfl)
abbrev cX1_lambda_movedBetween_1 : ByteArray := prog_1_method_88_code
def yX1_lambda_movedBetween_1 : MethodName := ⟨RX1, "lambda$movedBetween$1", "(IILCountyGazetteer$Board;LCountyGazetteer$Board;LCountyGazetteer$Village;)Z"⟩
def dkwX1_lambda_movedBetween_1_3 : List UInt8 := [167, 0, 4, 3, 172]
abbrev dktX1_lambda_movedBetween_1_3 : List UInt8 := dkwX1_lambda_movedBetween_1_3 ++ []
def dkwX1_lambda_movedBetween_1_2 : List UInt8 := [42, 180, 0, 69, 180, 0, 31, 25, 5, 180, 0, 213, 104, 25, 5, 180, 0, 218, 96, 46, 159, 0, 7, 4]
abbrev dktX1_lambda_movedBetween_1_2 : List UInt8 := dkwX1_lambda_movedBetween_1_2 ++ dktX1_lambda_movedBetween_1_3
def dkwX1_lambda_movedBetween_1_1 : List UInt8 := [180, 0, 69, 180, 0, 31, 25, 5, 180, 0, 213, 104, 25, 5, 180, 0, 218, 96, 46, 25, 4, 180, 0, 209]
abbrev dktX1_lambda_movedBetween_1_1 : List UInt8 := dkwX1_lambda_movedBetween_1_1 ++ dktX1_lambda_movedBetween_1_2
def dkwX1_lambda_movedBetween_1_0 : List UInt8 := [25, 5, 27, 182, 0, 228, 153, 0, 68, 25, 5, 28, 182, 0, 228, 153, 0, 59, 45, 180, 0, 209, 42]
abbrev dktX1_lambda_movedBetween_1_0 : List UInt8 := dkwX1_lambda_movedBetween_1_0 ++ dktX1_lambda_movedBetween_1_1
theorem dksX1_lambda_movedBetween_1_0 : cX1_lambda_movedBetween_1.data.toList.drop 0 = dktX1_lambda_movedBetween_1_0 := by decide +kernel
theorem dksX1_lambda_movedBetween_1_1 : cX1_lambda_movedBetween_1.data.toList.drop 23 = dktX1_lambda_movedBetween_1_1 := dk_seg dksX1_lambda_movedBetween_1_0 23 rfl rfl
theorem dksX1_lambda_movedBetween_1_2 : cX1_lambda_movedBetween_1.data.toList.drop 47 = dktX1_lambda_movedBetween_1_2 := dk_seg dksX1_lambda_movedBetween_1_1 24 rfl rfl
theorem dksX1_lambda_movedBetween_1_3 : cX1_lambda_movedBetween_1.data.toList.drop 71 = dktX1_lambda_movedBetween_1_3 := dk_seg dksX1_lambda_movedBetween_1_2 24 rfl rfl
theorem dX1_lambda_movedBetween_1_0 : decode cX1_lambda_movedBetween_1 0 = .ok (.aload 5, 2) := dk_25 5 (dk_at dksX1_lambda_movedBetween_1_0 0 rfl rfl)
theorem dX1_lambda_movedBetween_1_2 : decode cX1_lambda_movedBetween_1 2 = .ok (.iload_n 1, 1) := dk_27 (dk_at dksX1_lambda_movedBetween_1_0 2 rfl rfl)
theorem dX1_lambda_movedBetween_1_3 : decode cX1_lambda_movedBetween_1 3 = .ok (.invokevirtual 228, 3) := dk_182 0 228 (dk_at dksX1_lambda_movedBetween_1_0 3 rfl rfl)
theorem dX1_lambda_movedBetween_1_6 : decode cX1_lambda_movedBetween_1 6 = .ok (.ifCond .eq 68, 3) := dk_153 0 68 (dk_at dksX1_lambda_movedBetween_1_0 6 rfl rfl)
theorem dX1_lambda_movedBetween_1_9 : decode cX1_lambda_movedBetween_1 9 = .ok (.aload 5, 2) := dk_25 5 (dk_at dksX1_lambda_movedBetween_1_0 9 rfl rfl)
theorem dX1_lambda_movedBetween_1_11 : decode cX1_lambda_movedBetween_1 11 = .ok (.iload_n 2, 1) := dk_28 (dk_at dksX1_lambda_movedBetween_1_0 11 rfl rfl)
theorem dX1_lambda_movedBetween_1_12 : decode cX1_lambda_movedBetween_1 12 = .ok (.invokevirtual 228, 3) := dk_182 0 228 (dk_at dksX1_lambda_movedBetween_1_0 12 rfl rfl)
theorem dX1_lambda_movedBetween_1_15 : decode cX1_lambda_movedBetween_1 15 = .ok (.ifCond .eq 59, 3) := dk_153 0 59 (dk_at dksX1_lambda_movedBetween_1_0 15 rfl rfl)
theorem dX1_lambda_movedBetween_1_18 : decode cX1_lambda_movedBetween_1 18 = .ok (.aload_n 3, 1) := dk_45 (dk_at dksX1_lambda_movedBetween_1_0 18 rfl rfl)
theorem dX1_lambda_movedBetween_1_19 : decode cX1_lambda_movedBetween_1 19 = .ok (.getfield 209, 3) := dk_180 0 209 (dk_at dksX1_lambda_movedBetween_1_0 19 rfl rfl)
theorem dX1_lambda_movedBetween_1_22 : decode cX1_lambda_movedBetween_1 22 = .ok (.aload_n 0, 1) := dk_42 (dk_at dksX1_lambda_movedBetween_1_0 22 rfl rfl)
theorem dX1_lambda_movedBetween_1_23 : decode cX1_lambda_movedBetween_1 23 = .ok (.getfield 69, 3) := dk_180 0 69 (dk_at dksX1_lambda_movedBetween_1_1 0 rfl rfl)
theorem dX1_lambda_movedBetween_1_26 : decode cX1_lambda_movedBetween_1 26 = .ok (.getfield 31, 3) := dk_180 0 31 (dk_at dksX1_lambda_movedBetween_1_1 3 rfl rfl)
theorem dX1_lambda_movedBetween_1_29 : decode cX1_lambda_movedBetween_1 29 = .ok (.aload 5, 2) := dk_25 5 (dk_at dksX1_lambda_movedBetween_1_1 6 rfl rfl)
theorem dX1_lambda_movedBetween_1_31 : decode cX1_lambda_movedBetween_1 31 = .ok (.getfield 213, 3) := dk_180 0 213 (dk_at dksX1_lambda_movedBetween_1_1 8 rfl rfl)
theorem dX1_lambda_movedBetween_1_34 : decode cX1_lambda_movedBetween_1 34 = .ok (.imul, 1) := dk_104 (dk_at dksX1_lambda_movedBetween_1_1 11 rfl rfl)
theorem dX1_lambda_movedBetween_1_35 : decode cX1_lambda_movedBetween_1 35 = .ok (.aload 5, 2) := dk_25 5 (dk_at dksX1_lambda_movedBetween_1_1 12 rfl rfl)
theorem dX1_lambda_movedBetween_1_37 : decode cX1_lambda_movedBetween_1 37 = .ok (.getfield 218, 3) := dk_180 0 218 (dk_at dksX1_lambda_movedBetween_1_1 14 rfl rfl)
theorem dX1_lambda_movedBetween_1_40 : decode cX1_lambda_movedBetween_1 40 = .ok (.iadd, 1) := dk_96 (dk_at dksX1_lambda_movedBetween_1_1 17 rfl rfl)
theorem dX1_lambda_movedBetween_1_41 : decode cX1_lambda_movedBetween_1 41 = .ok (.iaload, 1) := dk_46 (dk_at dksX1_lambda_movedBetween_1_1 18 rfl rfl)
theorem dX1_lambda_movedBetween_1_42 : decode cX1_lambda_movedBetween_1 42 = .ok (.aload 4, 2) := dk_25 4 (dk_at dksX1_lambda_movedBetween_1_1 19 rfl rfl)
theorem dX1_lambda_movedBetween_1_44 : decode cX1_lambda_movedBetween_1 44 = .ok (.getfield 209, 3) := dk_180 0 209 (dk_at dksX1_lambda_movedBetween_1_1 21 rfl rfl)
theorem dX1_lambda_movedBetween_1_47 : decode cX1_lambda_movedBetween_1 47 = .ok (.aload_n 0, 1) := dk_42 (dk_at dksX1_lambda_movedBetween_1_2 0 rfl rfl)
theorem dX1_lambda_movedBetween_1_48 : decode cX1_lambda_movedBetween_1 48 = .ok (.getfield 69, 3) := dk_180 0 69 (dk_at dksX1_lambda_movedBetween_1_2 1 rfl rfl)
theorem dX1_lambda_movedBetween_1_51 : decode cX1_lambda_movedBetween_1 51 = .ok (.getfield 31, 3) := dk_180 0 31 (dk_at dksX1_lambda_movedBetween_1_2 4 rfl rfl)
theorem dX1_lambda_movedBetween_1_54 : decode cX1_lambda_movedBetween_1 54 = .ok (.aload 5, 2) := dk_25 5 (dk_at dksX1_lambda_movedBetween_1_2 7 rfl rfl)
theorem dX1_lambda_movedBetween_1_56 : decode cX1_lambda_movedBetween_1 56 = .ok (.getfield 213, 3) := dk_180 0 213 (dk_at dksX1_lambda_movedBetween_1_2 9 rfl rfl)
theorem dX1_lambda_movedBetween_1_59 : decode cX1_lambda_movedBetween_1 59 = .ok (.imul, 1) := dk_104 (dk_at dksX1_lambda_movedBetween_1_2 12 rfl rfl)
theorem dX1_lambda_movedBetween_1_60 : decode cX1_lambda_movedBetween_1 60 = .ok (.aload 5, 2) := dk_25 5 (dk_at dksX1_lambda_movedBetween_1_2 13 rfl rfl)
theorem dX1_lambda_movedBetween_1_62 : decode cX1_lambda_movedBetween_1 62 = .ok (.getfield 218, 3) := dk_180 0 218 (dk_at dksX1_lambda_movedBetween_1_2 15 rfl rfl)
theorem dX1_lambda_movedBetween_1_65 : decode cX1_lambda_movedBetween_1 65 = .ok (.iadd, 1) := dk_96 (dk_at dksX1_lambda_movedBetween_1_2 18 rfl rfl)
theorem dX1_lambda_movedBetween_1_66 : decode cX1_lambda_movedBetween_1 66 = .ok (.iaload, 1) := dk_46 (dk_at dksX1_lambda_movedBetween_1_2 19 rfl rfl)
theorem dX1_lambda_movedBetween_1_67 : decode cX1_lambda_movedBetween_1 67 = .ok (.if_icmp .eq 7, 3) := dk_159 0 7 (dk_at dksX1_lambda_movedBetween_1_2 20 rfl rfl)
theorem dX1_lambda_movedBetween_1_70 : decode cX1_lambda_movedBetween_1 70 = .ok (.iconst 1, 1) := dk_4 (dk_at dksX1_lambda_movedBetween_1_2 23 rfl rfl)
theorem dX1_lambda_movedBetween_1_71 : decode cX1_lambda_movedBetween_1 71 = .ok (.goto 4, 3) := dk_167 0 4 (dk_at dksX1_lambda_movedBetween_1_3 0 rfl rfl)
theorem dX1_lambda_movedBetween_1_74 : decode cX1_lambda_movedBetween_1 74 = .ok (.iconst 0, 1) := dk_3 (dk_at dksX1_lambda_movedBetween_1_3 3 rfl rfl)
theorem dX1_lambda_movedBetween_1_75 : decode cX1_lambda_movedBetween_1 75 = .ok (.ireturn, 1) := dk_172 (dk_at dksX1_lambda_movedBetween_1_3 4 rfl rfl)
abbrev cX1_nextMove : ByteArray := prog_1_method_38_code
def yX1_nextMove : MethodName := ⟨RX1, "nextMove", "(I)I"⟩
def dkwX1_nextMove_1 : List UInt8 := [192, 0, 166, 77, 44, 199, 0, 7, 2, 167, 0, 7, 44, 182, 0, 168, 172]
abbrev dktX1_nextMove_1 : List UInt8 := dkwX1_nextMove_1 ++ []
def dkwX1_nextMove_0 : List UInt8 := [42, 42, 27, 182, 1, 18, 182, 1, 137, 42, 180, 0, 69, 180, 0, 184, 184, 1, 96, 182, 1, 150]
abbrev dktX1_nextMove_0 : List UInt8 := dkwX1_nextMove_0 ++ dktX1_nextMove_1
theorem dksX1_nextMove_0 : cX1_nextMove.data.toList.drop 0 = dktX1_nextMove_0 := by decide +kernel
theorem dksX1_nextMove_1 : cX1_nextMove.data.toList.drop 22 = dktX1_nextMove_1 := dk_seg dksX1_nextMove_0 22 rfl rfl
theorem dX1_nextMove_0 : decode cX1_nextMove 0 = .ok (.aload_n 0, 1) := dk_42 (dk_at dksX1_nextMove_0 0 rfl rfl)
theorem dX1_nextMove_1 : decode cX1_nextMove 1 = .ok (.aload_n 0, 1) := dk_42 (dk_at dksX1_nextMove_0 1 rfl rfl)
theorem dX1_nextMove_2 : decode cX1_nextMove 2 = .ok (.iload_n 1, 1) := dk_27 (dk_at dksX1_nextMove_0 2 rfl rfl)
theorem dX1_nextMove_3 : decode cX1_nextMove 3 = .ok (.invokevirtual 274, 3) := dk_182 1 18 (dk_at dksX1_nextMove_0 3 rfl rfl)
theorem dX1_nextMove_6 : decode cX1_nextMove 6 = .ok (.invokevirtual 393, 3) := dk_182 1 137 (dk_at dksX1_nextMove_0 6 rfl rfl)
theorem dX1_nextMove_9 : decode cX1_nextMove 9 = .ok (.aload_n 0, 1) := dk_42 (dk_at dksX1_nextMove_0 9 rfl rfl)
theorem dX1_nextMove_10 : decode cX1_nextMove 10 = .ok (.getfield 69, 3) := dk_180 0 69 (dk_at dksX1_nextMove_0 10 rfl rfl)
theorem dX1_nextMove_13 : decode cX1_nextMove 13 = .ok (.getfield 184, 3) := dk_180 0 184 (dk_at dksX1_nextMove_0 13 rfl rfl)
theorem dX1_nextMove_16 : decode cX1_nextMove 16 = .ok (.invokestatic 352, 3) := dk_184 1 96 (dk_at dksX1_nextMove_0 16 rfl rfl)
theorem dX1_nextMove_19 : decode cX1_nextMove 19 = .ok (.invokevirtual 406, 3) := dk_182 1 150 (dk_at dksX1_nextMove_0 19 rfl rfl)
theorem dX1_nextMove_22 : decode cX1_nextMove 22 = .ok (.checkcast 166, 3) := dk_192 0 166 (dk_at dksX1_nextMove_1 0 rfl rfl)
theorem dX1_nextMove_25 : decode cX1_nextMove 25 = .ok (.astore_n 2, 1) := dk_77 (dk_at dksX1_nextMove_1 3 rfl rfl)
theorem dX1_nextMove_26 : decode cX1_nextMove 26 = .ok (.aload_n 2, 1) := dk_44 (dk_at dksX1_nextMove_1 4 rfl rfl)
theorem dX1_nextMove_27 : decode cX1_nextMove 27 = .ok (.ifnonnull 7, 3) := dk_199 0 7 (dk_at dksX1_nextMove_1 5 rfl rfl)
theorem dX1_nextMove_30 : decode cX1_nextMove 30 = .ok (.iconst (-1), 1) := dk_2 (dk_at dksX1_nextMove_1 8 rfl rfl)
theorem dX1_nextMove_31 : decode cX1_nextMove 31 = .ok (.goto 7, 3) := dk_167 0 7 (dk_at dksX1_nextMove_1 9 rfl rfl)
theorem dX1_nextMove_34 : decode cX1_nextMove 34 = .ok (.aload_n 2, 1) := dk_44 (dk_at dksX1_nextMove_1 12 rfl rfl)
theorem dX1_nextMove_35 : decode cX1_nextMove 35 = .ok (.invokevirtual 168, 3) := dk_182 0 168 (dk_at dksX1_nextMove_1 13 rfl rfl)
theorem dX1_nextMove_38 : decode cX1_nextMove 38 = .ok (.ireturn, 1) := dk_172 (dk_at dksX1_nextMove_1 16 rfl rfl)
abbrev cX1_entry : ByteArray := prog_1_method_48_code
def yX1_entry : MethodName := ⟨RX1, "entry", "(III)I"⟩
def dkwX1_entry_3 : List UInt8 := [180, 1, 204, 172, 25, 4, 180, 1, 207, 182, 1, 119, 172, 187, 0, 7, 89, 183, 0, 9, 191]
abbrev dktX1_entry_3 : List UInt8 := dkwX1_entry_3 ++ []
def dkwX1_entry_2 : List UInt8 := [25, 4, 180, 1, 194, 172, 25, 4, 180, 1, 197, 180, 1, 201, 172, 25, 4, 180, 1, 13, 172, 25, 4]
abbrev dktX1_entry_2 : List UInt8 := dkwX1_entry_2 ++ dktX1_entry_3
def dkwX1_entry_1 : List UInt8 := [170, 0, 0, 0, 0, 0, 71, 0, 0, 0, 0, 0, 0, 0, 4, 0, 0, 0, 35, 0, 0, 0, 41, 0, 0, 0, 50, 0, 0, 0, 56, 0, 0, 0, 62]
abbrev dktX1_entry_1 : List UInt8 := dkwX1_entry_1 ++ dktX1_entry_2
def dkwX1_entry_0 : List UInt8 := [42, 27, 28, 182, 1, 190, 58, 4, 29]
abbrev dktX1_entry_0 : List UInt8 := dkwX1_entry_0 ++ dktX1_entry_1
theorem dksX1_entry_0 : cX1_entry.data.toList.drop 0 = dktX1_entry_0 := by decide +kernel
theorem dksX1_entry_1 : cX1_entry.data.toList.drop 9 = dktX1_entry_1 := dk_seg dksX1_entry_0 9 rfl rfl
theorem dksX1_entry_2 : cX1_entry.data.toList.drop 44 = dktX1_entry_2 := dk_seg dksX1_entry_1 35 rfl rfl
theorem dksX1_entry_3 : cX1_entry.data.toList.drop 67 = dktX1_entry_3 := dk_seg dksX1_entry_2 23 rfl rfl
theorem dX1_entry_0 : decode cX1_entry 0 = .ok (.aload_n 0, 1) := dk_42 (dk_at dksX1_entry_0 0 rfl rfl)
theorem dX1_entry_1 : decode cX1_entry 1 = .ok (.iload_n 1, 1) := dk_27 (dk_at dksX1_entry_0 1 rfl rfl)
theorem dX1_entry_2 : decode cX1_entry 2 = .ok (.iload_n 2, 1) := dk_28 (dk_at dksX1_entry_0 2 rfl rfl)
theorem dX1_entry_3 : decode cX1_entry 3 = .ok (.invokevirtual 446, 3) := dk_182 1 190 (dk_at dksX1_entry_0 3 rfl rfl)
theorem dX1_entry_6 : decode cX1_entry 6 = .ok (.astore 4, 2) := dk_58 4 (dk_at dksX1_entry_0 6 rfl rfl)
theorem dX1_entry_8 : decode cX1_entry 8 = .ok (.iload_n 3, 1) := dk_29 (dk_at dksX1_entry_0 8 rfl rfl)
theorem dX1_entry_9 : decode cX1_entry 9 = .ok (.tableswitch 71 0 4 #[35, 41, 50, 56, 62], 35) := by decide +kernel
theorem dX1_entry_44 : decode cX1_entry 44 = .ok (.aload 4, 2) := dk_25 4 (dk_at dksX1_entry_2 0 rfl rfl)
theorem dX1_entry_46 : decode cX1_entry 46 = .ok (.getfield 450, 3) := dk_180 1 194 (dk_at dksX1_entry_2 2 rfl rfl)
theorem dX1_entry_49 : decode cX1_entry 49 = .ok (.ireturn, 1) := dk_172 (dk_at dksX1_entry_2 5 rfl rfl)
theorem dX1_entry_50 : decode cX1_entry 50 = .ok (.aload 4, 2) := dk_25 4 (dk_at dksX1_entry_2 6 rfl rfl)
theorem dX1_entry_52 : decode cX1_entry 52 = .ok (.getfield 453, 3) := dk_180 1 197 (dk_at dksX1_entry_2 8 rfl rfl)
theorem dX1_entry_55 : decode cX1_entry 55 = .ok (.getfield 457, 3) := dk_180 1 201 (dk_at dksX1_entry_2 11 rfl rfl)
theorem dX1_entry_58 : decode cX1_entry 58 = .ok (.ireturn, 1) := dk_172 (dk_at dksX1_entry_2 14 rfl rfl)
theorem dX1_entry_59 : decode cX1_entry 59 = .ok (.aload 4, 2) := dk_25 4 (dk_at dksX1_entry_2 15 rfl rfl)
theorem dX1_entry_61 : decode cX1_entry 61 = .ok (.getfield 269, 3) := dk_180 1 13 (dk_at dksX1_entry_2 17 rfl rfl)
theorem dX1_entry_64 : decode cX1_entry 64 = .ok (.ireturn, 1) := dk_172 (dk_at dksX1_entry_2 20 rfl rfl)
theorem dX1_entry_65 : decode cX1_entry 65 = .ok (.aload 4, 2) := dk_25 4 (dk_at dksX1_entry_2 21 rfl rfl)
theorem dX1_entry_67 : decode cX1_entry 67 = .ok (.getfield 460, 3) := dk_180 1 204 (dk_at dksX1_entry_3 0 rfl rfl)
theorem dX1_entry_70 : decode cX1_entry 70 = .ok (.ireturn, 1) := dk_172 (dk_at dksX1_entry_3 3 rfl rfl)
theorem dX1_entry_71 : decode cX1_entry 71 = .ok (.aload 4, 2) := dk_25 4 (dk_at dksX1_entry_3 4 rfl rfl)
theorem dX1_entry_73 : decode cX1_entry 73 = .ok (.getfield 463, 3) := dk_180 1 207 (dk_at dksX1_entry_3 6 rfl rfl)
theorem dX1_entry_76 : decode cX1_entry 76 = .ok (.invokevirtual 375, 3) := dk_182 1 119 (dk_at dksX1_entry_3 9 rfl rfl)
theorem dX1_entry_79 : decode cX1_entry 79 = .ok (.ireturn, 1) := dk_172 (dk_at dksX1_entry_3 12 rfl rfl)
theorem dX1_entry_80 : decode cX1_entry 80 = .ok (.new 7, 3) := dk_187 0 7 (dk_at dksX1_entry_3 13 rfl rfl)
theorem dX1_entry_83 : decode cX1_entry 83 = .ok (.dup, 1) := dk_89 (dk_at dksX1_entry_3 16 rfl rfl)
theorem dX1_entry_84 : decode cX1_entry 84 = .ok (.invokespecial 9, 3) := dk_183 0 9 (dk_at dksX1_entry_3 17 rfl rfl)
theorem dX1_entry_87 : decode cX1_entry 87 = .ok (.athrow, 1) := dk_191 (dk_at dksX1_entry_3 20 rfl rfl)
abbrev cX1_entryAt : ByteArray := prog_1_method_47_code
def yX1_entryAt : MethodName := ⟨RX1, "entryAt", "(II)LCountyGazetteer$Entry;"⟩
def dkwX1_entryAt_4 : List UInt8 := [132, 5, 255, 167, 255, 223, 1, 176]
abbrev dktX1_entryAt_4 : List UInt8 := dkwX1_entryAt_4 ++ []
def dkwX1_entryAt_3 : List UInt8 := [153, 0, 29, 25, 6, 185, 0, 162, 1, 0, 192, 1, 14, 58, 7, 21, 5, 154, 0, 6, 25, 7, 176]
abbrev dktX1_entryAt_3 : List UInt8 := dkwX1_entryAt_3 ++ dktX1_entryAt_4
def dkwX1_entryAt_2 : List UInt8 := [184, 0, 221, 28, 54, 5, 25, 4, 180, 1, 48, 182, 1, 54, 58, 6, 25, 6, 185, 0, 156, 1, 0]
abbrev dktX1_entryAt_2 : List UInt8 := dkwX1_entryAt_2 ++ dktX1_entryAt_3
def dkwX1_entryAt_1 : List UInt8 := [25, 4, 180, 1, 48, 182, 1, 39, 4, 100, 133, 184, 0, 20, 153, 0, 7, 4, 167, 0, 4, 3]
abbrev dktX1_entryAt_1 : List UInt8 := dkwX1_entryAt_1 ++ dktX1_entryAt_2
def dkwX1_entryAt_0 : List UInt8 := [42, 27, 182, 1, 62, 78, 42, 182, 0, 249, 27, 182, 1, 68, 58, 4, 25, 4, 198, 0, 27, 28, 133, 9]
abbrev dktX1_entryAt_0 : List UInt8 := dkwX1_entryAt_0 ++ dktX1_entryAt_1
theorem dksX1_entryAt_0 : cX1_entryAt.data.toList.drop 0 = dktX1_entryAt_0 := by decide +kernel
theorem dksX1_entryAt_1 : cX1_entryAt.data.toList.drop 24 = dktX1_entryAt_1 := dk_seg dksX1_entryAt_0 24 rfl rfl
theorem dksX1_entryAt_2 : cX1_entryAt.data.toList.drop 46 = dktX1_entryAt_2 := dk_seg dksX1_entryAt_1 22 rfl rfl
theorem dksX1_entryAt_3 : cX1_entryAt.data.toList.drop 69 = dktX1_entryAt_3 := dk_seg dksX1_entryAt_2 23 rfl rfl
theorem dksX1_entryAt_4 : cX1_entryAt.data.toList.drop 92 = dktX1_entryAt_4 := dk_seg dksX1_entryAt_3 23 rfl rfl
theorem dX1_entryAt_0 : decode cX1_entryAt 0 = .ok (.aload_n 0, 1) := dk_42 (dk_at dksX1_entryAt_0 0 rfl rfl)
theorem dX1_entryAt_1 : decode cX1_entryAt 1 = .ok (.iload_n 1, 1) := dk_27 (dk_at dksX1_entryAt_0 1 rfl rfl)
theorem dX1_entryAt_2 : decode cX1_entryAt 2 = .ok (.invokevirtual 318, 3) := dk_182 1 62 (dk_at dksX1_entryAt_0 2 rfl rfl)
theorem dX1_entryAt_5 : decode cX1_entryAt 5 = .ok (.astore_n 3, 1) := dk_78 (dk_at dksX1_entryAt_0 5 rfl rfl)
theorem dX1_entryAt_6 : decode cX1_entryAt 6 = .ok (.aload_n 0, 1) := dk_42 (dk_at dksX1_entryAt_0 6 rfl rfl)
theorem dX1_entryAt_7 : decode cX1_entryAt 7 = .ok (.invokevirtual 249, 3) := dk_182 0 249 (dk_at dksX1_entryAt_0 7 rfl rfl)
theorem dX1_entryAt_10 : decode cX1_entryAt 10 = .ok (.iload_n 1, 1) := dk_27 (dk_at dksX1_entryAt_0 10 rfl rfl)
theorem dX1_entryAt_11 : decode cX1_entryAt 11 = .ok (.invokevirtual 324, 3) := dk_182 1 68 (dk_at dksX1_entryAt_0 11 rfl rfl)
theorem dX1_entryAt_14 : decode cX1_entryAt 14 = .ok (.astore 4, 2) := dk_58 4 (dk_at dksX1_entryAt_0 14 rfl rfl)
theorem dX1_entryAt_16 : decode cX1_entryAt 16 = .ok (.aload 4, 2) := dk_25 4 (dk_at dksX1_entryAt_0 16 rfl rfl)
theorem dX1_entryAt_18 : decode cX1_entryAt 18 = .ok (.ifnull 27, 3) := dk_198 0 27 (dk_at dksX1_entryAt_0 18 rfl rfl)
theorem dX1_entryAt_21 : decode cX1_entryAt 21 = .ok (.iload_n 2, 1) := dk_28 (dk_at dksX1_entryAt_0 21 rfl rfl)
theorem dX1_entryAt_22 : decode cX1_entryAt 22 = .ok (.i2l, 1) := dk_133 (dk_at dksX1_entryAt_0 22 rfl rfl)
theorem dX1_entryAt_23 : decode cX1_entryAt 23 = .ok (.lconst 0, 1) := dk_9 (dk_at dksX1_entryAt_0 23 rfl rfl)
theorem dX1_entryAt_24 : decode cX1_entryAt 24 = .ok (.aload 4, 2) := dk_25 4 (dk_at dksX1_entryAt_1 0 rfl rfl)
theorem dX1_entryAt_26 : decode cX1_entryAt 26 = .ok (.getfield 304, 3) := dk_180 1 48 (dk_at dksX1_entryAt_1 2 rfl rfl)
theorem dX1_entryAt_29 : decode cX1_entryAt 29 = .ok (.invokevirtual 295, 3) := dk_182 1 39 (dk_at dksX1_entryAt_1 5 rfl rfl)
theorem dX1_entryAt_32 : decode cX1_entryAt 32 = .ok (.iconst 1, 1) := dk_4 (dk_at dksX1_entryAt_1 8 rfl rfl)
theorem dX1_entryAt_33 : decode cX1_entryAt 33 = .ok (.isub, 1) := dk_100 (dk_at dksX1_entryAt_1 9 rfl rfl)
theorem dX1_entryAt_34 : decode cX1_entryAt 34 = .ok (.i2l, 1) := dk_133 (dk_at dksX1_entryAt_1 10 rfl rfl)
theorem dX1_entryAt_35 : decode cX1_entryAt 35 = .ok (.invokestatic 20, 3) := dk_184 0 20 (dk_at dksX1_entryAt_1 11 rfl rfl)
theorem dX1_entryAt_38 : decode cX1_entryAt 38 = .ok (.ifCond .eq 7, 3) := dk_153 0 7 (dk_at dksX1_entryAt_1 14 rfl rfl)
theorem dX1_entryAt_41 : decode cX1_entryAt 41 = .ok (.iconst 1, 1) := dk_4 (dk_at dksX1_entryAt_1 17 rfl rfl)
theorem dX1_entryAt_42 : decode cX1_entryAt 42 = .ok (.goto 4, 3) := dk_167 0 4 (dk_at dksX1_entryAt_1 18 rfl rfl)
theorem dX1_entryAt_45 : decode cX1_entryAt 45 = .ok (.iconst 0, 1) := dk_3 (dk_at dksX1_entryAt_1 21 rfl rfl)
theorem dX1_entryAt_46 : decode cX1_entryAt 46 = .ok (.invokestatic 221, 3) := dk_184 0 221 (dk_at dksX1_entryAt_2 0 rfl rfl)
theorem dX1_entryAt_49 : decode cX1_entryAt 49 = .ok (.iload_n 2, 1) := dk_28 (dk_at dksX1_entryAt_2 3 rfl rfl)
theorem dX1_entryAt_50 : decode cX1_entryAt 50 = .ok (.istore 5, 2) := dk_54 5 (dk_at dksX1_entryAt_2 4 rfl rfl)
theorem dX1_entryAt_52 : decode cX1_entryAt 52 = .ok (.aload 4, 2) := dk_25 4 (dk_at dksX1_entryAt_2 6 rfl rfl)
theorem dX1_entryAt_54 : decode cX1_entryAt 54 = .ok (.getfield 304, 3) := dk_180 1 48 (dk_at dksX1_entryAt_2 8 rfl rfl)
theorem dX1_entryAt_57 : decode cX1_entryAt 57 = .ok (.invokevirtual 310, 3) := dk_182 1 54 (dk_at dksX1_entryAt_2 11 rfl rfl)
theorem dX1_entryAt_60 : decode cX1_entryAt 60 = .ok (.astore 6, 2) := dk_58 6 (dk_at dksX1_entryAt_2 14 rfl rfl)
theorem dX1_entryAt_62 : decode cX1_entryAt 62 = .ok (.aload 6, 2) := dk_25 6 (dk_at dksX1_entryAt_2 16 rfl rfl)
theorem dX1_entryAt_64 : decode cX1_entryAt 64 = .ok (.invokeinterface 156 1, 5) := by decide +kernel
theorem dX1_entryAt_69 : decode cX1_entryAt 69 = .ok (.ifCond .eq 29, 3) := dk_153 0 29 (dk_at dksX1_entryAt_3 0 rfl rfl)
theorem dX1_entryAt_72 : decode cX1_entryAt 72 = .ok (.aload 6, 2) := dk_25 6 (dk_at dksX1_entryAt_3 3 rfl rfl)
theorem dX1_entryAt_74 : decode cX1_entryAt 74 = .ok (.invokeinterface 162 1, 5) := by decide +kernel
theorem dX1_entryAt_79 : decode cX1_entryAt 79 = .ok (.checkcast 270, 3) := dk_192 1 14 (dk_at dksX1_entryAt_3 10 rfl rfl)
theorem dX1_entryAt_82 : decode cX1_entryAt 82 = .ok (.astore 7, 2) := dk_58 7 (dk_at dksX1_entryAt_3 13 rfl rfl)
theorem dX1_entryAt_84 : decode cX1_entryAt 84 = .ok (.iload 5, 2) := dk_21 5 (dk_at dksX1_entryAt_3 15 rfl rfl)
theorem dX1_entryAt_86 : decode cX1_entryAt 86 = .ok (.ifCond .ne 6, 3) := dk_154 0 6 (dk_at dksX1_entryAt_3 17 rfl rfl)
theorem dX1_entryAt_89 : decode cX1_entryAt 89 = .ok (.aload 7, 2) := dk_25 7 (dk_at dksX1_entryAt_3 20 rfl rfl)
theorem dX1_entryAt_91 : decode cX1_entryAt 91 = .ok (.areturn, 1) := dk_176 (dk_at dksX1_entryAt_3 22 rfl rfl)
theorem dX1_entryAt_92 : decode cX1_entryAt 92 = .ok (.iinc 5 (-1), 3) := dk_132 5 255 (dk_at dksX1_entryAt_4 0 rfl rfl)
theorem dX1_entryAt_95 : decode cX1_entryAt 95 = .ok (.goto (-33), 3) := dk_167 255 223 (dk_at dksX1_entryAt_4 3 rfl rfl)
theorem dX1_entryAt_98 : decode cX1_entryAt 98 = .ok (.aconst_null, 1) := dk_1 (dk_at dksX1_entryAt_4 6 rfl rfl)
theorem dX1_entryAt_99 : decode cX1_entryAt 99 = .ok (.areturn, 1) := dk_176 (dk_at dksX1_entryAt_4 7 rfl rfl)
abbrev cX1_entryLetter : ByteArray := prog_1_method_49_code
def yX1_entryLetter : MethodName := ⟨RX1, "entryLetter", "(III)I"⟩
def dkwX1_entryLetter_0 : List UInt8 := [42, 27, 28, 182, 1, 190, 180, 1, 207, 29, 184, 1, 128, 172]
abbrev dktX1_entryLetter_0 : List UInt8 := dkwX1_entryLetter_0 ++ []
theorem dksX1_entryLetter_0 : cX1_entryLetter.data.toList.drop 0 = dktX1_entryLetter_0 := by decide +kernel
theorem dX1_entryLetter_0 : decode cX1_entryLetter 0 = .ok (.aload_n 0, 1) := dk_42 (dk_at dksX1_entryLetter_0 0 rfl rfl)
theorem dX1_entryLetter_1 : decode cX1_entryLetter 1 = .ok (.iload_n 1, 1) := dk_27 (dk_at dksX1_entryLetter_0 1 rfl rfl)
theorem dX1_entryLetter_2 : decode cX1_entryLetter 2 = .ok (.iload_n 2, 1) := dk_28 (dk_at dksX1_entryLetter_0 2 rfl rfl)
theorem dX1_entryLetter_3 : decode cX1_entryLetter 3 = .ok (.invokevirtual 446, 3) := dk_182 1 190 (dk_at dksX1_entryLetter_0 3 rfl rfl)
theorem dX1_entryLetter_6 : decode cX1_entryLetter 6 = .ok (.getfield 463, 3) := dk_180 1 207 (dk_at dksX1_entryLetter_0 6 rfl rfl)
theorem dX1_entryLetter_9 : decode cX1_entryLetter 9 = .ok (.iload_n 3, 1) := dk_29 (dk_at dksX1_entryLetter_0 9 rfl rfl)
theorem dX1_entryLetter_10 : decode cX1_entryLetter 10 = .ok (.invokestatic 384, 3) := dk_184 1 128 (dk_at dksX1_entryLetter_0 10 rfl rfl)
theorem dX1_entryLetter_13 : decode cX1_entryLetter 13 = .ok (.ireturn, 1) := dk_172 (dk_at dksX1_entryLetter_0 13 rfl rfl)
abbrev cX1_block : ByteArray := prog_1_method_50_code
def yX1_block : MethodName := ⟨RX1, "block", "(I)I"⟩
def dkwX1_block_1 : List UInt8 := [180, 0, 254, 27, 50, 180, 1, 211, 172]
abbrev dktX1_block_1 : List UInt8 := dkwX1_block_1 ++ []
def dkwX1_block_0 : List UInt8 := [42, 182, 0, 249, 77, 27, 133, 9, 44, 180, 0, 254, 190, 4, 100, 133, 184, 0, 20, 184, 0, 221, 44]
abbrev dktX1_block_0 : List UInt8 := dkwX1_block_0 ++ dktX1_block_1
theorem dksX1_block_0 : cX1_block.data.toList.drop 0 = dktX1_block_0 := by decide +kernel
theorem dksX1_block_1 : cX1_block.data.toList.drop 23 = dktX1_block_1 := dk_seg dksX1_block_0 23 rfl rfl
theorem dX1_block_0 : decode cX1_block 0 = .ok (.aload_n 0, 1) := dk_42 (dk_at dksX1_block_0 0 rfl rfl)
theorem dX1_block_1 : decode cX1_block 1 = .ok (.invokevirtual 249, 3) := dk_182 0 249 (dk_at dksX1_block_0 1 rfl rfl)
theorem dX1_block_4 : decode cX1_block 4 = .ok (.astore_n 2, 1) := dk_77 (dk_at dksX1_block_0 4 rfl rfl)
theorem dX1_block_5 : decode cX1_block 5 = .ok (.iload_n 1, 1) := dk_27 (dk_at dksX1_block_0 5 rfl rfl)
theorem dX1_block_6 : decode cX1_block 6 = .ok (.i2l, 1) := dk_133 (dk_at dksX1_block_0 6 rfl rfl)
theorem dX1_block_7 : decode cX1_block 7 = .ok (.lconst 0, 1) := dk_9 (dk_at dksX1_block_0 7 rfl rfl)
theorem dX1_block_8 : decode cX1_block 8 = .ok (.aload_n 2, 1) := dk_44 (dk_at dksX1_block_0 8 rfl rfl)
theorem dX1_block_9 : decode cX1_block 9 = .ok (.getfield 254, 3) := dk_180 0 254 (dk_at dksX1_block_0 9 rfl rfl)
theorem dX1_block_12 : decode cX1_block 12 = .ok (.arraylength, 1) := dk_190 (dk_at dksX1_block_0 12 rfl rfl)
theorem dX1_block_13 : decode cX1_block 13 = .ok (.iconst 1, 1) := dk_4 (dk_at dksX1_block_0 13 rfl rfl)
theorem dX1_block_14 : decode cX1_block 14 = .ok (.isub, 1) := dk_100 (dk_at dksX1_block_0 14 rfl rfl)
theorem dX1_block_15 : decode cX1_block 15 = .ok (.i2l, 1) := dk_133 (dk_at dksX1_block_0 15 rfl rfl)
theorem dX1_block_16 : decode cX1_block 16 = .ok (.invokestatic 20, 3) := dk_184 0 20 (dk_at dksX1_block_0 16 rfl rfl)
theorem dX1_block_19 : decode cX1_block 19 = .ok (.invokestatic 221, 3) := dk_184 0 221 (dk_at dksX1_block_0 19 rfl rfl)
theorem dX1_block_22 : decode cX1_block 22 = .ok (.aload_n 2, 1) := dk_44 (dk_at dksX1_block_0 22 rfl rfl)
theorem dX1_block_23 : decode cX1_block 23 = .ok (.getfield 254, 3) := dk_180 0 254 (dk_at dksX1_block_1 0 rfl rfl)
theorem dX1_block_26 : decode cX1_block 26 = .ok (.iload_n 1, 1) := dk_27 (dk_at dksX1_block_1 3 rfl rfl)
theorem dX1_block_27 : decode cX1_block 27 = .ok (.aaload, 1) := dk_50 (dk_at dksX1_block_1 4 rfl rfl)
theorem dX1_block_28 : decode cX1_block 28 = .ok (.getfield 467, 3) := dk_180 1 211 (dk_at dksX1_block_1 5 rfl rfl)
theorem dX1_block_31 : decode cX1_block 31 = .ok (.ireturn, 1) := dk_172 (dk_at dksX1_block_1 8 rfl rfl)
abbrev cX1_used : ByteArray := prog_1_method_52_code
def yX1_used : MethodName := ⟨RX1, "used", "(I)I"⟩
def dkwX1_used_0 : List UInt8 := [42, 27, 182, 1, 214, 27, 182, 1, 218, 172]
abbrev dktX1_used_0 : List UInt8 := dkwX1_used_0 ++ []
theorem dksX1_used_0 : cX1_used.data.toList.drop 0 = dktX1_used_0 := by decide +kernel
theorem dX1_used_0 : decode cX1_used 0 = .ok (.aload_n 0, 1) := dk_42 (dk_at dksX1_used_0 0 rfl rfl)
theorem dX1_used_1 : decode cX1_used 1 = .ok (.iload_n 1, 1) := dk_27 (dk_at dksX1_used_0 1 rfl rfl)
theorem dX1_used_2 : decode cX1_used 2 = .ok (.invokevirtual 470, 3) := dk_182 1 214 (dk_at dksX1_used_0 2 rfl rfl)
theorem dX1_used_5 : decode cX1_used 5 = .ok (.iload_n 1, 1) := dk_27 (dk_at dksX1_used_0 5 rfl rfl)
theorem dX1_used_6 : decode cX1_used 6 = .ok (.invokevirtual 474, 3) := dk_182 1 218 (dk_at dksX1_used_0 6 rfl rfl)
theorem dX1_used_9 : decode cX1_used 9 = .ok (.ireturn, 1) := dk_172 (dk_at dksX1_used_0 9 rfl rfl)
abbrev cX1_withPage : ByteArray := prog_1_method_51_code
def yX1_withPage : MethodName := ⟨RX1, "withPage", "(I)LCountyGazetteer$Edition;"⟩
def dkwX1_withPage_0 : List UInt8 := [42, 182, 0, 249, 77, 27, 133, 9, 44, 180, 1, 2, 4, 100, 133, 184, 0, 20, 184, 0, 221, 44, 176]
abbrev dktX1_withPage_0 : List UInt8 := dkwX1_withPage_0 ++ []
theorem dksX1_withPage_0 : cX1_withPage.data.toList.drop 0 = dktX1_withPage_0 := by decide +kernel
theorem dX1_withPage_0 : decode cX1_withPage 0 = .ok (.aload_n 0, 1) := dk_42 (dk_at dksX1_withPage_0 0 rfl rfl)
theorem dX1_withPage_1 : decode cX1_withPage 1 = .ok (.invokevirtual 249, 3) := dk_182 0 249 (dk_at dksX1_withPage_0 1 rfl rfl)
theorem dX1_withPage_4 : decode cX1_withPage 4 = .ok (.astore_n 2, 1) := dk_77 (dk_at dksX1_withPage_0 4 rfl rfl)
theorem dX1_withPage_5 : decode cX1_withPage 5 = .ok (.iload_n 1, 1) := dk_27 (dk_at dksX1_withPage_0 5 rfl rfl)
theorem dX1_withPage_6 : decode cX1_withPage 6 = .ok (.i2l, 1) := dk_133 (dk_at dksX1_withPage_0 6 rfl rfl)
theorem dX1_withPage_7 : decode cX1_withPage 7 = .ok (.lconst 0, 1) := dk_9 (dk_at dksX1_withPage_0 7 rfl rfl)
theorem dX1_withPage_8 : decode cX1_withPage 8 = .ok (.aload_n 2, 1) := dk_44 (dk_at dksX1_withPage_0 8 rfl rfl)
theorem dX1_withPage_9 : decode cX1_withPage 9 = .ok (.getfield 258, 3) := dk_180 1 2 (dk_at dksX1_withPage_0 9 rfl rfl)
theorem dX1_withPage_12 : decode cX1_withPage 12 = .ok (.iconst 1, 1) := dk_4 (dk_at dksX1_withPage_0 12 rfl rfl)
theorem dX1_withPage_13 : decode cX1_withPage 13 = .ok (.isub, 1) := dk_100 (dk_at dksX1_withPage_0 13 rfl rfl)
theorem dX1_withPage_14 : decode cX1_withPage 14 = .ok (.i2l, 1) := dk_133 (dk_at dksX1_withPage_0 14 rfl rfl)
theorem dX1_withPage_15 : decode cX1_withPage 15 = .ok (.invokestatic 20, 3) := dk_184 0 20 (dk_at dksX1_withPage_0 15 rfl rfl)
theorem dX1_withPage_18 : decode cX1_withPage 18 = .ok (.invokestatic 221, 3) := dk_184 0 221 (dk_at dksX1_withPage_0 18 rfl rfl)
theorem dX1_withPage_21 : decode cX1_withPage 21 = .ok (.aload_n 2, 1) := dk_44 (dk_at dksX1_withPage_0 21 rfl rfl)
theorem dX1_withPage_22 : decode cX1_withPage 22 = .ok (.areturn, 1) := dk_176 (dk_at dksX1_withPage_0 22 rfl rfl)
abbrev cX1_line : ByteArray := prog_1_method_55_code
def yX1_line : MethodName := ⟨RX1, "line", "(III)I"⟩
def dkwX1_line_5 : List UInt8 := [160, 0, 11, 25, 6, 180, 1, 224, 167, 0, 4, 2, 172]
abbrev dktX1_line_5 : List UInt8 := dkwX1_line_5 ++ []
def dkwX1_line_4 : List UInt8 := [29, 154, 0, 21, 25, 4, 25, 6, 184, 1, 231, 153, 0, 7, 6, 167, 0, 21, 7, 167, 0, 17, 29, 4]
abbrev dktX1_line_4 : List UInt8 := dkwX1_line_4 ++ dktX1_line_5
def dkwX1_line_3 : List UInt8 := [180, 1, 224, 167, 0, 11, 25, 5, 180, 1, 197, 180, 1, 201, 172, 25, 4, 27, 28, 184, 1, 227, 58, 6]
abbrev dktX1_line_3 : List UInt8 := dkwX1_line_3 ++ dktX1_line_4
def dkwX1_line_2 : List UInt8 := [25, 5, 198, 0, 37, 29, 154, 0, 11, 25, 5, 180, 1, 194, 167, 0, 24, 29, 4, 160, 0, 11, 25, 5]
abbrev dktX1_line_2 : List UInt8 := dkwX1_line_2 ++ dktX1_line_3
def dkwX1_line_1 : List UInt8 := [184, 0, 221, 29, 133, 9, 20, 1, 225, 184, 0, 20, 184, 0, 24, 25, 4, 27, 28, 182, 1, 221, 58, 5]
abbrev dktX1_line_1 : List UInt8 := dkwX1_line_1 ++ dktX1_line_2
def dkwX1_line_0 : List UInt8 := [42, 27, 182, 1, 214, 58, 4, 28, 133, 9, 25, 4, 27, 182, 1, 218, 4, 100, 133, 184, 0, 20]
abbrev dktX1_line_0 : List UInt8 := dkwX1_line_0 ++ dktX1_line_1
theorem dksX1_line_0 : cX1_line.data.toList.drop 0 = dktX1_line_0 := by decide +kernel
theorem dksX1_line_1 : cX1_line.data.toList.drop 22 = dktX1_line_1 := dk_seg dksX1_line_0 22 rfl rfl
theorem dksX1_line_2 : cX1_line.data.toList.drop 46 = dktX1_line_2 := dk_seg dksX1_line_1 24 rfl rfl
theorem dksX1_line_3 : cX1_line.data.toList.drop 70 = dktX1_line_3 := dk_seg dksX1_line_2 24 rfl rfl
theorem dksX1_line_4 : cX1_line.data.toList.drop 94 = dktX1_line_4 := dk_seg dksX1_line_3 24 rfl rfl
theorem dksX1_line_5 : cX1_line.data.toList.drop 118 = dktX1_line_5 := dk_seg dksX1_line_4 24 rfl rfl
theorem dX1_line_0 : decode cX1_line 0 = .ok (.aload_n 0, 1) := dk_42 (dk_at dksX1_line_0 0 rfl rfl)
theorem dX1_line_1 : decode cX1_line 1 = .ok (.iload_n 1, 1) := dk_27 (dk_at dksX1_line_0 1 rfl rfl)
theorem dX1_line_2 : decode cX1_line 2 = .ok (.invokevirtual 470, 3) := dk_182 1 214 (dk_at dksX1_line_0 2 rfl rfl)
theorem dX1_line_5 : decode cX1_line 5 = .ok (.astore 4, 2) := dk_58 4 (dk_at dksX1_line_0 5 rfl rfl)
theorem dX1_line_7 : decode cX1_line 7 = .ok (.iload_n 2, 1) := dk_28 (dk_at dksX1_line_0 7 rfl rfl)
theorem dX1_line_8 : decode cX1_line 8 = .ok (.i2l, 1) := dk_133 (dk_at dksX1_line_0 8 rfl rfl)
theorem dX1_line_9 : decode cX1_line 9 = .ok (.lconst 0, 1) := dk_9 (dk_at dksX1_line_0 9 rfl rfl)
theorem dX1_line_10 : decode cX1_line 10 = .ok (.aload 4, 2) := dk_25 4 (dk_at dksX1_line_0 10 rfl rfl)
theorem dX1_line_12 : decode cX1_line 12 = .ok (.iload_n 1, 1) := dk_27 (dk_at dksX1_line_0 12 rfl rfl)
theorem dX1_line_13 : decode cX1_line 13 = .ok (.invokevirtual 474, 3) := dk_182 1 218 (dk_at dksX1_line_0 13 rfl rfl)
theorem dX1_line_16 : decode cX1_line 16 = .ok (.iconst 1, 1) := dk_4 (dk_at dksX1_line_0 16 rfl rfl)
theorem dX1_line_17 : decode cX1_line 17 = .ok (.isub, 1) := dk_100 (dk_at dksX1_line_0 17 rfl rfl)
theorem dX1_line_18 : decode cX1_line 18 = .ok (.i2l, 1) := dk_133 (dk_at dksX1_line_0 18 rfl rfl)
theorem dX1_line_19 : decode cX1_line 19 = .ok (.invokestatic 20, 3) := dk_184 0 20 (dk_at dksX1_line_0 19 rfl rfl)
theorem dX1_line_22 : decode cX1_line 22 = .ok (.invokestatic 221, 3) := dk_184 0 221 (dk_at dksX1_line_1 0 rfl rfl)
theorem dX1_line_25 : decode cX1_line 25 = .ok (.iload_n 3, 1) := dk_29 (dk_at dksX1_line_1 3 rfl rfl)
theorem dX1_line_26 : decode cX1_line 26 = .ok (.i2l, 1) := dk_133 (dk_at dksX1_line_1 4 rfl rfl)
theorem dX1_line_27 : decode cX1_line 27 = .ok (.lconst 0, 1) := dk_9 (dk_at dksX1_line_1 5 rfl rfl)
theorem dX1_line_28 : decode cX1_line 28 = .ok (.ldc2_w 481, 3) := dk_20 1 225 (dk_at dksX1_line_1 6 rfl rfl)
theorem dX1_line_31 : decode cX1_line 31 = .ok (.invokestatic 20, 3) := dk_184 0 20 (dk_at dksX1_line_1 9 rfl rfl)
theorem dX1_line_34 : decode cX1_line 34 = .ok (.invokestatic 24, 3) := dk_184 0 24 (dk_at dksX1_line_1 12 rfl rfl)
theorem dX1_line_37 : decode cX1_line 37 = .ok (.aload 4, 2) := dk_25 4 (dk_at dksX1_line_1 15 rfl rfl)
theorem dX1_line_39 : decode cX1_line 39 = .ok (.iload_n 1, 1) := dk_27 (dk_at dksX1_line_1 17 rfl rfl)
theorem dX1_line_40 : decode cX1_line 40 = .ok (.iload_n 2, 1) := dk_28 (dk_at dksX1_line_1 18 rfl rfl)
theorem dX1_line_41 : decode cX1_line 41 = .ok (.invokevirtual 477, 3) := dk_182 1 221 (dk_at dksX1_line_1 19 rfl rfl)
theorem dX1_line_44 : decode cX1_line 44 = .ok (.astore 5, 2) := dk_58 5 (dk_at dksX1_line_1 22 rfl rfl)
theorem dX1_line_46 : decode cX1_line 46 = .ok (.aload 5, 2) := dk_25 5 (dk_at dksX1_line_2 0 rfl rfl)
theorem dX1_line_48 : decode cX1_line 48 = .ok (.ifnull 37, 3) := dk_198 0 37 (dk_at dksX1_line_2 2 rfl rfl)
theorem dX1_line_51 : decode cX1_line 51 = .ok (.iload_n 3, 1) := dk_29 (dk_at dksX1_line_2 5 rfl rfl)
theorem dX1_line_52 : decode cX1_line 52 = .ok (.ifCond .ne 11, 3) := dk_154 0 11 (dk_at dksX1_line_2 6 rfl rfl)
theorem dX1_line_55 : decode cX1_line 55 = .ok (.aload 5, 2) := dk_25 5 (dk_at dksX1_line_2 9 rfl rfl)
theorem dX1_line_57 : decode cX1_line 57 = .ok (.getfield 450, 3) := dk_180 1 194 (dk_at dksX1_line_2 11 rfl rfl)
theorem dX1_line_60 : decode cX1_line 60 = .ok (.goto 24, 3) := dk_167 0 24 (dk_at dksX1_line_2 14 rfl rfl)
theorem dX1_line_63 : decode cX1_line 63 = .ok (.iload_n 3, 1) := dk_29 (dk_at dksX1_line_2 17 rfl rfl)
theorem dX1_line_64 : decode cX1_line 64 = .ok (.iconst 1, 1) := dk_4 (dk_at dksX1_line_2 18 rfl rfl)
theorem dX1_line_65 : decode cX1_line 65 = .ok (.if_icmp .ne 11, 3) := dk_160 0 11 (dk_at dksX1_line_2 19 rfl rfl)
theorem dX1_line_68 : decode cX1_line 68 = .ok (.aload 5, 2) := dk_25 5 (dk_at dksX1_line_2 22 rfl rfl)
theorem dX1_line_70 : decode cX1_line 70 = .ok (.getfield 480, 3) := dk_180 1 224 (dk_at dksX1_line_3 0 rfl rfl)
theorem dX1_line_73 : decode cX1_line 73 = .ok (.goto 11, 3) := dk_167 0 11 (dk_at dksX1_line_3 3 rfl rfl)
theorem dX1_line_76 : decode cX1_line 76 = .ok (.aload 5, 2) := dk_25 5 (dk_at dksX1_line_3 6 rfl rfl)
theorem dX1_line_78 : decode cX1_line 78 = .ok (.getfield 453, 3) := dk_180 1 197 (dk_at dksX1_line_3 8 rfl rfl)
theorem dX1_line_81 : decode cX1_line 81 = .ok (.getfield 457, 3) := dk_180 1 201 (dk_at dksX1_line_3 11 rfl rfl)
theorem dX1_line_84 : decode cX1_line 84 = .ok (.ireturn, 1) := dk_172 (dk_at dksX1_line_3 14 rfl rfl)
theorem dX1_line_85 : decode cX1_line 85 = .ok (.aload 4, 2) := dk_25 4 (dk_at dksX1_line_3 15 rfl rfl)
theorem dX1_line_87 : decode cX1_line 87 = .ok (.iload_n 1, 1) := dk_27 (dk_at dksX1_line_3 17 rfl rfl)
theorem dX1_line_88 : decode cX1_line 88 = .ok (.iload_n 2, 1) := dk_28 (dk_at dksX1_line_3 18 rfl rfl)
theorem dX1_line_89 : decode cX1_line 89 = .ok (.invokestatic 483, 3) := dk_184 1 227 (dk_at dksX1_line_3 19 rfl rfl)
theorem dX1_line_92 : decode cX1_line 92 = .ok (.astore 6, 2) := dk_58 6 (dk_at dksX1_line_3 22 rfl rfl)
theorem dX1_line_94 : decode cX1_line 94 = .ok (.iload_n 3, 1) := dk_29 (dk_at dksX1_line_4 0 rfl rfl)
theorem dX1_line_95 : decode cX1_line 95 = .ok (.ifCond .ne 21, 3) := dk_154 0 21 (dk_at dksX1_line_4 1 rfl rfl)
theorem dX1_line_98 : decode cX1_line 98 = .ok (.aload 4, 2) := dk_25 4 (dk_at dksX1_line_4 4 rfl rfl)
theorem dX1_line_100 : decode cX1_line 100 = .ok (.aload 6, 2) := dk_25 6 (dk_at dksX1_line_4 6 rfl rfl)
theorem dX1_line_102 : decode cX1_line 102 = .ok (.invokestatic 487, 3) := dk_184 1 231 (dk_at dksX1_line_4 8 rfl rfl)
theorem dX1_line_105 : decode cX1_line 105 = .ok (.ifCond .eq 7, 3) := dk_153 0 7 (dk_at dksX1_line_4 11 rfl rfl)
theorem dX1_line_108 : decode cX1_line 108 = .ok (.iconst 3, 1) := dk_6 (dk_at dksX1_line_4 14 rfl rfl)
theorem dX1_line_109 : decode cX1_line 109 = .ok (.goto 21, 3) := dk_167 0 21 (dk_at dksX1_line_4 15 rfl rfl)
theorem dX1_line_112 : decode cX1_line 112 = .ok (.iconst 4, 1) := dk_7 (dk_at dksX1_line_4 18 rfl rfl)
theorem dX1_line_113 : decode cX1_line 113 = .ok (.goto 17, 3) := dk_167 0 17 (dk_at dksX1_line_4 19 rfl rfl)
theorem dX1_line_116 : decode cX1_line 116 = .ok (.iload_n 3, 1) := dk_29 (dk_at dksX1_line_4 22 rfl rfl)
theorem dX1_line_117 : decode cX1_line 117 = .ok (.iconst 1, 1) := dk_4 (dk_at dksX1_line_4 23 rfl rfl)
theorem dX1_line_118 : decode cX1_line 118 = .ok (.if_icmp .ne 11, 3) := dk_160 0 11 (dk_at dksX1_line_5 0 rfl rfl)
theorem dX1_line_121 : decode cX1_line 121 = .ok (.aload 6, 2) := dk_25 6 (dk_at dksX1_line_5 3 rfl rfl)
theorem dX1_line_123 : decode cX1_line 123 = .ok (.getfield 480, 3) := dk_180 1 224 (dk_at dksX1_line_5 5 rfl rfl)
theorem dX1_line_126 : decode cX1_line 126 = .ok (.goto 4, 3) := dk_167 0 4 (dk_at dksX1_line_5 8 rfl rfl)
theorem dX1_line_129 : decode cX1_line 129 = .ok (.iconst (-1), 1) := dk_2 (dk_at dksX1_line_5 11 rfl rfl)
theorem dX1_line_130 : decode cX1_line 130 = .ok (.ireturn, 1) := dk_172 (dk_at dksX1_line_5 12 rfl rfl)
abbrev cX1_headed : ByteArray := prog_1_method_53_code
def yX1_headed : MethodName := ⟨RX1, "headed", "(LCountyGazetteer$Edition;II)LCountyGazetteer$Entry;"⟩
def dkwX1_headed_0 : List UInt8 := [42, 27, 28, 4, 96, 182, 1, 221, 176]
abbrev dktX1_headed_0 : List UInt8 := dkwX1_headed_0 ++ []
theorem dksX1_headed_0 : cX1_headed.data.toList.drop 0 = dktX1_headed_0 := by decide +kernel
theorem dX1_headed_0 : decode cX1_headed 0 = .ok (.aload_n 0, 1) := dk_42 (dk_at dksX1_headed_0 0 rfl rfl)
theorem dX1_headed_1 : decode cX1_headed 1 = .ok (.iload_n 1, 1) := dk_27 (dk_at dksX1_headed_0 1 rfl rfl)
theorem dX1_headed_2 : decode cX1_headed 2 = .ok (.iload_n 2, 1) := dk_28 (dk_at dksX1_headed_0 2 rfl rfl)
theorem dX1_headed_3 : decode cX1_headed 3 = .ok (.iconst 1, 1) := dk_4 (dk_at dksX1_headed_0 3 rfl rfl)
theorem dX1_headed_4 : decode cX1_headed 4 = .ok (.iadd, 1) := dk_96 (dk_at dksX1_headed_0 4 rfl rfl)
theorem dX1_headed_5 : decode cX1_headed 5 = .ok (.invokevirtual 477, 3) := dk_182 1 221 (dk_at dksX1_headed_0 5 rfl rfl)
theorem dX1_headed_8 : decode cX1_headed 8 = .ok (.areturn, 1) := dk_176 (dk_at dksX1_headed_0 8 rfl rfl)
abbrev cX1_isFirst : ByteArray := prog_1_method_54_code
def yX1_isFirst : MethodName := ⟨RX1, "isFirst", "(LCountyGazetteer$Edition;LCountyGazetteer$Entry;)Z"⟩
def dkwX1_isFirst_0 : List UInt8 := [42, 43, 180, 1, 224, 182, 1, 68, 180, 1, 48, 182, 1, 81, 43, 166, 0, 7, 4, 167, 0, 4, 3, 172]
abbrev dktX1_isFirst_0 : List UInt8 := dkwX1_isFirst_0 ++ []
theorem dksX1_isFirst_0 : cX1_isFirst.data.toList.drop 0 = dktX1_isFirst_0 := by decide +kernel
theorem dX1_isFirst_0 : decode cX1_isFirst 0 = .ok (.aload_n 0, 1) := dk_42 (dk_at dksX1_isFirst_0 0 rfl rfl)
theorem dX1_isFirst_1 : decode cX1_isFirst 1 = .ok (.aload_n 1, 1) := dk_43 (dk_at dksX1_isFirst_0 1 rfl rfl)
theorem dX1_isFirst_2 : decode cX1_isFirst 2 = .ok (.getfield 480, 3) := dk_180 1 224 (dk_at dksX1_isFirst_0 2 rfl rfl)
theorem dX1_isFirst_5 : decode cX1_isFirst 5 = .ok (.invokevirtual 324, 3) := dk_182 1 68 (dk_at dksX1_isFirst_0 5 rfl rfl)
theorem dX1_isFirst_8 : decode cX1_isFirst 8 = .ok (.getfield 304, 3) := dk_180 1 48 (dk_at dksX1_isFirst_0 8 rfl rfl)
theorem dX1_isFirst_11 : decode cX1_isFirst 11 = .ok (.invokevirtual 337, 3) := dk_182 1 81 (dk_at dksX1_isFirst_0 11 rfl rfl)
theorem dX1_isFirst_14 : decode cX1_isFirst 14 = .ok (.aload_n 1, 1) := dk_43 (dk_at dksX1_isFirst_0 14 rfl rfl)
theorem dX1_isFirst_15 : decode cX1_isFirst 15 = .ok (.if_acmp .ne 7, 3) := dk_166 0 7 (dk_at dksX1_isFirst_0 15 rfl rfl)
theorem dX1_isFirst_18 : decode cX1_isFirst 18 = .ok (.iconst 1, 1) := dk_4 (dk_at dksX1_isFirst_0 18 rfl rfl)
theorem dX1_isFirst_19 : decode cX1_isFirst 19 = .ok (.goto 4, 3) := dk_167 0 4 (dk_at dksX1_isFirst_0 19 rfl rfl)
theorem dX1_isFirst_22 : decode cX1_isFirst 22 = .ok (.iconst 0, 1) := dk_3 (dk_at dksX1_isFirst_0 22 rfl rfl)
theorem dX1_isFirst_23 : decode cX1_isFirst 23 = .ok (.ireturn, 1) := dk_172 (dk_at dksX1_isFirst_0 23 rfl rfl)
abbrev cX1_linesFor : ByteArray := prog_1_method_57_code
def yX1_linesFor : MethodName := ⟨RX1, "linesFor", "(I)I"⟩
def dkwX1_linesFor_2 : List UInt8 := [167, 255, 229, 2, 172]
abbrev dktX1_linesFor_2 : List UInt8 := dkwX1_linesFor_2 ++ []
def dkwX1_linesFor_1 : List UInt8 := [163, 0, 27, 44, 29, 42, 180, 0, 69, 180, 0, 241, 182, 1, 240, 27, 163, 0, 5, 29, 172, 132, 3, 1]
abbrev dktX1_linesFor_1 : List UInt8 := dkwX1_linesFor_1 ++ dktX1_linesFor_2
def dkwX1_linesFor_0 : List UInt8 := [27, 133, 10, 20, 1, 238, 184, 0, 20, 184, 0, 24, 42, 182, 0, 249, 77, 7, 62, 29, 16, 30]
abbrev dktX1_linesFor_0 : List UInt8 := dkwX1_linesFor_0 ++ dktX1_linesFor_1
theorem dksX1_linesFor_0 : cX1_linesFor.data.toList.drop 0 = dktX1_linesFor_0 := by decide +kernel
theorem dksX1_linesFor_1 : cX1_linesFor.data.toList.drop 22 = dktX1_linesFor_1 := dk_seg dksX1_linesFor_0 22 rfl rfl
theorem dksX1_linesFor_2 : cX1_linesFor.data.toList.drop 46 = dktX1_linesFor_2 := dk_seg dksX1_linesFor_1 24 rfl rfl
theorem dX1_linesFor_0 : decode cX1_linesFor 0 = .ok (.iload_n 1, 1) := dk_27 (dk_at dksX1_linesFor_0 0 rfl rfl)
theorem dX1_linesFor_1 : decode cX1_linesFor 1 = .ok (.i2l, 1) := dk_133 (dk_at dksX1_linesFor_0 1 rfl rfl)
theorem dX1_linesFor_2 : decode cX1_linesFor 2 = .ok (.lconst 1, 1) := dk_10 (dk_at dksX1_linesFor_0 2 rfl rfl)
theorem dX1_linesFor_3 : decode cX1_linesFor 3 = .ok (.ldc2_w 494, 3) := dk_20 1 238 (dk_at dksX1_linesFor_0 3 rfl rfl)
theorem dX1_linesFor_6 : decode cX1_linesFor 6 = .ok (.invokestatic 20, 3) := dk_184 0 20 (dk_at dksX1_linesFor_0 6 rfl rfl)
theorem dX1_linesFor_9 : decode cX1_linesFor 9 = .ok (.invokestatic 24, 3) := dk_184 0 24 (dk_at dksX1_linesFor_0 9 rfl rfl)
theorem dX1_linesFor_12 : decode cX1_linesFor 12 = .ok (.aload_n 0, 1) := dk_42 (dk_at dksX1_linesFor_0 12 rfl rfl)
theorem dX1_linesFor_13 : decode cX1_linesFor 13 = .ok (.invokevirtual 249, 3) := dk_182 0 249 (dk_at dksX1_linesFor_0 13 rfl rfl)
theorem dX1_linesFor_16 : decode cX1_linesFor 16 = .ok (.astore_n 2, 1) := dk_77 (dk_at dksX1_linesFor_0 16 rfl rfl)
theorem dX1_linesFor_17 : decode cX1_linesFor 17 = .ok (.iconst 4, 1) := dk_7 (dk_at dksX1_linesFor_0 17 rfl rfl)
theorem dX1_linesFor_18 : decode cX1_linesFor 18 = .ok (.istore_n 3, 1) := dk_62 (dk_at dksX1_linesFor_0 18 rfl rfl)
theorem dX1_linesFor_19 : decode cX1_linesFor 19 = .ok (.iload_n 3, 1) := dk_29 (dk_at dksX1_linesFor_0 19 rfl rfl)
theorem dX1_linesFor_20 : decode cX1_linesFor 20 = .ok (.bipush 30, 2) := dk_16 30 (dk_at dksX1_linesFor_0 20 rfl rfl)
theorem dX1_linesFor_22 : decode cX1_linesFor 22 = .ok (.if_icmp .gt 27, 3) := dk_163 0 27 (dk_at dksX1_linesFor_1 0 rfl rfl)
theorem dX1_linesFor_25 : decode cX1_linesFor 25 = .ok (.aload_n 2, 1) := dk_44 (dk_at dksX1_linesFor_1 3 rfl rfl)
theorem dX1_linesFor_26 : decode cX1_linesFor 26 = .ok (.iload_n 3, 1) := dk_29 (dk_at dksX1_linesFor_1 4 rfl rfl)
theorem dX1_linesFor_27 : decode cX1_linesFor 27 = .ok (.aload_n 0, 1) := dk_42 (dk_at dksX1_linesFor_1 5 rfl rfl)
theorem dX1_linesFor_28 : decode cX1_linesFor 28 = .ok (.getfield 69, 3) := dk_180 0 69 (dk_at dksX1_linesFor_1 6 rfl rfl)
theorem dX1_linesFor_31 : decode cX1_linesFor 31 = .ok (.getfield 241, 3) := dk_180 0 241 (dk_at dksX1_linesFor_1 9 rfl rfl)
theorem dX1_linesFor_34 : decode cX1_linesFor 34 = .ok (.invokevirtual 496, 3) := dk_182 1 240 (dk_at dksX1_linesFor_1 12 rfl rfl)
theorem dX1_linesFor_37 : decode cX1_linesFor 37 = .ok (.iload_n 1, 1) := dk_27 (dk_at dksX1_linesFor_1 15 rfl rfl)
theorem dX1_linesFor_38 : decode cX1_linesFor 38 = .ok (.if_icmp .gt 5, 3) := dk_163 0 5 (dk_at dksX1_linesFor_1 16 rfl rfl)
theorem dX1_linesFor_41 : decode cX1_linesFor 41 = .ok (.iload_n 3, 1) := dk_29 (dk_at dksX1_linesFor_1 19 rfl rfl)
theorem dX1_linesFor_42 : decode cX1_linesFor 42 = .ok (.ireturn, 1) := dk_172 (dk_at dksX1_linesFor_1 20 rfl rfl)
theorem dX1_linesFor_43 : decode cX1_linesFor 43 = .ok (.iinc 3 1, 3) := dk_132 3 1 (dk_at dksX1_linesFor_1 21 rfl rfl)
theorem dX1_linesFor_46 : decode cX1_linesFor 46 = .ok (.goto (-27), 3) := dk_167 255 229 (dk_at dksX1_linesFor_2 0 rfl rfl)
theorem dX1_linesFor_49 : decode cX1_linesFor 49 = .ok (.iconst (-1), 1) := dk_2 (dk_at dksX1_linesFor_2 3 rfl rfl)
theorem dX1_linesFor_50 : decode cX1_linesFor 50 = .ok (.ireturn, 1) := dk_172 (dk_at dksX1_linesFor_2 4 rfl rfl)
abbrev cX1_volumes : ByteArray := prog_1_method_59_code
def yX1_volumes : MethodName := ⟨RX1, "volumes", "(I)I"⟩
def dkwX1_volumes_0 : List UInt8 := [42, 27, 182, 1, 249, 27, 182, 1, 253, 172]
abbrev dktX1_volumes_0 : List UInt8 := dkwX1_volumes_0 ++ []
theorem dksX1_volumes_0 : cX1_volumes.data.toList.drop 0 = dktX1_volumes_0 := by decide +kernel
theorem dX1_volumes_0 : decode cX1_volumes 0 = .ok (.aload_n 0, 1) := dk_42 (dk_at dksX1_volumes_0 0 rfl rfl)
theorem dX1_volumes_1 : decode cX1_volumes 1 = .ok (.iload_n 1, 1) := dk_27 (dk_at dksX1_volumes_0 1 rfl rfl)
theorem dX1_volumes_2 : decode cX1_volumes 2 = .ok (.invokevirtual 505, 3) := dk_182 1 249 (dk_at dksX1_volumes_0 2 rfl rfl)
theorem dX1_volumes_5 : decode cX1_volumes 5 = .ok (.iload_n 1, 1) := dk_27 (dk_at dksX1_volumes_0 5 rfl rfl)
theorem dX1_volumes_6 : decode cX1_volumes 6 = .ok (.invokevirtual 509, 3) := dk_182 1 253 (dk_at dksX1_volumes_0 6 rfl rfl)
theorem dX1_volumes_9 : decode cX1_volumes 9 = .ok (.ireturn, 1) := dk_172 (dk_at dksX1_volumes_0 9 rfl rfl)
abbrev cX1_split : ByteArray := prog_1_method_58_code
def yX1_split : MethodName := ⟨RX1, "split", "(I)LCountyGazetteer$Split;"⟩
def dkwX1_split_1 : List UInt8 := [180, 0, 69, 180, 0, 238, 27, 183, 1, 246, 176]
abbrev dktX1_split_1 : List UInt8 := dkwX1_split_1 ++ []
def dkwX1_split_0 : List UInt8 := [27, 133, 10, 20, 1, 238, 184, 0, 20, 184, 0, 24, 187, 1, 244, 89, 42, 182, 0, 249, 180, 0, 254, 42]
abbrev dktX1_split_0 : List UInt8 := dkwX1_split_0 ++ dktX1_split_1
theorem dksX1_split_0 : cX1_split.data.toList.drop 0 = dktX1_split_0 := by decide +kernel
theorem dksX1_split_1 : cX1_split.data.toList.drop 24 = dktX1_split_1 := dk_seg dksX1_split_0 24 rfl rfl
theorem dX1_split_0 : decode cX1_split 0 = .ok (.iload_n 1, 1) := dk_27 (dk_at dksX1_split_0 0 rfl rfl)
theorem dX1_split_1 : decode cX1_split 1 = .ok (.i2l, 1) := dk_133 (dk_at dksX1_split_0 1 rfl rfl)
theorem dX1_split_2 : decode cX1_split 2 = .ok (.lconst 1, 1) := dk_10 (dk_at dksX1_split_0 2 rfl rfl)
theorem dX1_split_3 : decode cX1_split 3 = .ok (.ldc2_w 494, 3) := dk_20 1 238 (dk_at dksX1_split_0 3 rfl rfl)
theorem dX1_split_6 : decode cX1_split 6 = .ok (.invokestatic 20, 3) := dk_184 0 20 (dk_at dksX1_split_0 6 rfl rfl)
theorem dX1_split_9 : decode cX1_split 9 = .ok (.invokestatic 24, 3) := dk_184 0 24 (dk_at dksX1_split_0 9 rfl rfl)
theorem dX1_split_12 : decode cX1_split 12 = .ok (.new 500, 3) := dk_187 1 244 (dk_at dksX1_split_0 12 rfl rfl)
theorem dX1_split_15 : decode cX1_split 15 = .ok (.dup, 1) := dk_89 (dk_at dksX1_split_0 15 rfl rfl)
theorem dX1_split_16 : decode cX1_split 16 = .ok (.aload_n 0, 1) := dk_42 (dk_at dksX1_split_0 16 rfl rfl)
theorem dX1_split_17 : decode cX1_split 17 = .ok (.invokevirtual 249, 3) := dk_182 0 249 (dk_at dksX1_split_0 17 rfl rfl)
theorem dX1_split_20 : decode cX1_split 20 = .ok (.getfield 254, 3) := dk_180 0 254 (dk_at dksX1_split_0 20 rfl rfl)
theorem dX1_split_23 : decode cX1_split 23 = .ok (.aload_n 0, 1) := dk_42 (dk_at dksX1_split_0 23 rfl rfl)
theorem dX1_split_24 : decode cX1_split 24 = .ok (.getfield 69, 3) := dk_180 0 69 (dk_at dksX1_split_1 0 rfl rfl)
theorem dX1_split_27 : decode cX1_split 27 = .ok (.getfield 238, 3) := dk_180 0 238 (dk_at dksX1_split_1 3 rfl rfl)
theorem dX1_split_30 : decode cX1_split 30 = .ok (.iload_n 1, 1) := dk_27 (dk_at dksX1_split_1 6 rfl rfl)
theorem dX1_split_31 : decode cX1_split 31 = .ok (.invokespecial 502, 3) := dk_183 1 246 (dk_at dksX1_split_1 7 rfl rfl)
theorem dX1_split_34 : decode cX1_split 34 = .ok (.areturn, 1) := dk_176 (dk_at dksX1_split_1 10 rfl rfl)
abbrev cX1_volume : ByteArray := prog_1_method_60_code
def yX1_volume : MethodName := ⟨RX1, "volume", "(III)I"⟩
def dkwX1_volume_3 : List UInt8 := [167, 0, 9, 25, 4, 28, 182, 2, 3, 172]
abbrev dktX1_volume_3 : List UInt8 := dkwX1_volume_3 ++ []
def dkwX1_volume_2 : List UInt8 := [167, 0, 32, 29, 4, 160, 0, 21, 25, 4, 28, 4, 96, 182, 2, 0, 25, 4, 28, 182, 2, 0, 100]
abbrev dktX1_volume_2 : List UInt8 := dkwX1_volume_2 ++ dktX1_volume_3
def dkwX1_volume_1 : List UInt8 := [27, 182, 1, 253, 4, 100, 133, 184, 0, 20, 184, 0, 221, 29, 154, 0, 12, 25, 4, 28, 182, 2, 0]
abbrev dktX1_volume_1 : List UInt8 := dkwX1_volume_1 ++ dktX1_volume_2
def dkwX1_volume_0 : List UInt8 := [42, 27, 182, 1, 249, 58, 4, 29, 133, 9, 20, 1, 225, 184, 0, 20, 184, 0, 24, 28, 133, 9, 25, 4]
abbrev dktX1_volume_0 : List UInt8 := dkwX1_volume_0 ++ dktX1_volume_1
theorem dksX1_volume_0 : cX1_volume.data.toList.drop 0 = dktX1_volume_0 := by decide +kernel
theorem dksX1_volume_1 : cX1_volume.data.toList.drop 24 = dktX1_volume_1 := dk_seg dksX1_volume_0 24 rfl rfl
theorem dksX1_volume_2 : cX1_volume.data.toList.drop 47 = dktX1_volume_2 := dk_seg dksX1_volume_1 23 rfl rfl
theorem dksX1_volume_3 : cX1_volume.data.toList.drop 70 = dktX1_volume_3 := dk_seg dksX1_volume_2 23 rfl rfl
theorem dX1_volume_0 : decode cX1_volume 0 = .ok (.aload_n 0, 1) := dk_42 (dk_at dksX1_volume_0 0 rfl rfl)
theorem dX1_volume_1 : decode cX1_volume 1 = .ok (.iload_n 1, 1) := dk_27 (dk_at dksX1_volume_0 1 rfl rfl)
theorem dX1_volume_2 : decode cX1_volume 2 = .ok (.invokevirtual 505, 3) := dk_182 1 249 (dk_at dksX1_volume_0 2 rfl rfl)
theorem dX1_volume_5 : decode cX1_volume 5 = .ok (.astore 4, 2) := dk_58 4 (dk_at dksX1_volume_0 5 rfl rfl)
theorem dX1_volume_7 : decode cX1_volume 7 = .ok (.iload_n 3, 1) := dk_29 (dk_at dksX1_volume_0 7 rfl rfl)
theorem dX1_volume_8 : decode cX1_volume 8 = .ok (.i2l, 1) := dk_133 (dk_at dksX1_volume_0 8 rfl rfl)
theorem dX1_volume_9 : decode cX1_volume 9 = .ok (.lconst 0, 1) := dk_9 (dk_at dksX1_volume_0 9 rfl rfl)
theorem dX1_volume_10 : decode cX1_volume 10 = .ok (.ldc2_w 481, 3) := dk_20 1 225 (dk_at dksX1_volume_0 10 rfl rfl)
theorem dX1_volume_13 : decode cX1_volume 13 = .ok (.invokestatic 20, 3) := dk_184 0 20 (dk_at dksX1_volume_0 13 rfl rfl)
theorem dX1_volume_16 : decode cX1_volume 16 = .ok (.invokestatic 24, 3) := dk_184 0 24 (dk_at dksX1_volume_0 16 rfl rfl)
theorem dX1_volume_19 : decode cX1_volume 19 = .ok (.iload_n 2, 1) := dk_28 (dk_at dksX1_volume_0 19 rfl rfl)
theorem dX1_volume_20 : decode cX1_volume 20 = .ok (.i2l, 1) := dk_133 (dk_at dksX1_volume_0 20 rfl rfl)
theorem dX1_volume_21 : decode cX1_volume 21 = .ok (.lconst 0, 1) := dk_9 (dk_at dksX1_volume_0 21 rfl rfl)
theorem dX1_volume_22 : decode cX1_volume 22 = .ok (.aload 4, 2) := dk_25 4 (dk_at dksX1_volume_0 22 rfl rfl)
theorem dX1_volume_24 : decode cX1_volume 24 = .ok (.iload_n 1, 1) := dk_27 (dk_at dksX1_volume_1 0 rfl rfl)
theorem dX1_volume_25 : decode cX1_volume 25 = .ok (.invokevirtual 509, 3) := dk_182 1 253 (dk_at dksX1_volume_1 1 rfl rfl)
theorem dX1_volume_28 : decode cX1_volume 28 = .ok (.iconst 1, 1) := dk_4 (dk_at dksX1_volume_1 4 rfl rfl)
theorem dX1_volume_29 : decode cX1_volume 29 = .ok (.isub, 1) := dk_100 (dk_at dksX1_volume_1 5 rfl rfl)
theorem dX1_volume_30 : decode cX1_volume 30 = .ok (.i2l, 1) := dk_133 (dk_at dksX1_volume_1 6 rfl rfl)
theorem dX1_volume_31 : decode cX1_volume 31 = .ok (.invokestatic 20, 3) := dk_184 0 20 (dk_at dksX1_volume_1 7 rfl rfl)
theorem dX1_volume_34 : decode cX1_volume 34 = .ok (.invokestatic 221, 3) := dk_184 0 221 (dk_at dksX1_volume_1 10 rfl rfl)
theorem dX1_volume_37 : decode cX1_volume 37 = .ok (.iload_n 3, 1) := dk_29 (dk_at dksX1_volume_1 13 rfl rfl)
theorem dX1_volume_38 : decode cX1_volume 38 = .ok (.ifCond .ne 12, 3) := dk_154 0 12 (dk_at dksX1_volume_1 14 rfl rfl)
theorem dX1_volume_41 : decode cX1_volume 41 = .ok (.aload 4, 2) := dk_25 4 (dk_at dksX1_volume_1 17 rfl rfl)
theorem dX1_volume_43 : decode cX1_volume 43 = .ok (.iload_n 2, 1) := dk_28 (dk_at dksX1_volume_1 19 rfl rfl)
theorem dX1_volume_44 : decode cX1_volume 44 = .ok (.invokevirtual 512, 3) := dk_182 2 0 (dk_at dksX1_volume_1 20 rfl rfl)
theorem dX1_volume_47 : decode cX1_volume 47 = .ok (.goto 32, 3) := dk_167 0 32 (dk_at dksX1_volume_2 0 rfl rfl)
theorem dX1_volume_50 : decode cX1_volume 50 = .ok (.iload_n 3, 1) := dk_29 (dk_at dksX1_volume_2 3 rfl rfl)
theorem dX1_volume_51 : decode cX1_volume 51 = .ok (.iconst 1, 1) := dk_4 (dk_at dksX1_volume_2 4 rfl rfl)
theorem dX1_volume_52 : decode cX1_volume 52 = .ok (.if_icmp .ne 21, 3) := dk_160 0 21 (dk_at dksX1_volume_2 5 rfl rfl)
theorem dX1_volume_55 : decode cX1_volume 55 = .ok (.aload 4, 2) := dk_25 4 (dk_at dksX1_volume_2 8 rfl rfl)
theorem dX1_volume_57 : decode cX1_volume 57 = .ok (.iload_n 2, 1) := dk_28 (dk_at dksX1_volume_2 10 rfl rfl)
theorem dX1_volume_58 : decode cX1_volume 58 = .ok (.iconst 1, 1) := dk_4 (dk_at dksX1_volume_2 11 rfl rfl)
theorem dX1_volume_59 : decode cX1_volume 59 = .ok (.iadd, 1) := dk_96 (dk_at dksX1_volume_2 12 rfl rfl)
theorem dX1_volume_60 : decode cX1_volume 60 = .ok (.invokevirtual 512, 3) := dk_182 2 0 (dk_at dksX1_volume_2 13 rfl rfl)
theorem dX1_volume_63 : decode cX1_volume 63 = .ok (.aload 4, 2) := dk_25 4 (dk_at dksX1_volume_2 16 rfl rfl)
theorem dX1_volume_65 : decode cX1_volume 65 = .ok (.iload_n 2, 1) := dk_28 (dk_at dksX1_volume_2 18 rfl rfl)
theorem dX1_volume_66 : decode cX1_volume 66 = .ok (.invokevirtual 512, 3) := dk_182 2 0 (dk_at dksX1_volume_2 19 rfl rfl)
theorem dX1_volume_69 : decode cX1_volume 69 = .ok (.isub, 1) := dk_100 (dk_at dksX1_volume_2 22 rfl rfl)
theorem dX1_volume_70 : decode cX1_volume 70 = .ok (.goto 9, 3) := dk_167 0 9 (dk_at dksX1_volume_3 0 rfl rfl)
theorem dX1_volume_73 : decode cX1_volume 73 = .ok (.aload 4, 2) := dk_25 4 (dk_at dksX1_volume_3 3 rfl rfl)
theorem dX1_volume_75 : decode cX1_volume 75 = .ok (.iload_n 2, 1) := dk_28 (dk_at dksX1_volume_3 5 rfl rfl)
theorem dX1_volume_76 : decode cX1_volume 76 = .ok (.invokevirtual 515, 3) := dk_182 2 3 (dk_at dksX1_volume_3 6 rfl rfl)
theorem dX1_volume_79 : decode cX1_volume 79 = .ok (.ireturn, 1) := dk_172 (dk_at dksX1_volume_3 9 rfl rfl)
abbrev cX1_movedIf : ByteArray := prog_1_method_62_code
def yX1_movedIf : MethodName := ⟨RX1, "movedIf", "(I)I"⟩
def dkwX1_movedIf_0 : List UInt8 := [42, 42, 27, 182, 2, 8, 182, 0, 205, 180, 1, 5, 5, 46, 172]
abbrev dktX1_movedIf_0 : List UInt8 := dkwX1_movedIf_0 ++ []
theorem dksX1_movedIf_0 : cX1_movedIf.data.toList.drop 0 = dktX1_movedIf_0 := by decide +kernel
theorem dX1_movedIf_0 : decode cX1_movedIf 0 = .ok (.aload_n 0, 1) := dk_42 (dk_at dksX1_movedIf_0 0 rfl rfl)
theorem dX1_movedIf_1 : decode cX1_movedIf 1 = .ok (.aload_n 0, 1) := dk_42 (dk_at dksX1_movedIf_0 1 rfl rfl)
theorem dX1_movedIf_2 : decode cX1_movedIf 2 = .ok (.iload_n 1, 1) := dk_27 (dk_at dksX1_movedIf_0 2 rfl rfl)
theorem dX1_movedIf_3 : decode cX1_movedIf 3 = .ok (.invokevirtual 520, 3) := dk_182 2 8 (dk_at dksX1_movedIf_0 3 rfl rfl)
theorem dX1_movedIf_6 : decode cX1_movedIf 6 = .ok (.invokevirtual 205, 3) := dk_182 0 205 (dk_at dksX1_movedIf_0 6 rfl rfl)
theorem dX1_movedIf_9 : decode cX1_movedIf 9 = .ok (.getfield 261, 3) := dk_180 1 5 (dk_at dksX1_movedIf_0 9 rfl rfl)
theorem dX1_movedIf_12 : decode cX1_movedIf 12 = .ok (.iconst 2, 1) := dk_5 (dk_at dksX1_movedIf_0 12 rfl rfl)
theorem dX1_movedIf_13 : decode cX1_movedIf 13 = .ok (.iaload, 1) := dk_46 (dk_at dksX1_movedIf_0 13 rfl rfl)
theorem dX1_movedIf_14 : decode cX1_movedIf 14 = .ok (.ireturn, 1) := dk_172 (dk_at dksX1_movedIf_0 14 rfl rfl)
abbrev cX1_published : ByteArray := prog_1_method_61_code
def yX1_published : MethodName := ⟨RX1, "published", "(I)LCountyGazetteer$State;"⟩
def dkwX1_published_1 : List UInt8 := [180, 0, 69, 182, 2, 5, 77, 44, 44, 180, 0, 184, 181, 0, 193, 44, 27, 181, 0, 184, 44, 176]
abbrev dktX1_published_1 : List UInt8 := dkwX1_published_1 ++ []
def dkwX1_published_0 : List UInt8 := [27, 133, 42, 180, 0, 69, 180, 0, 184, 4, 96, 133, 20, 0, 18, 184, 0, 20, 184, 0, 24, 42]
abbrev dktX1_published_0 : List UInt8 := dkwX1_published_0 ++ dktX1_published_1
theorem dksX1_published_0 : cX1_published.data.toList.drop 0 = dktX1_published_0 := by decide +kernel
theorem dksX1_published_1 : cX1_published.data.toList.drop 22 = dktX1_published_1 := dk_seg dksX1_published_0 22 rfl rfl
theorem dX1_published_0 : decode cX1_published 0 = .ok (.iload_n 1, 1) := dk_27 (dk_at dksX1_published_0 0 rfl rfl)
theorem dX1_published_1 : decode cX1_published 1 = .ok (.i2l, 1) := dk_133 (dk_at dksX1_published_0 1 rfl rfl)
theorem dX1_published_2 : decode cX1_published 2 = .ok (.aload_n 0, 1) := dk_42 (dk_at dksX1_published_0 2 rfl rfl)
theorem dX1_published_3 : decode cX1_published 3 = .ok (.getfield 69, 3) := dk_180 0 69 (dk_at dksX1_published_0 3 rfl rfl)
theorem dX1_published_6 : decode cX1_published 6 = .ok (.getfield 184, 3) := dk_180 0 184 (dk_at dksX1_published_0 6 rfl rfl)
theorem dX1_published_9 : decode cX1_published 9 = .ok (.iconst 1, 1) := dk_4 (dk_at dksX1_published_0 9 rfl rfl)
theorem dX1_published_10 : decode cX1_published 10 = .ok (.iadd, 1) := dk_96 (dk_at dksX1_published_0 10 rfl rfl)
theorem dX1_published_11 : decode cX1_published 11 = .ok (.i2l, 1) := dk_133 (dk_at dksX1_published_0 11 rfl rfl)
theorem dX1_published_12 : decode cX1_published 12 = .ok (.ldc2_w 18, 3) := dk_20 0 18 (dk_at dksX1_published_0 12 rfl rfl)
theorem dX1_published_15 : decode cX1_published 15 = .ok (.invokestatic 20, 3) := dk_184 0 20 (dk_at dksX1_published_0 15 rfl rfl)
theorem dX1_published_18 : decode cX1_published 18 = .ok (.invokestatic 24, 3) := dk_184 0 24 (dk_at dksX1_published_0 18 rfl rfl)
theorem dX1_published_21 : decode cX1_published 21 = .ok (.aload_n 0, 1) := dk_42 (dk_at dksX1_published_0 21 rfl rfl)
theorem dX1_published_22 : decode cX1_published 22 = .ok (.getfield 69, 3) := dk_180 0 69 (dk_at dksX1_published_1 0 rfl rfl)
theorem dX1_published_25 : decode cX1_published 25 = .ok (.invokevirtual 517, 3) := dk_182 2 5 (dk_at dksX1_published_1 3 rfl rfl)
theorem dX1_published_28 : decode cX1_published 28 = .ok (.astore_n 2, 1) := dk_77 (dk_at dksX1_published_1 6 rfl rfl)
theorem dX1_published_29 : decode cX1_published 29 = .ok (.aload_n 2, 1) := dk_44 (dk_at dksX1_published_1 7 rfl rfl)
theorem dX1_published_30 : decode cX1_published 30 = .ok (.aload_n 2, 1) := dk_44 (dk_at dksX1_published_1 8 rfl rfl)
theorem dX1_published_31 : decode cX1_published 31 = .ok (.getfield 184, 3) := dk_180 0 184 (dk_at dksX1_published_1 9 rfl rfl)
theorem dX1_published_34 : decode cX1_published 34 = .ok (.putfield 193, 3) := dk_181 0 193 (dk_at dksX1_published_1 12 rfl rfl)
theorem dX1_published_37 : decode cX1_published 37 = .ok (.aload_n 2, 1) := dk_44 (dk_at dksX1_published_1 15 rfl rfl)
theorem dX1_published_38 : decode cX1_published 38 = .ok (.iload_n 1, 1) := dk_27 (dk_at dksX1_published_1 16 rfl rfl)
theorem dX1_published_39 : decode cX1_published 39 = .ok (.putfield 184, 3) := dk_181 0 184 (dk_at dksX1_published_1 17 rfl rfl)
theorem dX1_published_42 : decode cX1_published 42 = .ok (.aload_n 2, 1) := dk_44 (dk_at dksX1_published_1 20 rfl rfl)
theorem dX1_published_43 : decode cX1_published 43 = .ok (.areturn, 1) := dk_176 (dk_at dksX1_published_1 21 rfl rfl)
abbrev cX1_pagesIf : ByteArray := prog_1_method_63_code
def yX1_pagesIf : MethodName := ⟨RX1, "pagesIf", "(I)I"⟩
def dkwX1_pagesIf_0 : List UInt8 := [42, 42, 27, 182, 2, 8, 182, 0, 205, 180, 1, 2, 172]
abbrev dktX1_pagesIf_0 : List UInt8 := dkwX1_pagesIf_0 ++ []
theorem dksX1_pagesIf_0 : cX1_pagesIf.data.toList.drop 0 = dktX1_pagesIf_0 := by decide +kernel
theorem dX1_pagesIf_0 : decode cX1_pagesIf 0 = .ok (.aload_n 0, 1) := dk_42 (dk_at dksX1_pagesIf_0 0 rfl rfl)
theorem dX1_pagesIf_1 : decode cX1_pagesIf 1 = .ok (.aload_n 0, 1) := dk_42 (dk_at dksX1_pagesIf_0 1 rfl rfl)
theorem dX1_pagesIf_2 : decode cX1_pagesIf 2 = .ok (.iload_n 1, 1) := dk_27 (dk_at dksX1_pagesIf_0 2 rfl rfl)
theorem dX1_pagesIf_3 : decode cX1_pagesIf 3 = .ok (.invokevirtual 520, 3) := dk_182 2 8 (dk_at dksX1_pagesIf_0 3 rfl rfl)
theorem dX1_pagesIf_6 : decode cX1_pagesIf 6 = .ok (.invokevirtual 205, 3) := dk_182 0 205 (dk_at dksX1_pagesIf_0 6 rfl rfl)
theorem dX1_pagesIf_9 : decode cX1_pagesIf 9 = .ok (.getfield 258, 3) := dk_180 1 2 (dk_at dksX1_pagesIf_0 9 rfl rfl)
theorem dX1_pagesIf_12 : decode cX1_pagesIf 12 = .ok (.ireturn, 1) := dk_172 (dk_at dksX1_pagesIf_0 12 rfl rfl)
abbrev cX1_publish : ByteArray := prog_1_method_69_code
def yX1_publish : MethodName := ⟨RX1, "publish", "(I)I"⟩
def dkwX1_publish_0 : List UInt8 := [42, 42, 27, 182, 2, 8, 182, 2, 19, 42, 182, 0, 249, 180, 1, 5, 5, 46, 172]
abbrev dktX1_publish_0 : List UInt8 := dkwX1_publish_0 ++ []
theorem dksX1_publish_0 : cX1_publish.data.toList.drop 0 = dktX1_publish_0 := by decide +kernel
theorem dX1_publish_0 : decode cX1_publish 0 = .ok (.aload_n 0, 1) := dk_42 (dk_at dksX1_publish_0 0 rfl rfl)
theorem dX1_publish_1 : decode cX1_publish 1 = .ok (.aload_n 0, 1) := dk_42 (dk_at dksX1_publish_0 1 rfl rfl)
theorem dX1_publish_2 : decode cX1_publish 2 = .ok (.iload_n 1, 1) := dk_27 (dk_at dksX1_publish_0 2 rfl rfl)
theorem dX1_publish_3 : decode cX1_publish 3 = .ok (.invokevirtual 520, 3) := dk_182 2 8 (dk_at dksX1_publish_0 3 rfl rfl)
theorem dX1_publish_6 : decode cX1_publish 6 = .ok (.invokevirtual 531, 3) := dk_182 2 19 (dk_at dksX1_publish_0 6 rfl rfl)
theorem dX1_publish_9 : decode cX1_publish 9 = .ok (.aload_n 0, 1) := dk_42 (dk_at dksX1_publish_0 9 rfl rfl)
theorem dX1_publish_10 : decode cX1_publish 10 = .ok (.invokevirtual 249, 3) := dk_182 0 249 (dk_at dksX1_publish_0 10 rfl rfl)
theorem dX1_publish_13 : decode cX1_publish 13 = .ok (.getfield 261, 3) := dk_180 1 5 (dk_at dksX1_publish_0 13 rfl rfl)
theorem dX1_publish_16 : decode cX1_publish 16 = .ok (.iconst 2, 1) := dk_5 (dk_at dksX1_publish_0 16 rfl rfl)
theorem dX1_publish_17 : decode cX1_publish 17 = .ok (.iaload, 1) := dk_46 (dk_at dksX1_publish_0 17 rfl rfl)
theorem dX1_publish_18 : decode cX1_publish 18 = .ok (.ireturn, 1) := dk_172 (dk_at dksX1_publish_0 18 rfl rfl)
abbrev cX1_redraw : ByteArray := prog_1_method_71_code
def yX1_redraw : MethodName := ⟨RX1, "redraw", "(IIIIII)I"⟩
def dkwX1_redraw_5 : List UInt8 := [172]
abbrev dktX1_redraw_5 : List UInt8 := dkwX1_redraw_5 ++ []
def dkwX1_redraw_4 : List UInt8 := [3, 184, 0, 24, 42, 187, 2, 29, 89, 27, 28, 29, 21, 4, 21, 5, 21, 6, 183, 2, 31, 182, 2, 34]
abbrev dktX1_redraw_4 : List UInt8 := dkwX1_redraw_4 ++ dktX1_redraw_5
def dkwX1_redraw_3 : List UInt8 := [21, 5, 133, 10, 42, 180, 0, 69, 180, 0, 35, 29, 100, 133, 184, 0, 20, 153, 0, 7, 4, 167, 0, 4]
abbrev dktX1_redraw_3 : List UInt8 := dkwX1_redraw_3 ++ dktX1_redraw_4
def dkwX1_redraw_2 : List UInt8 := [153, 0, 47, 21, 4, 133, 10, 42, 180, 0, 69, 180, 0, 31, 28, 100, 133, 184, 0, 20, 153, 0, 27]
abbrev dktX1_redraw_2 : List UInt8 := dkwX1_redraw_2 ++ dktX1_redraw_3
def dkwX1_redraw_1 : List UInt8 := [133, 184, 0, 20, 153, 0, 66, 29, 133, 9, 42, 180, 0, 69, 180, 0, 35, 4, 100, 133, 184, 0, 20]
abbrev dktX1_redraw_1 : List UInt8 := dkwX1_redraw_1 ++ dktX1_redraw_2
def dkwX1_redraw_0 : List UInt8 := [42, 21, 6, 182, 1, 62, 58, 7, 27, 184, 1, 112, 28, 133, 9, 42, 180, 0, 69, 180, 0, 31, 4, 100]
abbrev dktX1_redraw_0 : List UInt8 := dkwX1_redraw_0 ++ dktX1_redraw_1
theorem dksX1_redraw_0 : cX1_redraw.data.toList.drop 0 = dktX1_redraw_0 := by decide +kernel
theorem dksX1_redraw_1 : cX1_redraw.data.toList.drop 24 = dktX1_redraw_1 := dk_seg dksX1_redraw_0 24 rfl rfl
theorem dksX1_redraw_2 : cX1_redraw.data.toList.drop 47 = dktX1_redraw_2 := dk_seg dksX1_redraw_1 23 rfl rfl
theorem dksX1_redraw_3 : cX1_redraw.data.toList.drop 70 = dktX1_redraw_3 := dk_seg dksX1_redraw_2 23 rfl rfl
theorem dksX1_redraw_4 : cX1_redraw.data.toList.drop 94 = dktX1_redraw_4 := dk_seg dksX1_redraw_3 24 rfl rfl
theorem dksX1_redraw_5 : cX1_redraw.data.toList.drop 118 = dktX1_redraw_5 := dk_seg dksX1_redraw_4 24 rfl rfl
theorem dX1_redraw_0 : decode cX1_redraw 0 = .ok (.aload_n 0, 1) := dk_42 (dk_at dksX1_redraw_0 0 rfl rfl)
theorem dX1_redraw_1 : decode cX1_redraw 1 = .ok (.iload 6, 2) := dk_21 6 (dk_at dksX1_redraw_0 1 rfl rfl)
theorem dX1_redraw_3 : decode cX1_redraw 3 = .ok (.invokevirtual 318, 3) := dk_182 1 62 (dk_at dksX1_redraw_0 3 rfl rfl)
theorem dX1_redraw_6 : decode cX1_redraw 6 = .ok (.astore 7, 2) := dk_58 7 (dk_at dksX1_redraw_0 6 rfl rfl)
theorem dX1_redraw_8 : decode cX1_redraw 8 = .ok (.iload_n 1, 1) := dk_27 (dk_at dksX1_redraw_0 8 rfl rfl)
theorem dX1_redraw_9 : decode cX1_redraw 9 = .ok (.invokestatic 368, 3) := dk_184 1 112 (dk_at dksX1_redraw_0 9 rfl rfl)
theorem dX1_redraw_12 : decode cX1_redraw 12 = .ok (.iload_n 2, 1) := dk_28 (dk_at dksX1_redraw_0 12 rfl rfl)
theorem dX1_redraw_13 : decode cX1_redraw 13 = .ok (.i2l, 1) := dk_133 (dk_at dksX1_redraw_0 13 rfl rfl)
theorem dX1_redraw_14 : decode cX1_redraw 14 = .ok (.lconst 0, 1) := dk_9 (dk_at dksX1_redraw_0 14 rfl rfl)
theorem dX1_redraw_15 : decode cX1_redraw 15 = .ok (.aload_n 0, 1) := dk_42 (dk_at dksX1_redraw_0 15 rfl rfl)
theorem dX1_redraw_16 : decode cX1_redraw 16 = .ok (.getfield 69, 3) := dk_180 0 69 (dk_at dksX1_redraw_0 16 rfl rfl)
theorem dX1_redraw_19 : decode cX1_redraw 19 = .ok (.getfield 31, 3) := dk_180 0 31 (dk_at dksX1_redraw_0 19 rfl rfl)
theorem dX1_redraw_22 : decode cX1_redraw 22 = .ok (.iconst 1, 1) := dk_4 (dk_at dksX1_redraw_0 22 rfl rfl)
theorem dX1_redraw_23 : decode cX1_redraw 23 = .ok (.isub, 1) := dk_100 (dk_at dksX1_redraw_0 23 rfl rfl)
theorem dX1_redraw_24 : decode cX1_redraw 24 = .ok (.i2l, 1) := dk_133 (dk_at dksX1_redraw_1 0 rfl rfl)
theorem dX1_redraw_25 : decode cX1_redraw 25 = .ok (.invokestatic 20, 3) := dk_184 0 20 (dk_at dksX1_redraw_1 1 rfl rfl)
theorem dX1_redraw_28 : decode cX1_redraw 28 = .ok (.ifCond .eq 66, 3) := dk_153 0 66 (dk_at dksX1_redraw_1 4 rfl rfl)
theorem dX1_redraw_31 : decode cX1_redraw 31 = .ok (.iload_n 3, 1) := dk_29 (dk_at dksX1_redraw_1 7 rfl rfl)
theorem dX1_redraw_32 : decode cX1_redraw 32 = .ok (.i2l, 1) := dk_133 (dk_at dksX1_redraw_1 8 rfl rfl)
theorem dX1_redraw_33 : decode cX1_redraw 33 = .ok (.lconst 0, 1) := dk_9 (dk_at dksX1_redraw_1 9 rfl rfl)
theorem dX1_redraw_34 : decode cX1_redraw 34 = .ok (.aload_n 0, 1) := dk_42 (dk_at dksX1_redraw_1 10 rfl rfl)
theorem dX1_redraw_35 : decode cX1_redraw 35 = .ok (.getfield 69, 3) := dk_180 0 69 (dk_at dksX1_redraw_1 11 rfl rfl)
theorem dX1_redraw_38 : decode cX1_redraw 38 = .ok (.getfield 35, 3) := dk_180 0 35 (dk_at dksX1_redraw_1 14 rfl rfl)
theorem dX1_redraw_41 : decode cX1_redraw 41 = .ok (.iconst 1, 1) := dk_4 (dk_at dksX1_redraw_1 17 rfl rfl)
theorem dX1_redraw_42 : decode cX1_redraw 42 = .ok (.isub, 1) := dk_100 (dk_at dksX1_redraw_1 18 rfl rfl)
theorem dX1_redraw_43 : decode cX1_redraw 43 = .ok (.i2l, 1) := dk_133 (dk_at dksX1_redraw_1 19 rfl rfl)
theorem dX1_redraw_44 : decode cX1_redraw 44 = .ok (.invokestatic 20, 3) := dk_184 0 20 (dk_at dksX1_redraw_1 20 rfl rfl)
theorem dX1_redraw_47 : decode cX1_redraw 47 = .ok (.ifCond .eq 47, 3) := dk_153 0 47 (dk_at dksX1_redraw_2 0 rfl rfl)
theorem dX1_redraw_50 : decode cX1_redraw 50 = .ok (.iload 4, 2) := dk_21 4 (dk_at dksX1_redraw_2 3 rfl rfl)
theorem dX1_redraw_52 : decode cX1_redraw 52 = .ok (.i2l, 1) := dk_133 (dk_at dksX1_redraw_2 5 rfl rfl)
theorem dX1_redraw_53 : decode cX1_redraw 53 = .ok (.lconst 1, 1) := dk_10 (dk_at dksX1_redraw_2 6 rfl rfl)
theorem dX1_redraw_54 : decode cX1_redraw 54 = .ok (.aload_n 0, 1) := dk_42 (dk_at dksX1_redraw_2 7 rfl rfl)
theorem dX1_redraw_55 : decode cX1_redraw 55 = .ok (.getfield 69, 3) := dk_180 0 69 (dk_at dksX1_redraw_2 8 rfl rfl)
theorem dX1_redraw_58 : decode cX1_redraw 58 = .ok (.getfield 31, 3) := dk_180 0 31 (dk_at dksX1_redraw_2 11 rfl rfl)
theorem dX1_redraw_61 : decode cX1_redraw 61 = .ok (.iload_n 2, 1) := dk_28 (dk_at dksX1_redraw_2 14 rfl rfl)
theorem dX1_redraw_62 : decode cX1_redraw 62 = .ok (.isub, 1) := dk_100 (dk_at dksX1_redraw_2 15 rfl rfl)
theorem dX1_redraw_63 : decode cX1_redraw 63 = .ok (.i2l, 1) := dk_133 (dk_at dksX1_redraw_2 16 rfl rfl)
theorem dX1_redraw_64 : decode cX1_redraw 64 = .ok (.invokestatic 20, 3) := dk_184 0 20 (dk_at dksX1_redraw_2 17 rfl rfl)
theorem dX1_redraw_67 : decode cX1_redraw 67 = .ok (.ifCond .eq 27, 3) := dk_153 0 27 (dk_at dksX1_redraw_2 20 rfl rfl)
theorem dX1_redraw_70 : decode cX1_redraw 70 = .ok (.iload 5, 2) := dk_21 5 (dk_at dksX1_redraw_3 0 rfl rfl)
theorem dX1_redraw_72 : decode cX1_redraw 72 = .ok (.i2l, 1) := dk_133 (dk_at dksX1_redraw_3 2 rfl rfl)
theorem dX1_redraw_73 : decode cX1_redraw 73 = .ok (.lconst 1, 1) := dk_10 (dk_at dksX1_redraw_3 3 rfl rfl)
theorem dX1_redraw_74 : decode cX1_redraw 74 = .ok (.aload_n 0, 1) := dk_42 (dk_at dksX1_redraw_3 4 rfl rfl)
theorem dX1_redraw_75 : decode cX1_redraw 75 = .ok (.getfield 69, 3) := dk_180 0 69 (dk_at dksX1_redraw_3 5 rfl rfl)
theorem dX1_redraw_78 : decode cX1_redraw 78 = .ok (.getfield 35, 3) := dk_180 0 35 (dk_at dksX1_redraw_3 8 rfl rfl)
theorem dX1_redraw_81 : decode cX1_redraw 81 = .ok (.iload_n 3, 1) := dk_29 (dk_at dksX1_redraw_3 11 rfl rfl)
theorem dX1_redraw_82 : decode cX1_redraw 82 = .ok (.isub, 1) := dk_100 (dk_at dksX1_redraw_3 12 rfl rfl)
theorem dX1_redraw_83 : decode cX1_redraw 83 = .ok (.i2l, 1) := dk_133 (dk_at dksX1_redraw_3 13 rfl rfl)
theorem dX1_redraw_84 : decode cX1_redraw 84 = .ok (.invokestatic 20, 3) := dk_184 0 20 (dk_at dksX1_redraw_3 14 rfl rfl)
theorem dX1_redraw_87 : decode cX1_redraw 87 = .ok (.ifCond .eq 7, 3) := dk_153 0 7 (dk_at dksX1_redraw_3 17 rfl rfl)
theorem dX1_redraw_90 : decode cX1_redraw 90 = .ok (.iconst 1, 1) := dk_4 (dk_at dksX1_redraw_3 20 rfl rfl)
theorem dX1_redraw_91 : decode cX1_redraw 91 = .ok (.goto 4, 3) := dk_167 0 4 (dk_at dksX1_redraw_3 21 rfl rfl)
theorem dX1_redraw_94 : decode cX1_redraw 94 = .ok (.iconst 0, 1) := dk_3 (dk_at dksX1_redraw_4 0 rfl rfl)
theorem dX1_redraw_95 : decode cX1_redraw 95 = .ok (.invokestatic 24, 3) := dk_184 0 24 (dk_at dksX1_redraw_4 1 rfl rfl)
theorem dX1_redraw_98 : decode cX1_redraw 98 = .ok (.aload_n 0, 1) := dk_42 (dk_at dksX1_redraw_4 4 rfl rfl)
theorem dX1_redraw_99 : decode cX1_redraw 99 = .ok (.new 541, 3) := dk_187 2 29 (dk_at dksX1_redraw_4 5 rfl rfl)
theorem dX1_redraw_102 : decode cX1_redraw 102 = .ok (.dup, 1) := dk_89 (dk_at dksX1_redraw_4 8 rfl rfl)
theorem dX1_redraw_103 : decode cX1_redraw 103 = .ok (.iload_n 1, 1) := dk_27 (dk_at dksX1_redraw_4 9 rfl rfl)
theorem dX1_redraw_104 : decode cX1_redraw 104 = .ok (.iload_n 2, 1) := dk_28 (dk_at dksX1_redraw_4 10 rfl rfl)
theorem dX1_redraw_105 : decode cX1_redraw 105 = .ok (.iload_n 3, 1) := dk_29 (dk_at dksX1_redraw_4 11 rfl rfl)
theorem dX1_redraw_106 : decode cX1_redraw 106 = .ok (.iload 4, 2) := dk_21 4 (dk_at dksX1_redraw_4 12 rfl rfl)
theorem dX1_redraw_108 : decode cX1_redraw 108 = .ok (.iload 5, 2) := dk_21 5 (dk_at dksX1_redraw_4 14 rfl rfl)
theorem dX1_redraw_110 : decode cX1_redraw 110 = .ok (.iload 6, 2) := dk_21 6 (dk_at dksX1_redraw_4 16 rfl rfl)
theorem dX1_redraw_112 : decode cX1_redraw 112 = .ok (.invokespecial 543, 3) := dk_183 2 31 (dk_at dksX1_redraw_4 18 rfl rfl)
theorem dX1_redraw_115 : decode cX1_redraw 115 = .ok (.invokevirtual 546, 3) := dk_182 2 34 (dk_at dksX1_redraw_4 21 rfl rfl)
theorem dX1_redraw_118 : decode cX1_redraw 118 = .ok (.ireturn, 1) := dk_172 (dk_at dksX1_redraw_5 0 rfl rfl)
abbrev cX1_adds : ByteArray := prog_1_method_70_code
def yX1_adds : MethodName := ⟨RX1, "adds", "(LCountyGazetteer$Reform;)I"⟩
def dkwX1_adds_2 : List UInt8 := [185, 0, 124, 1, 0, 4, 100, 172]
abbrev dktX1_adds_2 : List UInt8 := dkwX1_adds_2 ++ []
def dkwX1_adds_1 : List UInt8 := [184, 2, 23, 42, 182, 2, 26, 77, 44, 180, 0, 232, 43, 185, 0, 49, 2, 0, 87, 44, 180, 0, 232]
abbrev dktX1_adds_1 : List UInt8 := dkwX1_adds_1 ++ dktX1_adds_2
def dkwX1_adds_0 : List UInt8 := [42, 180, 0, 69, 180, 0, 232, 185, 0, 124, 1, 0, 16, 16, 162, 0, 7, 4, 167, 0, 4, 3]
abbrev dktX1_adds_0 : List UInt8 := dkwX1_adds_0 ++ dktX1_adds_1
theorem dksX1_adds_0 : cX1_adds.data.toList.drop 0 = dktX1_adds_0 := by decide +kernel
theorem dksX1_adds_1 : cX1_adds.data.toList.drop 22 = dktX1_adds_1 := dk_seg dksX1_adds_0 22 rfl rfl
theorem dksX1_adds_2 : cX1_adds.data.toList.drop 45 = dktX1_adds_2 := dk_seg dksX1_adds_1 23 rfl rfl
theorem dX1_adds_0 : decode cX1_adds 0 = .ok (.aload_n 0, 1) := dk_42 (dk_at dksX1_adds_0 0 rfl rfl)
theorem dX1_adds_1 : decode cX1_adds 1 = .ok (.getfield 69, 3) := dk_180 0 69 (dk_at dksX1_adds_0 1 rfl rfl)
theorem dX1_adds_4 : decode cX1_adds 4 = .ok (.getfield 232, 3) := dk_180 0 232 (dk_at dksX1_adds_0 4 rfl rfl)
theorem dX1_adds_7 : decode cX1_adds 7 = .ok (.invokeinterface 124 1, 5) := by decide +kernel
theorem dX1_adds_12 : decode cX1_adds 12 = .ok (.bipush 16, 2) := dk_16 16 (dk_at dksX1_adds_0 12 rfl rfl)
theorem dX1_adds_14 : decode cX1_adds 14 = .ok (.if_icmp .ge 7, 3) := dk_162 0 7 (dk_at dksX1_adds_0 14 rfl rfl)
theorem dX1_adds_17 : decode cX1_adds 17 = .ok (.iconst 1, 1) := dk_4 (dk_at dksX1_adds_0 17 rfl rfl)
theorem dX1_adds_18 : decode cX1_adds 18 = .ok (.goto 4, 3) := dk_167 0 4 (dk_at dksX1_adds_0 18 rfl rfl)
theorem dX1_adds_21 : decode cX1_adds 21 = .ok (.iconst 0, 1) := dk_3 (dk_at dksX1_adds_0 21 rfl rfl)
theorem dX1_adds_22 : decode cX1_adds 22 = .ok (.invokestatic 535, 3) := dk_184 2 23 (dk_at dksX1_adds_1 0 rfl rfl)
theorem dX1_adds_25 : decode cX1_adds 25 = .ok (.aload_n 0, 1) := dk_42 (dk_at dksX1_adds_1 3 rfl rfl)
theorem dX1_adds_26 : decode cX1_adds 26 = .ok (.invokevirtual 538, 3) := dk_182 2 26 (dk_at dksX1_adds_1 4 rfl rfl)
theorem dX1_adds_29 : decode cX1_adds 29 = .ok (.astore_n 2, 1) := dk_77 (dk_at dksX1_adds_1 7 rfl rfl)
theorem dX1_adds_30 : decode cX1_adds 30 = .ok (.aload_n 2, 1) := dk_44 (dk_at dksX1_adds_1 8 rfl rfl)
theorem dX1_adds_31 : decode cX1_adds 31 = .ok (.getfield 232, 3) := dk_180 0 232 (dk_at dksX1_adds_1 9 rfl rfl)
theorem dX1_adds_34 : decode cX1_adds 34 = .ok (.aload_n 1, 1) := dk_43 (dk_at dksX1_adds_1 12 rfl rfl)
theorem dX1_adds_35 : decode cX1_adds 35 = .ok (.invokeinterface 49 2, 5) := by decide +kernel
theorem dX1_adds_40 : decode cX1_adds 40 = .ok (.pop, 1) := dk_87 (dk_at dksX1_adds_1 18 rfl rfl)
theorem dX1_adds_41 : decode cX1_adds 41 = .ok (.aload_n 2, 1) := dk_44 (dk_at dksX1_adds_1 19 rfl rfl)
theorem dX1_adds_42 : decode cX1_adds 42 = .ok (.getfield 232, 3) := dk_180 0 232 (dk_at dksX1_adds_1 20 rfl rfl)
theorem dX1_adds_45 : decode cX1_adds 45 = .ok (.invokeinterface 124 1, 5) := by decide +kernel
theorem dX1_adds_50 : decode cX1_adds 50 = .ok (.iconst 1, 1) := dk_4 (dk_at dksX1_adds_2 5 rfl rfl)
theorem dX1_adds_51 : decode cX1_adds 51 = .ok (.isub, 1) := dk_100 (dk_at dksX1_adds_2 6 rfl rfl)
theorem dX1_adds_52 : decode cX1_adds 52 = .ok (.ireturn, 1) := dk_172 (dk_at dksX1_adds_2 7 rfl rfl)
abbrev cX1_checkState : ByteArray := prog_1_method_4_code
def yX1_checkState : MethodName := ⟨RX1, "checkState", "(Z)V"⟩
def dkwX1_checkState_0 : List UInt8 := [26, 154, 0, 11, 187, 0, 10, 89, 183, 0, 12, 191, 177]
abbrev dktX1_checkState_0 : List UInt8 := dkwX1_checkState_0 ++ []
theorem dksX1_checkState_0 : cX1_checkState.data.toList.drop 0 = dktX1_checkState_0 := by decide +kernel
theorem dX1_checkState_0 : decode cX1_checkState 0 = .ok (.iload_n 0, 1) := dk_26 (dk_at dksX1_checkState_0 0 rfl rfl)
theorem dX1_checkState_1 : decode cX1_checkState 1 = .ok (.ifCond .ne 11, 3) := dk_154 0 11 (dk_at dksX1_checkState_0 1 rfl rfl)
theorem dX1_checkState_4 : decode cX1_checkState 4 = .ok (.new 10, 3) := dk_187 0 10 (dk_at dksX1_checkState_0 4 rfl rfl)
theorem dX1_checkState_7 : decode cX1_checkState 7 = .ok (.dup, 1) := dk_89 (dk_at dksX1_checkState_0 7 rfl rfl)
theorem dX1_checkState_8 : decode cX1_checkState 8 = .ok (.invokespecial 12, 3) := dk_183 0 12 (dk_at dksX1_checkState_0 8 rfl rfl)
theorem dX1_checkState_11 : decode cX1_checkState 11 = .ok (.athrow, 1) := dk_191 (dk_at dksX1_checkState_0 11 rfl rfl)
theorem dX1_checkState_12 : decode cX1_checkState 12 = .ok (.return_, 1) := dk_177 (dk_at dksX1_checkState_0 12 rfl rfl)
abbrev cX1_join : ByteArray := prog_1_method_72_code
def yX1_join : MethodName := ⟨RX1, "join", "(III)I"⟩
def dkwX1_join_1 : List UInt8 := [167, 0, 4, 3, 184, 0, 24, 42, 187, 2, 37, 89, 27, 28, 29, 183, 2, 39, 182, 2, 34, 172]
abbrev dktX1_join_1 : List UInt8 := dkwX1_join_1 ++ []
def dkwX1_join_0 : List UInt8 := [42, 28, 182, 1, 62, 58, 4, 42, 29, 182, 1, 62, 58, 5, 27, 184, 1, 112, 28, 29, 159, 0, 7, 4]
abbrev dktX1_join_0 : List UInt8 := dkwX1_join_0 ++ dktX1_join_1
theorem dksX1_join_0 : cX1_join.data.toList.drop 0 = dktX1_join_0 := by decide +kernel
theorem dksX1_join_1 : cX1_join.data.toList.drop 24 = dktX1_join_1 := dk_seg dksX1_join_0 24 rfl rfl
theorem dX1_join_0 : decode cX1_join 0 = .ok (.aload_n 0, 1) := dk_42 (dk_at dksX1_join_0 0 rfl rfl)
theorem dX1_join_1 : decode cX1_join 1 = .ok (.iload_n 2, 1) := dk_28 (dk_at dksX1_join_0 1 rfl rfl)
theorem dX1_join_2 : decode cX1_join 2 = .ok (.invokevirtual 318, 3) := dk_182 1 62 (dk_at dksX1_join_0 2 rfl rfl)
theorem dX1_join_5 : decode cX1_join 5 = .ok (.astore 4, 2) := dk_58 4 (dk_at dksX1_join_0 5 rfl rfl)
theorem dX1_join_7 : decode cX1_join 7 = .ok (.aload_n 0, 1) := dk_42 (dk_at dksX1_join_0 7 rfl rfl)
theorem dX1_join_8 : decode cX1_join 8 = .ok (.iload_n 3, 1) := dk_29 (dk_at dksX1_join_0 8 rfl rfl)
theorem dX1_join_9 : decode cX1_join 9 = .ok (.invokevirtual 318, 3) := dk_182 1 62 (dk_at dksX1_join_0 9 rfl rfl)
theorem dX1_join_12 : decode cX1_join 12 = .ok (.astore 5, 2) := dk_58 5 (dk_at dksX1_join_0 12 rfl rfl)
theorem dX1_join_14 : decode cX1_join 14 = .ok (.iload_n 1, 1) := dk_27 (dk_at dksX1_join_0 14 rfl rfl)
theorem dX1_join_15 : decode cX1_join 15 = .ok (.invokestatic 368, 3) := dk_184 1 112 (dk_at dksX1_join_0 15 rfl rfl)
theorem dX1_join_18 : decode cX1_join 18 = .ok (.iload_n 2, 1) := dk_28 (dk_at dksX1_join_0 18 rfl rfl)
theorem dX1_join_19 : decode cX1_join 19 = .ok (.iload_n 3, 1) := dk_29 (dk_at dksX1_join_0 19 rfl rfl)
theorem dX1_join_20 : decode cX1_join 20 = .ok (.if_icmp .eq 7, 3) := dk_159 0 7 (dk_at dksX1_join_0 20 rfl rfl)
theorem dX1_join_23 : decode cX1_join 23 = .ok (.iconst 1, 1) := dk_4 (dk_at dksX1_join_0 23 rfl rfl)
theorem dX1_join_24 : decode cX1_join 24 = .ok (.goto 4, 3) := dk_167 0 4 (dk_at dksX1_join_1 0 rfl rfl)
theorem dX1_join_27 : decode cX1_join 27 = .ok (.iconst 0, 1) := dk_3 (dk_at dksX1_join_1 3 rfl rfl)
theorem dX1_join_28 : decode cX1_join 28 = .ok (.invokestatic 24, 3) := dk_184 0 24 (dk_at dksX1_join_1 4 rfl rfl)
theorem dX1_join_31 : decode cX1_join 31 = .ok (.aload_n 0, 1) := dk_42 (dk_at dksX1_join_1 7 rfl rfl)
theorem dX1_join_32 : decode cX1_join 32 = .ok (.new 549, 3) := dk_187 2 37 (dk_at dksX1_join_1 8 rfl rfl)
theorem dX1_join_35 : decode cX1_join 35 = .ok (.dup, 1) := dk_89 (dk_at dksX1_join_1 11 rfl rfl)
theorem dX1_join_36 : decode cX1_join 36 = .ok (.iload_n 1, 1) := dk_27 (dk_at dksX1_join_1 12 rfl rfl)
theorem dX1_join_37 : decode cX1_join 37 = .ok (.iload_n 2, 1) := dk_28 (dk_at dksX1_join_1 13 rfl rfl)
theorem dX1_join_38 : decode cX1_join 38 = .ok (.iload_n 3, 1) := dk_29 (dk_at dksX1_join_1 14 rfl rfl)
theorem dX1_join_39 : decode cX1_join 39 = .ok (.invokespecial 551, 3) := dk_183 2 39 (dk_at dksX1_join_1 15 rfl rfl)
theorem dX1_join_42 : decode cX1_join 42 = .ok (.invokevirtual 546, 3) := dk_182 2 34 (dk_at dksX1_join_1 18 rfl rfl)
theorem dX1_join_45 : decode cX1_join 45 = .ok (.ireturn, 1) := dk_172 (dk_at dksX1_join_1 21 rfl rfl)
abbrev cX1_dropReform : ByteArray := prog_1_method_73_code
def yX1_dropReform : MethodName := ⟨RX1, "dropReform", "(I)I"⟩
def dkwX1_dropReform_2 : List UInt8 := [185, 0, 124, 1, 0, 172]
abbrev dktX1_dropReform_2 : List UInt8 := dkwX1_dropReform_2 ++ []
def dkwX1_dropReform_1 : List UInt8 := [42, 182, 2, 26, 77, 44, 180, 0, 232, 27, 185, 2, 42, 2, 0, 192, 0, 178, 78, 44, 180, 0, 232]
abbrev dktX1_dropReform_1 : List UInt8 := dkwX1_dropReform_1 ++ dktX1_dropReform_2
def dkwX1_dropReform_0 : List UInt8 := [27, 133, 9, 42, 180, 0, 69, 180, 0, 232, 185, 0, 124, 1, 0, 4, 100, 133, 184, 0, 20, 184, 0, 221]
abbrev dktX1_dropReform_0 : List UInt8 := dkwX1_dropReform_0 ++ dktX1_dropReform_1
theorem dksX1_dropReform_0 : cX1_dropReform.data.toList.drop 0 = dktX1_dropReform_0 := by decide +kernel
theorem dksX1_dropReform_1 : cX1_dropReform.data.toList.drop 24 = dktX1_dropReform_1 := dk_seg dksX1_dropReform_0 24 rfl rfl
theorem dksX1_dropReform_2 : cX1_dropReform.data.toList.drop 47 = dktX1_dropReform_2 := dk_seg dksX1_dropReform_1 23 rfl rfl
theorem dX1_dropReform_0 : decode cX1_dropReform 0 = .ok (.iload_n 1, 1) := dk_27 (dk_at dksX1_dropReform_0 0 rfl rfl)
theorem dX1_dropReform_1 : decode cX1_dropReform 1 = .ok (.i2l, 1) := dk_133 (dk_at dksX1_dropReform_0 1 rfl rfl)
theorem dX1_dropReform_2 : decode cX1_dropReform 2 = .ok (.lconst 0, 1) := dk_9 (dk_at dksX1_dropReform_0 2 rfl rfl)
theorem dX1_dropReform_3 : decode cX1_dropReform 3 = .ok (.aload_n 0, 1) := dk_42 (dk_at dksX1_dropReform_0 3 rfl rfl)
theorem dX1_dropReform_4 : decode cX1_dropReform 4 = .ok (.getfield 69, 3) := dk_180 0 69 (dk_at dksX1_dropReform_0 4 rfl rfl)
theorem dX1_dropReform_7 : decode cX1_dropReform 7 = .ok (.getfield 232, 3) := dk_180 0 232 (dk_at dksX1_dropReform_0 7 rfl rfl)
theorem dX1_dropReform_10 : decode cX1_dropReform 10 = .ok (.invokeinterface 124 1, 5) := by decide +kernel
theorem dX1_dropReform_15 : decode cX1_dropReform 15 = .ok (.iconst 1, 1) := dk_4 (dk_at dksX1_dropReform_0 15 rfl rfl)
theorem dX1_dropReform_16 : decode cX1_dropReform 16 = .ok (.isub, 1) := dk_100 (dk_at dksX1_dropReform_0 16 rfl rfl)
theorem dX1_dropReform_17 : decode cX1_dropReform 17 = .ok (.i2l, 1) := dk_133 (dk_at dksX1_dropReform_0 17 rfl rfl)
theorem dX1_dropReform_18 : decode cX1_dropReform 18 = .ok (.invokestatic 20, 3) := dk_184 0 20 (dk_at dksX1_dropReform_0 18 rfl rfl)
theorem dX1_dropReform_21 : decode cX1_dropReform 21 = .ok (.invokestatic 221, 3) := dk_184 0 221 (dk_at dksX1_dropReform_0 21 rfl rfl)
theorem dX1_dropReform_24 : decode cX1_dropReform 24 = .ok (.aload_n 0, 1) := dk_42 (dk_at dksX1_dropReform_1 0 rfl rfl)
theorem dX1_dropReform_25 : decode cX1_dropReform 25 = .ok (.invokevirtual 538, 3) := dk_182 2 26 (dk_at dksX1_dropReform_1 1 rfl rfl)
theorem dX1_dropReform_28 : decode cX1_dropReform 28 = .ok (.astore_n 2, 1) := dk_77 (dk_at dksX1_dropReform_1 4 rfl rfl)
theorem dX1_dropReform_29 : decode cX1_dropReform 29 = .ok (.aload_n 2, 1) := dk_44 (dk_at dksX1_dropReform_1 5 rfl rfl)
theorem dX1_dropReform_30 : decode cX1_dropReform 30 = .ok (.getfield 232, 3) := dk_180 0 232 (dk_at dksX1_dropReform_1 6 rfl rfl)
theorem dX1_dropReform_33 : decode cX1_dropReform 33 = .ok (.iload_n 1, 1) := dk_27 (dk_at dksX1_dropReform_1 9 rfl rfl)
theorem dX1_dropReform_34 : decode cX1_dropReform 34 = .ok (.invokeinterface 554 2, 5) := by decide +kernel
theorem dX1_dropReform_39 : decode cX1_dropReform 39 = .ok (.checkcast 178, 3) := dk_192 0 178 (dk_at dksX1_dropReform_1 15 rfl rfl)
theorem dX1_dropReform_42 : decode cX1_dropReform 42 = .ok (.astore_n 3, 1) := dk_78 (dk_at dksX1_dropReform_1 18 rfl rfl)
theorem dX1_dropReform_43 : decode cX1_dropReform 43 = .ok (.aload_n 2, 1) := dk_44 (dk_at dksX1_dropReform_1 19 rfl rfl)
theorem dX1_dropReform_44 : decode cX1_dropReform 44 = .ok (.getfield 232, 3) := dk_180 0 232 (dk_at dksX1_dropReform_1 20 rfl rfl)
theorem dX1_dropReform_47 : decode cX1_dropReform 47 = .ok (.invokeinterface 124 1, 5) := by decide +kernel
theorem dX1_dropReform_52 : decode cX1_dropReform 52 = .ok (.ireturn, 1) := dk_172 (dk_at dksX1_dropReform_2 5 rfl rfl)
abbrev cX1_rename : ByteArray := prog_1_method_75_code
def yX1_rename : MethodName := ⟨RX1, "rename", "(II)I"⟩
def dkwX1_rename_3 : List UInt8 := [180, 0, 121, 27, 185, 0, 224, 2, 0, 192, 0, 214, 180, 1, 32, 172]
abbrev dktX1_rename_3 : List UInt8 := dkwX1_rename_3 ++ []
def dkwX1_rename_2 : List UInt8 := [154, 0, 5, 2, 172, 42, 182, 2, 26, 58, 5, 25, 5, 27, 28, 25, 4, 182, 2, 59, 25, 5]
abbrev dktX1_rename_2 : List UInt8 := dkwX1_rename_2 ++ dktX1_rename_3
def dkwX1_rename_1 : List UInt8 := [167, 0, 4, 3, 184, 2, 23, 42, 182, 1, 177, 58, 4, 42, 3, 181, 0, 97, 25, 4, 184, 2, 55]
abbrev dktX1_rename_1 : List UInt8 := dkwX1_rename_1 ++ dktX1_rename_2
def dkwX1_rename_0 : List UInt8 := [42, 27, 182, 1, 18, 78, 28, 184, 1, 112, 42, 180, 0, 69, 180, 0, 235, 16, 16, 162, 0, 7, 4]
abbrev dktX1_rename_0 : List UInt8 := dkwX1_rename_0 ++ dktX1_rename_1
theorem dksX1_rename_0 : cX1_rename.data.toList.drop 0 = dktX1_rename_0 := by decide +kernel
theorem dksX1_rename_1 : cX1_rename.data.toList.drop 23 = dktX1_rename_1 := dk_seg dksX1_rename_0 23 rfl rfl
theorem dksX1_rename_2 : cX1_rename.data.toList.drop 46 = dktX1_rename_2 := dk_seg dksX1_rename_1 23 rfl rfl
theorem dksX1_rename_3 : cX1_rename.data.toList.drop 68 = dktX1_rename_3 := dk_seg dksX1_rename_2 22 rfl rfl
theorem dX1_rename_0 : decode cX1_rename 0 = .ok (.aload_n 0, 1) := dk_42 (dk_at dksX1_rename_0 0 rfl rfl)
theorem dX1_rename_1 : decode cX1_rename 1 = .ok (.iload_n 1, 1) := dk_27 (dk_at dksX1_rename_0 1 rfl rfl)
theorem dX1_rename_2 : decode cX1_rename 2 = .ok (.invokevirtual 274, 3) := dk_182 1 18 (dk_at dksX1_rename_0 2 rfl rfl)
theorem dX1_rename_5 : decode cX1_rename 5 = .ok (.astore_n 3, 1) := dk_78 (dk_at dksX1_rename_0 5 rfl rfl)
theorem dX1_rename_6 : decode cX1_rename 6 = .ok (.iload_n 2, 1) := dk_28 (dk_at dksX1_rename_0 6 rfl rfl)
theorem dX1_rename_7 : decode cX1_rename 7 = .ok (.invokestatic 368, 3) := dk_184 1 112 (dk_at dksX1_rename_0 7 rfl rfl)
theorem dX1_rename_10 : decode cX1_rename 10 = .ok (.aload_n 0, 1) := dk_42 (dk_at dksX1_rename_0 10 rfl rfl)
theorem dX1_rename_11 : decode cX1_rename 11 = .ok (.getfield 69, 3) := dk_180 0 69 (dk_at dksX1_rename_0 11 rfl rfl)
theorem dX1_rename_14 : decode cX1_rename 14 = .ok (.getfield 235, 3) := dk_180 0 235 (dk_at dksX1_rename_0 14 rfl rfl)
theorem dX1_rename_17 : decode cX1_rename 17 = .ok (.bipush 16, 2) := dk_16 16 (dk_at dksX1_rename_0 17 rfl rfl)
theorem dX1_rename_19 : decode cX1_rename 19 = .ok (.if_icmp .ge 7, 3) := dk_162 0 7 (dk_at dksX1_rename_0 19 rfl rfl)
theorem dX1_rename_22 : decode cX1_rename 22 = .ok (.iconst 1, 1) := dk_4 (dk_at dksX1_rename_0 22 rfl rfl)
theorem dX1_rename_23 : decode cX1_rename 23 = .ok (.goto 4, 3) := dk_167 0 4 (dk_at dksX1_rename_1 0 rfl rfl)
theorem dX1_rename_26 : decode cX1_rename 26 = .ok (.iconst 0, 1) := dk_3 (dk_at dksX1_rename_1 3 rfl rfl)
theorem dX1_rename_27 : decode cX1_rename 27 = .ok (.invokestatic 535, 3) := dk_184 2 23 (dk_at dksX1_rename_1 4 rfl rfl)
theorem dX1_rename_30 : decode cX1_rename 30 = .ok (.aload_n 0, 1) := dk_42 (dk_at dksX1_rename_1 7 rfl rfl)
theorem dX1_rename_31 : decode cX1_rename 31 = .ok (.invokevirtual 433, 3) := dk_182 1 177 (dk_at dksX1_rename_1 8 rfl rfl)
theorem dX1_rename_34 : decode cX1_rename 34 = .ok (.astore 4, 2) := dk_58 4 (dk_at dksX1_rename_1 11 rfl rfl)
theorem dX1_rename_36 : decode cX1_rename 36 = .ok (.aload_n 0, 1) := dk_42 (dk_at dksX1_rename_1 13 rfl rfl)
theorem dX1_rename_37 : decode cX1_rename 37 = .ok (.iconst 0, 1) := dk_3 (dk_at dksX1_rename_1 14 rfl rfl)
theorem dX1_rename_38 : decode cX1_rename 38 = .ok (.putfield 97, 3) := dk_181 0 97 (dk_at dksX1_rename_1 15 rfl rfl)
theorem dX1_rename_41 : decode cX1_rename 41 = .ok (.aload 4, 2) := dk_25 4 (dk_at dksX1_rename_1 18 rfl rfl)
theorem dX1_rename_43 : decode cX1_rename 43 = .ok (.invokestatic 567, 3) := dk_184 2 55 (dk_at dksX1_rename_1 20 rfl rfl)
theorem dX1_rename_46 : decode cX1_rename 46 = .ok (.ifCond .ne 5, 3) := dk_154 0 5 (dk_at dksX1_rename_2 0 rfl rfl)
theorem dX1_rename_49 : decode cX1_rename 49 = .ok (.iconst (-1), 1) := dk_2 (dk_at dksX1_rename_2 3 rfl rfl)
theorem dX1_rename_50 : decode cX1_rename 50 = .ok (.ireturn, 1) := dk_172 (dk_at dksX1_rename_2 4 rfl rfl)
theorem dX1_rename_51 : decode cX1_rename 51 = .ok (.aload_n 0, 1) := dk_42 (dk_at dksX1_rename_2 5 rfl rfl)
theorem dX1_rename_52 : decode cX1_rename 52 = .ok (.invokevirtual 538, 3) := dk_182 2 26 (dk_at dksX1_rename_2 6 rfl rfl)
theorem dX1_rename_55 : decode cX1_rename 55 = .ok (.astore 5, 2) := dk_58 5 (dk_at dksX1_rename_2 9 rfl rfl)
theorem dX1_rename_57 : decode cX1_rename 57 = .ok (.aload 5, 2) := dk_25 5 (dk_at dksX1_rename_2 11 rfl rfl)
theorem dX1_rename_59 : decode cX1_rename 59 = .ok (.iload_n 1, 1) := dk_27 (dk_at dksX1_rename_2 13 rfl rfl)
theorem dX1_rename_60 : decode cX1_rename 60 = .ok (.iload_n 2, 1) := dk_28 (dk_at dksX1_rename_2 14 rfl rfl)
theorem dX1_rename_61 : decode cX1_rename 61 = .ok (.aload 4, 2) := dk_25 4 (dk_at dksX1_rename_2 15 rfl rfl)
theorem dX1_rename_63 : decode cX1_rename 63 = .ok (.invokevirtual 571, 3) := dk_182 2 59 (dk_at dksX1_rename_2 17 rfl rfl)
theorem dX1_rename_66 : decode cX1_rename 66 = .ok (.aload 5, 2) := dk_25 5 (dk_at dksX1_rename_2 20 rfl rfl)
theorem dX1_rename_68 : decode cX1_rename 68 = .ok (.getfield 121, 3) := dk_180 0 121 (dk_at dksX1_rename_3 0 rfl rfl)
theorem dX1_rename_71 : decode cX1_rename 71 = .ok (.iload_n 1, 1) := dk_27 (dk_at dksX1_rename_3 3 rfl rfl)
theorem dX1_rename_72 : decode cX1_rename 72 = .ok (.invokeinterface 224 2, 5) := by decide +kernel
theorem dX1_rename_77 : decode cX1_rename 77 = .ok (.checkcast 214, 3) := dk_192 0 214 (dk_at dksX1_rename_3 9 rfl rfl)
theorem dX1_rename_80 : decode cX1_rename 80 = .ok (.getfield 288, 3) := dk_180 1 32 (dk_at dksX1_rename_3 12 rfl rfl)
theorem dX1_rename_83 : decode cX1_rename 83 = .ok (.ireturn, 1) := dk_172 (dk_at dksX1_rename_3 15 rfl rfl)
abbrev cX1_isName : ByteArray := prog_1_method_74_code
def yX1_isName : MethodName := ⟨RX1, "isName", "(Ljava/lang/CharSequence;)Z"⟩
def dkwX1_isName_2 : List UInt8 := [10, 20, 2, 53, 184, 0, 20, 172]
abbrev dktX1_isName_2 : List UInt8 := dkwX1_isName_2 ++ []
def dkwX1_isName_1 : List UInt8 := [20, 2, 51, 184, 0, 20, 154, 0, 5, 3, 172, 132, 1, 1, 167, 255, 221, 42, 185, 2, 45, 1, 0, 133]
abbrev dktX1_isName_1 : List UInt8 := dkwX1_isName_1 ++ dktX1_isName_2
def dkwX1_isName_0 : List UInt8 := [3, 60, 27, 42, 185, 2, 45, 1, 0, 162, 0, 31, 42, 27, 185, 2, 48, 2, 0, 133, 20, 2, 49]
abbrev dktX1_isName_0 : List UInt8 := dkwX1_isName_0 ++ dktX1_isName_1
theorem dksX1_isName_0 : cX1_isName.data.toList.drop 0 = dktX1_isName_0 := by decide +kernel
theorem dksX1_isName_1 : cX1_isName.data.toList.drop 23 = dktX1_isName_1 := dk_seg dksX1_isName_0 23 rfl rfl
theorem dksX1_isName_2 : cX1_isName.data.toList.drop 47 = dktX1_isName_2 := dk_seg dksX1_isName_1 24 rfl rfl
theorem dX1_isName_0 : decode cX1_isName 0 = .ok (.iconst 0, 1) := dk_3 (dk_at dksX1_isName_0 0 rfl rfl)
theorem dX1_isName_1 : decode cX1_isName 1 = .ok (.istore_n 1, 1) := dk_60 (dk_at dksX1_isName_0 1 rfl rfl)
theorem dX1_isName_2 : decode cX1_isName 2 = .ok (.iload_n 1, 1) := dk_27 (dk_at dksX1_isName_0 2 rfl rfl)
theorem dX1_isName_3 : decode cX1_isName 3 = .ok (.aload_n 0, 1) := dk_42 (dk_at dksX1_isName_0 3 rfl rfl)
theorem dX1_isName_4 : decode cX1_isName 4 = .ok (.invokeinterface 557 1, 5) := by decide +kernel
theorem dX1_isName_9 : decode cX1_isName 9 = .ok (.if_icmp .ge 31, 3) := dk_162 0 31 (dk_at dksX1_isName_0 9 rfl rfl)
theorem dX1_isName_12 : decode cX1_isName 12 = .ok (.aload_n 0, 1) := dk_42 (dk_at dksX1_isName_0 12 rfl rfl)
theorem dX1_isName_13 : decode cX1_isName 13 = .ok (.iload_n 1, 1) := dk_27 (dk_at dksX1_isName_0 13 rfl rfl)
theorem dX1_isName_14 : decode cX1_isName 14 = .ok (.invokeinterface 560 2, 5) := by decide +kernel
theorem dX1_isName_19 : decode cX1_isName 19 = .ok (.i2l, 1) := dk_133 (dk_at dksX1_isName_0 19 rfl rfl)
theorem dX1_isName_20 : decode cX1_isName 20 = .ok (.ldc2_w 561, 3) := dk_20 2 49 (dk_at dksX1_isName_0 20 rfl rfl)
theorem dX1_isName_23 : decode cX1_isName 23 = .ok (.ldc2_w 563, 3) := dk_20 2 51 (dk_at dksX1_isName_1 0 rfl rfl)
theorem dX1_isName_26 : decode cX1_isName 26 = .ok (.invokestatic 20, 3) := dk_184 0 20 (dk_at dksX1_isName_1 3 rfl rfl)
theorem dX1_isName_29 : decode cX1_isName 29 = .ok (.ifCond .ne 5, 3) := dk_154 0 5 (dk_at dksX1_isName_1 6 rfl rfl)
theorem dX1_isName_32 : decode cX1_isName 32 = .ok (.iconst 0, 1) := dk_3 (dk_at dksX1_isName_1 9 rfl rfl)
theorem dX1_isName_33 : decode cX1_isName 33 = .ok (.ireturn, 1) := dk_172 (dk_at dksX1_isName_1 10 rfl rfl)
theorem dX1_isName_34 : decode cX1_isName 34 = .ok (.iinc 1 1, 3) := dk_132 1 1 (dk_at dksX1_isName_1 11 rfl rfl)
theorem dX1_isName_37 : decode cX1_isName 37 = .ok (.goto (-35), 3) := dk_167 255 221 (dk_at dksX1_isName_1 14 rfl rfl)
theorem dX1_isName_40 : decode cX1_isName 40 = .ok (.aload_n 0, 1) := dk_42 (dk_at dksX1_isName_1 17 rfl rfl)
theorem dX1_isName_41 : decode cX1_isName 41 = .ok (.invokeinterface 557 1, 5) := by decide +kernel
theorem dX1_isName_46 : decode cX1_isName 46 = .ok (.i2l, 1) := dk_133 (dk_at dksX1_isName_1 23 rfl rfl)
theorem dX1_isName_47 : decode cX1_isName 47 = .ok (.lconst 1, 1) := dk_10 (dk_at dksX1_isName_2 0 rfl rfl)
theorem dX1_isName_48 : decode cX1_isName 48 = .ok (.ldc2_w 565, 3) := dk_20 2 53 (dk_at dksX1_isName_2 1 rfl rfl)
theorem dX1_isName_51 : decode cX1_isName 51 = .ok (.invokestatic 20, 3) := dk_184 0 20 (dk_at dksX1_isName_2 4 rfl rfl)
theorem dX1_isName_54 : decode cX1_isName 54 = .ok (.ireturn, 1) := dk_172 (dk_at dksX1_isName_2 7 rfl rfl)
abbrev cX1_setGone : ByteArray := prog_1_method_76_code
def yX1_setGone : MethodName := ⟨RX1, "setGone", "(II)I"⟩
def dkwX1_setGone_2 : List UInt8 := [181, 1, 25, 21, 4, 172]
abbrev dktX1_setGone_2 : List UInt8 := dkwX1_setGone_2 ++ []
def dkwX1_setGone_1 : List UInt8 := [45, 180, 1, 25, 54, 4, 42, 182, 2, 26, 180, 0, 121, 27, 185, 0, 224, 2, 0, 192, 0, 214, 28]
abbrev dktX1_setGone_1 : List UInt8 := dkwX1_setGone_1 ++ dktX1_setGone_2
def dkwX1_setGone_0 : List UInt8 := [42, 27, 182, 1, 18, 78, 28, 133, 45, 180, 1, 22, 4, 96, 133, 20, 2, 62, 184, 0, 20, 184, 0, 24]
abbrev dktX1_setGone_0 : List UInt8 := dkwX1_setGone_0 ++ dktX1_setGone_1
theorem dksX1_setGone_0 : cX1_setGone.data.toList.drop 0 = dktX1_setGone_0 := by decide +kernel
theorem dksX1_setGone_1 : cX1_setGone.data.toList.drop 24 = dktX1_setGone_1 := dk_seg dksX1_setGone_0 24 rfl rfl
theorem dksX1_setGone_2 : cX1_setGone.data.toList.drop 47 = dktX1_setGone_2 := dk_seg dksX1_setGone_1 23 rfl rfl
theorem dX1_setGone_0 : decode cX1_setGone 0 = .ok (.aload_n 0, 1) := dk_42 (dk_at dksX1_setGone_0 0 rfl rfl)
theorem dX1_setGone_1 : decode cX1_setGone 1 = .ok (.iload_n 1, 1) := dk_27 (dk_at dksX1_setGone_0 1 rfl rfl)
theorem dX1_setGone_2 : decode cX1_setGone 2 = .ok (.invokevirtual 274, 3) := dk_182 1 18 (dk_at dksX1_setGone_0 2 rfl rfl)
theorem dX1_setGone_5 : decode cX1_setGone 5 = .ok (.astore_n 3, 1) := dk_78 (dk_at dksX1_setGone_0 5 rfl rfl)
theorem dX1_setGone_6 : decode cX1_setGone 6 = .ok (.iload_n 2, 1) := dk_28 (dk_at dksX1_setGone_0 6 rfl rfl)
theorem dX1_setGone_7 : decode cX1_setGone 7 = .ok (.i2l, 1) := dk_133 (dk_at dksX1_setGone_0 7 rfl rfl)
theorem dX1_setGone_8 : decode cX1_setGone 8 = .ok (.aload_n 3, 1) := dk_45 (dk_at dksX1_setGone_0 8 rfl rfl)
theorem dX1_setGone_9 : decode cX1_setGone 9 = .ok (.getfield 278, 3) := dk_180 1 22 (dk_at dksX1_setGone_0 9 rfl rfl)
theorem dX1_setGone_12 : decode cX1_setGone 12 = .ok (.iconst 1, 1) := dk_4 (dk_at dksX1_setGone_0 12 rfl rfl)
theorem dX1_setGone_13 : decode cX1_setGone 13 = .ok (.iadd, 1) := dk_96 (dk_at dksX1_setGone_0 13 rfl rfl)
theorem dX1_setGone_14 : decode cX1_setGone 14 = .ok (.i2l, 1) := dk_133 (dk_at dksX1_setGone_0 14 rfl rfl)
theorem dX1_setGone_15 : decode cX1_setGone 15 = .ok (.ldc2_w 574, 3) := dk_20 2 62 (dk_at dksX1_setGone_0 15 rfl rfl)
theorem dX1_setGone_18 : decode cX1_setGone 18 = .ok (.invokestatic 20, 3) := dk_184 0 20 (dk_at dksX1_setGone_0 18 rfl rfl)
theorem dX1_setGone_21 : decode cX1_setGone 21 = .ok (.invokestatic 24, 3) := dk_184 0 24 (dk_at dksX1_setGone_0 21 rfl rfl)
theorem dX1_setGone_24 : decode cX1_setGone 24 = .ok (.aload_n 3, 1) := dk_45 (dk_at dksX1_setGone_1 0 rfl rfl)
theorem dX1_setGone_25 : decode cX1_setGone 25 = .ok (.getfield 281, 3) := dk_180 1 25 (dk_at dksX1_setGone_1 1 rfl rfl)
theorem dX1_setGone_28 : decode cX1_setGone 28 = .ok (.istore 4, 2) := dk_54 4 (dk_at dksX1_setGone_1 4 rfl rfl)
theorem dX1_setGone_30 : decode cX1_setGone 30 = .ok (.aload_n 0, 1) := dk_42 (dk_at dksX1_setGone_1 6 rfl rfl)
theorem dX1_setGone_31 : decode cX1_setGone 31 = .ok (.invokevirtual 538, 3) := dk_182 2 26 (dk_at dksX1_setGone_1 7 rfl rfl)
theorem dX1_setGone_34 : decode cX1_setGone 34 = .ok (.getfield 121, 3) := dk_180 0 121 (dk_at dksX1_setGone_1 10 rfl rfl)
theorem dX1_setGone_37 : decode cX1_setGone 37 = .ok (.iload_n 1, 1) := dk_27 (dk_at dksX1_setGone_1 13 rfl rfl)
theorem dX1_setGone_38 : decode cX1_setGone 38 = .ok (.invokeinterface 224 2, 5) := by decide +kernel
theorem dX1_setGone_43 : decode cX1_setGone 43 = .ok (.checkcast 214, 3) := dk_192 0 214 (dk_at dksX1_setGone_1 19 rfl rfl)
theorem dX1_setGone_46 : decode cX1_setGone 46 = .ok (.iload_n 2, 1) := dk_28 (dk_at dksX1_setGone_1 22 rfl rfl)
theorem dX1_setGone_47 : decode cX1_setGone 47 = .ok (.putfield 281, 3) := dk_181 1 25 (dk_at dksX1_setGone_2 0 rfl rfl)
theorem dX1_setGone_50 : decode cX1_setGone 50 = .ok (.iload 4, 2) := dk_21 4 (dk_at dksX1_setGone_2 3 rfl rfl)
theorem dX1_setGone_52 : decode cX1_setGone 52 = .ok (.ireturn, 1) := dk_172 (dk_at dksX1_setGone_2 5 rfl rfl)
abbrev cX1_setLines : ByteArray := prog_1_method_77_code
def yX1_setLines : MethodName := ⟨RX1, "setLines", "(I)I"⟩
def dkwX1_setLines_1 : List UInt8 := [182, 2, 26, 27, 181, 0, 238, 28, 172]
abbrev dktX1_setLines_1 : List UInt8 := dkwX1_setLines_1 ++ []
def dkwX1_setLines_0 : List UInt8 := [27, 133, 20, 1, 100, 20, 2, 64, 184, 0, 20, 184, 0, 24, 42, 180, 0, 69, 180, 0, 238, 61, 42]
abbrev dktX1_setLines_0 : List UInt8 := dkwX1_setLines_0 ++ dktX1_setLines_1
theorem dksX1_setLines_0 : cX1_setLines.data.toList.drop 0 = dktX1_setLines_0 := by decide +kernel
theorem dksX1_setLines_1 : cX1_setLines.data.toList.drop 23 = dktX1_setLines_1 := dk_seg dksX1_setLines_0 23 rfl rfl
theorem dX1_setLines_0 : decode cX1_setLines 0 = .ok (.iload_n 1, 1) := dk_27 (dk_at dksX1_setLines_0 0 rfl rfl)
theorem dX1_setLines_1 : decode cX1_setLines 1 = .ok (.i2l, 1) := dk_133 (dk_at dksX1_setLines_0 1 rfl rfl)
theorem dX1_setLines_2 : decode cX1_setLines 2 = .ok (.ldc2_w 356, 3) := dk_20 1 100 (dk_at dksX1_setLines_0 2 rfl rfl)
theorem dX1_setLines_5 : decode cX1_setLines 5 = .ok (.ldc2_w 576, 3) := dk_20 2 64 (dk_at dksX1_setLines_0 5 rfl rfl)
theorem dX1_setLines_8 : decode cX1_setLines 8 = .ok (.invokestatic 20, 3) := dk_184 0 20 (dk_at dksX1_setLines_0 8 rfl rfl)
theorem dX1_setLines_11 : decode cX1_setLines 11 = .ok (.invokestatic 24, 3) := dk_184 0 24 (dk_at dksX1_setLines_0 11 rfl rfl)
theorem dX1_setLines_14 : decode cX1_setLines 14 = .ok (.aload_n 0, 1) := dk_42 (dk_at dksX1_setLines_0 14 rfl rfl)
theorem dX1_setLines_15 : decode cX1_setLines 15 = .ok (.getfield 69, 3) := dk_180 0 69 (dk_at dksX1_setLines_0 15 rfl rfl)
theorem dX1_setLines_18 : decode cX1_setLines 18 = .ok (.getfield 238, 3) := dk_180 0 238 (dk_at dksX1_setLines_0 18 rfl rfl)
theorem dX1_setLines_21 : decode cX1_setLines 21 = .ok (.istore_n 2, 1) := dk_61 (dk_at dksX1_setLines_0 21 rfl rfl)
theorem dX1_setLines_22 : decode cX1_setLines 22 = .ok (.aload_n 0, 1) := dk_42 (dk_at dksX1_setLines_0 22 rfl rfl)
theorem dX1_setLines_23 : decode cX1_setLines 23 = .ok (.invokevirtual 538, 3) := dk_182 2 26 (dk_at dksX1_setLines_1 0 rfl rfl)
theorem dX1_setLines_26 : decode cX1_setLines 26 = .ok (.iload_n 1, 1) := dk_27 (dk_at dksX1_setLines_1 3 rfl rfl)
theorem dX1_setLines_27 : decode cX1_setLines 27 = .ok (.putfield 238, 3) := dk_181 0 238 (dk_at dksX1_setLines_1 4 rfl rfl)
theorem dX1_setLines_30 : decode cX1_setLines 30 = .ok (.iload_n 2, 1) := dk_28 (dk_at dksX1_setLines_1 7 rfl rfl)
theorem dX1_setLines_31 : decode cX1_setLines 31 = .ok (.ireturn, 1) := dk_172 (dk_at dksX1_setLines_1 8 rfl rfl)
abbrev cX1_undo : ByteArray := prog_1_method_79_code
def yX1_undo : MethodName := ⟨RX1, "undo", "()I"⟩
def dkwX1_undo_1 : List UInt8 := [182, 2, 70, 192, 0, 28, 181, 0, 69, 42, 180, 0, 76, 182, 1, 8, 172]
abbrev dktX1_undo_1 : List UInt8 := dkwX1_undo_1 ++ []
def dkwX1_undo_0 : List UInt8 := [42, 180, 0, 76, 182, 2, 66, 154, 0, 7, 4, 167, 0, 4, 3, 184, 2, 67, 42, 42, 180, 0, 76]
abbrev dktX1_undo_0 : List UInt8 := dkwX1_undo_0 ++ dktX1_undo_1
theorem dksX1_undo_0 : cX1_undo.data.toList.drop 0 = dktX1_undo_0 := by decide +kernel
theorem dksX1_undo_1 : cX1_undo.data.toList.drop 23 = dktX1_undo_1 := dk_seg dksX1_undo_0 23 rfl rfl
theorem dX1_undo_0 : decode cX1_undo 0 = .ok (.aload_n 0, 1) := dk_42 (dk_at dksX1_undo_0 0 rfl rfl)
theorem dX1_undo_1 : decode cX1_undo 1 = .ok (.getfield 76, 3) := dk_180 0 76 (dk_at dksX1_undo_0 1 rfl rfl)
theorem dX1_undo_4 : decode cX1_undo 4 = .ok (.invokevirtual 578, 3) := dk_182 2 66 (dk_at dksX1_undo_0 4 rfl rfl)
theorem dX1_undo_7 : decode cX1_undo 7 = .ok (.ifCond .ne 7, 3) := dk_154 0 7 (dk_at dksX1_undo_0 7 rfl rfl)
theorem dX1_undo_10 : decode cX1_undo 10 = .ok (.iconst 1, 1) := dk_4 (dk_at dksX1_undo_0 10 rfl rfl)
theorem dX1_undo_11 : decode cX1_undo 11 = .ok (.goto 4, 3) := dk_167 0 4 (dk_at dksX1_undo_0 11 rfl rfl)
theorem dX1_undo_14 : decode cX1_undo 14 = .ok (.iconst 0, 1) := dk_3 (dk_at dksX1_undo_0 14 rfl rfl)
theorem dX1_undo_15 : decode cX1_undo 15 = .ok (.invokestatic 579, 3) := dk_184 2 67 (dk_at dksX1_undo_0 15 rfl rfl)
theorem dX1_undo_18 : decode cX1_undo 18 = .ok (.aload_n 0, 1) := dk_42 (dk_at dksX1_undo_0 18 rfl rfl)
theorem dX1_undo_19 : decode cX1_undo 19 = .ok (.aload_n 0, 1) := dk_42 (dk_at dksX1_undo_0 19 rfl rfl)
theorem dX1_undo_20 : decode cX1_undo 20 = .ok (.getfield 76, 3) := dk_180 0 76 (dk_at dksX1_undo_0 20 rfl rfl)
theorem dX1_undo_23 : decode cX1_undo 23 = .ok (.invokevirtual 582, 3) := dk_182 2 70 (dk_at dksX1_undo_1 0 rfl rfl)
theorem dX1_undo_26 : decode cX1_undo 26 = .ok (.checkcast 28, 3) := dk_192 0 28 (dk_at dksX1_undo_1 3 rfl rfl)
theorem dX1_undo_29 : decode cX1_undo 29 = .ok (.putfield 69, 3) := dk_181 0 69 (dk_at dksX1_undo_1 6 rfl rfl)
theorem dX1_undo_32 : decode cX1_undo 32 = .ok (.aload_n 0, 1) := dk_42 (dk_at dksX1_undo_1 9 rfl rfl)
theorem dX1_undo_33 : decode cX1_undo 33 = .ok (.getfield 76, 3) := dk_180 0 76 (dk_at dksX1_undo_1 10 rfl rfl)
theorem dX1_undo_36 : decode cX1_undo 36 = .ok (.invokevirtual 264, 3) := dk_182 1 8 (dk_at dksX1_undo_1 13 rfl rfl)
theorem dX1_undo_39 : decode cX1_undo 39 = .ok (.ireturn, 1) := dk_172 (dk_at dksX1_undo_1 16 rfl rfl)
abbrev cX1_checkElement : ByteArray := prog_1_method_5_code
def yX1_checkElement : MethodName := ⟨RX1, "checkElement", "(Z)V"⟩
def dkwX1_checkElement_0 : List UInt8 := [26, 154, 0, 11, 187, 0, 13, 89, 183, 0, 15, 191, 177]
abbrev dktX1_checkElement_0 : List UInt8 := dkwX1_checkElement_0 ++ []
theorem dksX1_checkElement_0 : cX1_checkElement.data.toList.drop 0 = dktX1_checkElement_0 := by decide +kernel
theorem dX1_checkElement_0 : decode cX1_checkElement 0 = .ok (.iload_n 0, 1) := dk_26 (dk_at dksX1_checkElement_0 0 rfl rfl)
theorem dX1_checkElement_1 : decode cX1_checkElement 1 = .ok (.ifCond .ne 11, 3) := dk_154 0 11 (dk_at dksX1_checkElement_0 1 rfl rfl)
theorem dX1_checkElement_4 : decode cX1_checkElement 4 = .ok (.new 13, 3) := dk_187 0 13 (dk_at dksX1_checkElement_0 4 rfl rfl)
theorem dX1_checkElement_7 : decode cX1_checkElement 7 = .ok (.dup, 1) := dk_89 (dk_at dksX1_checkElement_0 7 rfl rfl)
theorem dX1_checkElement_8 : decode cX1_checkElement 8 = .ok (.invokespecial 15, 3) := dk_183 0 15 (dk_at dksX1_checkElement_0 8 rfl rfl)
theorem dX1_checkElement_11 : decode cX1_checkElement 11 = .ok (.athrow, 1) := dk_191 (dk_at dksX1_checkElement_0 11 rfl rfl)
theorem dX1_checkElement_12 : decode cX1_checkElement 12 = .ok (.return_, 1) := dk_177 (dk_at dksX1_checkElement_0 12 rfl rfl)
abbrev cX1_printPage : ByteArray := prog_1_method_81_code
def yX1_printPage : MethodName := ⟨RX1, "printPage", "(I)I"⟩
def dkwX1_printPage_5 : List UInt8 := [16, 10, 182, 1, 169, 87, 132, 3, 1, 167, 255, 149, 42, 180, 0, 93, 182, 2, 92, 172]
abbrev dktX1_printPage_5 : List UInt8 := dkwX1_printPage_5 ++ []
def dkwX1_printPage_4 : List UInt8 := [42, 180, 0, 93, 16, 43, 182, 1, 169, 87, 167, 0, 9, 42, 25, 4, 182, 2, 88, 42, 180, 0, 93]
abbrev dktX1_printPage_4 : List UInt8 := dkwX1_printPage_4 ++ dktX1_printPage_5
def dkwX1_printPage_3 : List UInt8 := [185, 0, 224, 2, 0, 192, 0, 42, 182, 2, 83, 182, 2, 73, 87, 44, 25, 5, 184, 1, 231, 154, 0, 13]
abbrev dktX1_printPage_3 : List UInt8 := dkwX1_printPage_3 ++ dktX1_printPage_4
def dkwX1_printPage_2 : List UInt8 := [42, 180, 0, 93, 16, 42, 182, 1, 169, 42, 180, 0, 69, 180, 0, 38, 25, 5, 180, 1, 224]
abbrev dktX1_printPage_2 : List UInt8 := dkwX1_printPage_2 ++ dktX1_printPage_3
def dkwX1_printPage_1 : List UInt8 := [162, 0, 104, 44, 27, 29, 182, 1, 221, 58, 4, 25, 4, 199, 0, 69, 44, 27, 29, 184, 1, 227, 58, 5]
abbrev dktX1_printPage_1 : List UInt8 := dkwX1_printPage_1 ++ dktX1_printPage_2
def dkwX1_printPage_0 : List UInt8 := [42, 27, 182, 1, 214, 77, 42, 180, 0, 93, 3, 182, 2, 85, 3, 62, 29, 44, 27, 182, 1, 218]
abbrev dktX1_printPage_0 : List UInt8 := dkwX1_printPage_0 ++ dktX1_printPage_1
theorem dksX1_printPage_0 : cX1_printPage.data.toList.drop 0 = dktX1_printPage_0 := by decide +kernel
theorem dksX1_printPage_1 : cX1_printPage.data.toList.drop 22 = dktX1_printPage_1 := dk_seg dksX1_printPage_0 22 rfl rfl
theorem dksX1_printPage_2 : cX1_printPage.data.toList.drop 46 = dktX1_printPage_2 := dk_seg dksX1_printPage_1 24 rfl rfl
theorem dksX1_printPage_3 : cX1_printPage.data.toList.drop 67 = dktX1_printPage_3 := dk_seg dksX1_printPage_2 21 rfl rfl
theorem dksX1_printPage_4 : cX1_printPage.data.toList.drop 91 = dktX1_printPage_4 := dk_seg dksX1_printPage_3 24 rfl rfl
theorem dksX1_printPage_5 : cX1_printPage.data.toList.drop 114 = dktX1_printPage_5 := dk_seg dksX1_printPage_4 23 rfl rfl
theorem dX1_printPage_0 : decode cX1_printPage 0 = .ok (.aload_n 0, 1) := dk_42 (dk_at dksX1_printPage_0 0 rfl rfl)
theorem dX1_printPage_1 : decode cX1_printPage 1 = .ok (.iload_n 1, 1) := dk_27 (dk_at dksX1_printPage_0 1 rfl rfl)
theorem dX1_printPage_2 : decode cX1_printPage 2 = .ok (.invokevirtual 470, 3) := dk_182 1 214 (dk_at dksX1_printPage_0 2 rfl rfl)
theorem dX1_printPage_5 : decode cX1_printPage 5 = .ok (.astore_n 2, 1) := dk_77 (dk_at dksX1_printPage_0 5 rfl rfl)
theorem dX1_printPage_6 : decode cX1_printPage 6 = .ok (.aload_n 0, 1) := dk_42 (dk_at dksX1_printPage_0 6 rfl rfl)
theorem dX1_printPage_7 : decode cX1_printPage 7 = .ok (.getfield 93, 3) := dk_180 0 93 (dk_at dksX1_printPage_0 7 rfl rfl)
theorem dX1_printPage_10 : decode cX1_printPage 10 = .ok (.iconst 0, 1) := dk_3 (dk_at dksX1_printPage_0 10 rfl rfl)
theorem dX1_printPage_11 : decode cX1_printPage 11 = .ok (.invokevirtual 597, 3) := dk_182 2 85 (dk_at dksX1_printPage_0 11 rfl rfl)
theorem dX1_printPage_14 : decode cX1_printPage 14 = .ok (.iconst 0, 1) := dk_3 (dk_at dksX1_printPage_0 14 rfl rfl)
theorem dX1_printPage_15 : decode cX1_printPage 15 = .ok (.istore_n 3, 1) := dk_62 (dk_at dksX1_printPage_0 15 rfl rfl)
theorem dX1_printPage_16 : decode cX1_printPage 16 = .ok (.iload_n 3, 1) := dk_29 (dk_at dksX1_printPage_0 16 rfl rfl)
theorem dX1_printPage_17 : decode cX1_printPage 17 = .ok (.aload_n 2, 1) := dk_44 (dk_at dksX1_printPage_0 17 rfl rfl)
theorem dX1_printPage_18 : decode cX1_printPage 18 = .ok (.iload_n 1, 1) := dk_27 (dk_at dksX1_printPage_0 18 rfl rfl)
theorem dX1_printPage_19 : decode cX1_printPage 19 = .ok (.invokevirtual 474, 3) := dk_182 1 218 (dk_at dksX1_printPage_0 19 rfl rfl)
theorem dX1_printPage_22 : decode cX1_printPage 22 = .ok (.if_icmp .ge 104, 3) := dk_162 0 104 (dk_at dksX1_printPage_1 0 rfl rfl)
theorem dX1_printPage_25 : decode cX1_printPage 25 = .ok (.aload_n 2, 1) := dk_44 (dk_at dksX1_printPage_1 3 rfl rfl)
theorem dX1_printPage_26 : decode cX1_printPage 26 = .ok (.iload_n 1, 1) := dk_27 (dk_at dksX1_printPage_1 4 rfl rfl)
theorem dX1_printPage_27 : decode cX1_printPage 27 = .ok (.iload_n 3, 1) := dk_29 (dk_at dksX1_printPage_1 5 rfl rfl)
theorem dX1_printPage_28 : decode cX1_printPage 28 = .ok (.invokevirtual 477, 3) := dk_182 1 221 (dk_at dksX1_printPage_1 6 rfl rfl)
theorem dX1_printPage_31 : decode cX1_printPage 31 = .ok (.astore 4, 2) := dk_58 4 (dk_at dksX1_printPage_1 9 rfl rfl)
theorem dX1_printPage_33 : decode cX1_printPage 33 = .ok (.aload 4, 2) := dk_25 4 (dk_at dksX1_printPage_1 11 rfl rfl)
theorem dX1_printPage_35 : decode cX1_printPage 35 = .ok (.ifnonnull 69, 3) := dk_199 0 69 (dk_at dksX1_printPage_1 13 rfl rfl)
theorem dX1_printPage_38 : decode cX1_printPage 38 = .ok (.aload_n 2, 1) := dk_44 (dk_at dksX1_printPage_1 16 rfl rfl)
theorem dX1_printPage_39 : decode cX1_printPage 39 = .ok (.iload_n 1, 1) := dk_27 (dk_at dksX1_printPage_1 17 rfl rfl)
theorem dX1_printPage_40 : decode cX1_printPage 40 = .ok (.iload_n 3, 1) := dk_29 (dk_at dksX1_printPage_1 18 rfl rfl)
theorem dX1_printPage_41 : decode cX1_printPage 41 = .ok (.invokestatic 483, 3) := dk_184 1 227 (dk_at dksX1_printPage_1 19 rfl rfl)
theorem dX1_printPage_44 : decode cX1_printPage 44 = .ok (.astore 5, 2) := dk_58 5 (dk_at dksX1_printPage_1 22 rfl rfl)
theorem dX1_printPage_46 : decode cX1_printPage 46 = .ok (.aload_n 0, 1) := dk_42 (dk_at dksX1_printPage_2 0 rfl rfl)
theorem dX1_printPage_47 : decode cX1_printPage 47 = .ok (.getfield 93, 3) := dk_180 0 93 (dk_at dksX1_printPage_2 1 rfl rfl)
theorem dX1_printPage_50 : decode cX1_printPage 50 = .ok (.bipush 42, 2) := dk_16 42 (dk_at dksX1_printPage_2 4 rfl rfl)
theorem dX1_printPage_52 : decode cX1_printPage 52 = .ok (.invokevirtual 425, 3) := dk_182 1 169 (dk_at dksX1_printPage_2 6 rfl rfl)
theorem dX1_printPage_55 : decode cX1_printPage 55 = .ok (.aload_n 0, 1) := dk_42 (dk_at dksX1_printPage_2 9 rfl rfl)
theorem dX1_printPage_56 : decode cX1_printPage 56 = .ok (.getfield 69, 3) := dk_180 0 69 (dk_at dksX1_printPage_2 10 rfl rfl)
theorem dX1_printPage_59 : decode cX1_printPage 59 = .ok (.getfield 38, 3) := dk_180 0 38 (dk_at dksX1_printPage_2 13 rfl rfl)
theorem dX1_printPage_62 : decode cX1_printPage 62 = .ok (.aload 5, 2) := dk_25 5 (dk_at dksX1_printPage_2 16 rfl rfl)
theorem dX1_printPage_64 : decode cX1_printPage 64 = .ok (.getfield 480, 3) := dk_180 1 224 (dk_at dksX1_printPage_2 18 rfl rfl)
theorem dX1_printPage_67 : decode cX1_printPage 67 = .ok (.invokeinterface 224 2, 5) := by decide +kernel
theorem dX1_printPage_72 : decode cX1_printPage 72 = .ok (.checkcast 42, 3) := dk_192 0 42 (dk_at dksX1_printPage_3 5 rfl rfl)
theorem dX1_printPage_75 : decode cX1_printPage 75 = .ok (.invokevirtual 595, 3) := dk_182 2 83 (dk_at dksX1_printPage_3 8 rfl rfl)
theorem dX1_printPage_78 : decode cX1_printPage 78 = .ok (.invokevirtual 585, 3) := dk_182 2 73 (dk_at dksX1_printPage_3 11 rfl rfl)
theorem dX1_printPage_81 : decode cX1_printPage 81 = .ok (.pop, 1) := dk_87 (dk_at dksX1_printPage_3 14 rfl rfl)
theorem dX1_printPage_82 : decode cX1_printPage 82 = .ok (.aload_n 2, 1) := dk_44 (dk_at dksX1_printPage_3 15 rfl rfl)
theorem dX1_printPage_83 : decode cX1_printPage 83 = .ok (.aload 5, 2) := dk_25 5 (dk_at dksX1_printPage_3 16 rfl rfl)
theorem dX1_printPage_85 : decode cX1_printPage 85 = .ok (.invokestatic 487, 3) := dk_184 1 231 (dk_at dksX1_printPage_3 18 rfl rfl)
theorem dX1_printPage_88 : decode cX1_printPage 88 = .ok (.ifCond .ne 13, 3) := dk_154 0 13 (dk_at dksX1_printPage_3 21 rfl rfl)
theorem dX1_printPage_91 : decode cX1_printPage 91 = .ok (.aload_n 0, 1) := dk_42 (dk_at dksX1_printPage_4 0 rfl rfl)
theorem dX1_printPage_92 : decode cX1_printPage 92 = .ok (.getfield 93, 3) := dk_180 0 93 (dk_at dksX1_printPage_4 1 rfl rfl)
theorem dX1_printPage_95 : decode cX1_printPage 95 = .ok (.bipush 43, 2) := dk_16 43 (dk_at dksX1_printPage_4 4 rfl rfl)
theorem dX1_printPage_97 : decode cX1_printPage 97 = .ok (.invokevirtual 425, 3) := dk_182 1 169 (dk_at dksX1_printPage_4 6 rfl rfl)
theorem dX1_printPage_100 : decode cX1_printPage 100 = .ok (.pop, 1) := dk_87 (dk_at dksX1_printPage_4 9 rfl rfl)
theorem dX1_printPage_101 : decode cX1_printPage 101 = .ok (.goto 9, 3) := dk_167 0 9 (dk_at dksX1_printPage_4 10 rfl rfl)
theorem dX1_printPage_104 : decode cX1_printPage 104 = .ok (.aload_n 0, 1) := dk_42 (dk_at dksX1_printPage_4 13 rfl rfl)
theorem dX1_printPage_105 : decode cX1_printPage 105 = .ok (.aload 4, 2) := dk_25 4 (dk_at dksX1_printPage_4 14 rfl rfl)
theorem dX1_printPage_107 : decode cX1_printPage 107 = .ok (.invokevirtual 600, 3) := dk_182 2 88 (dk_at dksX1_printPage_4 16 rfl rfl)
theorem dX1_printPage_110 : decode cX1_printPage 110 = .ok (.aload_n 0, 1) := dk_42 (dk_at dksX1_printPage_4 19 rfl rfl)
theorem dX1_printPage_111 : decode cX1_printPage 111 = .ok (.getfield 93, 3) := dk_180 0 93 (dk_at dksX1_printPage_4 20 rfl rfl)
theorem dX1_printPage_114 : decode cX1_printPage 114 = .ok (.bipush 10, 2) := dk_16 10 (dk_at dksX1_printPage_5 0 rfl rfl)
theorem dX1_printPage_116 : decode cX1_printPage 116 = .ok (.invokevirtual 425, 3) := dk_182 1 169 (dk_at dksX1_printPage_5 2 rfl rfl)
theorem dX1_printPage_119 : decode cX1_printPage 119 = .ok (.pop, 1) := dk_87 (dk_at dksX1_printPage_5 5 rfl rfl)
theorem dX1_printPage_120 : decode cX1_printPage 120 = .ok (.iinc 3 1, 3) := dk_132 3 1 (dk_at dksX1_printPage_5 6 rfl rfl)
theorem dX1_printPage_123 : decode cX1_printPage 123 = .ok (.goto (-107), 3) := dk_167 255 149 (dk_at dksX1_printPage_5 9 rfl rfl)
theorem dX1_printPage_126 : decode cX1_printPage 126 = .ok (.aload_n 0, 1) := dk_42 (dk_at dksX1_printPage_5 12 rfl rfl)
theorem dX1_printPage_127 : decode cX1_printPage 127 = .ok (.getfield 93, 3) := dk_180 0 93 (dk_at dksX1_printPage_5 13 rfl rfl)
theorem dX1_printPage_130 : decode cX1_printPage 130 = .ok (.invokevirtual 604, 3) := dk_182 2 92 (dk_at dksX1_printPage_5 16 rfl rfl)
theorem dX1_printPage_133 : decode cX1_printPage 133 = .ok (.ireturn, 1) := dk_172 (dk_at dksX1_printPage_5 19 rfl rfl)
abbrev cX1_writes : ByteArray := prog_1_method_80_code
def yX1_writes : MethodName := ⟨RX1, "writes", "(LCountyGazetteer$Entry;)V"⟩
def dkwX1_writes_7 : List UInt8 := [104, 44, 180, 0, 218, 96, 46, 185, 0, 224, 2, 0, 192, 0, 42, 182, 2, 83, 182, 2, 73, 87, 177]
abbrev dktX1_writes_7 : List UInt8 := dkwX1_writes_7 ++ []
def dkwX1_writes_6 : List UInt8 := [180, 0, 69, 180, 0, 38, 42, 180, 0, 83, 180, 0, 209, 42, 180, 0, 69, 180, 0, 31, 44, 180, 0, 213]
abbrev dktX1_writes_6 : List UInt8 := dkwX1_writes_6 ++ dktX1_writes_7
def dkwX1_writes_5 : List UInt8 := [180, 1, 207, 182, 2, 73, 19, 2, 79, 182, 2, 73, 45, 182, 2, 73, 19, 2, 81, 182, 2, 73, 42]
abbrev dktX1_writes_5 : List UInt8 := dkwX1_writes_5 ++ dktX1_writes_6
def dkwX1_writes_4 : List UInt8 := [182, 2, 73, 19, 2, 79, 182, 2, 73, 45, 182, 2, 73, 87, 167, 0, 77, 42, 180, 0, 93, 43]
abbrev dktX1_writes_4 : List UInt8 := dkwX1_writes_4 ++ dktX1_writes_5
def dkwX1_writes_3 : List UInt8 := [16, 44, 182, 1, 169, 44, 180, 0, 213, 182, 2, 76, 87, 167, 0, 102, 42, 180, 0, 93, 43, 180, 1, 207]
abbrev dktX1_writes_3 : List UInt8 := dkwX1_writes_3 ++ dktX1_writes_4
def dkwX1_writes_2 : List UInt8 := [42, 180, 0, 93, 43, 180, 1, 207, 182, 2, 73, 16, 32, 182, 1, 169, 44, 180, 0, 218, 182, 2, 76]
abbrev dktX1_writes_2 : List UInt8 := dkwX1_writes_2 ++ dktX1_writes_3
def dkwX1_writes_1 : List UInt8 := [171, 0, 0, 0, 0, 0, 91, 0, 0, 0, 2, 0, 0, 0, 0, 0, 0, 0, 27, 0, 0, 0, 1, 0, 0, 0, 66]
abbrev dktX1_writes_1 : List UInt8 := dkwX1_writes_1 ++ dktX1_writes_2
def dkwX1_writes_0 : List UInt8 := [43, 180, 1, 197, 77, 44, 42, 180, 0, 69, 180, 0, 184, 182, 1, 115, 78, 43, 180, 1, 194]
abbrev dktX1_writes_0 : List UInt8 := dkwX1_writes_0 ++ dktX1_writes_1
theorem dksX1_writes_0 : cX1_writes.data.toList.drop 0 = dktX1_writes_0 := by decide +kernel
theorem dksX1_writes_1 : cX1_writes.data.toList.drop 21 = dktX1_writes_1 := dk_seg dksX1_writes_0 21 rfl rfl
theorem dksX1_writes_2 : cX1_writes.data.toList.drop 48 = dktX1_writes_2 := dk_seg dksX1_writes_1 27 rfl rfl
theorem dksX1_writes_3 : cX1_writes.data.toList.drop 71 = dktX1_writes_3 := dk_seg dksX1_writes_2 23 rfl rfl
theorem dksX1_writes_4 : cX1_writes.data.toList.drop 95 = dktX1_writes_4 := dk_seg dksX1_writes_3 24 rfl rfl
theorem dksX1_writes_5 : cX1_writes.data.toList.drop 117 = dktX1_writes_5 := dk_seg dksX1_writes_4 22 rfl rfl
theorem dksX1_writes_6 : cX1_writes.data.toList.drop 140 = dktX1_writes_6 := dk_seg dksX1_writes_5 23 rfl rfl
theorem dksX1_writes_7 : cX1_writes.data.toList.drop 164 = dktX1_writes_7 := dk_seg dksX1_writes_6 24 rfl rfl
theorem dX1_writes_0 : decode cX1_writes 0 = .ok (.aload_n 1, 1) := dk_43 (dk_at dksX1_writes_0 0 rfl rfl)
theorem dX1_writes_1 : decode cX1_writes 1 = .ok (.getfield 453, 3) := dk_180 1 197 (dk_at dksX1_writes_0 1 rfl rfl)
theorem dX1_writes_4 : decode cX1_writes 4 = .ok (.astore_n 2, 1) := dk_77 (dk_at dksX1_writes_0 4 rfl rfl)
theorem dX1_writes_5 : decode cX1_writes 5 = .ok (.aload_n 2, 1) := dk_44 (dk_at dksX1_writes_0 5 rfl rfl)
theorem dX1_writes_6 : decode cX1_writes 6 = .ok (.aload_n 0, 1) := dk_42 (dk_at dksX1_writes_0 6 rfl rfl)
theorem dX1_writes_7 : decode cX1_writes 7 = .ok (.getfield 69, 3) := dk_180 0 69 (dk_at dksX1_writes_0 7 rfl rfl)
theorem dX1_writes_10 : decode cX1_writes 10 = .ok (.getfield 184, 3) := dk_180 0 184 (dk_at dksX1_writes_0 10 rfl rfl)
theorem dX1_writes_13 : decode cX1_writes 13 = .ok (.invokevirtual 371, 3) := dk_182 1 115 (dk_at dksX1_writes_0 13 rfl rfl)
theorem dX1_writes_16 : decode cX1_writes 16 = .ok (.astore_n 3, 1) := dk_78 (dk_at dksX1_writes_0 16 rfl rfl)
theorem dX1_writes_17 : decode cX1_writes 17 = .ok (.aload_n 1, 1) := dk_43 (dk_at dksX1_writes_0 17 rfl rfl)
theorem dX1_writes_18 : decode cX1_writes 18 = .ok (.getfield 450, 3) := dk_180 1 194 (dk_at dksX1_writes_0 18 rfl rfl)
theorem dX1_writes_21 : decode cX1_writes 21 = .ok (.lookupswitch 91 #[(0, 27), (1, 66)], 27) := by decide +kernel
theorem dX1_writes_48 : decode cX1_writes 48 = .ok (.aload_n 0, 1) := dk_42 (dk_at dksX1_writes_2 0 rfl rfl)
theorem dX1_writes_49 : decode cX1_writes 49 = .ok (.getfield 93, 3) := dk_180 0 93 (dk_at dksX1_writes_2 1 rfl rfl)
theorem dX1_writes_52 : decode cX1_writes 52 = .ok (.aload_n 1, 1) := dk_43 (dk_at dksX1_writes_2 4 rfl rfl)
theorem dX1_writes_53 : decode cX1_writes 53 = .ok (.getfield 463, 3) := dk_180 1 207 (dk_at dksX1_writes_2 5 rfl rfl)
theorem dX1_writes_56 : decode cX1_writes 56 = .ok (.invokevirtual 585, 3) := dk_182 2 73 (dk_at dksX1_writes_2 8 rfl rfl)
theorem dX1_writes_59 : decode cX1_writes 59 = .ok (.bipush 32, 2) := dk_16 32 (dk_at dksX1_writes_2 11 rfl rfl)
theorem dX1_writes_61 : decode cX1_writes 61 = .ok (.invokevirtual 425, 3) := dk_182 1 169 (dk_at dksX1_writes_2 13 rfl rfl)
theorem dX1_writes_64 : decode cX1_writes 64 = .ok (.aload_n 2, 1) := dk_44 (dk_at dksX1_writes_2 16 rfl rfl)
theorem dX1_writes_65 : decode cX1_writes 65 = .ok (.getfield 218, 3) := dk_180 0 218 (dk_at dksX1_writes_2 17 rfl rfl)
theorem dX1_writes_68 : decode cX1_writes 68 = .ok (.invokevirtual 588, 3) := dk_182 2 76 (dk_at dksX1_writes_2 20 rfl rfl)
theorem dX1_writes_71 : decode cX1_writes 71 = .ok (.bipush 44, 2) := dk_16 44 (dk_at dksX1_writes_3 0 rfl rfl)
theorem dX1_writes_73 : decode cX1_writes 73 = .ok (.invokevirtual 425, 3) := dk_182 1 169 (dk_at dksX1_writes_3 2 rfl rfl)
theorem dX1_writes_76 : decode cX1_writes 76 = .ok (.aload_n 2, 1) := dk_44 (dk_at dksX1_writes_3 5 rfl rfl)
theorem dX1_writes_77 : decode cX1_writes 77 = .ok (.getfield 213, 3) := dk_180 0 213 (dk_at dksX1_writes_3 6 rfl rfl)
theorem dX1_writes_80 : decode cX1_writes 80 = .ok (.invokevirtual 588, 3) := dk_182 2 76 (dk_at dksX1_writes_3 9 rfl rfl)
theorem dX1_writes_83 : decode cX1_writes 83 = .ok (.pop, 1) := dk_87 (dk_at dksX1_writes_3 12 rfl rfl)
theorem dX1_writes_84 : decode cX1_writes 84 = .ok (.goto 102, 3) := dk_167 0 102 (dk_at dksX1_writes_3 13 rfl rfl)
theorem dX1_writes_87 : decode cX1_writes 87 = .ok (.aload_n 0, 1) := dk_42 (dk_at dksX1_writes_3 16 rfl rfl)
theorem dX1_writes_88 : decode cX1_writes 88 = .ok (.getfield 93, 3) := dk_180 0 93 (dk_at dksX1_writes_3 17 rfl rfl)
theorem dX1_writes_91 : decode cX1_writes 91 = .ok (.aload_n 1, 1) := dk_43 (dk_at dksX1_writes_3 20 rfl rfl)
theorem dX1_writes_92 : decode cX1_writes 92 = .ok (.getfield 463, 3) := dk_180 1 207 (dk_at dksX1_writes_3 21 rfl rfl)
theorem dX1_writes_95 : decode cX1_writes 95 = .ok (.invokevirtual 585, 3) := dk_182 2 73 (dk_at dksX1_writes_4 0 rfl rfl)
theorem dX1_writes_98 : decode cX1_writes 98 = .ok (.ldc_w 591, 3) := dk_19 2 79 (dk_at dksX1_writes_4 3 rfl rfl)
theorem dX1_writes_101 : decode cX1_writes 101 = .ok (.invokevirtual 585, 3) := dk_182 2 73 (dk_at dksX1_writes_4 6 rfl rfl)
theorem dX1_writes_104 : decode cX1_writes 104 = .ok (.aload_n 3, 1) := dk_45 (dk_at dksX1_writes_4 9 rfl rfl)
theorem dX1_writes_105 : decode cX1_writes 105 = .ok (.invokevirtual 585, 3) := dk_182 2 73 (dk_at dksX1_writes_4 10 rfl rfl)
theorem dX1_writes_108 : decode cX1_writes 108 = .ok (.pop, 1) := dk_87 (dk_at dksX1_writes_4 13 rfl rfl)
theorem dX1_writes_109 : decode cX1_writes 109 = .ok (.goto 77, 3) := dk_167 0 77 (dk_at dksX1_writes_4 14 rfl rfl)
theorem dX1_writes_112 : decode cX1_writes 112 = .ok (.aload_n 0, 1) := dk_42 (dk_at dksX1_writes_4 17 rfl rfl)
theorem dX1_writes_113 : decode cX1_writes 113 = .ok (.getfield 93, 3) := dk_180 0 93 (dk_at dksX1_writes_4 18 rfl rfl)
theorem dX1_writes_116 : decode cX1_writes 116 = .ok (.aload_n 1, 1) := dk_43 (dk_at dksX1_writes_4 21 rfl rfl)
theorem dX1_writes_117 : decode cX1_writes 117 = .ok (.getfield 463, 3) := dk_180 1 207 (dk_at dksX1_writes_5 0 rfl rfl)
theorem dX1_writes_120 : decode cX1_writes 120 = .ok (.invokevirtual 585, 3) := dk_182 2 73 (dk_at dksX1_writes_5 3 rfl rfl)
theorem dX1_writes_123 : decode cX1_writes 123 = .ok (.ldc_w 591, 3) := dk_19 2 79 (dk_at dksX1_writes_5 6 rfl rfl)
theorem dX1_writes_126 : decode cX1_writes 126 = .ok (.invokevirtual 585, 3) := dk_182 2 73 (dk_at dksX1_writes_5 9 rfl rfl)
theorem dX1_writes_129 : decode cX1_writes 129 = .ok (.aload_n 3, 1) := dk_45 (dk_at dksX1_writes_5 12 rfl rfl)
theorem dX1_writes_130 : decode cX1_writes 130 = .ok (.invokevirtual 585, 3) := dk_182 2 73 (dk_at dksX1_writes_5 13 rfl rfl)
theorem dX1_writes_133 : decode cX1_writes 133 = .ok (.ldc_w 593, 3) := dk_19 2 81 (dk_at dksX1_writes_5 16 rfl rfl)
theorem dX1_writes_136 : decode cX1_writes 136 = .ok (.invokevirtual 585, 3) := dk_182 2 73 (dk_at dksX1_writes_5 19 rfl rfl)
theorem dX1_writes_139 : decode cX1_writes 139 = .ok (.aload_n 0, 1) := dk_42 (dk_at dksX1_writes_5 22 rfl rfl)
theorem dX1_writes_140 : decode cX1_writes 140 = .ok (.getfield 69, 3) := dk_180 0 69 (dk_at dksX1_writes_6 0 rfl rfl)
theorem dX1_writes_143 : decode cX1_writes 143 = .ok (.getfield 38, 3) := dk_180 0 38 (dk_at dksX1_writes_6 3 rfl rfl)
theorem dX1_writes_146 : decode cX1_writes 146 = .ok (.aload_n 0, 1) := dk_42 (dk_at dksX1_writes_6 6 rfl rfl)
theorem dX1_writes_147 : decode cX1_writes 147 = .ok (.getfield 83, 3) := dk_180 0 83 (dk_at dksX1_writes_6 7 rfl rfl)
theorem dX1_writes_150 : decode cX1_writes 150 = .ok (.getfield 209, 3) := dk_180 0 209 (dk_at dksX1_writes_6 10 rfl rfl)
theorem dX1_writes_153 : decode cX1_writes 153 = .ok (.aload_n 0, 1) := dk_42 (dk_at dksX1_writes_6 13 rfl rfl)
theorem dX1_writes_154 : decode cX1_writes 154 = .ok (.getfield 69, 3) := dk_180 0 69 (dk_at dksX1_writes_6 14 rfl rfl)
theorem dX1_writes_157 : decode cX1_writes 157 = .ok (.getfield 31, 3) := dk_180 0 31 (dk_at dksX1_writes_6 17 rfl rfl)
theorem dX1_writes_160 : decode cX1_writes 160 = .ok (.aload_n 2, 1) := dk_44 (dk_at dksX1_writes_6 20 rfl rfl)
theorem dX1_writes_161 : decode cX1_writes 161 = .ok (.getfield 213, 3) := dk_180 0 213 (dk_at dksX1_writes_6 21 rfl rfl)
theorem dX1_writes_164 : decode cX1_writes 164 = .ok (.imul, 1) := dk_104 (dk_at dksX1_writes_7 0 rfl rfl)
theorem dX1_writes_165 : decode cX1_writes 165 = .ok (.aload_n 2, 1) := dk_44 (dk_at dksX1_writes_7 1 rfl rfl)
theorem dX1_writes_166 : decode cX1_writes 166 = .ok (.getfield 218, 3) := dk_180 0 218 (dk_at dksX1_writes_7 2 rfl rfl)
theorem dX1_writes_169 : decode cX1_writes 169 = .ok (.iadd, 1) := dk_96 (dk_at dksX1_writes_7 5 rfl rfl)
theorem dX1_writes_170 : decode cX1_writes 170 = .ok (.iaload, 1) := dk_46 (dk_at dksX1_writes_7 6 rfl rfl)
theorem dX1_writes_171 : decode cX1_writes 171 = .ok (.invokeinterface 224 2, 5) := by decide +kernel
theorem dX1_writes_176 : decode cX1_writes 176 = .ok (.checkcast 42, 3) := dk_192 0 42 (dk_at dksX1_writes_7 12 rfl rfl)
theorem dX1_writes_179 : decode cX1_writes 179 = .ok (.invokevirtual 595, 3) := dk_182 2 83 (dk_at dksX1_writes_7 15 rfl rfl)
theorem dX1_writes_182 : decode cX1_writes 182 = .ok (.invokevirtual 585, 3) := dk_182 2 73 (dk_at dksX1_writes_7 18 rfl rfl)
theorem dX1_writes_185 : decode cX1_writes 185 = .ok (.pop, 1) := dk_87 (dk_at dksX1_writes_7 21 rfl rfl)
theorem dX1_writes_186 : decode cX1_writes 186 = .ok (.return_, 1) := dk_177 (dk_at dksX1_writes_7 22 rfl rfl)
abbrev cX1_printRow : ByteArray := prog_1_method_82_code
def yX1_printRow : MethodName := ⟨RX1, "printRow", "(II)I"⟩
def dkwX1_printRow_4 : List UInt8 := [42, 180, 0, 93, 182, 2, 92, 172]
abbrev dktX1_printRow_4 : List UInt8 := dkwX1_printRow_4 ++ []
def dkwX1_printRow_3 : List UInt8 := [180, 0, 69, 180, 0, 31, 27, 104, 21, 4, 96, 46, 96, 146, 182, 1, 169, 87, 132, 4, 1, 167, 255, 212]
abbrev dktX1_printRow_3 : List UInt8 := dkwX1_printRow_3 ++ dktX1_printRow_4
def dkwX1_printRow_2 : List UInt8 := [21, 4, 42, 180, 0, 69, 180, 0, 31, 162, 0, 38, 42, 180, 0, 93, 16, 97, 45, 180, 0, 209, 42]
abbrev dktX1_printRow_2 : List UInt8 := dkwX1_printRow_2 ++ dktX1_printRow_3
def dkwX1_printRow_1 : List UInt8 := [180, 0, 83, 42, 180, 0, 69, 28, 184, 0, 187, 78, 42, 180, 0, 93, 3, 182, 2, 85, 3, 54, 4]
abbrev dktX1_printRow_1 : List UInt8 := dkwX1_printRow_1 ++ dktX1_printRow_2
def dkwX1_printRow_0 : List UInt8 := [27, 133, 9, 42, 180, 0, 69, 180, 0, 35, 4, 100, 133, 184, 0, 20, 184, 0, 221, 28, 184, 1, 112, 42]
abbrev dktX1_printRow_0 : List UInt8 := dkwX1_printRow_0 ++ dktX1_printRow_1
theorem dksX1_printRow_0 : cX1_printRow.data.toList.drop 0 = dktX1_printRow_0 := by decide +kernel
theorem dksX1_printRow_1 : cX1_printRow.data.toList.drop 24 = dktX1_printRow_1 := dk_seg dksX1_printRow_0 24 rfl rfl
theorem dksX1_printRow_2 : cX1_printRow.data.toList.drop 47 = dktX1_printRow_2 := dk_seg dksX1_printRow_1 23 rfl rfl
theorem dksX1_printRow_3 : cX1_printRow.data.toList.drop 70 = dktX1_printRow_3 := dk_seg dksX1_printRow_2 23 rfl rfl
theorem dksX1_printRow_4 : cX1_printRow.data.toList.drop 94 = dktX1_printRow_4 := dk_seg dksX1_printRow_3 24 rfl rfl
theorem dX1_printRow_0 : decode cX1_printRow 0 = .ok (.iload_n 1, 1) := dk_27 (dk_at dksX1_printRow_0 0 rfl rfl)
theorem dX1_printRow_1 : decode cX1_printRow 1 = .ok (.i2l, 1) := dk_133 (dk_at dksX1_printRow_0 1 rfl rfl)
theorem dX1_printRow_2 : decode cX1_printRow 2 = .ok (.lconst 0, 1) := dk_9 (dk_at dksX1_printRow_0 2 rfl rfl)
theorem dX1_printRow_3 : decode cX1_printRow 3 = .ok (.aload_n 0, 1) := dk_42 (dk_at dksX1_printRow_0 3 rfl rfl)
theorem dX1_printRow_4 : decode cX1_printRow 4 = .ok (.getfield 69, 3) := dk_180 0 69 (dk_at dksX1_printRow_0 4 rfl rfl)
theorem dX1_printRow_7 : decode cX1_printRow 7 = .ok (.getfield 35, 3) := dk_180 0 35 (dk_at dksX1_printRow_0 7 rfl rfl)
theorem dX1_printRow_10 : decode cX1_printRow 10 = .ok (.iconst 1, 1) := dk_4 (dk_at dksX1_printRow_0 10 rfl rfl)
theorem dX1_printRow_11 : decode cX1_printRow 11 = .ok (.isub, 1) := dk_100 (dk_at dksX1_printRow_0 11 rfl rfl)
theorem dX1_printRow_12 : decode cX1_printRow 12 = .ok (.i2l, 1) := dk_133 (dk_at dksX1_printRow_0 12 rfl rfl)
theorem dX1_printRow_13 : decode cX1_printRow 13 = .ok (.invokestatic 20, 3) := dk_184 0 20 (dk_at dksX1_printRow_0 13 rfl rfl)
theorem dX1_printRow_16 : decode cX1_printRow 16 = .ok (.invokestatic 221, 3) := dk_184 0 221 (dk_at dksX1_printRow_0 16 rfl rfl)
theorem dX1_printRow_19 : decode cX1_printRow 19 = .ok (.iload_n 2, 1) := dk_28 (dk_at dksX1_printRow_0 19 rfl rfl)
theorem dX1_printRow_20 : decode cX1_printRow 20 = .ok (.invokestatic 368, 3) := dk_184 1 112 (dk_at dksX1_printRow_0 20 rfl rfl)
theorem dX1_printRow_23 : decode cX1_printRow 23 = .ok (.aload_n 0, 1) := dk_42 (dk_at dksX1_printRow_0 23 rfl rfl)
theorem dX1_printRow_24 : decode cX1_printRow 24 = .ok (.getfield 83, 3) := dk_180 0 83 (dk_at dksX1_printRow_1 0 rfl rfl)
theorem dX1_printRow_27 : decode cX1_printRow 27 = .ok (.aload_n 0, 1) := dk_42 (dk_at dksX1_printRow_1 3 rfl rfl)
theorem dX1_printRow_28 : decode cX1_printRow 28 = .ok (.getfield 69, 3) := dk_180 0 69 (dk_at dksX1_printRow_1 4 rfl rfl)
theorem dX1_printRow_31 : decode cX1_printRow 31 = .ok (.iload_n 2, 1) := dk_28 (dk_at dksX1_printRow_1 7 rfl rfl)
theorem dX1_printRow_32 : decode cX1_printRow 32 = .ok (.invokestatic 187, 3) := dk_184 0 187 (dk_at dksX1_printRow_1 8 rfl rfl)
theorem dX1_printRow_35 : decode cX1_printRow 35 = .ok (.astore_n 3, 1) := dk_78 (dk_at dksX1_printRow_1 11 rfl rfl)
theorem dX1_printRow_36 : decode cX1_printRow 36 = .ok (.aload_n 0, 1) := dk_42 (dk_at dksX1_printRow_1 12 rfl rfl)
theorem dX1_printRow_37 : decode cX1_printRow 37 = .ok (.getfield 93, 3) := dk_180 0 93 (dk_at dksX1_printRow_1 13 rfl rfl)
theorem dX1_printRow_40 : decode cX1_printRow 40 = .ok (.iconst 0, 1) := dk_3 (dk_at dksX1_printRow_1 16 rfl rfl)
theorem dX1_printRow_41 : decode cX1_printRow 41 = .ok (.invokevirtual 597, 3) := dk_182 2 85 (dk_at dksX1_printRow_1 17 rfl rfl)
theorem dX1_printRow_44 : decode cX1_printRow 44 = .ok (.iconst 0, 1) := dk_3 (dk_at dksX1_printRow_1 20 rfl rfl)
theorem dX1_printRow_45 : decode cX1_printRow 45 = .ok (.istore 4, 2) := dk_54 4 (dk_at dksX1_printRow_1 21 rfl rfl)
theorem dX1_printRow_47 : decode cX1_printRow 47 = .ok (.iload 4, 2) := dk_21 4 (dk_at dksX1_printRow_2 0 rfl rfl)
theorem dX1_printRow_49 : decode cX1_printRow 49 = .ok (.aload_n 0, 1) := dk_42 (dk_at dksX1_printRow_2 2 rfl rfl)
theorem dX1_printRow_50 : decode cX1_printRow 50 = .ok (.getfield 69, 3) := dk_180 0 69 (dk_at dksX1_printRow_2 3 rfl rfl)
theorem dX1_printRow_53 : decode cX1_printRow 53 = .ok (.getfield 31, 3) := dk_180 0 31 (dk_at dksX1_printRow_2 6 rfl rfl)
theorem dX1_printRow_56 : decode cX1_printRow 56 = .ok (.if_icmp .ge 38, 3) := dk_162 0 38 (dk_at dksX1_printRow_2 9 rfl rfl)
theorem dX1_printRow_59 : decode cX1_printRow 59 = .ok (.aload_n 0, 1) := dk_42 (dk_at dksX1_printRow_2 12 rfl rfl)
theorem dX1_printRow_60 : decode cX1_printRow 60 = .ok (.getfield 93, 3) := dk_180 0 93 (dk_at dksX1_printRow_2 13 rfl rfl)
theorem dX1_printRow_63 : decode cX1_printRow 63 = .ok (.bipush 97, 2) := dk_16 97 (dk_at dksX1_printRow_2 16 rfl rfl)
theorem dX1_printRow_65 : decode cX1_printRow 65 = .ok (.aload_n 3, 1) := dk_45 (dk_at dksX1_printRow_2 18 rfl rfl)
theorem dX1_printRow_66 : decode cX1_printRow 66 = .ok (.getfield 209, 3) := dk_180 0 209 (dk_at dksX1_printRow_2 19 rfl rfl)
theorem dX1_printRow_69 : decode cX1_printRow 69 = .ok (.aload_n 0, 1) := dk_42 (dk_at dksX1_printRow_2 22 rfl rfl)
theorem dX1_printRow_70 : decode cX1_printRow 70 = .ok (.getfield 69, 3) := dk_180 0 69 (dk_at dksX1_printRow_3 0 rfl rfl)
theorem dX1_printRow_73 : decode cX1_printRow 73 = .ok (.getfield 31, 3) := dk_180 0 31 (dk_at dksX1_printRow_3 3 rfl rfl)
theorem dX1_printRow_76 : decode cX1_printRow 76 = .ok (.iload_n 1, 1) := dk_27 (dk_at dksX1_printRow_3 6 rfl rfl)
theorem dX1_printRow_77 : decode cX1_printRow 77 = .ok (.imul, 1) := dk_104 (dk_at dksX1_printRow_3 7 rfl rfl)
theorem dX1_printRow_78 : decode cX1_printRow 78 = .ok (.iload 4, 2) := dk_21 4 (dk_at dksX1_printRow_3 8 rfl rfl)
theorem dX1_printRow_80 : decode cX1_printRow 80 = .ok (.iadd, 1) := dk_96 (dk_at dksX1_printRow_3 10 rfl rfl)
theorem dX1_printRow_81 : decode cX1_printRow 81 = .ok (.iaload, 1) := dk_46 (dk_at dksX1_printRow_3 11 rfl rfl)
theorem dX1_printRow_82 : decode cX1_printRow 82 = .ok (.iadd, 1) := dk_96 (dk_at dksX1_printRow_3 12 rfl rfl)
theorem dX1_printRow_83 : decode cX1_printRow 83 = .ok (.i2c, 1) := dk_146 (dk_at dksX1_printRow_3 13 rfl rfl)
theorem dX1_printRow_84 : decode cX1_printRow 84 = .ok (.invokevirtual 425, 3) := dk_182 1 169 (dk_at dksX1_printRow_3 14 rfl rfl)
theorem dX1_printRow_87 : decode cX1_printRow 87 = .ok (.pop, 1) := dk_87 (dk_at dksX1_printRow_3 17 rfl rfl)
theorem dX1_printRow_88 : decode cX1_printRow 88 = .ok (.iinc 4 1, 3) := dk_132 4 1 (dk_at dksX1_printRow_3 18 rfl rfl)
theorem dX1_printRow_91 : decode cX1_printRow 91 = .ok (.goto (-44), 3) := dk_167 255 212 (dk_at dksX1_printRow_3 21 rfl rfl)
theorem dX1_printRow_94 : decode cX1_printRow 94 = .ok (.aload_n 0, 1) := dk_42 (dk_at dksX1_printRow_4 0 rfl rfl)
theorem dX1_printRow_95 : decode cX1_printRow 95 = .ok (.getfield 93, 3) := dk_180 0 93 (dk_at dksX1_printRow_4 1 rfl rfl)
theorem dX1_printRow_98 : decode cX1_printRow 98 = .ok (.invokevirtual 604, 3) := dk_182 2 92 (dk_at dksX1_printRow_4 4 rfl rfl)
theorem dX1_printRow_101 : decode cX1_printRow 101 = .ok (.ireturn, 1) := dk_172 (dk_at dksX1_printRow_4 7 rfl rfl)
abbrev cX1_restoreState : ByteArray := prog_1_method_85_code
def yX1_restoreState : MethodName := ⟨RX1, "restoreState", "()I"⟩
def dkwX1_restoreState_1 : List UInt8 := [181, 0, 69, 42, 180, 0, 76, 182, 0, 115, 42, 180, 0, 69, 180, 0, 184, 172]
abbrev dktX1_restoreState_1 : List UInt8 := dkwX1_restoreState_1 ++ []
def dkwX1_restoreState_0 : List UInt8 := [42, 180, 0, 118, 198, 0, 7, 4, 167, 0, 4, 3, 184, 2, 67, 42, 42, 180, 0, 118, 182, 2, 5]
abbrev dktX1_restoreState_0 : List UInt8 := dkwX1_restoreState_0 ++ dktX1_restoreState_1
theorem dksX1_restoreState_0 : cX1_restoreState.data.toList.drop 0 = dktX1_restoreState_0 := by decide +kernel
theorem dksX1_restoreState_1 : cX1_restoreState.data.toList.drop 23 = dktX1_restoreState_1 := dk_seg dksX1_restoreState_0 23 rfl rfl
theorem dX1_restoreState_0 : decode cX1_restoreState 0 = .ok (.aload_n 0, 1) := dk_42 (dk_at dksX1_restoreState_0 0 rfl rfl)
theorem dX1_restoreState_1 : decode cX1_restoreState 1 = .ok (.getfield 118, 3) := dk_180 0 118 (dk_at dksX1_restoreState_0 1 rfl rfl)
theorem dX1_restoreState_4 : decode cX1_restoreState 4 = .ok (.ifnull 7, 3) := dk_198 0 7 (dk_at dksX1_restoreState_0 4 rfl rfl)
theorem dX1_restoreState_7 : decode cX1_restoreState 7 = .ok (.iconst 1, 1) := dk_4 (dk_at dksX1_restoreState_0 7 rfl rfl)
theorem dX1_restoreState_8 : decode cX1_restoreState 8 = .ok (.goto 4, 3) := dk_167 0 4 (dk_at dksX1_restoreState_0 8 rfl rfl)
theorem dX1_restoreState_11 : decode cX1_restoreState 11 = .ok (.iconst 0, 1) := dk_3 (dk_at dksX1_restoreState_0 11 rfl rfl)
theorem dX1_restoreState_12 : decode cX1_restoreState 12 = .ok (.invokestatic 579, 3) := dk_184 2 67 (dk_at dksX1_restoreState_0 12 rfl rfl)
theorem dX1_restoreState_15 : decode cX1_restoreState 15 = .ok (.aload_n 0, 1) := dk_42 (dk_at dksX1_restoreState_0 15 rfl rfl)
theorem dX1_restoreState_16 : decode cX1_restoreState 16 = .ok (.aload_n 0, 1) := dk_42 (dk_at dksX1_restoreState_0 16 rfl rfl)
theorem dX1_restoreState_17 : decode cX1_restoreState 17 = .ok (.getfield 118, 3) := dk_180 0 118 (dk_at dksX1_restoreState_0 17 rfl rfl)
theorem dX1_restoreState_20 : decode cX1_restoreState 20 = .ok (.invokevirtual 517, 3) := dk_182 2 5 (dk_at dksX1_restoreState_0 20 rfl rfl)
theorem dX1_restoreState_23 : decode cX1_restoreState 23 = .ok (.putfield 69, 3) := dk_181 0 69 (dk_at dksX1_restoreState_1 0 rfl rfl)
theorem dX1_restoreState_26 : decode cX1_restoreState 26 = .ok (.aload_n 0, 1) := dk_42 (dk_at dksX1_restoreState_1 3 rfl rfl)
theorem dX1_restoreState_27 : decode cX1_restoreState 27 = .ok (.getfield 76, 3) := dk_180 0 76 (dk_at dksX1_restoreState_1 4 rfl rfl)
theorem dX1_restoreState_30 : decode cX1_restoreState 30 = .ok (.invokevirtual 115, 3) := dk_182 0 115 (dk_at dksX1_restoreState_1 7 rfl rfl)
theorem dX1_restoreState_33 : decode cX1_restoreState 33 = .ok (.aload_n 0, 1) := dk_42 (dk_at dksX1_restoreState_1 10 rfl rfl)
theorem dX1_restoreState_34 : decode cX1_restoreState 34 = .ok (.getfield 69, 3) := dk_180 0 69 (dk_at dksX1_restoreState_1 11 rfl rfl)
theorem dX1_restoreState_37 : decode cX1_restoreState 37 = .ok (.getfield 184, 3) := dk_180 0 184 (dk_at dksX1_restoreState_1 14 rfl rfl)
theorem dX1_restoreState_40 : decode cX1_restoreState 40 = .ok (.ireturn, 1) := dk_172 (dk_at dksX1_restoreState_1 17 rfl rfl)
theorem q177 : (Jvm.Cond.initialized "CountyGazetteer") ∈ lw_all := lw_g (lw_at lw_m1 1 rfl) rfl
theorem q245 : (Jvm.Cond.instantiable "CountyGazetteer" (10 : Nat)) ∈ lw_all := lw_g (lw_at lw_m1 69 rfl) rfl
theorem q247 : (Jvm.Cond.instanceMethod ({ cls := "CountyGazetteer", name := "<init>", desc := "()V" } : Jvm.MethodName)) ∈ lw_all := lw_g (lw_at lw_m1 71 rfl) rfl
theorem q248 : (Jvm.Cond.code ({ cls := "CountyGazetteer", name := "<init>", desc := "()V" } : Jvm.MethodName) prog_1_method_8_code (1 : Nat) (Option.none : Option Jvm.ClassFile.FieldType)) ∈ lw_all := lw_g (lw_at lw_m1 72 rfl) rfl
theorem q249 : (Jvm.Cond.methodLink "CountyGazetteer" (55 : Nat) ({ cls := "java/lang/Object", name := "<init>", desc := "()V" } : Jvm.MethodName)) ∈ lw_all := lw_g (lw_at lw_m1 73 rfl) rfl
theorem q252 : (Jvm.Cond.methodLink "CountyGazetteer" (65 : Nat) ({ cls := "CountyGazetteer", name := "begun", desc := "()LCountyGazetteer$State;" } : Jvm.MethodName)) ∈ lw_all := lw_g (lw_at lw_m1 76 rfl) rfl
theorem q253 : (Jvm.Cond.static ({ cls := "CountyGazetteer", name := "begun", desc := "()LCountyGazetteer$State;" } : Jvm.MethodName)) ∈ lw_all := lw_g (lw_at lw_m1 77 rfl) rfl
theorem q254 : (Jvm.Cond.code ({ cls := "CountyGazetteer", name := "begun", desc := "()LCountyGazetteer$State;" } : Jvm.MethodName) prog_1_method_7_code (1 : Nat) (Option.some (Jvm.ClassFile.FieldType.object "CountyGazetteer$State"))) ∈ lw_all := lw_g (lw_at lw_m1 78 rfl) rfl
theorem q255 : (Jvm.Cond.classLink "CountyGazetteer" (28 : Nat) "CountyGazetteer$State") ∈ lw_all := lw_g (lw_at lw_m1 79 rfl) rfl
theorem q257 : (Jvm.Cond.methodLinkNest "CountyGazetteer" (30 : Nat) ({ cls := "CountyGazetteer$State", name := "<init>", desc := "()V" } : Jvm.MethodName) "CountyGazetteer") ∈ lw_tbl := lw_at lw_m1 81 rfl
theorem q297 : (Jvm.Cond.fieldLinkNest "CountyGazetteer" (31 : Nat) "CountyGazetteer$State" "width" "I" "CountyGazetteer") ∈ lw_tbl := lw_at lw_m1 121 rfl
theorem q300 : (Jvm.Cond.fieldLinkNest "CountyGazetteer" (35 : Nat) "CountyGazetteer$State" "height" "I" "CountyGazetteer") ∈ lw_tbl := lw_at lw_m1 124 rfl
theorem q305 : (Jvm.Cond.fieldLinkNest "CountyGazetteer" (238 : Nat) "CountyGazetteer$State" "lines" "I" "CountyGazetteer") ∈ lw_tbl := lw_at lw_m1 129 rfl
theorem q308 : (Jvm.Cond.fieldLinkNest "CountyGazetteer" (184 : Nat) "CountyGazetteer$State" "year" "I" "CountyGazetteer") ∈ lw_tbl := lw_at lw_m1 132 rfl
theorem q312 : (Jvm.Cond.fieldLinkNest "CountyGazetteer" (193 : Nat) "CountyGazetteer$State" "before" "I" "CountyGazetteer") ∈ lw_tbl := lw_at lw_m1 136 rfl
theorem q315 : (Jvm.Cond.fieldLinkNest "CountyGazetteer" (235 : Nat) "CountyGazetteer$State" "renames" "I" "CountyGazetteer") ∈ lw_tbl := lw_at lw_m1 139 rfl
theorem q319 : (Jvm.Cond.fieldLinkNest "CountyGazetteer" (241 : Nat) "CountyGazetteer$State" "isFresh" "Z" "CountyGazetteer") ∈ lw_tbl := lw_at lw_m1 143 rfl
theorem q322 : (Jvm.Cond.fieldLinkNest "CountyGazetteer" (38 : Nat) "CountyGazetteer$State" "counties" "Ljava/util/List;" "CountyGazetteer") ∈ lw_tbl := lw_at lw_m1 146 rfl
theorem q326 : (Jvm.Cond.fieldLinkNest "CountyGazetteer" (121 : Nat) "CountyGazetteer$State" "villages" "Ljava/util/List;" "CountyGazetteer") ∈ lw_tbl := lw_at lw_m1 150 rfl
theorem q330 : (Jvm.Cond.fieldLinkNest "CountyGazetteer" (232 : Nat) "CountyGazetteer$State" "reforms" "Ljava/util/List;" "CountyGazetteer") ∈ lw_tbl := lw_at lw_m1 154 rfl
theorem q352 : (Jvm.Cond.classLink "CountyGazetteer" (42 : Nat) "CountyGazetteer$County") ∈ lw_all := lw_g (lw_at lw_m1 176 rfl) rfl
theorem q354 : (Jvm.Cond.stringRef "CountyGazetteer" (44 : Nat) "a") ∈ lw_tbl := lw_at lw_m1 178 rfl
theorem q355 : (Jvm.Cond.methodLink "CountyGazetteer" (46 : Nat) ({ cls := "CountyGazetteer$County", name := "<init>", desc := "(Ljava/lang/String;)V" } : Jvm.MethodName)) ∈ lw_all := lw_g (lw_at lw_m1 179 rfl) rfl
theorem q363 : (Jvm.Cond.interfaceEntry "CountyGazetteer" (49 : Nat)) ∈ lw_tbl := lw_at lw_m1 187 rfl
theorem q364 : (Jvm.Cond.methodLink "CountyGazetteer" (49 : Nat) ({ cls := "java/util/List", name := "add", desc := "(Ljava/lang/Object;)Z" } : Jvm.MethodName)) ∈ lw_all := lw_g (lw_at lw_m1 188 rfl) rfl
theorem q401 : (Jvm.Cond.selects "CountyGazetteer" ({ cls := "java/lang/Object", name := "getClass", desc := "()Ljava/lang/Class;" } : Jvm.MethodName) ({ cls := "java/lang/Object", name := "getClass", desc := "()Ljava/lang/Class;" } : Jvm.MethodName)) ∈ lw_all := lw_g (lw_at lw_m1 225 rfl) rfl
theorem q490 : (Jvm.Cond.classLink "CountyGazetteer" (73 : Nat) "java/util/ArrayDeque") ∈ lw_all := lw_g (lw_at lw_m2 74 rfl) rfl
theorem q492 : (Jvm.Cond.methodLink "CountyGazetteer" (75 : Nat) ({ cls := "java/util/ArrayDeque", name := "<init>", desc := "()V" } : Jvm.MethodName)) ∈ lw_all := lw_g (lw_at lw_m2 76 rfl) rfl
theorem q507 : (Jvm.Cond.classLink "CountyGazetteer" (80 : Nat) "CountyGazetteer$Board") ∈ lw_all := lw_g (lw_at lw_m2 91 rfl) rfl
theorem q509 : (Jvm.Cond.methodLinkNest "CountyGazetteer" (82 : Nat) ({ cls := "CountyGazetteer$Board", name := "<init>", desc := "()V" } : Jvm.MethodName) "CountyGazetteer") ∈ lw_tbl := lw_at lw_m2 93 rfl
theorem q518 : (Jvm.Cond.fieldLinkNest "CountyGazetteer" (209 : Nat) "CountyGazetteer$Board" "owners" "[I" "CountyGazetteer") ∈ lw_tbl := lw_at lw_m2 102 rfl
theorem q527 : (Jvm.Cond.classLink "CountyGazetteer" (90 : Nat) "java/lang/StringBuilder") ∈ lw_all := lw_g (lw_at lw_m2 111 rfl) rfl
theorem q529 : (Jvm.Cond.methodLink "CountyGazetteer" (92 : Nat) ({ cls := "java/lang/StringBuilder", name := "<init>", desc := "()V" } : Jvm.MethodName)) ∈ lw_all := lw_g (lw_at lw_m2 113 rfl) rfl
theorem q560 : (Jvm.Cond.fieldLink "CountyGazetteer" (58 : Nat) "CountyGazetteer" "input" "[B") ∈ lw_all := lw_g (lw_at lw_m2 144 rfl) rfl
theorem q562 : (Jvm.Cond.fieldLink "CountyGazetteer" (97 : Nat) "CountyGazetteer" "inputLength" "I") ∈ lw_all := lw_g (lw_at lw_m2 146 rfl) rfl
theorem q563 : (Jvm.Cond.fieldLink "CountyGazetteer" (104 : Nat) "CountyGazetteer" "errorCode" "I") ∈ lw_all := lw_g (lw_at lw_m2 147 rfl) rfl
theorem q564 : (Jvm.Cond.fieldLink "CountyGazetteer" (62 : Nat) "CountyGazetteer" "errorOffset" "I") ∈ lw_all := lw_g (lw_at lw_m2 148 rfl) rfl
theorem q565 : (Jvm.Cond.fieldLink "CountyGazetteer" (69 : Nat) "CountyGazetteer" "now" "LCountyGazetteer$State;") ∈ lw_all := lw_g (lw_at lw_m2 149 rfl) rfl
theorem q566 : (Jvm.Cond.fieldLink "CountyGazetteer" (118 : Nat) "CountyGazetteer" "saved" "LCountyGazetteer$State;") ∈ lw_all := lw_g (lw_at lw_m2 150 rfl) rfl
theorem q567 : (Jvm.Cond.fieldLink "CountyGazetteer" (76 : Nat) "CountyGazetteer" "history" "Ljava/util/ArrayDeque;") ∈ lw_all := lw_g (lw_at lw_m2 151 rfl) rfl
theorem q568 : (Jvm.Cond.fieldLink "CountyGazetteer" (83 : Nat) "CountyGazetteer" "board" "LCountyGazetteer$Board;") ∈ lw_all := lw_g (lw_at lw_m2 152 rfl) rfl
theorem q569 : (Jvm.Cond.fieldLink "CountyGazetteer" (87 : Nat) "CountyGazetteer" "earlier" "LCountyGazetteer$Board;") ∈ lw_all := lw_g (lw_at lw_m2 153 rfl) rfl
theorem q570 : (Jvm.Cond.fieldLink "CountyGazetteer" (93 : Nat) "CountyGazetteer" "output" "Ljava/lang/StringBuilder;") ∈ lw_all := lw_g (lw_at lw_m2 154 rfl) rfl
theorem q571 : (Jvm.Cond.laysFinal "CountyGazetteer" "CountyGazetteer" "input" "[B") ∈ lw_all := lw_g (lw_at lw_m2 155 rfl) rfl
theorem q572 : (Jvm.Cond.soleField "CountyGazetteer" "input") ∈ lw_all := lw_g (lw_at lw_m2 156 rfl) rfl
theorem q573 : (Jvm.Cond.lays "CountyGazetteer" "CountyGazetteer" "inputLength" "I") ∈ lw_all := lw_g (lw_at lw_m2 157 rfl) rfl
theorem q574 : (Jvm.Cond.soleField "CountyGazetteer" "inputLength") ∈ lw_all := lw_g (lw_at lw_m2 158 rfl) rfl
theorem q575 : (Jvm.Cond.lays "CountyGazetteer" "CountyGazetteer" "errorCode" "I") ∈ lw_all := lw_g (lw_at lw_m2 159 rfl) rfl
theorem q576 : (Jvm.Cond.soleField "CountyGazetteer" "errorCode") ∈ lw_all := lw_g (lw_at lw_m2 160 rfl) rfl
theorem q577 : (Jvm.Cond.lays "CountyGazetteer" "CountyGazetteer" "errorOffset" "I") ∈ lw_all := lw_g (lw_at lw_m2 161 rfl) rfl
theorem q578 : (Jvm.Cond.soleField "CountyGazetteer" "errorOffset") ∈ lw_all := lw_g (lw_at lw_m2 162 rfl) rfl
theorem q579 : (Jvm.Cond.lays "CountyGazetteer" "CountyGazetteer" "now" "LCountyGazetteer$State;") ∈ lw_all := lw_g (lw_at lw_m2 163 rfl) rfl
theorem q580 : (Jvm.Cond.soleField "CountyGazetteer" "now") ∈ lw_all := lw_g (lw_at lw_m2 164 rfl) rfl
theorem q581 : (Jvm.Cond.lays "CountyGazetteer" "CountyGazetteer" "saved" "LCountyGazetteer$State;") ∈ lw_all := lw_g (lw_at lw_m2 165 rfl) rfl
theorem q582 : (Jvm.Cond.soleField "CountyGazetteer" "saved") ∈ lw_all := lw_g (lw_at lw_m2 166 rfl) rfl
theorem q583 : (Jvm.Cond.laysFinal "CountyGazetteer" "CountyGazetteer" "history" "Ljava/util/ArrayDeque;") ∈ lw_all := lw_g (lw_at lw_m2 167 rfl) rfl
theorem q584 : (Jvm.Cond.soleField "CountyGazetteer" "history") ∈ lw_all := lw_g (lw_at lw_m2 168 rfl) rfl
theorem q585 : (Jvm.Cond.laysFinal "CountyGazetteer" "CountyGazetteer" "board" "LCountyGazetteer$Board;") ∈ lw_all := lw_g (lw_at lw_m2 169 rfl) rfl
theorem q586 : (Jvm.Cond.soleField "CountyGazetteer" "board") ∈ lw_all := lw_g (lw_at lw_m2 170 rfl) rfl
theorem q587 : (Jvm.Cond.laysFinal "CountyGazetteer" "CountyGazetteer" "earlier" "LCountyGazetteer$Board;") ∈ lw_all := lw_g (lw_at lw_m2 171 rfl) rfl
theorem q588 : (Jvm.Cond.soleField "CountyGazetteer" "earlier") ∈ lw_all := lw_g (lw_at lw_m2 172 rfl) rfl
theorem q589 : (Jvm.Cond.laysFinal "CountyGazetteer" "CountyGazetteer" "output" "Ljava/lang/StringBuilder;") ∈ lw_all := lw_g (lw_at lw_m2 173 rfl) rfl
theorem q590 : (Jvm.Cond.soleField "CountyGazetteer" "output") ∈ lw_all := lw_g (lw_at lw_m2 174 rfl) rfl
theorem q591 : (Jvm.Cond.superclass "CountyGazetteer" "java/lang/Object") ∈ lw_all := lw_g (lw_at lw_m2 175 rfl) rfl
theorem q593 : (Jvm.Cond.instanceMethod ({ cls := "CountyGazetteer", name := "appendInput", desc := "(IIIII)I" } : Jvm.MethodName)) ∈ lw_all := lw_g (lw_at lw_m2 177 rfl) rfl
theorem q594 : (Jvm.Cond.selects "CountyGazetteer" ({ cls := "CountyGazetteer", name := "appendInput", desc := "(IIIII)I" } : Jvm.MethodName) ({ cls := "CountyGazetteer", name := "appendInput", desc := "(IIIII)I" } : Jvm.MethodName)) ∈ lw_all := lw_g (lw_at lw_m2 178 rfl) rfl
theorem q595 : (Jvm.Cond.code ({ cls := "CountyGazetteer", name := "appendInput", desc := "(IIIII)I" } : Jvm.MethodName) prog_1_method_10_code (11 : Nat) (Option.some Jvm.ClassFile.FieldType.int)) ∈ lw_all := lw_g (lw_at lw_m2 179 rfl) rfl
theorem q596 : (Jvm.Cond.methodLink "CountyGazetteer" (100 : Nat) ({ cls := "CountyGazetteer", name := "row", desc := "([I)[I" } : Jvm.MethodName)) ∈ lw_all := lw_g (lw_at lw_m2 180 rfl) rfl
theorem q597 : (Jvm.Cond.static ({ cls := "CountyGazetteer", name := "row", desc := "([I)[I" } : Jvm.MethodName)) ∈ lw_all := lw_g (lw_at lw_m2 181 rfl) rfl
theorem q598 : (Jvm.Cond.code ({ cls := "CountyGazetteer", name := "row", desc := "([I)[I" } : Jvm.MethodName) prog_1_method_9_code (1 : Nat) (Option.some (Jvm.ClassFile.FieldType.array Jvm.ClassFile.FieldType.int))) ∈ lw_all := lw_g (lw_at lw_m2 182 rfl) rfl
theorem q600 : (Jvm.Cond.instanceMethod ({ cls := "CountyGazetteer", name := "truncateInput", desc := "(I)Z" } : Jvm.MethodName)) ∈ lw_all := lw_g (lw_at lw_m2 184 rfl) rfl
theorem q601 : (Jvm.Cond.selects "CountyGazetteer" ({ cls := "CountyGazetteer", name := "truncateInput", desc := "(I)Z" } : Jvm.MethodName) ({ cls := "CountyGazetteer", name := "truncateInput", desc := "(I)Z" } : Jvm.MethodName)) ∈ lw_all := lw_g (lw_at lw_m2 185 rfl) rfl
theorem q602 : (Jvm.Cond.code ({ cls := "CountyGazetteer", name := "truncateInput", desc := "(I)Z" } : Jvm.MethodName) prog_1_method_11_code (2 : Nat) (Option.some Jvm.ClassFile.FieldType.boolean)) ∈ lw_all := lw_g (lw_at lw_m2 186 rfl) rfl
theorem q603 : (Jvm.Cond.methodLink "CountyGazetteer" (20 : Nat) ({ cls := "CountyGazetteer", name := "isIn", desc := "(JJJ)Z" } : Jvm.MethodName)) ∈ lw_all := lw_g (lw_at lw_m2 187 rfl) rfl
theorem q604 : (Jvm.Cond.static ({ cls := "CountyGazetteer", name := "isIn", desc := "(JJJ)Z" } : Jvm.MethodName)) ∈ lw_all := lw_g (lw_at lw_m2 188 rfl) rfl
theorem q605 : (Jvm.Cond.code ({ cls := "CountyGazetteer", name := "isIn", desc := "(JJJ)Z" } : Jvm.MethodName) prog_1_method_1_code (6 : Nat) (Option.some Jvm.ClassFile.FieldType.boolean)) ∈ lw_all := lw_g (lw_at lw_m2 189 rfl) rfl
theorem q607 : (Jvm.Cond.instanceMethod ({ cls := "CountyGazetteer", name := "loadMap", desc := "()I" } : Jvm.MethodName)) ∈ lw_all := lw_g (lw_at lw_m2 191 rfl) rfl
theorem q608 : (Jvm.Cond.selects "CountyGazetteer" ({ cls := "CountyGazetteer", name := "loadMap", desc := "()I" } : Jvm.MethodName) ({ cls := "CountyGazetteer", name := "loadMap", desc := "()I" } : Jvm.MethodName)) ∈ lw_all := lw_g (lw_at lw_m2 192 rfl) rfl
theorem q609 : (Jvm.Cond.codeWith ({ cls := "CountyGazetteer", name := "loadMap", desc := "()I" } : Jvm.MethodName) prog_1_method_12_code (4 : Nat) (Option.some Jvm.ClassFile.FieldType.int) [((10 : Nat), (50 : Nat), (57 : Nat), (128 : Nat)), ((10 : Nat), (50 : Nat), (83 : Nat), (0 : Nat)), ((57 : Nat), (76 : Nat), (83 : Nat), (0 : Nat))]) ∈ lw_all := lw_g (lw_at lw_m2 193 rfl) rfl
theorem q610 : (Jvm.Cond.classLink "CountyGazetteer" (128 : Nat) "CountyGazetteer$ParseException") ∈ lw_all := lw_g (lw_at lw_m2 194 rfl) rfl
theorem q611 : (Jvm.Cond.classLink "CountyGazetteer" (107 : Nat) "CountyGazetteer$Parser") ∈ lw_all := lw_g (lw_at lw_m2 195 rfl) rfl
theorem q613 : (Jvm.Cond.methodLinkNest "CountyGazetteer" (109 : Nat) ({ cls := "CountyGazetteer$Parser", name := "<init>", desc := "(LCountyGazetteer;)V" } : Jvm.MethodName) "CountyGazetteer") ∈ lw_tbl := lw_at lw_m2 197 rfl
theorem q656 : (Jvm.Cond.methodLink "CountyGazetteer" (112 : Nat) ({ cls := "CountyGazetteer$Parser", name := "read", desc := "()LCountyGazetteer$State;" } : Jvm.MethodName)) ∈ lw_all := lw_g (lw_at lw_m3 0 rfl) rfl
theorem q1001 : (Jvm.Cond.fieldLinkNest "CountyGazetteer" (130 : Nat) "CountyGazetteer$ParseException" "code" "I" "CountyGazetteer") ∈ lw_tbl := lw_at lw_m4 105 rfl
theorem q1003 : (Jvm.Cond.fieldLinkNest "CountyGazetteer" (133 : Nat) "CountyGazetteer$ParseException" "offset" "I" "CountyGazetteer") ∈ lw_tbl := lw_at lw_m4 107 rfl
theorem q1358 : (Jvm.Cond.fieldLinkNest "CountyGazetteer" (457 : Nat) "CountyGazetteer$Village" "number" "I" "CountyGazetteer") ∈ lw_tbl := lw_at lw_m5 222 rfl
theorem q1361 : (Jvm.Cond.fieldLinkNest "CountyGazetteer" (218 : Nat) "CountyGazetteer$Village" "x" "I" "CountyGazetteer") ∈ lw_tbl := lw_at lw_m5 225 rfl
theorem q1364 : (Jvm.Cond.fieldLinkNest "CountyGazetteer" (213 : Nat) "CountyGazetteer$Village" "y" "I" "CountyGazetteer") ∈ lw_tbl := lw_at lw_m5 228 rfl
theorem q1367 : (Jvm.Cond.fieldLinkNest "CountyGazetteer" (278 : Nat) "CountyGazetteer$Village" "founded" "I" "CountyGazetteer") ∈ lw_tbl := lw_at lw_m5 231 rfl
theorem q1370 : (Jvm.Cond.fieldLinkNest "CountyGazetteer" (281 : Nat) "CountyGazetteer$Village" "gone" "I" "CountyGazetteer") ∈ lw_tbl := lw_at lw_m5 234 rfl
theorem q1373 : (Jvm.Cond.fieldLinkNest "CountyGazetteer" (288 : Nat) "CountyGazetteer$Village" "renamed" "I" "CountyGazetteer") ∈ lw_tbl := lw_at lw_m5 237 rfl
theorem q1834 : (Jvm.Cond.methodLink "CountyGazetteer" (115 : Nat) ({ cls := "java/util/ArrayDeque", name := "clear", desc := "()V" } : Jvm.MethodName)) ∈ lw_all := lw_g (lw_at lw_m7 218 rfl) rfl
theorem q1841 : (Jvm.Cond.interfaceEntry "CountyGazetteer" (124 : Nat)) ∈ lw_tbl := lw_at lw_m7 225 rfl
theorem q1842 : (Jvm.Cond.methodLink "CountyGazetteer" (124 : Nat) ({ cls := "java/util/List", name := "size", desc := "()I" } : Jvm.MethodName)) ∈ lw_all := lw_g (lw_at lw_m7 226 rfl) rfl
theorem q1844 : (Jvm.Cond.instanceMethod ({ cls := "CountyGazetteer", name := "errorCode", desc := "()I" } : Jvm.MethodName)) ∈ lw_all := lw_g (lw_at lw_m7 228 rfl) rfl
theorem q1845 : (Jvm.Cond.selects "CountyGazetteer" ({ cls := "CountyGazetteer", name := "errorCode", desc := "()I" } : Jvm.MethodName) ({ cls := "CountyGazetteer", name := "errorCode", desc := "()I" } : Jvm.MethodName)) ∈ lw_all := lw_g (lw_at lw_m7 229 rfl) rfl
theorem q1846 : (Jvm.Cond.code ({ cls := "CountyGazetteer", name := "errorCode", desc := "()I" } : Jvm.MethodName) prog_1_method_13_code (1 : Nat) (Option.some Jvm.ClassFile.FieldType.int)) ∈ lw_all := lw_g (lw_at lw_m7 230 rfl) rfl
theorem q1848 : (Jvm.Cond.instanceMethod ({ cls := "CountyGazetteer", name := "errorOffset", desc := "()I" } : Jvm.MethodName)) ∈ lw_all := lw_g (lw_at lw_m7 232 rfl) rfl
theorem q1849 : (Jvm.Cond.selects "CountyGazetteer" ({ cls := "CountyGazetteer", name := "errorOffset", desc := "()I" } : Jvm.MethodName) ({ cls := "CountyGazetteer", name := "errorOffset", desc := "()I" } : Jvm.MethodName)) ∈ lw_all := lw_g (lw_at lw_m7 233 rfl) rfl
theorem q1850 : (Jvm.Cond.code ({ cls := "CountyGazetteer", name := "errorOffset", desc := "()I" } : Jvm.MethodName) prog_1_method_14_code (1 : Nat) (Option.some Jvm.ClassFile.FieldType.int)) ∈ lw_all := lw_g (lw_at lw_m7 234 rfl) rfl
theorem q1852 : (Jvm.Cond.instanceMethod ({ cls := "CountyGazetteer", name := "named", desc := "()I" } : Jvm.MethodName)) ∈ lw_all := lw_g (lw_at lw_m7 236 rfl) rfl
theorem q1853 : (Jvm.Cond.selects "CountyGazetteer" ({ cls := "CountyGazetteer", name := "named", desc := "()I" } : Jvm.MethodName) ({ cls := "CountyGazetteer", name := "named", desc := "()I" } : Jvm.MethodName)) ∈ lw_all := lw_g (lw_at lw_m7 237 rfl) rfl
theorem q1854 : (Jvm.Cond.code ({ cls := "CountyGazetteer", name := "named", desc := "()I" } : Jvm.MethodName) prog_1_method_44_code (2 : Nat) (Option.some Jvm.ClassFile.FieldType.int)) ∈ lw_all := lw_g (lw_at lw_m7 238 rfl) rfl
theorem q1855 : (Jvm.Cond.methodLink "CountyGazetteer" (433 : Nat) ({ cls := "CountyGazetteer", name := "told", desc := "()Ljava/lang/String;" } : Jvm.MethodName)) ∈ lw_all := lw_g (lw_at lw_m7 239 rfl) rfl
theorem q1856 : (Jvm.Cond.privateMethod ({ cls := "CountyGazetteer", name := "told", desc := "()Ljava/lang/String;" } : Jvm.MethodName)) ∈ lw_tbl := lw_at lw_m8 0 rfl
theorem q1857 : (Jvm.Cond.instanceMethod ({ cls := "CountyGazetteer", name := "told", desc := "()Ljava/lang/String;" } : Jvm.MethodName)) ∈ lw_all := lw_g (lw_at lw_m8 1 rfl) rfl
theorem q1858 : (Jvm.Cond.code ({ cls := "CountyGazetteer", name := "told", desc := "()Ljava/lang/String;" } : Jvm.MethodName) prog_1_method_43_code (3 : Nat) (Option.some (Jvm.ClassFile.FieldType.object "java/lang/String"))) ∈ lw_all := lw_g (lw_at lw_m8 2 rfl) rfl
theorem q1859 : (Jvm.Cond.methodLink "CountyGazetteer" (425 : Nat) ({ cls := "java/lang/StringBuilder", name := "append", desc := "(C)Ljava/lang/StringBuilder;" } : Jvm.MethodName)) ∈ lw_all := lw_g (lw_at lw_m8 3 rfl) rfl
theorem q1860 : (Jvm.Cond.methodLink "CountyGazetteer" (429 : Nat) ({ cls := "java/lang/StringBuilder", name := "toString", desc := "()Ljava/lang/String;" } : Jvm.MethodName)) ∈ lw_all := lw_g (lw_at lw_m8 4 rfl) rfl
theorem q1861 : (Jvm.Cond.privateMethod ({ cls := "CountyGazetteer", name := "lambda$named$2", desc := "(Ljava/lang/String;LCountyGazetteer$Village;)Z" } : Jvm.MethodName)) ∈ lw_tbl := lw_at lw_m8 5 rfl
theorem q1862 : (Jvm.Cond.instanceMethod ({ cls := "CountyGazetteer", name := "lambda$named$2", desc := "(Ljava/lang/String;LCountyGazetteer$Village;)Z" } : Jvm.MethodName)) ∈ lw_all := lw_g (lw_at lw_m8 6 rfl) rfl
theorem q1863 : (Jvm.Cond.code ({ cls := "CountyGazetteer", name := "lambda$named$2", desc := "(Ljava/lang/String;LCountyGazetteer$Village;)Z" } : Jvm.MethodName) prog_1_method_87_code (3 : Nat) (Option.some Jvm.ClassFile.FieldType.boolean)) ∈ lw_all := lw_g (lw_at lw_m8 7 rfl) rfl
theorem q1864 : (Jvm.Cond.methodLink "CountyGazetteer" (228 : Nat) ({ cls := "CountyGazetteer$Village", name := "livesIn", desc := "(I)Z" } : Jvm.MethodName)) ∈ lw_all := lw_g (lw_at lw_m8 8 rfl) rfl
theorem q1869 : (Jvm.Cond.methodLink "CountyGazetteer" (371 : Nat) ({ cls := "CountyGazetteer$Village", name := "nameIn", desc := "(I)Ljava/lang/String;" } : Jvm.MethodName)) ∈ lw_all := lw_g (lw_at lw_m8 13 rfl) rfl
theorem q1897 : (Jvm.Cond.methodLink "CountyGazetteer" (606 : Nat) ({ cls := "java/lang/String", name := "equals", desc := "(Ljava/lang/Object;)Z" } : Jvm.MethodName)) ∈ lw_all := lw_g (lw_at lw_m8 41 rfl) rfl
theorem q1898 : (Jvm.Cond.methodLink "CountyGazetteer" (418 : Nat) ({ cls := "CountyGazetteer", name := "setOf", desc := "(LCountyGazetteer$VillageAsker;)I" } : Jvm.MethodName)) ∈ lw_all := lw_g (lw_at lw_m8 42 rfl) rfl
theorem q1899 : (Jvm.Cond.privateMethod ({ cls := "CountyGazetteer", name := "setOf", desc := "(LCountyGazetteer$VillageAsker;)I" } : Jvm.MethodName)) ∈ lw_tbl := lw_at lw_m8 43 rfl
theorem q1900 : (Jvm.Cond.instanceMethod ({ cls := "CountyGazetteer", name := "setOf", desc := "(LCountyGazetteer$VillageAsker;)I" } : Jvm.MethodName)) ∈ lw_all := lw_g (lw_at lw_m8 44 rfl) rfl
theorem q1901 : (Jvm.Cond.code ({ cls := "CountyGazetteer", name := "setOf", desc := "(LCountyGazetteer$VillageAsker;)I" } : Jvm.MethodName) prog_1_method_39_code (4 : Nat) (Option.some Jvm.ClassFile.FieldType.int)) ∈ lw_all := lw_g (lw_at lw_m8 45 rfl) rfl
theorem q1902 : (Jvm.Cond.interfaceEntry "CountyGazetteer" (224 : Nat)) ∈ lw_tbl := lw_at lw_m8 46 rfl
theorem q1903 : (Jvm.Cond.methodLink "CountyGazetteer" (224 : Nat) ({ cls := "java/util/List", name := "get", desc := "(I)Ljava/lang/Object;" } : Jvm.MethodName)) ∈ lw_all := lw_g (lw_at lw_m8 47 rfl) rfl
theorem q1904 : (Jvm.Cond.classLink "CountyGazetteer" (214 : Nat) "CountyGazetteer$Village") ∈ lw_all := lw_g (lw_at lw_m8 48 rfl) rfl
theorem q1905 : (Jvm.Cond.interfaceEntry "CountyGazetteer" (409 : Nat)) ∈ lw_tbl := lw_at lw_m8 49 rfl
theorem q1906 : (Jvm.Cond.methodLink "CountyGazetteer" (409 : Nat) ({ cls := "CountyGazetteer$VillageAsker", name := "is", desc := "(LCountyGazetteer$Village;)Z" } : Jvm.MethodName)) ∈ lw_all := lw_g (lw_at lw_m8 50 rfl) rfl
theorem q1910 : (Jvm.Cond.instanceMethod ({ cls := "CountyGazetteer", name := "everNamed", desc := "()I" } : Jvm.MethodName)) ∈ lw_all := lw_g (lw_at lw_m8 54 rfl) rfl
theorem q1911 : (Jvm.Cond.selects "CountyGazetteer" ({ cls := "CountyGazetteer", name := "everNamed", desc := "()I" } : Jvm.MethodName) ({ cls := "CountyGazetteer", name := "everNamed", desc := "()I" } : Jvm.MethodName)) ∈ lw_all := lw_g (lw_at lw_m8 55 rfl) rfl
theorem q1912 : (Jvm.Cond.code ({ cls := "CountyGazetteer", name := "everNamed", desc := "()I" } : Jvm.MethodName) prog_1_method_45_code (2 : Nat) (Option.some Jvm.ClassFile.FieldType.int)) ∈ lw_all := lw_g (lw_at lw_m8 56 rfl) rfl
theorem q1913 : (Jvm.Cond.privateMethod ({ cls := "CountyGazetteer", name := "lambda$everNamed$3", desc := "(Ljava/lang/String;LCountyGazetteer$Village;)Z" } : Jvm.MethodName)) ∈ lw_tbl := lw_at lw_m8 57 rfl
theorem q1914 : (Jvm.Cond.instanceMethod ({ cls := "CountyGazetteer", name := "lambda$everNamed$3", desc := "(Ljava/lang/String;LCountyGazetteer$Village;)Z" } : Jvm.MethodName)) ∈ lw_all := lw_g (lw_at lw_m8 58 rfl) rfl
theorem q1915 : (Jvm.Cond.code ({ cls := "CountyGazetteer", name := "lambda$everNamed$3", desc := "(Ljava/lang/String;LCountyGazetteer$Village;)Z" } : Jvm.MethodName) prog_1_method_86_code (3 : Nat) (Option.some Jvm.ClassFile.FieldType.boolean)) ∈ lw_all := lw_g (lw_at lw_m8 59 rfl) rfl
theorem q1916 : (Jvm.Cond.methodLink "CountyGazetteer" (291 : Nat) ({ cls := "CountyGazetteer$Village", name := "oldNames", desc := "(I)Ljava/util/TreeSet;" } : Jvm.MethodName)) ∈ lw_all := lw_g (lw_at lw_m8 60 rfl) rfl
theorem q1986 : (Jvm.Cond.methodLink "CountyGazetteer" (609 : Nat) ({ cls := "java/util/TreeSet", name := "contains", desc := "(Ljava/lang/Object;)Z" } : Jvm.MethodName)) ∈ lw_all := lw_g (lw_at lw_m8 130 rfl) rfl
theorem q1999 : (Jvm.Cond.instanceMethod ({ cls := "CountyGazetteer", name := "countyNamed", desc := "()I" } : Jvm.MethodName)) ∈ lw_all := lw_g (lw_at lw_m8 143 rfl) rfl
theorem q2000 : (Jvm.Cond.selects "CountyGazetteer" ({ cls := "CountyGazetteer", name := "countyNamed", desc := "()I" } : Jvm.MethodName) ({ cls := "CountyGazetteer", name := "countyNamed", desc := "()I" } : Jvm.MethodName)) ∈ lw_all := lw_g (lw_at lw_m8 144 rfl) rfl
theorem q2001 : (Jvm.Cond.code ({ cls := "CountyGazetteer", name := "countyNamed", desc := "()I" } : Jvm.MethodName) prog_1_method_46_code (1 : Nat) (Option.some Jvm.ClassFile.FieldType.int)) ∈ lw_all := lw_g (lw_at lw_m8 145 rfl) rfl
theorem q2002 : (Jvm.Cond.methodLink "CountyGazetteer" (440 : Nat) ({ cls := "CountyGazetteer$Named", name := "find", desc := "(Ljava/util/List;Ljava/lang/CharSequence;)I" } : Jvm.MethodName)) ∈ lw_all := lw_g (lw_at lw_m8 146 rfl) rfl
theorem q2004 : (Jvm.Cond.instanceMethod ({ cls := "CountyGazetteer", name := "waste", desc := "()I" } : Jvm.MethodName)) ∈ lw_all := lw_g (lw_at lw_m8 148 rfl) rfl
theorem q2005 : (Jvm.Cond.selects "CountyGazetteer" ({ cls := "CountyGazetteer", name := "waste", desc := "()I" } : Jvm.MethodName) ({ cls := "CountyGazetteer", name := "waste", desc := "()I" } : Jvm.MethodName)) ∈ lw_all := lw_g (lw_at lw_m8 149 rfl) rfl
theorem q2006 : (Jvm.Cond.code ({ cls := "CountyGazetteer", name := "waste", desc := "()I" } : Jvm.MethodName) prog_1_method_56_code (1 : Nat) (Option.some Jvm.ClassFile.FieldType.int)) ∈ lw_all := lw_g (lw_at lw_m8 150 rfl) rfl
theorem q2007 : (Jvm.Cond.methodLink "CountyGazetteer" (249 : Nat) ({ cls := "CountyGazetteer", name := "edition", desc := "()LCountyGazetteer$Edition;" } : Jvm.MethodName)) ∈ lw_all := lw_g (lw_at lw_m8 151 rfl) rfl
theorem q2008 : (Jvm.Cond.privateMethod ({ cls := "CountyGazetteer", name := "edition", desc := "()LCountyGazetteer$Edition;" } : Jvm.MethodName)) ∈ lw_tbl := lw_at lw_m8 152 rfl
theorem q2009 : (Jvm.Cond.instanceMethod ({ cls := "CountyGazetteer", name := "edition", desc := "()LCountyGazetteer$Edition;" } : Jvm.MethodName)) ∈ lw_all := lw_g (lw_at lw_m8 153 rfl) rfl
theorem q2010 : (Jvm.Cond.code ({ cls := "CountyGazetteer", name := "edition", desc := "()LCountyGazetteer$Edition;" } : Jvm.MethodName) prog_1_method_17_code (1 : Nat) (Option.some (Jvm.ClassFile.FieldType.object "CountyGazetteer$Edition"))) ∈ lw_all := lw_g (lw_at lw_m8 154 rfl) rfl
theorem q2011 : (Jvm.Cond.methodLink "CountyGazetteer" (205 : Nat) ({ cls := "CountyGazetteer", name := "edition", desc := "(LCountyGazetteer$State;)LCountyGazetteer$Edition;" } : Jvm.MethodName)) ∈ lw_all := lw_g (lw_at lw_m8 155 rfl) rfl
theorem q2012 : (Jvm.Cond.privateMethod ({ cls := "CountyGazetteer", name := "edition", desc := "(LCountyGazetteer$State;)LCountyGazetteer$Edition;" } : Jvm.MethodName)) ∈ lw_tbl := lw_at lw_m8 156 rfl
theorem q2013 : (Jvm.Cond.instanceMethod ({ cls := "CountyGazetteer", name := "edition", desc := "(LCountyGazetteer$State;)LCountyGazetteer$Edition;" } : Jvm.MethodName)) ∈ lw_all := lw_g (lw_at lw_m8 157 rfl) rfl
theorem q2014 : (Jvm.Cond.code ({ cls := "CountyGazetteer", name := "edition", desc := "(LCountyGazetteer$State;)LCountyGazetteer$Edition;" } : Jvm.MethodName) prog_1_method_16_code (3 : Nat) (Option.some (Jvm.ClassFile.FieldType.object "CountyGazetteer$Edition"))) ∈ lw_all := lw_g (lw_at lw_m8 158 rfl) rfl
theorem q2015 : (Jvm.Cond.methodLink "CountyGazetteer" (187 : Nat) ({ cls := "CountyGazetteer", name := "laid", desc := "(LCountyGazetteer$Board;LCountyGazetteer$State;I)LCountyGazetteer$Board;" } : Jvm.MethodName)) ∈ lw_all := lw_g (lw_at lw_m8 159 rfl) rfl
theorem q2016 : (Jvm.Cond.static ({ cls := "CountyGazetteer", name := "laid", desc := "(LCountyGazetteer$Board;LCountyGazetteer$State;I)LCountyGazetteer$Board;" } : Jvm.MethodName)) ∈ lw_all := lw_g (lw_at lw_m8 160 rfl) rfl
theorem q2017 : (Jvm.Cond.code ({ cls := "CountyGazetteer", name := "laid", desc := "(LCountyGazetteer$Board;LCountyGazetteer$State;I)LCountyGazetteer$Board;" } : Jvm.MethodName) prog_1_method_15_code (9 : Nat) (Option.some (Jvm.ClassFile.FieldType.object "CountyGazetteer$Board"))) ∈ lw_all := lw_g (lw_at lw_m8 161 rfl) rfl
theorem q2018 : (Jvm.Cond.methodLink "CountyGazetteer" (136 : Nat) ({ cls := "CountyGazetteer$Board", name := "begins", desc := "(II)V" } : Jvm.MethodName)) ∈ lw_all := lw_g (lw_at lw_m8 162 rfl) rfl
theorem q2022 : (Jvm.Cond.methodLink "CountyGazetteer" (140 : Nat) ({ cls := "CountyGazetteer$State", name := "byYears", desc := "()Ljava/util/TreeMap;" } : Jvm.MethodName)) ∈ lw_all := lw_g (lw_at lw_m8 166 rfl) rfl
theorem q2074 : (Jvm.Cond.methodLink "CountyGazetteer" (144 : Nat) ({ cls := "java/util/TreeMap", name := "keySet", desc := "()Ljava/util/Set;" } : Jvm.MethodName)) ∈ lw_all := lw_g (lw_at lw_m8 218 rfl) rfl
theorem q2092 : (Jvm.Cond.interfaceEntry "CountyGazetteer" (150 : Nat)) ∈ lw_tbl := lw_at lw_m8 236 rfl
theorem q2093 : (Jvm.Cond.methodLink "CountyGazetteer" (150 : Nat) ({ cls := "java/util/Set", name := "iterator", desc := "()Ljava/util/Iterator;" } : Jvm.MethodName)) ∈ lw_all := lw_g (lw_at lw_m8 237 rfl) rfl
theorem q2176 : (Jvm.Cond.interfaceEntry "CountyGazetteer" (156 : Nat)) ∈ lw_tbl := lw_at lw_m9 80 rfl
theorem q2177 : (Jvm.Cond.methodLink "CountyGazetteer" (156 : Nat) ({ cls := "java/util/Iterator", name := "hasNext", desc := "()Z" } : Jvm.MethodName)) ∈ lw_all := lw_g (lw_at lw_m9 81 rfl) rfl
theorem q2214 : (Jvm.Cond.interfaceEntry "CountyGazetteer" (162 : Nat)) ∈ lw_tbl := lw_at lw_m9 118 rfl
theorem q2215 : (Jvm.Cond.methodLink "CountyGazetteer" (162 : Nat) ({ cls := "java/util/Iterator", name := "next", desc := "()Ljava/lang/Object;" } : Jvm.MethodName)) ∈ lw_all := lw_g (lw_at lw_m9 119 rfl) rfl
theorem q2357 : (Jvm.Cond.classLink "CountyGazetteer" (166 : Nat) "java/lang/Integer") ∈ lw_all := lw_g (lw_at lw_m10 21 rfl) rfl
theorem q2358 : (Jvm.Cond.methodLink "CountyGazetteer" (168 : Nat) ({ cls := "java/lang/Integer", name := "intValue", desc := "()I" } : Jvm.MethodName)) ∈ lw_all := lw_g (lw_at lw_m10 22 rfl) rfl
theorem q2359 : (Jvm.Cond.methodLink "CountyGazetteer" (171 : Nat) ({ cls := "java/util/TreeMap", name := "get", desc := "(Ljava/lang/Object;)Ljava/lang/Object;" } : Jvm.MethodName)) ∈ lw_all := lw_g (lw_at lw_m10 23 rfl) rfl
theorem q2360 : (Jvm.Cond.classLink "CountyGazetteer" (175 : Nat) "java/util/LinkedList") ∈ lw_all := lw_g (lw_at lw_m10 24 rfl) rfl
theorem q2361 : (Jvm.Cond.methodLink "CountyGazetteer" (177 : Nat) ({ cls := "java/util/LinkedList", name := "iterator", desc := "()Ljava/util/Iterator;" } : Jvm.MethodName)) ∈ lw_all := lw_g (lw_at lw_m10 25 rfl) rfl
theorem q2458 : (Jvm.Cond.classLink "CountyGazetteer" (178 : Nat) "CountyGazetteer$Reform") ∈ lw_all := lw_g (lw_at lw_m10 122 rfl) rfl
theorem q2459 : (Jvm.Cond.interfaceEntry "CountyGazetteer" (180 : Nat)) ∈ lw_tbl := lw_at lw_m10 123 rfl
theorem q2460 : (Jvm.Cond.methodLink "CountyGazetteer" (180 : Nat) ({ cls := "CountyGazetteer$Reform", name := "changes", desc := "(LCountyGazetteer$Board;)I" } : Jvm.MethodName)) ∈ lw_all := lw_g (lw_at lw_m10 124 rfl) rfl
theorem q2501 : (Jvm.Cond.classLink "CountyGazetteer" (191 : Nat) "CountyGazetteer$Edition") ∈ lw_all := lw_g (lw_at lw_m10 165 rfl) rfl
theorem q2503 : (Jvm.Cond.methodLink "CountyGazetteer" (196 : Nat) ({ cls := "java/lang/Math", name := "max", desc := "(II)I" } : Jvm.MethodName)) ∈ lw_all := lw_g (lw_at lw_m10 167 rfl) rfl
theorem q2504 : (Jvm.Cond.methodLink "CountyGazetteer" (202 : Nat) ({ cls := "CountyGazetteer$Edition", name := "<init>", desc := "(LCountyGazetteer$State;LCountyGazetteer$Board;LCountyGazetteer$Board;)V" } : Jvm.MethodName)) ∈ lw_all := lw_g (lw_at lw_m10 168 rfl) rfl
theorem q2525 : (Jvm.Cond.fieldLinkNest "CountyGazetteer" (467 : Nat) "CountyGazetteer$Block" "county" "I" "CountyGazetteer") ∈ lw_tbl := lw_at lw_m10 189 rfl
theorem q2530 : (Jvm.Cond.fieldLinkNest "CountyGazetteer" (304 : Nat) "CountyGazetteer$Block" "entries" "Ljava/util/TreeSet;" "CountyGazetteer") ∈ lw_tbl := lw_at lw_m10 194 rfl
theorem q2572 : (Jvm.Cond.fieldLinkNest "CountyGazetteer" (463 : Nat) "CountyGazetteer$Entry" "name" "Ljava/lang/String;" "CountyGazetteer") ∈ lw_tbl := lw_at lw_m10 236 rfl
theorem q2575 : (Jvm.Cond.fieldLinkNest "CountyGazetteer" (450 : Nat) "CountyGazetteer$Entry" "sort" "I" "CountyGazetteer") ∈ lw_tbl := lw_at lw_m10 239 rfl
theorem q2578 : (Jvm.Cond.fieldLinkNest "CountyGazetteer" (480 : Nat) "CountyGazetteer$Entry" "county" "I" "CountyGazetteer") ∈ lw_tbl := lw_at lw_m11 2 rfl
theorem q2581 : (Jvm.Cond.fieldLinkNest "CountyGazetteer" (453 : Nat) "CountyGazetteer$Entry" "village" "LCountyGazetteer$Village;" "CountyGazetteer") ∈ lw_tbl := lw_at lw_m11 5 rfl
theorem q2583 : (Jvm.Cond.fieldLinkNest "CountyGazetteer" (269 : Nat) "CountyGazetteer$Entry" "page" "I" "CountyGazetteer") ∈ lw_tbl := lw_at lw_m11 7 rfl
theorem q2585 : (Jvm.Cond.fieldLinkNest "CountyGazetteer" (460 : Nat) "CountyGazetteer$Entry" "place" "I" "CountyGazetteer") ∈ lw_tbl := lw_at lw_m11 9 rfl
theorem q2711 : (Jvm.Cond.fieldLinkNest "CountyGazetteer" (254 : Nat) "CountyGazetteer$Edition" "blocks" "[LCountyGazetteer$Block;" "CountyGazetteer") ∈ lw_tbl := lw_at lw_m11 135 rfl
theorem q2713 : (Jvm.Cond.fieldLinkNest "CountyGazetteer" (261 : Nat) "CountyGazetteer$Edition" "sorts" "[I" "CountyGazetteer") ∈ lw_tbl := lw_at lw_m11 137 rfl
theorem q2715 : (Jvm.Cond.fieldLinkNest "CountyGazetteer" (258 : Nat) "CountyGazetteer$Edition" "pages" "I" "CountyGazetteer") ∈ lw_tbl := lw_at lw_m11 139 rfl
theorem q2718 : (Jvm.Cond.fieldLinkNest "CountyGazetteer" (491 : Nat) "CountyGazetteer$Edition" "wasted" "I" "CountyGazetteer") ∈ lw_tbl := lw_at lw_m11 142 rfl
theorem q2731 : (Jvm.Cond.instanceMethod ({ cls := "CountyGazetteer", name := "fullest", desc := "()I" } : Jvm.MethodName)) ∈ lw_all := lw_g (lw_at lw_m11 155 rfl) rfl
theorem q2732 : (Jvm.Cond.selects "CountyGazetteer" ({ cls := "CountyGazetteer", name := "fullest", desc := "()I" } : Jvm.MethodName) ({ cls := "CountyGazetteer", name := "fullest", desc := "()I" } : Jvm.MethodName)) ∈ lw_all := lw_g (lw_at lw_m11 156 rfl) rfl
theorem q2733 : (Jvm.Cond.code ({ cls := "CountyGazetteer", name := "fullest", desc := "()I" } : Jvm.MethodName) prog_1_method_64_code (5 : Nat) (Option.some Jvm.ClassFile.FieldType.int)) ∈ lw_all := lw_g (lw_at lw_m11 157 rfl) rfl
theorem q2734 : (Jvm.Cond.methodLink "CountyGazetteer" (331 : Nat) ({ cls := "CountyGazetteer", name := "setIn", desc := "(II)I" } : Jvm.MethodName)) ∈ lw_all := lw_g (lw_at lw_m11 158 rfl) rfl
theorem q2735 : (Jvm.Cond.privateMethod ({ cls := "CountyGazetteer", name := "setIn", desc := "(II)I" } : Jvm.MethodName)) ∈ lw_tbl := lw_at lw_m11 159 rfl
theorem q2736 : (Jvm.Cond.instanceMethod ({ cls := "CountyGazetteer", name := "setIn", desc := "(II)I" } : Jvm.MethodName)) ∈ lw_all := lw_g (lw_at lw_m11 160 rfl) rfl
theorem q2737 : (Jvm.Cond.code ({ cls := "CountyGazetteer", name := "setIn", desc := "(II)I" } : Jvm.MethodName) prog_1_method_40_code (4 : Nat) (Option.some Jvm.ClassFile.FieldType.int)) ∈ lw_all := lw_g (lw_at lw_m11 161 rfl) rfl
theorem q2738 : (Jvm.Cond.privateMethod ({ cls := "CountyGazetteer", name := "lambda$setIn$0", desc := "(ILCountyGazetteer$Board;ILCountyGazetteer$Village;)Z" } : Jvm.MethodName)) ∈ lw_tbl := lw_at lw_m11 162 rfl
theorem q2739 : (Jvm.Cond.instanceMethod ({ cls := "CountyGazetteer", name := "lambda$setIn$0", desc := "(ILCountyGazetteer$Board;ILCountyGazetteer$Village;)Z" } : Jvm.MethodName)) ∈ lw_all := lw_g (lw_at lw_m11 163 rfl) rfl
theorem q2740 : (Jvm.Cond.code ({ cls := "CountyGazetteer", name := "lambda$setIn$0", desc := "(ILCountyGazetteer$Board;ILCountyGazetteer$Village;)Z" } : Jvm.MethodName) prog_1_method_89_code (5 : Nat) (Option.some Jvm.ClassFile.FieldType.boolean)) ∈ lw_all := lw_g (lw_at lw_m11 164 rfl) rfl
theorem q2741 : (Jvm.Cond.methodLink "CountyGazetteer" (334 : Nat) ({ cls := "java/lang/Integer", name := "bitCount", desc := "(I)I" } : Jvm.MethodName)) ∈ lw_all := lw_g (lw_at lw_m11 165 rfl) rfl
theorem q2748 : (Jvm.Cond.instanceMethod ({ cls := "CountyGazetteer", name := "meanVillages", desc := "()D" } : Jvm.MethodName)) ∈ lw_all := lw_g (lw_at lw_m11 172 rfl) rfl
theorem q2749 : (Jvm.Cond.selects "CountyGazetteer" ({ cls := "CountyGazetteer", name := "meanVillages", desc := "()D" } : Jvm.MethodName) ({ cls := "CountyGazetteer", name := "meanVillages", desc := "()D" } : Jvm.MethodName)) ∈ lw_all := lw_g (lw_at lw_m11 173 rfl) rfl
theorem q2750 : (Jvm.Cond.code ({ cls := "CountyGazetteer", name := "meanVillages", desc := "()D" } : Jvm.MethodName) prog_1_method_65_code (2 : Nat) (Option.some Jvm.ClassFile.FieldType.double)) ∈ lw_all := lw_g (lw_at lw_m11 174 rfl) rfl
theorem q2752 : (Jvm.Cond.instanceMethod ({ cls := "CountyGazetteer", name := "seeShare", desc := "()F" } : Jvm.MethodName)) ∈ lw_all := lw_g (lw_at lw_m11 176 rfl) rfl
theorem q2753 : (Jvm.Cond.selects "CountyGazetteer" ({ cls := "CountyGazetteer", name := "seeShare", desc := "()F" } : Jvm.MethodName) ({ cls := "CountyGazetteer", name := "seeShare", desc := "()F" } : Jvm.MethodName)) ∈ lw_all := lw_g (lw_at lw_m11 177 rfl) rfl
theorem q2754 : (Jvm.Cond.code ({ cls := "CountyGazetteer", name := "seeShare", desc := "()F" } : Jvm.MethodName) prog_1_method_66_code (2 : Nat) (Option.some Jvm.ClassFile.FieldType.float)) ∈ lw_all := lw_g (lw_at lw_m11 178 rfl) rfl
theorem q2755 : (Jvm.Cond.methodLink "CountyGazetteer" (252 : Nat) ({ cls := "CountyGazetteer$Edition", name := "lines", desc := "()I" } : Jvm.MethodName)) ∈ lw_all := lw_g (lw_at lw_m11 179 rfl) rfl
theorem q2760 : (Jvm.Cond.instanceMethod ({ cls := "CountyGazetteer", name := "setFresh", desc := "(Z)Z" } : Jvm.MethodName)) ∈ lw_all := lw_g (lw_at lw_m11 184 rfl) rfl
theorem q2761 : (Jvm.Cond.selects "CountyGazetteer" ({ cls := "CountyGazetteer", name := "setFresh", desc := "(Z)Z" } : Jvm.MethodName) ({ cls := "CountyGazetteer", name := "setFresh", desc := "(Z)Z" } : Jvm.MethodName)) ∈ lw_all := lw_g (lw_at lw_m11 185 rfl) rfl
theorem q2762 : (Jvm.Cond.code ({ cls := "CountyGazetteer", name := "setFresh", desc := "(Z)Z" } : Jvm.MethodName) prog_1_method_78_code (3 : Nat) (Option.some Jvm.ClassFile.FieldType.boolean)) ∈ lw_all := lw_g (lw_at lw_m11 186 rfl) rfl
theorem q2763 : (Jvm.Cond.methodLink "CountyGazetteer" (538 : Nat) ({ cls := "CountyGazetteer", name := "changed", desc := "()LCountyGazetteer$State;" } : Jvm.MethodName)) ∈ lw_all := lw_g (lw_at lw_m11 187 rfl) rfl
theorem q2764 : (Jvm.Cond.privateMethod ({ cls := "CountyGazetteer", name := "changed", desc := "()LCountyGazetteer$State;" } : Jvm.MethodName)) ∈ lw_tbl := lw_at lw_m11 188 rfl
theorem q2765 : (Jvm.Cond.instanceMethod ({ cls := "CountyGazetteer", name := "changed", desc := "()LCountyGazetteer$State;" } : Jvm.MethodName)) ∈ lw_all := lw_g (lw_at lw_m11 189 rfl) rfl
theorem q2766 : (Jvm.Cond.code ({ cls := "CountyGazetteer", name := "changed", desc := "()LCountyGazetteer$State;" } : Jvm.MethodName) prog_1_method_68_code (1 : Nat) (Option.some (Jvm.ClassFile.FieldType.object "CountyGazetteer$State"))) ∈ lw_all := lw_g (lw_at lw_m11 190 rfl) rfl
theorem q2767 : (Jvm.Cond.methodLink "CountyGazetteer" (517 : Nat) ({ cls := "CountyGazetteer$State", name := "copy", desc := "()LCountyGazetteer$State;" } : Jvm.MethodName)) ∈ lw_all := lw_g (lw_at lw_m11 191 rfl) rfl
theorem q2808 : (Jvm.Cond.selects "CountyGazetteer" ({ cls := "java/lang/Object", name := "equals", desc := "(Ljava/lang/Object;)Z" } : Jvm.MethodName) ({ cls := "java/lang/Object", name := "equals", desc := "(Ljava/lang/Object;)Z" } : Jvm.MethodName)) ∈ lw_all := lw_g (lw_at lw_m11 232 rfl) rfl
theorem q2913 : (Jvm.Cond.methodLink "CountyGazetteer" (531 : Nat) ({ cls := "CountyGazetteer", name := "becomes", desc := "(LCountyGazetteer$State;)V" } : Jvm.MethodName)) ∈ lw_all := lw_g (lw_at lw_m12 97 rfl) rfl
theorem q2914 : (Jvm.Cond.privateMethod ({ cls := "CountyGazetteer", name := "becomes", desc := "(LCountyGazetteer$State;)V" } : Jvm.MethodName)) ∈ lw_tbl := lw_at lw_m12 98 rfl
theorem q2915 : (Jvm.Cond.instanceMethod ({ cls := "CountyGazetteer", name := "becomes", desc := "(LCountyGazetteer$State;)V" } : Jvm.MethodName)) ∈ lw_all := lw_g (lw_at lw_m12 99 rfl) rfl
theorem q2916 : (Jvm.Cond.code ({ cls := "CountyGazetteer", name := "becomes", desc := "(LCountyGazetteer$State;)V" } : Jvm.MethodName) prog_1_method_67_code (2 : Nat) (Option.none : Option Jvm.ClassFile.FieldType)) ∈ lw_all := lw_g (lw_at lw_m12 100 rfl) rfl
theorem q2917 : (Jvm.Cond.methodLink "CountyGazetteer" (264 : Nat) ({ cls := "java/util/ArrayDeque", name := "size", desc := "()I" } : Jvm.MethodName)) ∈ lw_all := lw_g (lw_at lw_m12 101 rfl) rfl
theorem q2918 : (Jvm.Cond.methodLink "CountyGazetteer" (524 : Nat) ({ cls := "java/util/ArrayDeque", name := "removeFirst", desc := "()Ljava/lang/Object;" } : Jvm.MethodName)) ∈ lw_all := lw_g (lw_at lw_m12 102 rfl) rfl
theorem q2934 : (Jvm.Cond.methodLink "CountyGazetteer" (527 : Nat) ({ cls := "java/util/ArrayDeque", name := "addLast", desc := "(Ljava/lang/Object;)V" } : Jvm.MethodName)) ∈ lw_all := lw_g (lw_at lw_m12 118 rfl) rfl
theorem q2967 : (Jvm.Cond.instanceMethod ({ cls := "CountyGazetteer", name := "outputByte", desc := "(I)I" } : Jvm.MethodName)) ∈ lw_all := lw_g (lw_at lw_m12 151 rfl) rfl
theorem q2968 : (Jvm.Cond.selects "CountyGazetteer" ({ cls := "CountyGazetteer", name := "outputByte", desc := "(I)I" } : Jvm.MethodName) ({ cls := "CountyGazetteer", name := "outputByte", desc := "(I)I" } : Jvm.MethodName)) ∈ lw_all := lw_g (lw_at lw_m12 152 rfl) rfl
theorem q2969 : (Jvm.Cond.code ({ cls := "CountyGazetteer", name := "outputByte", desc := "(I)I" } : Jvm.MethodName) prog_1_method_83_code (2 : Nat) (Option.some Jvm.ClassFile.FieldType.int)) ∈ lw_all := lw_g (lw_at lw_m12 153 rfl) rfl
theorem q2970 : (Jvm.Cond.methodLink "CountyGazetteer" (604 : Nat) ({ cls := "java/lang/StringBuilder", name := "length", desc := "()I" } : Jvm.MethodName)) ∈ lw_all := lw_g (lw_at lw_m12 154 rfl) rfl
theorem q2971 : (Jvm.Cond.methodLink "CountyGazetteer" (605 : Nat) ({ cls := "java/lang/StringBuilder", name := "charAt", desc := "(I)C" } : Jvm.MethodName)) ∈ lw_all := lw_g (lw_at lw_m12 155 rfl) rfl
theorem q2973 : (Jvm.Cond.instanceMethod ({ cls := "CountyGazetteer", name := "saveState", desc := "()I" } : Jvm.MethodName)) ∈ lw_all := lw_g (lw_at lw_m12 157 rfl) rfl
theorem q2974 : (Jvm.Cond.selects "CountyGazetteer" ({ cls := "CountyGazetteer", name := "saveState", desc := "()I" } : Jvm.MethodName) ({ cls := "CountyGazetteer", name := "saveState", desc := "()I" } : Jvm.MethodName)) ∈ lw_all := lw_g (lw_at lw_m12 158 rfl) rfl
theorem q2975 : (Jvm.Cond.code ({ cls := "CountyGazetteer", name := "saveState", desc := "()I" } : Jvm.MethodName) prog_1_method_84_code (1 : Nat) (Option.some Jvm.ClassFile.FieldType.int)) ∈ lw_all := lw_g (lw_at lw_m12 159 rfl) rfl
theorem q2981 : (Jvm.Cond.instanceMethod ({ cls := "CountyGazetteer", name := "count", desc := "(I)I" } : Jvm.MethodName)) ∈ lw_all := lw_g (lw_at lw_m12 165 rfl) rfl
theorem q2982 : (Jvm.Cond.selects "CountyGazetteer" ({ cls := "CountyGazetteer", name := "count", desc := "(I)I" } : Jvm.MethodName) ({ cls := "CountyGazetteer", name := "count", desc := "(I)I" } : Jvm.MethodName)) ∈ lw_all := lw_g (lw_at lw_m12 166 rfl) rfl
theorem q2983 : (Jvm.Cond.code ({ cls := "CountyGazetteer", name := "count", desc := "(I)I" } : Jvm.MethodName) prog_1_method_22_code (2 : Nat) (Option.some Jvm.ClassFile.FieldType.int)) ∈ lw_all := lw_g (lw_at lw_m12 167 rfl) rfl
theorem q2984 : (Jvm.Cond.methodLink "CountyGazetteer" (245 : Nat) ({ cls := "CountyGazetteer", name := "living", desc := "(I)I" } : Jvm.MethodName)) ∈ lw_all := lw_g (lw_at lw_m12 168 rfl) rfl
theorem q2985 : (Jvm.Cond.privateMethod ({ cls := "CountyGazetteer", name := "living", desc := "(I)I" } : Jvm.MethodName)) ∈ lw_tbl := lw_at lw_m12 169 rfl
theorem q2986 : (Jvm.Cond.instanceMethod ({ cls := "CountyGazetteer", name := "living", desc := "(I)I" } : Jvm.MethodName)) ∈ lw_all := lw_g (lw_at lw_m12 170 rfl) rfl
theorem q2987 : (Jvm.Cond.code ({ cls := "CountyGazetteer", name := "living", desc := "(I)I" } : Jvm.MethodName) prog_1_method_21_code (5 : Nat) (Option.some Jvm.ClassFile.FieldType.int)) ∈ lw_all := lw_g (lw_at lw_m12 171 rfl) rfl
theorem q2988 : (Jvm.Cond.interfaceEntry "CountyGazetteer" (227 : Nat)) ∈ lw_tbl := lw_at lw_m12 172 rfl
theorem q2989 : (Jvm.Cond.methodLink "CountyGazetteer" (227 : Nat) ({ cls := "java/util/List", name := "iterator", desc := "()Ljava/util/Iterator;" } : Jvm.MethodName)) ∈ lw_all := lw_g (lw_at lw_m12 173 rfl) rfl
theorem q2990 : (Jvm.Cond.classLink "CountyGazetteer" (7 : Nat) "java/lang/IllegalArgumentException") ∈ lw_all := lw_g (lw_at lw_m12 174 rfl) rfl
theorem q2991 : (Jvm.Cond.methodLink "CountyGazetteer" (9 : Nat) ({ cls := "java/lang/IllegalArgumentException", name := "<init>", desc := "()V" } : Jvm.MethodName)) ∈ lw_all := lw_g (lw_at lw_m12 175 rfl) rfl
theorem q3012 : (Jvm.Cond.instanceMethod ({ cls := "CountyGazetteer", name := "village", desc := "(II)I" } : Jvm.MethodName)) ∈ lw_all := lw_g (lw_at lw_m12 196 rfl) rfl
theorem q3013 : (Jvm.Cond.selects "CountyGazetteer" ({ cls := "CountyGazetteer", name := "village", desc := "(II)I" } : Jvm.MethodName) ({ cls := "CountyGazetteer", name := "village", desc := "(II)I" } : Jvm.MethodName)) ∈ lw_all := lw_g (lw_at lw_m12 197 rfl) rfl
theorem q3014 : (Jvm.Cond.code ({ cls := "CountyGazetteer", name := "village", desc := "(II)I" } : Jvm.MethodName) prog_1_method_24_code (4 : Nat) (Option.some Jvm.ClassFile.FieldType.int)) ∈ lw_all := lw_g (lw_at lw_m12 198 rfl) rfl
theorem q3015 : (Jvm.Cond.methodLink "CountyGazetteer" (274 : Nat) ({ cls := "CountyGazetteer", name := "villageAt", desc := "(I)LCountyGazetteer$Village;" } : Jvm.MethodName)) ∈ lw_all := lw_g (lw_at lw_m12 199 rfl) rfl
theorem q3016 : (Jvm.Cond.privateMethod ({ cls := "CountyGazetteer", name := "villageAt", desc := "(I)LCountyGazetteer$Village;" } : Jvm.MethodName)) ∈ lw_tbl := lw_at lw_m12 200 rfl
theorem q3017 : (Jvm.Cond.instanceMethod ({ cls := "CountyGazetteer", name := "villageAt", desc := "(I)LCountyGazetteer$Village;" } : Jvm.MethodName)) ∈ lw_all := lw_g (lw_at lw_m12 201 rfl) rfl
theorem q3018 : (Jvm.Cond.code ({ cls := "CountyGazetteer", name := "villageAt", desc := "(I)LCountyGazetteer$Village;" } : Jvm.MethodName) prog_1_method_19_code (2 : Nat) (Option.some (Jvm.ClassFile.FieldType.object "CountyGazetteer$Village"))) ∈ lw_all := lw_g (lw_at lw_m12 202 rfl) rfl
theorem q3019 : (Jvm.Cond.methodLink "CountyGazetteer" (221 : Nat) ({ cls := "CountyGazetteer", name := "checkIndex", desc := "(Z)V" } : Jvm.MethodName)) ∈ lw_all := lw_g (lw_at lw_m12 203 rfl) rfl
theorem q3020 : (Jvm.Cond.static ({ cls := "CountyGazetteer", name := "checkIndex", desc := "(Z)V" } : Jvm.MethodName)) ∈ lw_all := lw_g (lw_at lw_m12 204 rfl) rfl
theorem q3021 : (Jvm.Cond.code ({ cls := "CountyGazetteer", name := "checkIndex", desc := "(Z)V" } : Jvm.MethodName) prog_1_method_2_code (1 : Nat) (Option.none : Option Jvm.ClassFile.FieldType)) ∈ lw_all := lw_g (lw_at lw_m12 205 rfl) rfl
theorem q3022 : (Jvm.Cond.classLink "CountyGazetteer" (1 : Nat) "java/lang/IndexOutOfBoundsException") ∈ lw_all := lw_g (lw_at lw_m12 206 rfl) rfl
theorem q3023 : (Jvm.Cond.methodLink "CountyGazetteer" (3 : Nat) ({ cls := "java/lang/IndexOutOfBoundsException", name := "<init>", desc := "()V" } : Jvm.MethodName)) ∈ lw_all := lw_g (lw_at lw_m12 207 rfl) rfl
theorem q3027 : (Jvm.Cond.methodLink "CountyGazetteer" (284 : Nat) ({ cls := "CountyGazetteer", name := "ownerIn", desc := "(LCountyGazetteer$Village;I)I" } : Jvm.MethodName)) ∈ lw_all := lw_g (lw_at lw_m12 211 rfl) rfl
theorem q3028 : (Jvm.Cond.privateMethod ({ cls := "CountyGazetteer", name := "ownerIn", desc := "(LCountyGazetteer$Village;I)I" } : Jvm.MethodName)) ∈ lw_tbl := lw_at lw_m12 212 rfl
theorem q3029 : (Jvm.Cond.instanceMethod ({ cls := "CountyGazetteer", name := "ownerIn", desc := "(LCountyGazetteer$Village;I)I" } : Jvm.MethodName)) ∈ lw_all := lw_g (lw_at lw_m12 213 rfl) rfl
theorem q3030 : (Jvm.Cond.code ({ cls := "CountyGazetteer", name := "ownerIn", desc := "(LCountyGazetteer$Village;I)I" } : Jvm.MethodName) prog_1_method_18_code (4 : Nat) (Option.some Jvm.ClassFile.FieldType.int)) ∈ lw_all := lw_g (lw_at lw_m12 214 rfl) rfl
theorem q3031 : (Jvm.Cond.methodLink "CountyGazetteer" (295 : Nat) ({ cls := "java/util/TreeSet", name := "size", desc := "()I" } : Jvm.MethodName)) ∈ lw_all := lw_g (lw_at lw_m12 215 rfl) rfl
theorem q3032 : (Jvm.Cond.methodLink "CountyGazetteer" (298 : Nat) ({ cls := "CountyGazetteer", name := "pageOf", desc := "(I)I" } : Jvm.MethodName)) ∈ lw_all := lw_g (lw_at lw_m12 216 rfl) rfl
theorem q3033 : (Jvm.Cond.privateMethod ({ cls := "CountyGazetteer", name := "pageOf", desc := "(I)I" } : Jvm.MethodName)) ∈ lw_tbl := lw_at lw_m12 217 rfl
theorem q3034 : (Jvm.Cond.instanceMethod ({ cls := "CountyGazetteer", name := "pageOf", desc := "(I)I" } : Jvm.MethodName)) ∈ lw_all := lw_g (lw_at lw_m12 218 rfl) rfl
theorem q3035 : (Jvm.Cond.code ({ cls := "CountyGazetteer", name := "pageOf", desc := "(I)I" } : Jvm.MethodName) prog_1_method_23_code (3 : Nat) (Option.some Jvm.ClassFile.FieldType.int)) ∈ lw_all := lw_g (lw_at lw_m12 219 rfl) rfl
theorem q3036 : (Jvm.Cond.methodLink "CountyGazetteer" (265 : Nat) ({ cls := "CountyGazetteer$Edition", name := "nameOf", desc := "(I)LCountyGazetteer$Entry;" } : Jvm.MethodName)) ∈ lw_all := lw_g (lw_at lw_m12 220 rfl) rfl
theorem q3044 : (Jvm.Cond.instanceMethod ({ cls := "CountyGazetteer", name := "county", desc := "(II)I" } : Jvm.MethodName)) ∈ lw_all := lw_g (lw_at lw_m12 228 rfl) rfl
theorem q3045 : (Jvm.Cond.selects "CountyGazetteer" ({ cls := "CountyGazetteer", name := "county", desc := "(II)I" } : Jvm.MethodName) ({ cls := "CountyGazetteer", name := "county", desc := "(II)I" } : Jvm.MethodName)) ∈ lw_all := lw_g (lw_at lw_m12 229 rfl) rfl
theorem q3046 : (Jvm.Cond.code ({ cls := "CountyGazetteer", name := "county", desc := "(II)I" } : Jvm.MethodName) prog_1_method_26_code (5 : Nat) (Option.some Jvm.ClassFile.FieldType.int)) ∈ lw_all := lw_g (lw_at lw_m12 230 rfl) rfl
theorem q3047 : (Jvm.Cond.methodLink "CountyGazetteer" (318 : Nat) ({ cls := "CountyGazetteer", name := "countyAt", desc := "(I)LCountyGazetteer$County;" } : Jvm.MethodName)) ∈ lw_all := lw_g (lw_at lw_m12 231 rfl) rfl
theorem q3048 : (Jvm.Cond.privateMethod ({ cls := "CountyGazetteer", name := "countyAt", desc := "(I)LCountyGazetteer$County;" } : Jvm.MethodName)) ∈ lw_tbl := lw_at lw_m12 232 rfl
theorem q3049 : (Jvm.Cond.instanceMethod ({ cls := "CountyGazetteer", name := "countyAt", desc := "(I)LCountyGazetteer$County;" } : Jvm.MethodName)) ∈ lw_all := lw_g (lw_at lw_m12 233 rfl) rfl
theorem q3050 : (Jvm.Cond.code ({ cls := "CountyGazetteer", name := "countyAt", desc := "(I)LCountyGazetteer$County;" } : Jvm.MethodName) prog_1_method_20_code (2 : Nat) (Option.some (Jvm.ClassFile.FieldType.object "CountyGazetteer$County"))) ∈ lw_all := lw_g (lw_at lw_m12 234 rfl) rfl
theorem q3051 : (Jvm.Cond.constantLong "CountyGazetteer" (322 : Nat) (6 : Int64)) ∈ lw_all := lw_g (lw_at lw_m12 235 rfl) rfl
theorem q3052 : (Jvm.Cond.methodLink "CountyGazetteer" (24 : Nat) ({ cls := "CountyGazetteer", name := "checkArgument", desc := "(Z)V" } : Jvm.MethodName)) ∈ lw_all := lw_g (lw_at lw_m12 236 rfl) rfl
theorem q3053 : (Jvm.Cond.static ({ cls := "CountyGazetteer", name := "checkArgument", desc := "(Z)V" } : Jvm.MethodName)) ∈ lw_all := lw_g (lw_at lw_m12 237 rfl) rfl
theorem q3054 : (Jvm.Cond.code ({ cls := "CountyGazetteer", name := "checkArgument", desc := "(Z)V" } : Jvm.MethodName) prog_1_method_3_code (1 : Nat) (Option.none : Option Jvm.ClassFile.FieldType)) ∈ lw_all := lw_g (lw_at lw_m12 238 rfl) rfl
theorem q3055 : (Jvm.Cond.methodLink "CountyGazetteer" (324 : Nat) ({ cls := "CountyGazetteer$Edition", name := "blockOf", desc := "(I)LCountyGazetteer$Block;" } : Jvm.MethodName)) ∈ lw_all := lw_g (lw_at lw_m12 239 rfl) rfl
theorem q3059 : (Jvm.Cond.methodLink "CountyGazetteer" (328 : Nat) ({ cls := "CountyGazetteer$Board", name := "count", desc := "(I)I" } : Jvm.MethodName)) ∈ lw_all := lw_g (lw_at lw_m13 3 rfl) rfl
theorem q3063 : (Jvm.Cond.methodLink "CountyGazetteer" (337 : Nat) ({ cls := "java/util/TreeSet", name := "first", desc := "()Ljava/lang/Object;" } : Jvm.MethodName)) ∈ lw_all := lw_g (lw_at lw_m13 7 rfl) rfl
theorem q3080 : (Jvm.Cond.classLink "CountyGazetteer" (270 : Nat) "CountyGazetteer$Entry") ∈ lw_all := lw_g (lw_at lw_m13 24 rfl) rfl
theorem q3081 : (Jvm.Cond.methodLink "CountyGazetteer" (340 : Nat) ({ cls := "CountyGazetteer", name := "pagesOf", desc := "(LCountyGazetteer$Block;)I" } : Jvm.MethodName)) ∈ lw_all := lw_g (lw_at lw_m13 25 rfl) rfl
theorem q3082 : (Jvm.Cond.static ({ cls := "CountyGazetteer", name := "pagesOf", desc := "(LCountyGazetteer$Block;)I" } : Jvm.MethodName)) ∈ lw_all := lw_g (lw_at lw_m13 26 rfl) rfl
theorem q3083 : (Jvm.Cond.code ({ cls := "CountyGazetteer", name := "pagesOf", desc := "(LCountyGazetteer$Block;)I" } : Jvm.MethodName) prog_1_method_25_code (4 : Nat) (Option.some Jvm.ClassFile.FieldType.int)) ∈ lw_all := lw_g (lw_at lw_m13 27 rfl) rfl
theorem q3084 : (Jvm.Cond.classLink "CountyGazetteer" (301 : Nat) "java/util/BitSet") ∈ lw_all := lw_g (lw_at lw_m13 28 rfl) rfl
theorem q3085 : (Jvm.Cond.methodLink "CountyGazetteer" (303 : Nat) ({ cls := "java/util/BitSet", name := "<init>", desc := "()V" } : Jvm.MethodName)) ∈ lw_all := lw_g (lw_at lw_m13 29 rfl) rfl
theorem q3086 : (Jvm.Cond.methodLink "CountyGazetteer" (310 : Nat) ({ cls := "java/util/TreeSet", name := "iterator", desc := "()Ljava/util/Iterator;" } : Jvm.MethodName)) ∈ lw_all := lw_g (lw_at lw_m13 30 rfl) rfl
theorem q3087 : (Jvm.Cond.methodLink "CountyGazetteer" (311 : Nat) ({ cls := "java/util/BitSet", name := "set", desc := "(I)V" } : Jvm.MethodName)) ∈ lw_all := lw_g (lw_at lw_m13 31 rfl) rfl
theorem q3088 : (Jvm.Cond.methodLink "CountyGazetteer" (315 : Nat) ({ cls := "java/util/BitSet", name := "cardinality", desc := "()I" } : Jvm.MethodName)) ∈ lw_all := lw_g (lw_at lw_m13 32 rfl) rfl
theorem q3098 : (Jvm.Cond.methodLink "CountyGazetteer" (344 : Nat) ({ cls := "CountyGazetteer$Board", name := "parts", desc := "(I)I" } : Jvm.MethodName)) ∈ lw_all := lw_g (lw_at lw_m13 42 rfl) rfl
theorem q3133 : (Jvm.Cond.methodLink "CountyGazetteer" (347 : Nat) ({ cls := "CountyGazetteer$Board", name := "neighbours", desc := "(I)I" } : Jvm.MethodName)) ∈ lw_all := lw_g (lw_at lw_m13 77 rfl) rfl
theorem q3142 : (Jvm.Cond.instanceMethod ({ cls := "CountyGazetteer", name := "reform", desc := "(II)I" } : Jvm.MethodName)) ∈ lw_all := lw_g (lw_at lw_m13 86 rfl) rfl
theorem q3143 : (Jvm.Cond.selects "CountyGazetteer" ({ cls := "CountyGazetteer", name := "reform", desc := "(II)I" } : Jvm.MethodName) ({ cls := "CountyGazetteer", name := "reform", desc := "(II)I" } : Jvm.MethodName)) ∈ lw_all := lw_g (lw_at lw_m13 87 rfl) rfl
theorem q3144 : (Jvm.Cond.code ({ cls := "CountyGazetteer", name := "reform", desc := "(II)I" } : Jvm.MethodName) prog_1_method_28_code (4 : Nat) (Option.some Jvm.ClassFile.FieldType.int)) ∈ lw_all := lw_g (lw_at lw_m13 88 rfl) rfl
theorem q3145 : (Jvm.Cond.constantLong "CountyGazetteer" (356 : Nat) (4 : Int64)) ∈ lw_all := lw_g (lw_at lw_m13 89 rfl) rfl
theorem q3146 : (Jvm.Cond.interfaceEntry "CountyGazetteer" (350 : Nat)) ∈ lw_tbl := lw_at lw_m13 90 rfl
theorem q3147 : (Jvm.Cond.methodLink "CountyGazetteer" (350 : Nat) ({ cls := "CountyGazetteer$Reform", name := "year", desc := "()I" } : Jvm.MethodName)) ∈ lw_all := lw_g (lw_at lw_m13 91 rfl) rfl
theorem q3148 : (Jvm.Cond.interfaceEntry "CountyGazetteer" (358 : Nat)) ∈ lw_tbl := lw_at lw_m13 92 rfl
theorem q3149 : (Jvm.Cond.methodLink "CountyGazetteer" (358 : Nat) ({ cls := "CountyGazetteer$Reform", name := "loses", desc := "()I" } : Jvm.MethodName)) ∈ lw_all := lw_g (lw_at lw_m13 93 rfl) rfl
theorem q3161 : (Jvm.Cond.interfaceEntry "CountyGazetteer" (361 : Nat)) ∈ lw_tbl := lw_at lw_m13 105 rfl
theorem q3162 : (Jvm.Cond.methodLink "CountyGazetteer" (361 : Nat) ({ cls := "CountyGazetteer$Reform", name := "gets", desc := "()I" } : Jvm.MethodName)) ∈ lw_all := lw_g (lw_at lw_m13 106 rfl) rfl
theorem q3175 : (Jvm.Cond.methodLink "CountyGazetteer" (364 : Nat) ({ cls := "CountyGazetteer", name := "changedBy", desc := "(LCountyGazetteer$Reform;)I" } : Jvm.MethodName)) ∈ lw_all := lw_g (lw_at lw_m13 119 rfl) rfl
theorem q3176 : (Jvm.Cond.privateMethod ({ cls := "CountyGazetteer", name := "changedBy", desc := "(LCountyGazetteer$Reform;)I" } : Jvm.MethodName)) ∈ lw_tbl := lw_at lw_m13 120 rfl
theorem q3177 : (Jvm.Cond.instanceMethod ({ cls := "CountyGazetteer", name := "changedBy", desc := "(LCountyGazetteer$Reform;)I" } : Jvm.MethodName)) ∈ lw_all := lw_g (lw_at lw_m13 121 rfl) rfl
theorem q3178 : (Jvm.Cond.code ({ cls := "CountyGazetteer", name := "changedBy", desc := "(LCountyGazetteer$Reform;)I" } : Jvm.MethodName) prog_1_method_27_code (7 : Nat) (Option.some Jvm.ClassFile.FieldType.int)) ∈ lw_all := lw_g (lw_at lw_m13 122 rfl) rfl
theorem q3179 : (Jvm.Cond.methodLink "CountyGazetteer" (352 : Nat) ({ cls := "java/lang/Integer", name := "valueOf", desc := "(I)Ljava/lang/Integer;" } : Jvm.MethodName)) ∈ lw_all := lw_g (lw_at lw_m13 123 rfl) rfl
theorem q3184 : (Jvm.Cond.instanceMethod ({ cls := "CountyGazetteer", name := "ownerOf", desc := "(III)I" } : Jvm.MethodName)) ∈ lw_all := lw_g (lw_at lw_m13 128 rfl) rfl
theorem q3185 : (Jvm.Cond.selects "CountyGazetteer" ({ cls := "CountyGazetteer", name := "ownerOf", desc := "(III)I" } : Jvm.MethodName) ({ cls := "CountyGazetteer", name := "ownerOf", desc := "(III)I" } : Jvm.MethodName)) ∈ lw_all := lw_g (lw_at lw_m13 129 rfl) rfl
theorem q3186 : (Jvm.Cond.code ({ cls := "CountyGazetteer", name := "ownerOf", desc := "(III)I" } : Jvm.MethodName) prog_1_method_29_code (5 : Nat) (Option.some Jvm.ClassFile.FieldType.int)) ∈ lw_all := lw_g (lw_at lw_m13 130 rfl) rfl
theorem q3187 : (Jvm.Cond.constantLong "CountyGazetteer" (18 : Nat) (999 : Int64)) ∈ lw_all := lw_g (lw_at lw_m13 131 rfl) rfl
theorem q3192 : (Jvm.Cond.instanceMethod ({ cls := "CountyGazetteer", name := "countyIn", desc := "(II)I" } : Jvm.MethodName)) ∈ lw_all := lw_g (lw_at lw_m13 136 rfl) rfl
theorem q3193 : (Jvm.Cond.selects "CountyGazetteer" ({ cls := "CountyGazetteer", name := "countyIn", desc := "(II)I" } : Jvm.MethodName) ({ cls := "CountyGazetteer", name := "countyIn", desc := "(II)I" } : Jvm.MethodName)) ∈ lw_all := lw_g (lw_at lw_m13 137 rfl) rfl
theorem q3194 : (Jvm.Cond.code ({ cls := "CountyGazetteer", name := "countyIn", desc := "(II)I" } : Jvm.MethodName) prog_1_method_30_code (4 : Nat) (Option.some Jvm.ClassFile.FieldType.int)) ∈ lw_all := lw_g (lw_at lw_m13 138 rfl) rfl
theorem q3195 : (Jvm.Cond.methodLink "CountyGazetteer" (368 : Nat) ({ cls := "CountyGazetteer", name := "checkYear", desc := "(I)V" } : Jvm.MethodName)) ∈ lw_all := lw_g (lw_at lw_m13 139 rfl) rfl
theorem q3196 : (Jvm.Cond.static ({ cls := "CountyGazetteer", name := "checkYear", desc := "(I)V" } : Jvm.MethodName)) ∈ lw_all := lw_g (lw_at lw_m13 140 rfl) rfl
theorem q3197 : (Jvm.Cond.code ({ cls := "CountyGazetteer", name := "checkYear", desc := "(I)V" } : Jvm.MethodName) prog_1_method_6_code (1 : Nat) (Option.none : Option Jvm.ClassFile.FieldType)) ∈ lw_all := lw_g (lw_at lw_m13 141 rfl) rfl
theorem q3202 : (Jvm.Cond.instanceMethod ({ cls := "CountyGazetteer", name := "nameLength", desc := "(II)I" } : Jvm.MethodName)) ∈ lw_all := lw_g (lw_at lw_m13 146 rfl) rfl
theorem q3203 : (Jvm.Cond.selects "CountyGazetteer" ({ cls := "CountyGazetteer", name := "nameLength", desc := "(II)I" } : Jvm.MethodName) ({ cls := "CountyGazetteer", name := "nameLength", desc := "(II)I" } : Jvm.MethodName)) ∈ lw_all := lw_g (lw_at lw_m13 147 rfl) rfl
theorem q3204 : (Jvm.Cond.code ({ cls := "CountyGazetteer", name := "nameLength", desc := "(II)I" } : Jvm.MethodName) prog_1_method_31_code (4 : Nat) (Option.some Jvm.ClassFile.FieldType.int)) ∈ lw_all := lw_g (lw_at lw_m13 148 rfl) rfl
theorem q3205 : (Jvm.Cond.methodLink "CountyGazetteer" (375 : Nat) ({ cls := "java/lang/String", name := "length", desc := "()I" } : Jvm.MethodName)) ∈ lw_all := lw_g (lw_at lw_m13 149 rfl) rfl
theorem q3210 : (Jvm.Cond.instanceMethod ({ cls := "CountyGazetteer", name := "nameLetter", desc := "(III)I" } : Jvm.MethodName)) ∈ lw_all := lw_g (lw_at lw_m13 154 rfl) rfl
theorem q3211 : (Jvm.Cond.selects "CountyGazetteer" ({ cls := "CountyGazetteer", name := "nameLetter", desc := "(III)I" } : Jvm.MethodName) ({ cls := "CountyGazetteer", name := "nameLetter", desc := "(III)I" } : Jvm.MethodName)) ∈ lw_all := lw_g (lw_at lw_m13 155 rfl) rfl
theorem q3212 : (Jvm.Cond.code ({ cls := "CountyGazetteer", name := "nameLetter", desc := "(III)I" } : Jvm.MethodName) prog_1_method_33_code (5 : Nat) (Option.some Jvm.ClassFile.FieldType.int)) ∈ lw_all := lw_g (lw_at lw_m13 156 rfl) rfl
theorem q3213 : (Jvm.Cond.methodLink "CountyGazetteer" (384 : Nat) ({ cls := "CountyGazetteer", name := "letter", desc := "(Ljava/lang/String;I)I" } : Jvm.MethodName)) ∈ lw_all := lw_g (lw_at lw_m13 157 rfl) rfl
theorem q3214 : (Jvm.Cond.static ({ cls := "CountyGazetteer", name := "letter", desc := "(Ljava/lang/String;I)I" } : Jvm.MethodName)) ∈ lw_all := lw_g (lw_at lw_m13 158 rfl) rfl
theorem q3215 : (Jvm.Cond.code ({ cls := "CountyGazetteer", name := "letter", desc := "(Ljava/lang/String;I)I" } : Jvm.MethodName) prog_1_method_32_code (2 : Nat) (Option.some Jvm.ClassFile.FieldType.int)) ∈ lw_all := lw_g (lw_at lw_m13 159 rfl) rfl
theorem q3216 : (Jvm.Cond.methodLink "CountyGazetteer" (380 : Nat) ({ cls := "java/lang/String", name := "charAt", desc := "(I)C" } : Jvm.MethodName)) ∈ lw_all := lw_g (lw_at lw_m13 160 rfl) rfl
theorem q3221 : (Jvm.Cond.instanceMethod ({ cls := "CountyGazetteer", name := "movesOf", desc := "(I)I" } : Jvm.MethodName)) ∈ lw_all := lw_g (lw_at lw_m13 165 rfl) rfl
theorem q3222 : (Jvm.Cond.selects "CountyGazetteer" ({ cls := "CountyGazetteer", name := "movesOf", desc := "(I)I" } : Jvm.MethodName) ({ cls := "CountyGazetteer", name := "movesOf", desc := "(I)I" } : Jvm.MethodName)) ∈ lw_all := lw_g (lw_at lw_m13 166 rfl) rfl
theorem q3223 : (Jvm.Cond.code ({ cls := "CountyGazetteer", name := "movesOf", desc := "(I)I" } : Jvm.MethodName) prog_1_method_36_code (2 : Nat) (Option.some Jvm.ClassFile.FieldType.int)) ∈ lw_all := lw_g (lw_at lw_m13 167 rfl) rfl
theorem q3224 : (Jvm.Cond.methodLink "CountyGazetteer" (397 : Nat) ({ cls := "CountyGazetteer", name := "movesOf", desc := "(LCountyGazetteer$Village;)Ljava/util/TreeSet;" } : Jvm.MethodName)) ∈ lw_all := lw_g (lw_at lw_m13 168 rfl) rfl
theorem q3225 : (Jvm.Cond.privateMethod ({ cls := "CountyGazetteer", name := "movesOf", desc := "(LCountyGazetteer$Village;)Ljava/util/TreeSet;" } : Jvm.MethodName)) ∈ lw_tbl := lw_at lw_m13 169 rfl
theorem q3226 : (Jvm.Cond.instanceMethod ({ cls := "CountyGazetteer", name := "movesOf", desc := "(LCountyGazetteer$Village;)Ljava/util/TreeSet;" } : Jvm.MethodName)) ∈ lw_all := lw_g (lw_at lw_m13 170 rfl) rfl
theorem q3227 : (Jvm.Cond.code ({ cls := "CountyGazetteer", name := "movesOf", desc := "(LCountyGazetteer$Village;)Ljava/util/TreeSet;" } : Jvm.MethodName) prog_1_method_35_code (7 : Nat) (Option.some (Jvm.ClassFile.FieldType.object "java/util/TreeSet"))) ∈ lw_all := lw_g (lw_at lw_m13 171 rfl) rfl
theorem q3228 : (Jvm.Cond.classLink "CountyGazetteer" (296 : Nat) "java/util/TreeSet") ∈ lw_all := lw_g (lw_at lw_m13 172 rfl) rfl
theorem q3229 : (Jvm.Cond.methodLink "CountyGazetteer" (388 : Nat) ({ cls := "java/util/TreeSet", name := "<init>", desc := "()V" } : Jvm.MethodName)) ∈ lw_all := lw_g (lw_at lw_m13 173 rfl) rfl
theorem q3230 : (Jvm.Cond.methodLink "CountyGazetteer" (390 : Nat) ({ cls := "java/lang/Math", name := "min", desc := "(II)I" } : Jvm.MethodName)) ∈ lw_all := lw_g (lw_at lw_m13 174 rfl) rfl
theorem q3231 : (Jvm.Cond.methodLink "CountyGazetteer" (393 : Nat) ({ cls := "CountyGazetteer", name := "changesOf", desc := "(LCountyGazetteer$Village;)Ljava/util/TreeSet;" } : Jvm.MethodName)) ∈ lw_all := lw_g (lw_at lw_m13 175 rfl) rfl
theorem q3232 : (Jvm.Cond.privateMethod ({ cls := "CountyGazetteer", name := "changesOf", desc := "(LCountyGazetteer$Village;)Ljava/util/TreeSet;" } : Jvm.MethodName)) ∈ lw_tbl := lw_at lw_m13 176 rfl
theorem q3233 : (Jvm.Cond.instanceMethod ({ cls := "CountyGazetteer", name := "changesOf", desc := "(LCountyGazetteer$Village;)Ljava/util/TreeSet;" } : Jvm.MethodName)) ∈ lw_all := lw_g (lw_at lw_m13 177 rfl) rfl
theorem q3234 : (Jvm.Cond.code ({ cls := "CountyGazetteer", name := "changesOf", desc := "(LCountyGazetteer$Village;)Ljava/util/TreeSet;" } : Jvm.MethodName) prog_1_method_34_code (11 : Nat) (Option.some (Jvm.ClassFile.FieldType.object "java/util/TreeSet"))) ∈ lw_all := lw_g (lw_at lw_m13 178 rfl) rfl
theorem q3235 : (Jvm.Cond.methodLink "CountyGazetteer" (389 : Nat) ({ cls := "java/util/TreeSet", name := "add", desc := "(Ljava/lang/Object;)Z" } : Jvm.MethodName)) ∈ lw_all := lw_g (lw_at lw_m13 179 rfl) rfl
theorem q3240 : (Jvm.Cond.instanceMethod ({ cls := "CountyGazetteer", name := "lastMove", desc := "(I)I" } : Jvm.MethodName)) ∈ lw_all := lw_g (lw_at lw_m13 184 rfl) rfl
theorem q3241 : (Jvm.Cond.selects "CountyGazetteer" ({ cls := "CountyGazetteer", name := "lastMove", desc := "(I)I" } : Jvm.MethodName) ({ cls := "CountyGazetteer", name := "lastMove", desc := "(I)I" } : Jvm.MethodName)) ∈ lw_all := lw_g (lw_at lw_m13 185 rfl) rfl
theorem q3242 : (Jvm.Cond.code ({ cls := "CountyGazetteer", name := "lastMove", desc := "(I)I" } : Jvm.MethodName) prog_1_method_37_code (3 : Nat) (Option.some Jvm.ClassFile.FieldType.int)) ∈ lw_all := lw_g (lw_at lw_m13 186 rfl) rfl
theorem q3243 : (Jvm.Cond.methodLink "CountyGazetteer" (400 : Nat) ({ cls := "java/util/TreeSet", name := "isEmpty", desc := "()Z" } : Jvm.MethodName)) ∈ lw_all := lw_g (lw_at lw_m13 187 rfl) rfl
theorem q3244 : (Jvm.Cond.methodLink "CountyGazetteer" (403 : Nat) ({ cls := "java/util/TreeSet", name := "last", desc := "()Ljava/lang/Object;" } : Jvm.MethodName)) ∈ lw_all := lw_g (lw_at lw_m13 188 rfl) rfl
theorem q3264 : (Jvm.Cond.instanceMethod ({ cls := "CountyGazetteer", name := "villagesIn", desc := "(II)I" } : Jvm.MethodName)) ∈ lw_all := lw_g (lw_at lw_m13 208 rfl) rfl
theorem q3265 : (Jvm.Cond.selects "CountyGazetteer" ({ cls := "CountyGazetteer", name := "villagesIn", desc := "(II)I" } : Jvm.MethodName) ({ cls := "CountyGazetteer", name := "villagesIn", desc := "(II)I" } : Jvm.MethodName)) ∈ lw_all := lw_g (lw_at lw_m13 209 rfl) rfl
theorem q3266 : (Jvm.Cond.code ({ cls := "CountyGazetteer", name := "villagesIn", desc := "(II)I" } : Jvm.MethodName) prog_1_method_41_code (4 : Nat) (Option.some Jvm.ClassFile.FieldType.int)) ∈ lw_all := lw_g (lw_at lw_m13 210 rfl) rfl
theorem q3271 : (Jvm.Cond.instanceMethod ({ cls := "CountyGazetteer", name := "movedBetween", desc := "(II)I" } : Jvm.MethodName)) ∈ lw_all := lw_g (lw_at lw_m13 215 rfl) rfl
theorem q3272 : (Jvm.Cond.selects "CountyGazetteer" ({ cls := "CountyGazetteer", name := "movedBetween", desc := "(II)I" } : Jvm.MethodName) ({ cls := "CountyGazetteer", name := "movedBetween", desc := "(II)I" } : Jvm.MethodName)) ∈ lw_all := lw_g (lw_at lw_m13 216 rfl) rfl
theorem q3273 : (Jvm.Cond.code ({ cls := "CountyGazetteer", name := "movedBetween", desc := "(II)I" } : Jvm.MethodName) prog_1_method_42_code (5 : Nat) (Option.some Jvm.ClassFile.FieldType.int)) ∈ lw_all := lw_g (lw_at lw_m13 217 rfl) rfl
theorem q3274 : (Jvm.Cond.privateMethod ({ cls := "CountyGazetteer", name := "lambda$movedBetween$1", desc := "(IILCountyGazetteer$Board;LCountyGazetteer$Board;LCountyGazetteer$Village;)Z" } : Jvm.MethodName)) ∈ lw_tbl := lw_at lw_m13 218 rfl
theorem q3275 : (Jvm.Cond.instanceMethod ({ cls := "CountyGazetteer", name := "lambda$movedBetween$1", desc := "(IILCountyGazetteer$Board;LCountyGazetteer$Board;LCountyGazetteer$Village;)Z" } : Jvm.MethodName)) ∈ lw_all := lw_g (lw_at lw_m13 219 rfl) rfl
theorem q3276 : (Jvm.Cond.code ({ cls := "CountyGazetteer", name := "lambda$movedBetween$1", desc := "(IILCountyGazetteer$Board;LCountyGazetteer$Board;LCountyGazetteer$Village;)Z" } : Jvm.MethodName) prog_1_method_88_code (6 : Nat) (Option.some Jvm.ClassFile.FieldType.boolean)) ∈ lw_all := lw_g (lw_at lw_m13 220 rfl) rfl
theorem q3281 : (Jvm.Cond.instanceMethod ({ cls := "CountyGazetteer", name := "nextMove", desc := "(I)I" } : Jvm.MethodName)) ∈ lw_all := lw_g (lw_at lw_m13 225 rfl) rfl
theorem q3282 : (Jvm.Cond.selects "CountyGazetteer" ({ cls := "CountyGazetteer", name := "nextMove", desc := "(I)I" } : Jvm.MethodName) ({ cls := "CountyGazetteer", name := "nextMove", desc := "(I)I" } : Jvm.MethodName)) ∈ lw_all := lw_g (lw_at lw_m13 226 rfl) rfl
theorem q3283 : (Jvm.Cond.code ({ cls := "CountyGazetteer", name := "nextMove", desc := "(I)I" } : Jvm.MethodName) prog_1_method_38_code (3 : Nat) (Option.some Jvm.ClassFile.FieldType.int)) ∈ lw_all := lw_g (lw_at lw_m13 227 rfl) rfl
theorem q3284 : (Jvm.Cond.methodLink "CountyGazetteer" (406 : Nat) ({ cls := "java/util/TreeSet", name := "higher", desc := "(Ljava/lang/Object;)Ljava/lang/Object;" } : Jvm.MethodName)) ∈ lw_all := lw_g (lw_at lw_m13 228 rfl) rfl
theorem q3299 : (Jvm.Cond.instanceMethod ({ cls := "CountyGazetteer", name := "entry", desc := "(III)I" } : Jvm.MethodName)) ∈ lw_all := lw_g (lw_at lw_m14 3 rfl) rfl
theorem q3300 : (Jvm.Cond.selects "CountyGazetteer" ({ cls := "CountyGazetteer", name := "entry", desc := "(III)I" } : Jvm.MethodName) ({ cls := "CountyGazetteer", name := "entry", desc := "(III)I" } : Jvm.MethodName)) ∈ lw_all := lw_g (lw_at lw_m14 4 rfl) rfl
theorem q3301 : (Jvm.Cond.code ({ cls := "CountyGazetteer", name := "entry", desc := "(III)I" } : Jvm.MethodName) prog_1_method_48_code (5 : Nat) (Option.some Jvm.ClassFile.FieldType.int)) ∈ lw_all := lw_g (lw_at lw_m14 5 rfl) rfl
theorem q3302 : (Jvm.Cond.methodLink "CountyGazetteer" (446 : Nat) ({ cls := "CountyGazetteer", name := "entryAt", desc := "(II)LCountyGazetteer$Entry;" } : Jvm.MethodName)) ∈ lw_all := lw_g (lw_at lw_m14 6 rfl) rfl
theorem q3303 : (Jvm.Cond.privateMethod ({ cls := "CountyGazetteer", name := "entryAt", desc := "(II)LCountyGazetteer$Entry;" } : Jvm.MethodName)) ∈ lw_tbl := lw_at lw_m14 7 rfl
theorem q3304 : (Jvm.Cond.instanceMethod ({ cls := "CountyGazetteer", name := "entryAt", desc := "(II)LCountyGazetteer$Entry;" } : Jvm.MethodName)) ∈ lw_all := lw_g (lw_at lw_m14 8 rfl) rfl
theorem q3305 : (Jvm.Cond.code ({ cls := "CountyGazetteer", name := "entryAt", desc := "(II)LCountyGazetteer$Entry;" } : Jvm.MethodName) prog_1_method_47_code (8 : Nat) (Option.some (Jvm.ClassFile.FieldType.object "CountyGazetteer$Entry"))) ∈ lw_all := lw_g (lw_at lw_m14 9 rfl) rfl
theorem q3310 : (Jvm.Cond.instanceMethod ({ cls := "CountyGazetteer", name := "entryLetter", desc := "(III)I" } : Jvm.MethodName)) ∈ lw_all := lw_g (lw_at lw_m14 14 rfl) rfl
theorem q3311 : (Jvm.Cond.selects "CountyGazetteer" ({ cls := "CountyGazetteer", name := "entryLetter", desc := "(III)I" } : Jvm.MethodName) ({ cls := "CountyGazetteer", name := "entryLetter", desc := "(III)I" } : Jvm.MethodName)) ∈ lw_all := lw_g (lw_at lw_m14 15 rfl) rfl
theorem q3312 : (Jvm.Cond.code ({ cls := "CountyGazetteer", name := "entryLetter", desc := "(III)I" } : Jvm.MethodName) prog_1_method_49_code (4 : Nat) (Option.some Jvm.ClassFile.FieldType.int)) ∈ lw_all := lw_g (lw_at lw_m14 16 rfl) rfl
theorem q3317 : (Jvm.Cond.instanceMethod ({ cls := "CountyGazetteer", name := "block", desc := "(I)I" } : Jvm.MethodName)) ∈ lw_all := lw_g (lw_at lw_m14 21 rfl) rfl
theorem q3318 : (Jvm.Cond.selects "CountyGazetteer" ({ cls := "CountyGazetteer", name := "block", desc := "(I)I" } : Jvm.MethodName) ({ cls := "CountyGazetteer", name := "block", desc := "(I)I" } : Jvm.MethodName)) ∈ lw_all := lw_g (lw_at lw_m14 22 rfl) rfl
theorem q3319 : (Jvm.Cond.code ({ cls := "CountyGazetteer", name := "block", desc := "(I)I" } : Jvm.MethodName) prog_1_method_50_code (3 : Nat) (Option.some Jvm.ClassFile.FieldType.int)) ∈ lw_all := lw_g (lw_at lw_m14 23 rfl) rfl
theorem q3324 : (Jvm.Cond.instanceMethod ({ cls := "CountyGazetteer", name := "used", desc := "(I)I" } : Jvm.MethodName)) ∈ lw_all := lw_g (lw_at lw_m14 28 rfl) rfl
theorem q3325 : (Jvm.Cond.selects "CountyGazetteer" ({ cls := "CountyGazetteer", name := "used", desc := "(I)I" } : Jvm.MethodName) ({ cls := "CountyGazetteer", name := "used", desc := "(I)I" } : Jvm.MethodName)) ∈ lw_all := lw_g (lw_at lw_m14 29 rfl) rfl
theorem q3326 : (Jvm.Cond.code ({ cls := "CountyGazetteer", name := "used", desc := "(I)I" } : Jvm.MethodName) prog_1_method_52_code (2 : Nat) (Option.some Jvm.ClassFile.FieldType.int)) ∈ lw_all := lw_g (lw_at lw_m14 30 rfl) rfl
theorem q3327 : (Jvm.Cond.methodLink "CountyGazetteer" (470 : Nat) ({ cls := "CountyGazetteer", name := "withPage", desc := "(I)LCountyGazetteer$Edition;" } : Jvm.MethodName)) ∈ lw_all := lw_g (lw_at lw_m14 31 rfl) rfl
theorem q3328 : (Jvm.Cond.privateMethod ({ cls := "CountyGazetteer", name := "withPage", desc := "(I)LCountyGazetteer$Edition;" } : Jvm.MethodName)) ∈ lw_tbl := lw_at lw_m14 32 rfl
theorem q3329 : (Jvm.Cond.instanceMethod ({ cls := "CountyGazetteer", name := "withPage", desc := "(I)LCountyGazetteer$Edition;" } : Jvm.MethodName)) ∈ lw_all := lw_g (lw_at lw_m14 33 rfl) rfl
theorem q3330 : (Jvm.Cond.code ({ cls := "CountyGazetteer", name := "withPage", desc := "(I)LCountyGazetteer$Edition;" } : Jvm.MethodName) prog_1_method_51_code (3 : Nat) (Option.some (Jvm.ClassFile.FieldType.object "CountyGazetteer$Edition"))) ∈ lw_all := lw_g (lw_at lw_m14 34 rfl) rfl
theorem q3331 : (Jvm.Cond.methodLink "CountyGazetteer" (474 : Nat) ({ cls := "CountyGazetteer$Edition", name := "usedOn", desc := "(I)I" } : Jvm.MethodName)) ∈ lw_all := lw_g (lw_at lw_m14 35 rfl) rfl
theorem q3340 : (Jvm.Cond.instanceMethod ({ cls := "CountyGazetteer", name := "line", desc := "(III)I" } : Jvm.MethodName)) ∈ lw_all := lw_g (lw_at lw_m14 44 rfl) rfl
theorem q3341 : (Jvm.Cond.selects "CountyGazetteer" ({ cls := "CountyGazetteer", name := "line", desc := "(III)I" } : Jvm.MethodName) ({ cls := "CountyGazetteer", name := "line", desc := "(III)I" } : Jvm.MethodName)) ∈ lw_all := lw_g (lw_at lw_m14 45 rfl) rfl
theorem q3342 : (Jvm.Cond.code ({ cls := "CountyGazetteer", name := "line", desc := "(III)I" } : Jvm.MethodName) prog_1_method_55_code (7 : Nat) (Option.some Jvm.ClassFile.FieldType.int)) ∈ lw_all := lw_g (lw_at lw_m14 46 rfl) rfl
theorem q3343 : (Jvm.Cond.constantLong "CountyGazetteer" (481 : Nat) (2 : Int64)) ∈ lw_all := lw_g (lw_at lw_m14 47 rfl) rfl
theorem q3344 : (Jvm.Cond.methodLink "CountyGazetteer" (477 : Nat) ({ cls := "CountyGazetteer$Edition", name := "at", desc := "(II)LCountyGazetteer$Entry;" } : Jvm.MethodName)) ∈ lw_all := lw_g (lw_at lw_m14 48 rfl) rfl
theorem q3348 : (Jvm.Cond.methodLink "CountyGazetteer" (483 : Nat) ({ cls := "CountyGazetteer", name := "headed", desc := "(LCountyGazetteer$Edition;II)LCountyGazetteer$Entry;" } : Jvm.MethodName)) ∈ lw_all := lw_g (lw_at lw_m14 52 rfl) rfl
theorem q3349 : (Jvm.Cond.static ({ cls := "CountyGazetteer", name := "headed", desc := "(LCountyGazetteer$Edition;II)LCountyGazetteer$Entry;" } : Jvm.MethodName)) ∈ lw_all := lw_g (lw_at lw_m14 53 rfl) rfl
theorem q3350 : (Jvm.Cond.code ({ cls := "CountyGazetteer", name := "headed", desc := "(LCountyGazetteer$Edition;II)LCountyGazetteer$Entry;" } : Jvm.MethodName) prog_1_method_53_code (3 : Nat) (Option.some (Jvm.ClassFile.FieldType.object "CountyGazetteer$Entry"))) ∈ lw_all := lw_g (lw_at lw_m14 54 rfl) rfl
theorem q3351 : (Jvm.Cond.methodLink "CountyGazetteer" (487 : Nat) ({ cls := "CountyGazetteer", name := "isFirst", desc := "(LCountyGazetteer$Edition;LCountyGazetteer$Entry;)Z" } : Jvm.MethodName)) ∈ lw_all := lw_g (lw_at lw_m14 55 rfl) rfl
theorem q3352 : (Jvm.Cond.static ({ cls := "CountyGazetteer", name := "isFirst", desc := "(LCountyGazetteer$Edition;LCountyGazetteer$Entry;)Z" } : Jvm.MethodName)) ∈ lw_all := lw_g (lw_at lw_m14 56 rfl) rfl
theorem q3353 : (Jvm.Cond.code ({ cls := "CountyGazetteer", name := "isFirst", desc := "(LCountyGazetteer$Edition;LCountyGazetteer$Entry;)Z" } : Jvm.MethodName) prog_1_method_54_code (2 : Nat) (Option.some Jvm.ClassFile.FieldType.boolean)) ∈ lw_all := lw_g (lw_at lw_m14 57 rfl) rfl
theorem q3358 : (Jvm.Cond.instanceMethod ({ cls := "CountyGazetteer", name := "linesFor", desc := "(I)I" } : Jvm.MethodName)) ∈ lw_all := lw_g (lw_at lw_m14 62 rfl) rfl
theorem q3359 : (Jvm.Cond.selects "CountyGazetteer" ({ cls := "CountyGazetteer", name := "linesFor", desc := "(I)I" } : Jvm.MethodName) ({ cls := "CountyGazetteer", name := "linesFor", desc := "(I)I" } : Jvm.MethodName)) ∈ lw_all := lw_g (lw_at lw_m14 63 rfl) rfl
theorem q3360 : (Jvm.Cond.code ({ cls := "CountyGazetteer", name := "linesFor", desc := "(I)I" } : Jvm.MethodName) prog_1_method_57_code (4 : Nat) (Option.some Jvm.ClassFile.FieldType.int)) ∈ lw_all := lw_g (lw_at lw_m14 64 rfl) rfl
theorem q3361 : (Jvm.Cond.constantLong "CountyGazetteer" (494 : Nat) (99 : Int64)) ∈ lw_all := lw_g (lw_at lw_m14 65 rfl) rfl
theorem q3362 : (Jvm.Cond.methodLink "CountyGazetteer" (496 : Nat) ({ cls := "CountyGazetteer$Edition", name := "lays", desc := "(IZ)I" } : Jvm.MethodName)) ∈ lw_all := lw_g (lw_at lw_m14 66 rfl) rfl
theorem q3367 : (Jvm.Cond.instanceMethod ({ cls := "CountyGazetteer", name := "volumes", desc := "(I)I" } : Jvm.MethodName)) ∈ lw_all := lw_g (lw_at lw_m14 71 rfl) rfl
theorem q3368 : (Jvm.Cond.selects "CountyGazetteer" ({ cls := "CountyGazetteer", name := "volumes", desc := "(I)I" } : Jvm.MethodName) ({ cls := "CountyGazetteer", name := "volumes", desc := "(I)I" } : Jvm.MethodName)) ∈ lw_all := lw_g (lw_at lw_m14 72 rfl) rfl
theorem q3369 : (Jvm.Cond.code ({ cls := "CountyGazetteer", name := "volumes", desc := "(I)I" } : Jvm.MethodName) prog_1_method_59_code (2 : Nat) (Option.some Jvm.ClassFile.FieldType.int)) ∈ lw_all := lw_g (lw_at lw_m14 73 rfl) rfl
theorem q3370 : (Jvm.Cond.methodLink "CountyGazetteer" (505 : Nat) ({ cls := "CountyGazetteer", name := "split", desc := "(I)LCountyGazetteer$Split;" } : Jvm.MethodName)) ∈ lw_all := lw_g (lw_at lw_m14 74 rfl) rfl
theorem q3371 : (Jvm.Cond.privateMethod ({ cls := "CountyGazetteer", name := "split", desc := "(I)LCountyGazetteer$Split;" } : Jvm.MethodName)) ∈ lw_tbl := lw_at lw_m14 75 rfl
theorem q3372 : (Jvm.Cond.instanceMethod ({ cls := "CountyGazetteer", name := "split", desc := "(I)LCountyGazetteer$Split;" } : Jvm.MethodName)) ∈ lw_all := lw_g (lw_at lw_m14 76 rfl) rfl
theorem q3373 : (Jvm.Cond.code ({ cls := "CountyGazetteer", name := "split", desc := "(I)LCountyGazetteer$Split;" } : Jvm.MethodName) prog_1_method_58_code (2 : Nat) (Option.some (Jvm.ClassFile.FieldType.object "CountyGazetteer$Split"))) ∈ lw_all := lw_g (lw_at lw_m14 77 rfl) rfl
theorem q3374 : (Jvm.Cond.classLink "CountyGazetteer" (500 : Nat) "CountyGazetteer$Split") ∈ lw_all := lw_g (lw_at lw_m14 78 rfl) rfl
theorem q3376 : (Jvm.Cond.methodLink "CountyGazetteer" (502 : Nat) ({ cls := "CountyGazetteer$Split", name := "<init>", desc := "([LCountyGazetteer$Block;II)V" } : Jvm.MethodName)) ∈ lw_all := lw_g (lw_at lw_m14 80 rfl) rfl
theorem q3408 : (Jvm.Cond.methodLink "CountyGazetteer" (509 : Nat) ({ cls := "CountyGazetteer$Split", name := "volumes", desc := "(I)I" } : Jvm.MethodName)) ∈ lw_all := lw_g (lw_at lw_m14 112 rfl) rfl
theorem q3416 : (Jvm.Cond.instanceMethod ({ cls := "CountyGazetteer", name := "volume", desc := "(III)I" } : Jvm.MethodName)) ∈ lw_all := lw_g (lw_at lw_m14 120 rfl) rfl
theorem q3417 : (Jvm.Cond.selects "CountyGazetteer" ({ cls := "CountyGazetteer", name := "volume", desc := "(III)I" } : Jvm.MethodName) ({ cls := "CountyGazetteer", name := "volume", desc := "(III)I" } : Jvm.MethodName)) ∈ lw_all := lw_g (lw_at lw_m14 121 rfl) rfl
theorem q3418 : (Jvm.Cond.code ({ cls := "CountyGazetteer", name := "volume", desc := "(III)I" } : Jvm.MethodName) prog_1_method_60_code (5 : Nat) (Option.some Jvm.ClassFile.FieldType.int)) ∈ lw_all := lw_g (lw_at lw_m14 122 rfl) rfl
theorem q3419 : (Jvm.Cond.methodLink "CountyGazetteer" (512 : Nat) ({ cls := "CountyGazetteer$Split", name := "begin", desc := "(I)I" } : Jvm.MethodName)) ∈ lw_all := lw_g (lw_at lw_m14 123 rfl) rfl
theorem q3426 : (Jvm.Cond.methodLink "CountyGazetteer" (515 : Nat) ({ cls := "CountyGazetteer$Split", name := "pages", desc := "(I)I" } : Jvm.MethodName)) ∈ lw_all := lw_g (lw_at lw_m14 130 rfl) rfl
theorem q3435 : (Jvm.Cond.instanceMethod ({ cls := "CountyGazetteer", name := "movedIf", desc := "(I)I" } : Jvm.MethodName)) ∈ lw_all := lw_g (lw_at lw_m14 139 rfl) rfl
theorem q3436 : (Jvm.Cond.selects "CountyGazetteer" ({ cls := "CountyGazetteer", name := "movedIf", desc := "(I)I" } : Jvm.MethodName) ({ cls := "CountyGazetteer", name := "movedIf", desc := "(I)I" } : Jvm.MethodName)) ∈ lw_all := lw_g (lw_at lw_m14 140 rfl) rfl
theorem q3437 : (Jvm.Cond.code ({ cls := "CountyGazetteer", name := "movedIf", desc := "(I)I" } : Jvm.MethodName) prog_1_method_62_code (2 : Nat) (Option.some Jvm.ClassFile.FieldType.int)) ∈ lw_all := lw_g (lw_at lw_m14 141 rfl) rfl
theorem q3438 : (Jvm.Cond.methodLink "CountyGazetteer" (520 : Nat) ({ cls := "CountyGazetteer", name := "published", desc := "(I)LCountyGazetteer$State;" } : Jvm.MethodName)) ∈ lw_all := lw_g (lw_at lw_m14 142 rfl) rfl
theorem q3439 : (Jvm.Cond.privateMethod ({ cls := "CountyGazetteer", name := "published", desc := "(I)LCountyGazetteer$State;" } : Jvm.MethodName)) ∈ lw_tbl := lw_at lw_m14 143 rfl
theorem q3440 : (Jvm.Cond.instanceMethod ({ cls := "CountyGazetteer", name := "published", desc := "(I)LCountyGazetteer$State;" } : Jvm.MethodName)) ∈ lw_all := lw_g (lw_at lw_m14 144 rfl) rfl
theorem q3441 : (Jvm.Cond.code ({ cls := "CountyGazetteer", name := "published", desc := "(I)LCountyGazetteer$State;" } : Jvm.MethodName) prog_1_method_61_code (3 : Nat) (Option.some (Jvm.ClassFile.FieldType.object "CountyGazetteer$State"))) ∈ lw_all := lw_g (lw_at lw_m14 145 rfl) rfl
theorem q3446 : (Jvm.Cond.instanceMethod ({ cls := "CountyGazetteer", name := "pagesIf", desc := "(I)I" } : Jvm.MethodName)) ∈ lw_all := lw_g (lw_at lw_m14 150 rfl) rfl
theorem q3447 : (Jvm.Cond.selects "CountyGazetteer" ({ cls := "CountyGazetteer", name := "pagesIf", desc := "(I)I" } : Jvm.MethodName) ({ cls := "CountyGazetteer", name := "pagesIf", desc := "(I)I" } : Jvm.MethodName)) ∈ lw_all := lw_g (lw_at lw_m14 151 rfl) rfl
theorem q3448 : (Jvm.Cond.code ({ cls := "CountyGazetteer", name := "pagesIf", desc := "(I)I" } : Jvm.MethodName) prog_1_method_63_code (2 : Nat) (Option.some Jvm.ClassFile.FieldType.int)) ∈ lw_all := lw_g (lw_at lw_m14 152 rfl) rfl
theorem q3453 : (Jvm.Cond.instanceMethod ({ cls := "CountyGazetteer", name := "publish", desc := "(I)I" } : Jvm.MethodName)) ∈ lw_all := lw_g (lw_at lw_m14 157 rfl) rfl
theorem q3454 : (Jvm.Cond.selects "CountyGazetteer" ({ cls := "CountyGazetteer", name := "publish", desc := "(I)I" } : Jvm.MethodName) ({ cls := "CountyGazetteer", name := "publish", desc := "(I)I" } : Jvm.MethodName)) ∈ lw_all := lw_g (lw_at lw_m14 158 rfl) rfl
theorem q3455 : (Jvm.Cond.code ({ cls := "CountyGazetteer", name := "publish", desc := "(I)I" } : Jvm.MethodName) prog_1_method_69_code (2 : Nat) (Option.some Jvm.ClassFile.FieldType.int)) ∈ lw_all := lw_g (lw_at lw_m14 159 rfl) rfl
theorem q3461 : (Jvm.Cond.instanceMethod ({ cls := "CountyGazetteer", name := "redraw", desc := "(IIIIII)I" } : Jvm.MethodName)) ∈ lw_all := lw_g (lw_at lw_m14 165 rfl) rfl
theorem q3462 : (Jvm.Cond.selects "CountyGazetteer" ({ cls := "CountyGazetteer", name := "redraw", desc := "(IIIIII)I" } : Jvm.MethodName) ({ cls := "CountyGazetteer", name := "redraw", desc := "(IIIIII)I" } : Jvm.MethodName)) ∈ lw_all := lw_g (lw_at lw_m14 166 rfl) rfl
theorem q3463 : (Jvm.Cond.code ({ cls := "CountyGazetteer", name := "redraw", desc := "(IIIIII)I" } : Jvm.MethodName) prog_1_method_71_code (8 : Nat) (Option.some Jvm.ClassFile.FieldType.int)) ∈ lw_all := lw_g (lw_at lw_m14 167 rfl) rfl
theorem q3464 : (Jvm.Cond.classLink "CountyGazetteer" (541 : Nat) "CountyGazetteer$Redraw") ∈ lw_all := lw_g (lw_at lw_m14 168 rfl) rfl
theorem q3465 : (Jvm.Cond.methodLink "CountyGazetteer" (543 : Nat) ({ cls := "CountyGazetteer$Redraw", name := "<init>", desc := "(IIIIII)V" } : Jvm.MethodName)) ∈ lw_all := lw_g (lw_at lw_m14 169 rfl) rfl
theorem q3466 : (Jvm.Cond.methodLink "CountyGazetteer" (546 : Nat) ({ cls := "CountyGazetteer", name := "adds", desc := "(LCountyGazetteer$Reform;)I" } : Jvm.MethodName)) ∈ lw_all := lw_g (lw_at lw_m14 170 rfl) rfl
theorem q3467 : (Jvm.Cond.privateMethod ({ cls := "CountyGazetteer", name := "adds", desc := "(LCountyGazetteer$Reform;)I" } : Jvm.MethodName)) ∈ lw_tbl := lw_at lw_m14 171 rfl
theorem q3468 : (Jvm.Cond.instanceMethod ({ cls := "CountyGazetteer", name := "adds", desc := "(LCountyGazetteer$Reform;)I" } : Jvm.MethodName)) ∈ lw_all := lw_g (lw_at lw_m14 172 rfl) rfl
theorem q3469 : (Jvm.Cond.code ({ cls := "CountyGazetteer", name := "adds", desc := "(LCountyGazetteer$Reform;)I" } : Jvm.MethodName) prog_1_method_70_code (3 : Nat) (Option.some Jvm.ClassFile.FieldType.int)) ∈ lw_all := lw_g (lw_at lw_m14 173 rfl) rfl
theorem q3470 : (Jvm.Cond.methodLink "CountyGazetteer" (535 : Nat) ({ cls := "CountyGazetteer", name := "checkState", desc := "(Z)V" } : Jvm.MethodName)) ∈ lw_all := lw_g (lw_at lw_m14 174 rfl) rfl
theorem q3471 : (Jvm.Cond.static ({ cls := "CountyGazetteer", name := "checkState", desc := "(Z)V" } : Jvm.MethodName)) ∈ lw_all := lw_g (lw_at lw_m14 175 rfl) rfl
theorem q3472 : (Jvm.Cond.code ({ cls := "CountyGazetteer", name := "checkState", desc := "(Z)V" } : Jvm.MethodName) prog_1_method_4_code (1 : Nat) (Option.none : Option Jvm.ClassFile.FieldType)) ∈ lw_all := lw_g (lw_at lw_m14 176 rfl) rfl
theorem q3473 : (Jvm.Cond.classLink "CountyGazetteer" (10 : Nat) "java/lang/IllegalStateException") ∈ lw_all := lw_g (lw_at lw_m14 177 rfl) rfl
theorem q3474 : (Jvm.Cond.methodLink "CountyGazetteer" (12 : Nat) ({ cls := "java/lang/IllegalStateException", name := "<init>", desc := "()V" } : Jvm.MethodName)) ∈ lw_all := lw_g (lw_at lw_m14 178 rfl) rfl
theorem q3482 : (Jvm.Cond.instanceMethod ({ cls := "CountyGazetteer", name := "join", desc := "(III)I" } : Jvm.MethodName)) ∈ lw_all := lw_g (lw_at lw_m14 186 rfl) rfl
theorem q3483 : (Jvm.Cond.selects "CountyGazetteer" ({ cls := "CountyGazetteer", name := "join", desc := "(III)I" } : Jvm.MethodName) ({ cls := "CountyGazetteer", name := "join", desc := "(III)I" } : Jvm.MethodName)) ∈ lw_all := lw_g (lw_at lw_m14 187 rfl) rfl
theorem q3484 : (Jvm.Cond.code ({ cls := "CountyGazetteer", name := "join", desc := "(III)I" } : Jvm.MethodName) prog_1_method_72_code (6 : Nat) (Option.some Jvm.ClassFile.FieldType.int)) ∈ lw_all := lw_g (lw_at lw_m14 188 rfl) rfl
theorem q3485 : (Jvm.Cond.classLink "CountyGazetteer" (549 : Nat) "CountyGazetteer$Join") ∈ lw_all := lw_g (lw_at lw_m14 189 rfl) rfl
theorem q3486 : (Jvm.Cond.methodLink "CountyGazetteer" (551 : Nat) ({ cls := "CountyGazetteer$Join", name := "<init>", desc := "(III)V" } : Jvm.MethodName)) ∈ lw_all := lw_g (lw_at lw_m14 190 rfl) rfl
theorem q3491 : (Jvm.Cond.instanceMethod ({ cls := "CountyGazetteer", name := "dropReform", desc := "(I)I" } : Jvm.MethodName)) ∈ lw_all := lw_g (lw_at lw_m14 195 rfl) rfl
theorem q3492 : (Jvm.Cond.selects "CountyGazetteer" ({ cls := "CountyGazetteer", name := "dropReform", desc := "(I)I" } : Jvm.MethodName) ({ cls := "CountyGazetteer", name := "dropReform", desc := "(I)I" } : Jvm.MethodName)) ∈ lw_all := lw_g (lw_at lw_m14 196 rfl) rfl
theorem q3493 : (Jvm.Cond.code ({ cls := "CountyGazetteer", name := "dropReform", desc := "(I)I" } : Jvm.MethodName) prog_1_method_73_code (4 : Nat) (Option.some Jvm.ClassFile.FieldType.int)) ∈ lw_all := lw_g (lw_at lw_m14 197 rfl) rfl
theorem q3494 : (Jvm.Cond.interfaceEntry "CountyGazetteer" (554 : Nat)) ∈ lw_tbl := lw_at lw_m14 198 rfl
theorem q3495 : (Jvm.Cond.methodLink "CountyGazetteer" (554 : Nat) ({ cls := "java/util/List", name := "remove", desc := "(I)Ljava/lang/Object;" } : Jvm.MethodName)) ∈ lw_all := lw_g (lw_at lw_m14 199 rfl) rfl
theorem q3521 : (Jvm.Cond.instanceMethod ({ cls := "CountyGazetteer", name := "rename", desc := "(II)I" } : Jvm.MethodName)) ∈ lw_all := lw_g (lw_at lw_m14 225 rfl) rfl
theorem q3522 : (Jvm.Cond.selects "CountyGazetteer" ({ cls := "CountyGazetteer", name := "rename", desc := "(II)I" } : Jvm.MethodName) ({ cls := "CountyGazetteer", name := "rename", desc := "(II)I" } : Jvm.MethodName)) ∈ lw_all := lw_g (lw_at lw_m14 226 rfl) rfl
theorem q3523 : (Jvm.Cond.code ({ cls := "CountyGazetteer", name := "rename", desc := "(II)I" } : Jvm.MethodName) prog_1_method_75_code (6 : Nat) (Option.some Jvm.ClassFile.FieldType.int)) ∈ lw_all := lw_g (lw_at lw_m14 227 rfl) rfl
theorem q3524 : (Jvm.Cond.methodLink "CountyGazetteer" (567 : Nat) ({ cls := "CountyGazetteer", name := "isName", desc := "(Ljava/lang/CharSequence;)Z" } : Jvm.MethodName)) ∈ lw_all := lw_g (lw_at lw_m14 228 rfl) rfl
theorem q3525 : (Jvm.Cond.static ({ cls := "CountyGazetteer", name := "isName", desc := "(Ljava/lang/CharSequence;)Z" } : Jvm.MethodName)) ∈ lw_all := lw_g (lw_at lw_m14 229 rfl) rfl
theorem q3526 : (Jvm.Cond.code ({ cls := "CountyGazetteer", name := "isName", desc := "(Ljava/lang/CharSequence;)Z" } : Jvm.MethodName) prog_1_method_74_code (2 : Nat) (Option.some Jvm.ClassFile.FieldType.boolean)) ∈ lw_all := lw_g (lw_at lw_m14 230 rfl) rfl
theorem q3527 : (Jvm.Cond.interfaceEntry "CountyGazetteer" (557 : Nat)) ∈ lw_tbl := lw_at lw_m14 231 rfl
theorem q3528 : (Jvm.Cond.methodLink "CountyGazetteer" (557 : Nat) ({ cls := "java/lang/CharSequence", name := "length", desc := "()I" } : Jvm.MethodName)) ∈ lw_all := lw_g (lw_at lw_m14 232 rfl) rfl
theorem q3529 : (Jvm.Cond.interfaceEntry "CountyGazetteer" (560 : Nat)) ∈ lw_tbl := lw_at lw_m14 233 rfl
theorem q3530 : (Jvm.Cond.methodLink "CountyGazetteer" (560 : Nat) ({ cls := "java/lang/CharSequence", name := "charAt", desc := "(I)C" } : Jvm.MethodName)) ∈ lw_all := lw_g (lw_at lw_m14 234 rfl) rfl
theorem q3531 : (Jvm.Cond.constantLong "CountyGazetteer" (561 : Nat) (97 : Int64)) ∈ lw_all := lw_g (lw_at lw_m14 235 rfl) rfl
theorem q3532 : (Jvm.Cond.constantLong "CountyGazetteer" (563 : Nat) (122 : Int64)) ∈ lw_all := lw_g (lw_at lw_m14 236 rfl) rfl
theorem q3533 : (Jvm.Cond.constantLong "CountyGazetteer" (565 : Nat) (7 : Int64)) ∈ lw_all := lw_g (lw_at lw_m14 237 rfl) rfl
theorem q3534 : (Jvm.Cond.methodLink "CountyGazetteer" (571 : Nat) ({ cls := "CountyGazetteer$State", name := "renames", desc := "(IILjava/lang/String;)V" } : Jvm.MethodName)) ∈ lw_all := lw_g (lw_at lw_m14 238 rfl) rfl
theorem q3539 : (Jvm.Cond.instanceMethod ({ cls := "CountyGazetteer", name := "setGone", desc := "(II)I" } : Jvm.MethodName)) ∈ lw_all := lw_g (lw_at lw_m15 3 rfl) rfl
theorem q3540 : (Jvm.Cond.selects "CountyGazetteer" ({ cls := "CountyGazetteer", name := "setGone", desc := "(II)I" } : Jvm.MethodName) ({ cls := "CountyGazetteer", name := "setGone", desc := "(II)I" } : Jvm.MethodName)) ∈ lw_all := lw_g (lw_at lw_m15 4 rfl) rfl
theorem q3541 : (Jvm.Cond.code ({ cls := "CountyGazetteer", name := "setGone", desc := "(II)I" } : Jvm.MethodName) prog_1_method_76_code (5 : Nat) (Option.some Jvm.ClassFile.FieldType.int)) ∈ lw_all := lw_g (lw_at lw_m15 5 rfl) rfl
theorem q3542 : (Jvm.Cond.constantLong "CountyGazetteer" (574 : Nat) (1000 : Int64)) ∈ lw_all := lw_g (lw_at lw_m15 6 rfl) rfl
theorem q3547 : (Jvm.Cond.instanceMethod ({ cls := "CountyGazetteer", name := "setLines", desc := "(I)I" } : Jvm.MethodName)) ∈ lw_all := lw_g (lw_at lw_m15 11 rfl) rfl
theorem q3548 : (Jvm.Cond.selects "CountyGazetteer" ({ cls := "CountyGazetteer", name := "setLines", desc := "(I)I" } : Jvm.MethodName) ({ cls := "CountyGazetteer", name := "setLines", desc := "(I)I" } : Jvm.MethodName)) ∈ lw_all := lw_g (lw_at lw_m15 12 rfl) rfl
theorem q3549 : (Jvm.Cond.code ({ cls := "CountyGazetteer", name := "setLines", desc := "(I)I" } : Jvm.MethodName) prog_1_method_77_code (3 : Nat) (Option.some Jvm.ClassFile.FieldType.int)) ∈ lw_all := lw_g (lw_at lw_m15 13 rfl) rfl
theorem q3550 : (Jvm.Cond.constantLong "CountyGazetteer" (576 : Nat) (30 : Int64)) ∈ lw_all := lw_g (lw_at lw_m15 14 rfl) rfl
theorem q3556 : (Jvm.Cond.instanceMethod ({ cls := "CountyGazetteer", name := "undo", desc := "()I" } : Jvm.MethodName)) ∈ lw_all := lw_g (lw_at lw_m15 20 rfl) rfl
theorem q3557 : (Jvm.Cond.selects "CountyGazetteer" ({ cls := "CountyGazetteer", name := "undo", desc := "()I" } : Jvm.MethodName) ({ cls := "CountyGazetteer", name := "undo", desc := "()I" } : Jvm.MethodName)) ∈ lw_all := lw_g (lw_at lw_m15 21 rfl) rfl
theorem q3558 : (Jvm.Cond.code ({ cls := "CountyGazetteer", name := "undo", desc := "()I" } : Jvm.MethodName) prog_1_method_79_code (1 : Nat) (Option.some Jvm.ClassFile.FieldType.int)) ∈ lw_all := lw_g (lw_at lw_m15 22 rfl) rfl
theorem q3559 : (Jvm.Cond.methodLink "CountyGazetteer" (578 : Nat) ({ cls := "java/util/ArrayDeque", name := "isEmpty", desc := "()Z" } : Jvm.MethodName)) ∈ lw_all := lw_g (lw_at lw_m15 23 rfl) rfl
theorem q3563 : (Jvm.Cond.methodLink "CountyGazetteer" (579 : Nat) ({ cls := "CountyGazetteer", name := "checkElement", desc := "(Z)V" } : Jvm.MethodName)) ∈ lw_all := lw_g (lw_at lw_m15 27 rfl) rfl
theorem q3564 : (Jvm.Cond.static ({ cls := "CountyGazetteer", name := "checkElement", desc := "(Z)V" } : Jvm.MethodName)) ∈ lw_all := lw_g (lw_at lw_m15 28 rfl) rfl
theorem q3565 : (Jvm.Cond.code ({ cls := "CountyGazetteer", name := "checkElement", desc := "(Z)V" } : Jvm.MethodName) prog_1_method_5_code (1 : Nat) (Option.none : Option Jvm.ClassFile.FieldType)) ∈ lw_all := lw_g (lw_at lw_m15 29 rfl) rfl
theorem q3566 : (Jvm.Cond.classLink "CountyGazetteer" (13 : Nat) "java/util/NoSuchElementException") ∈ lw_all := lw_g (lw_at lw_m15 30 rfl) rfl
theorem q3567 : (Jvm.Cond.methodLink "CountyGazetteer" (15 : Nat) ({ cls := "java/util/NoSuchElementException", name := "<init>", desc := "()V" } : Jvm.MethodName)) ∈ lw_all := lw_g (lw_at lw_m15 31 rfl) rfl
theorem q3568 : (Jvm.Cond.methodLink "CountyGazetteer" (582 : Nat) ({ cls := "java/util/ArrayDeque", name := "removeLast", desc := "()Ljava/lang/Object;" } : Jvm.MethodName)) ∈ lw_all := lw_g (lw_at lw_m15 32 rfl) rfl
theorem q3583 : (Jvm.Cond.instanceMethod ({ cls := "CountyGazetteer", name := "printPage", desc := "(I)I" } : Jvm.MethodName)) ∈ lw_all := lw_g (lw_at lw_m15 47 rfl) rfl
theorem q3584 : (Jvm.Cond.selects "CountyGazetteer" ({ cls := "CountyGazetteer", name := "printPage", desc := "(I)I" } : Jvm.MethodName) ({ cls := "CountyGazetteer", name := "printPage", desc := "(I)I" } : Jvm.MethodName)) ∈ lw_all := lw_g (lw_at lw_m15 48 rfl) rfl
theorem q3585 : (Jvm.Cond.code ({ cls := "CountyGazetteer", name := "printPage", desc := "(I)I" } : Jvm.MethodName) prog_1_method_81_code (6 : Nat) (Option.some Jvm.ClassFile.FieldType.int)) ∈ lw_all := lw_g (lw_at lw_m15 49 rfl) rfl
theorem q3586 : (Jvm.Cond.methodLink "CountyGazetteer" (597 : Nat) ({ cls := "java/lang/StringBuilder", name := "setLength", desc := "(I)V" } : Jvm.MethodName)) ∈ lw_all := lw_g (lw_at lw_m15 50 rfl) rfl
theorem q3638 : (Jvm.Cond.methodLink "CountyGazetteer" (595 : Nat) ({ cls := "CountyGazetteer$County", name := "name", desc := "()Ljava/lang/String;" } : Jvm.MethodName)) ∈ lw_all := lw_g (lw_at lw_m15 102 rfl) rfl
theorem q3639 : (Jvm.Cond.methodLink "CountyGazetteer" (585 : Nat) ({ cls := "java/lang/StringBuilder", name := "append", desc := "(Ljava/lang/String;)Ljava/lang/StringBuilder;" } : Jvm.MethodName)) ∈ lw_all := lw_g (lw_at lw_m15 103 rfl) rfl
theorem q3640 : (Jvm.Cond.methodLink "CountyGazetteer" (600 : Nat) ({ cls := "CountyGazetteer", name := "writes", desc := "(LCountyGazetteer$Entry;)V" } : Jvm.MethodName)) ∈ lw_all := lw_g (lw_at lw_m15 104 rfl) rfl
theorem q3641 : (Jvm.Cond.privateMethod ({ cls := "CountyGazetteer", name := "writes", desc := "(LCountyGazetteer$Entry;)V" } : Jvm.MethodName)) ∈ lw_tbl := lw_at lw_m15 105 rfl
theorem q3642 : (Jvm.Cond.instanceMethod ({ cls := "CountyGazetteer", name := "writes", desc := "(LCountyGazetteer$Entry;)V" } : Jvm.MethodName)) ∈ lw_all := lw_g (lw_at lw_m15 106 rfl) rfl
theorem q3643 : (Jvm.Cond.code ({ cls := "CountyGazetteer", name := "writes", desc := "(LCountyGazetteer$Entry;)V" } : Jvm.MethodName) prog_1_method_80_code (4 : Nat) (Option.none : Option Jvm.ClassFile.FieldType)) ∈ lw_all := lw_g (lw_at lw_m15 107 rfl) rfl
theorem q3644 : (Jvm.Cond.methodLink "CountyGazetteer" (588 : Nat) ({ cls := "java/lang/StringBuilder", name := "append", desc := "(I)Ljava/lang/StringBuilder;" } : Jvm.MethodName)) ∈ lw_all := lw_g (lw_at lw_m15 108 rfl) rfl
theorem q3645 : (Jvm.Cond.stringRef "CountyGazetteer" (591 : Nat) " see ") ∈ lw_tbl := lw_at lw_m15 109 rfl
theorem q3646 : (Jvm.Cond.stringRef "CountyGazetteer" (593 : Nat) " under ") ∈ lw_tbl := lw_at lw_m15 110 rfl
theorem q3651 : (Jvm.Cond.instanceMethod ({ cls := "CountyGazetteer", name := "printRow", desc := "(II)I" } : Jvm.MethodName)) ∈ lw_all := lw_g (lw_at lw_m15 115 rfl) rfl
theorem q3652 : (Jvm.Cond.selects "CountyGazetteer" ({ cls := "CountyGazetteer", name := "printRow", desc := "(II)I" } : Jvm.MethodName) ({ cls := "CountyGazetteer", name := "printRow", desc := "(II)I" } : Jvm.MethodName)) ∈ lw_all := lw_g (lw_at lw_m15 116 rfl) rfl
theorem q3653 : (Jvm.Cond.code ({ cls := "CountyGazetteer", name := "printRow", desc := "(II)I" } : Jvm.MethodName) prog_1_method_82_code (5 : Nat) (Option.some Jvm.ClassFile.FieldType.int)) ∈ lw_all := lw_g (lw_at lw_m15 117 rfl) rfl
theorem q3658 : (Jvm.Cond.instanceMethod ({ cls := "CountyGazetteer", name := "restoreState", desc := "()I" } : Jvm.MethodName)) ∈ lw_all := lw_g (lw_at lw_m15 122 rfl) rfl
theorem q3659 : (Jvm.Cond.selects "CountyGazetteer" ({ cls := "CountyGazetteer", name := "restoreState", desc := "()I" } : Jvm.MethodName) ({ cls := "CountyGazetteer", name := "restoreState", desc := "()I" } : Jvm.MethodName)) ∈ lw_all := lw_g (lw_at lw_m15 123 rfl) rfl
theorem q3660 : (Jvm.Cond.code ({ cls := "CountyGazetteer", name := "restoreState", desc := "()I" } : Jvm.MethodName) prog_1_method_85_code (1 : Nat) (Option.some Jvm.ClassFile.FieldType.int)) ∈ lw_all := lw_g (lw_at lw_m15 124 rfl) rfl
theorem q4480 : (Jvm.Cond.castable "CountyGazetteer" "java/lang/Object") ∈ lw_tbl := lw_at lw_m18 224 rfl
theorem in_X1 : ∀ w ∈ wsX10, w ∈ lw_all := lw_in wsX10 [571, 573, 575, 577, 579, 581, 583, 585, 587, 589] (by decide +kernel) (by decide +kernel)
