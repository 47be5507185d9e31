/-! CountyGazetteerModel -/
set_option maxRecDepth 100000
def RX5 : String := "CountyGazetteerModel"
def TX5 : u_T := fun k => match k with
  | 0 => ("CountyGazetteerModel", "w", "[I", true)
  | 1 => ("CountyGazetteerModel", "wKept", "[I", true)
  | 2 => ("CountyGazetteerModel", "savedRow", "[I", true)
  | 3 => ("CountyGazetteerModel", "past", "[I", true)
  | 4 => ("CountyGazetteerModel", "names", "[J", true)
  | 5 => ("CountyGazetteerModel", "namesKept", "[J", true)
  | 6 => ("CountyGazetteerModel", "savedNames", "[J", true)
  | 7 => ("CountyGazetteerModel", "pastNames", "[J", true)
  | 8 => ("CountyGazetteerModel", "pastMany", "I", false)
  | 9 => ("CountyGazetteerModel", "isSaved", "Z", false)
  | 10 => ("CountyGazetteerModel", "thrown", "I", false)
  | 11 => ("CountyGazetteerModel", "order", "[I", true)
  | 12 => ("CountyGazetteerModel", "had", "[J", true)
  | 13 => ("CountyGazetteerModel", "hadMany", "I", false)
  | 14 => ("CountyGazetteerModel", "lineCounty", "[I", true)
  | 15 => ("CountyGazetteerModel", "lineSort", "[I", true)
  | 16 => ("CountyGazetteerModel", "lineVillage", "[I", true)
  | 17 => ("CountyGazetteerModel", "lineName", "[J", true)
  | 18 => ("CountyGazetteerModel", "lineMany", "I", false)
  | 19 => ("CountyGazetteerModel", "placeSort", "[I", true)
  | 20 => ("CountyGazetteerModel", "placeCounty", "[I", true)
  | 21 => ("CountyGazetteerModel", "placeLine", "[I", true)
  | 22 => ("CountyGazetteerModel", "pageOf", "[I", true)
  | 23 => ("CountyGazetteerModel", "placeOf", "[I", true)
  | 24 => ("CountyGazetteerModel", "pageUsed", "[I", true)
  | 25 => ("CountyGazetteerModel", "pages", "I", false)
  | 26 => ("CountyGazetteerModel", "blockPages", "[I", true)
  | 27 => ("CountyGazetteerModel", "blockMany", "I", false)
  | 28 => ("CountyGazetteerModel", "bestSplit", "I", false)
  | 29 => ("CountyGazetteerModel", "bestMost", "I", false)
  | 30 => ("CountyGazetteerModel", "input", "[I", true)
  | 31 => ("CountyGazetteerModel", "inputMany", "I", false)
  | 32 => ("CountyGazetteerModel", "lastError", "I", false)
  | 33 => ("CountyGazetteerModel", "lastOffset", "I", false)
  | 34 => ("CountyGazetteerModel", "error", "I", false)
  | 35 => ("CountyGazetteerModel", "offset", "I", false)
  | 36 => ("CountyGazetteerModel", "nextByte", "I", false)
  | 37 => ("CountyGazetteerModel", "begin", "I", false)
  | 38 => ("CountyGazetteerModel", "value", "I", false)
  | 39 => ("CountyGazetteerModel", "letters", "J", false)
  | 40 => ("CountyGazetteerModel", "token", "I", false)
  | 41 => ("CountyGazetteerModel", "got", "I", false)
  | 42 => ("CountyGazetteerModel", "gotName", "J", false)
  | 43 => ("CountyGazetteerModel", "toldSet", "I", false)
  | 44 => ("CountyGazetteerModel", "owners", "[I", true)
  | 45 => ("CountyGazetteerModel", "met", "[Z", true)
  | 46 => ("CountyGazetteerModel", "waiting", "[I", true)
  | 47 => ("CountyGazetteerModel", "output", "[I", true)
  | _ => ("CountyGazetteerModel", "outputMany", "I", false)
def tyX5 : Nat → FieldType := fun k => match k with
  | 0 => .array .int
  | 1 => .array .int
  | 2 => .array .int
  | 3 => .array .int
  | 4 => .array .long
  | 5 => .array .long
  | 6 => .array .long
  | 7 => .array .long
  | 8 => .int
  | 9 => .boolean
  | 10 => .int
  | 11 => .array .int
  | 12 => .array .long
  | 13 => .int
  | 14 => .array .int
  | 15 => .array .int
  | 16 => .array .int
  | 17 => .array .long
  | 18 => .int
  | 19 => .array .int
  | 20 => .array .int
  | 21 => .array .int
  | 22 => .array .int
  | 23 => .array .int
  | 24 => .array .int
  | 25 => .int
  | 26 => .array .int
  | 27 => .int
  | 28 => .int
  | 29 => .int
  | 30 => .array .int
  | 31 => .int
  | 32 => .int
  | 33 => .int
  | 34 => .int
  | 35 => .int
  | 36 => .int
  | 37 => .int
  | 38 => .int
  | 39 => .long
  | 40 => .int
  | 41 => .int
  | 42 => .long
  | 43 => .int
  | 44 => .array .int
  | 45 => .array .boolean
  | 46 => .array .int
  | 47 => .array .int
  | _ => .int
abbrev wsX50 : List Cond := u_ws RX5 TX5 49
set_option maxRecDepth 100000 in
theorem nmX5 : ∀ a, a < 49 → ∀ b, b < 49 → a ≠ b → (TX5 a).2.1 ≠ (TX5 b).2.1 := by decide +kernel
set_option maxRecDepth 100000 in
theorem tyX5_ok : ∀ k, k < 49 → parseFieldDescriptor (TX5 k).2.2.1 = some (tyX5 k) := by decide +kernel
abbrev cX5_init : ByteArray := prog_20_method_1_code
def yX5_init : MethodName := ⟨RX5, "<init>", "()V"⟩
def dkwX5_init_10 : List UInt8 := [182, 0, 94, 42, 180, 0, 22, 3, 20, 0, 98, 80, 42, 180, 0, 7, 5, 4, 79, 177]
abbrev dktX5_init_10 : List UInt8 := dkwX5_init_10 ++ []
def dkwX5_init_9 : List UInt8 := [181, 0, 84, 42, 17, 0, 144, 188, 10, 181, 0, 88, 42, 17, 5, 220, 188, 10, 181, 0, 91, 42, 7, 7]
abbrev dktX5_init_9 : List UInt8 := dkwX5_init_9 ++ dktX5_init_10
def dkwX5_init_8 : List UInt8 := [181, 0, 74, 42, 2, 181, 0, 77, 42, 17, 0, 144, 188, 10, 181, 0, 81, 42, 17, 0, 144, 188, 4]
abbrev dktX5_init_8 : List UInt8 := dkwX5_init_8 ++ dktX5_init_9
def dkwX5_init_7 : List UInt8 := [42, 16, 100, 188, 10, 181, 0, 68, 42, 16, 8, 188, 10, 181, 0, 71, 42, 17, 3, 132, 188, 10]
abbrev dktX5_init_7 : List UInt8 := dkwX5_init_7 ++ dktX5_init_8
def dkwX5_init_6 : List UInt8 := [17, 2, 0, 188, 10, 181, 0, 59, 42, 16, 80, 188, 10, 181, 0, 62, 42, 16, 80, 188, 10, 181, 0, 65]
abbrev dktX5_init_6 : List UInt8 := dkwX5_init_6 ++ dktX5_init_7
def dkwX5_init_5 : List UInt8 := [188, 11, 181, 0, 50, 42, 17, 2, 0, 188, 10, 181, 0, 53, 42, 17, 2, 0, 188, 10, 181, 0, 56, 42]
abbrev dktX5_init_5 : List UInt8 := dkwX5_init_5 ++ dktX5_init_6
def dkwX5_init_4 : List UInt8 := [188, 10, 181, 0, 41, 42, 16, 80, 188, 10, 181, 0, 44, 42, 16, 80, 188, 10, 181, 0, 47, 42, 16, 80]
abbrev dktX5_init_4 : List UInt8 := dkwX5_init_4 ++ dktX5_init_5
def dkwX5_init_3 : List UInt8 := [188, 11, 181, 0, 32, 42, 16, 16, 188, 10, 181, 0, 35, 42, 16, 17, 188, 11, 181, 0, 38, 42, 16, 80]
abbrev dktX5_init_3 : List UInt8 := dkwX5_init_3 ++ dktX5_init_4
def dkwX5_init_2 : List UInt8 := [181, 0, 22, 42, 16, 48, 188, 11, 181, 0, 26, 42, 16, 48, 188, 11, 181, 0, 29, 42, 17, 1, 128]
abbrev dktX5_init_2 : List UInt8 := dkwX5_init_2 ++ dktX5_init_3
def dkwX5_init_1 : List UInt8 := [17, 1, 10, 188, 10, 181, 0, 16, 42, 17, 8, 80, 188, 10, 181, 0, 19, 42, 16, 48, 188, 11]
abbrev dktX5_init_1 : List UInt8 := dkwX5_init_1 ++ dktX5_init_2
def dkwX5_init_0 : List UInt8 := [42, 183, 0, 1, 42, 17, 1, 10, 188, 10, 181, 0, 7, 42, 17, 1, 10, 188, 10, 181, 0, 13, 42]
abbrev dktX5_init_0 : List UInt8 := dkwX5_init_0 ++ dktX5_init_1
theorem dksX5_init_0 : cX5_init.data.toList.drop 0 = dktX5_init_0 := by decide +kernel
theorem dksX5_init_1 : cX5_init.data.toList.drop 23 = dktX5_init_1 := dk_seg dksX5_init_0 23 rfl rfl
theorem dksX5_init_2 : cX5_init.data.toList.drop 45 = dktX5_init_2 := dk_seg dksX5_init_1 22 rfl rfl
theorem dksX5_init_3 : cX5_init.data.toList.drop 68 = dktX5_init_3 := dk_seg dksX5_init_2 23 rfl rfl
theorem dksX5_init_4 : cX5_init.data.toList.drop 92 = dktX5_init_4 := dk_seg dksX5_init_3 24 rfl rfl
theorem dksX5_init_5 : cX5_init.data.toList.drop 116 = dktX5_init_5 := dk_seg dksX5_init_4 24 rfl rfl
theorem dksX5_init_6 : cX5_init.data.toList.drop 140 = dktX5_init_6 := dk_seg dksX5_init_5 24 rfl rfl
theorem dksX5_init_7 : cX5_init.data.toList.drop 164 = dktX5_init_7 := dk_seg dksX5_init_6 24 rfl rfl
theorem dksX5_init_8 : cX5_init.data.toList.drop 186 = dktX5_init_8 := dk_seg dksX5_init_7 22 rfl rfl
theorem dksX5_init_9 : cX5_init.data.toList.drop 209 = dktX5_init_9 := dk_seg dksX5_init_8 23 rfl rfl
theorem dksX5_init_10 : cX5_init.data.toList.drop 233 = dktX5_init_10 := dk_seg dksX5_init_9 24 rfl rfl
theorem dX5_init_0 : decode cX5_init 0 = .ok (.aload_n 0, 1) := dk_42 (dk_at dksX5_init_0 0 rfl rfl)
theorem dX5_init_1 : decode cX5_init 1 = .ok (.invokespecial 1, 3) := dk_183 0 1 (dk_at dksX5_init_0 1 rfl rfl)
theorem dX5_init_4 : decode cX5_init 4 = .ok (.aload_n 0, 1) := dk_42 (dk_at dksX5_init_0 4 rfl rfl)
theorem dX5_init_5 : decode cX5_init 5 = .ok (.sipush 266, 3) := dk_17 1 10 (dk_at dksX5_init_0 5 rfl rfl)
theorem dX5_init_8 : decode cX5_init 8 = .ok (.newarray .int, 2) := dk_188_10 (dk_at dksX5_init_0 8 rfl rfl)
theorem dX5_init_10 : decode cX5_init 10 = .ok (.putfield 7, 3) := dk_181 0 7 (dk_at dksX5_init_0 10 rfl rfl)
theorem dX5_init_13 : decode cX5_init 13 = .ok (.aload_n 0, 1) := dk_42 (dk_at dksX5_init_0 13 rfl rfl)
theorem dX5_init_14 : decode cX5_init 14 = .ok (.sipush 266, 3) := dk_17 1 10 (dk_at dksX5_init_0 14 rfl rfl)
theorem dX5_init_17 : decode cX5_init 17 = .ok (.newarray .int, 2) := dk_188_10 (dk_at dksX5_init_0 17 rfl rfl)
theorem dX5_init_19 : decode cX5_init 19 = .ok (.putfield 13, 3) := dk_181 0 13 (dk_at dksX5_init_0 19 rfl rfl)
theorem dX5_init_22 : decode cX5_init 22 = .ok (.aload_n 0, 1) := dk_42 (dk_at dksX5_init_0 22 rfl rfl)
theorem dX5_init_23 : decode cX5_init 23 = .ok (.sipush 266, 3) := dk_17 1 10 (dk_at dksX5_init_1 0 rfl rfl)
theorem dX5_init_26 : decode cX5_init 26 = .ok (.newarray .int, 2) := dk_188_10 (dk_at dksX5_init_1 3 rfl rfl)
theorem dX5_init_28 : decode cX5_init 28 = .ok (.putfield 16, 3) := dk_181 0 16 (dk_at dksX5_init_1 5 rfl rfl)
theorem dX5_init_31 : decode cX5_init 31 = .ok (.aload_n 0, 1) := dk_42 (dk_at dksX5_init_1 8 rfl rfl)
theorem dX5_init_32 : decode cX5_init 32 = .ok (.sipush 2128, 3) := dk_17 8 80 (dk_at dksX5_init_1 9 rfl rfl)
theorem dX5_init_35 : decode cX5_init 35 = .ok (.newarray .int, 2) := dk_188_10 (dk_at dksX5_init_1 12 rfl rfl)
theorem dX5_init_37 : decode cX5_init 37 = .ok (.putfield 19, 3) := dk_181 0 19 (dk_at dksX5_init_1 14 rfl rfl)
theorem dX5_init_40 : decode cX5_init 40 = .ok (.aload_n 0, 1) := dk_42 (dk_at dksX5_init_1 17 rfl rfl)
theorem dX5_init_41 : decode cX5_init 41 = .ok (.bipush 48, 2) := dk_16 48 (dk_at dksX5_init_1 18 rfl rfl)
theorem dX5_init_43 : decode cX5_init 43 = .ok (.newarray .long, 2) := dk_188_11 (dk_at dksX5_init_1 20 rfl rfl)
theorem dX5_init_45 : decode cX5_init 45 = .ok (.putfield 22, 3) := dk_181 0 22 (dk_at dksX5_init_2 0 rfl rfl)
theorem dX5_init_48 : decode cX5_init 48 = .ok (.aload_n 0, 1) := dk_42 (dk_at dksX5_init_2 3 rfl rfl)
theorem dX5_init_49 : decode cX5_init 49 = .ok (.bipush 48, 2) := dk_16 48 (dk_at dksX5_init_2 4 rfl rfl)
theorem dX5_init_51 : decode cX5_init 51 = .ok (.newarray .long, 2) := dk_188_11 (dk_at dksX5_init_2 6 rfl rfl)
theorem dX5_init_53 : decode cX5_init 53 = .ok (.putfield 26, 3) := dk_181 0 26 (dk_at dksX5_init_2 8 rfl rfl)
theorem dX5_init_56 : decode cX5_init 56 = .ok (.aload_n 0, 1) := dk_42 (dk_at dksX5_init_2 11 rfl rfl)
theorem dX5_init_57 : decode cX5_init 57 = .ok (.bipush 48, 2) := dk_16 48 (dk_at dksX5_init_2 12 rfl rfl)
theorem dX5_init_59 : decode cX5_init 59 = .ok (.newarray .long, 2) := dk_188_11 (dk_at dksX5_init_2 14 rfl rfl)
theorem dX5_init_61 : decode cX5_init 61 = .ok (.putfield 29, 3) := dk_181 0 29 (dk_at dksX5_init_2 16 rfl rfl)
theorem dX5_init_64 : decode cX5_init 64 = .ok (.aload_n 0, 1) := dk_42 (dk_at dksX5_init_2 19 rfl rfl)
theorem dX5_init_65 : decode cX5_init 65 = .ok (.sipush 384, 3) := dk_17 1 128 (dk_at dksX5_init_2 20 rfl rfl)
theorem dX5_init_68 : decode cX5_init 68 = .ok (.newarray .long, 2) := dk_188_11 (dk_at dksX5_init_3 0 rfl rfl)
theorem dX5_init_70 : decode cX5_init 70 = .ok (.putfield 32, 3) := dk_181 0 32 (dk_at dksX5_init_3 2 rfl rfl)
theorem dX5_init_73 : decode cX5_init 73 = .ok (.aload_n 0, 1) := dk_42 (dk_at dksX5_init_3 5 rfl rfl)
theorem dX5_init_74 : decode cX5_init 74 = .ok (.bipush 16, 2) := dk_16 16 (dk_at dksX5_init_3 6 rfl rfl)
theorem dX5_init_76 : decode cX5_init 76 = .ok (.newarray .int, 2) := dk_188_10 (dk_at dksX5_init_3 8 rfl rfl)
theorem dX5_init_78 : decode cX5_init 78 = .ok (.putfield 35, 3) := dk_181 0 35 (dk_at dksX5_init_3 10 rfl rfl)
theorem dX5_init_81 : decode cX5_init 81 = .ok (.aload_n 0, 1) := dk_42 (dk_at dksX5_init_3 13 rfl rfl)
theorem dX5_init_82 : decode cX5_init 82 = .ok (.bipush 17, 2) := dk_16 17 (dk_at dksX5_init_3 14 rfl rfl)
theorem dX5_init_84 : decode cX5_init 84 = .ok (.newarray .long, 2) := dk_188_11 (dk_at dksX5_init_3 16 rfl rfl)
theorem dX5_init_86 : decode cX5_init 86 = .ok (.putfield 38, 3) := dk_181 0 38 (dk_at dksX5_init_3 18 rfl rfl)
theorem dX5_init_89 : decode cX5_init 89 = .ok (.aload_n 0, 1) := dk_42 (dk_at dksX5_init_3 21 rfl rfl)
theorem dX5_init_90 : decode cX5_init 90 = .ok (.bipush 80, 2) := dk_16 80 (dk_at dksX5_init_3 22 rfl rfl)
theorem dX5_init_92 : decode cX5_init 92 = .ok (.newarray .int, 2) := dk_188_10 (dk_at dksX5_init_4 0 rfl rfl)
theorem dX5_init_94 : decode cX5_init 94 = .ok (.putfield 41, 3) := dk_181 0 41 (dk_at dksX5_init_4 2 rfl rfl)
theorem dX5_init_97 : decode cX5_init 97 = .ok (.aload_n 0, 1) := dk_42 (dk_at dksX5_init_4 5 rfl rfl)
theorem dX5_init_98 : decode cX5_init 98 = .ok (.bipush 80, 2) := dk_16 80 (dk_at dksX5_init_4 6 rfl rfl)
theorem dX5_init_100 : decode cX5_init 100 = .ok (.newarray .int, 2) := dk_188_10 (dk_at dksX5_init_4 8 rfl rfl)
theorem dX5_init_102 : decode cX5_init 102 = .ok (.putfield 44, 3) := dk_181 0 44 (dk_at dksX5_init_4 10 rfl rfl)
theorem dX5_init_105 : decode cX5_init 105 = .ok (.aload_n 0, 1) := dk_42 (dk_at dksX5_init_4 13 rfl rfl)
theorem dX5_init_106 : decode cX5_init 106 = .ok (.bipush 80, 2) := dk_16 80 (dk_at dksX5_init_4 14 rfl rfl)
theorem dX5_init_108 : decode cX5_init 108 = .ok (.newarray .int, 2) := dk_188_10 (dk_at dksX5_init_4 16 rfl rfl)
theorem dX5_init_110 : decode cX5_init 110 = .ok (.putfield 47, 3) := dk_181 0 47 (dk_at dksX5_init_4 18 rfl rfl)
theorem dX5_init_113 : decode cX5_init 113 = .ok (.aload_n 0, 1) := dk_42 (dk_at dksX5_init_4 21 rfl rfl)
theorem dX5_init_114 : decode cX5_init 114 = .ok (.bipush 80, 2) := dk_16 80 (dk_at dksX5_init_4 22 rfl rfl)
theorem dX5_init_116 : decode cX5_init 116 = .ok (.newarray .long, 2) := dk_188_11 (dk_at dksX5_init_5 0 rfl rfl)
theorem dX5_init_118 : decode cX5_init 118 = .ok (.putfield 50, 3) := dk_181 0 50 (dk_at dksX5_init_5 2 rfl rfl)
theorem dX5_init_121 : decode cX5_init 121 = .ok (.aload_n 0, 1) := dk_42 (dk_at dksX5_init_5 5 rfl rfl)
theorem dX5_init_122 : decode cX5_init 122 = .ok (.sipush 512, 3) := dk_17 2 0 (dk_at dksX5_init_5 6 rfl rfl)
theorem dX5_init_125 : decode cX5_init 125 = .ok (.newarray .int, 2) := dk_188_10 (dk_at dksX5_init_5 9 rfl rfl)
theorem dX5_init_127 : decode cX5_init 127 = .ok (.putfield 53, 3) := dk_181 0 53 (dk_at dksX5_init_5 11 rfl rfl)
theorem dX5_init_130 : decode cX5_init 130 = .ok (.aload_n 0, 1) := dk_42 (dk_at dksX5_init_5 14 rfl rfl)
theorem dX5_init_131 : decode cX5_init 131 = .ok (.sipush 512, 3) := dk_17 2 0 (dk_at dksX5_init_5 15 rfl rfl)
theorem dX5_init_134 : decode cX5_init 134 = .ok (.newarray .int, 2) := dk_188_10 (dk_at dksX5_init_5 18 rfl rfl)
theorem dX5_init_136 : decode cX5_init 136 = .ok (.putfield 56, 3) := dk_181 0 56 (dk_at dksX5_init_5 20 rfl rfl)
theorem dX5_init_139 : decode cX5_init 139 = .ok (.aload_n 0, 1) := dk_42 (dk_at dksX5_init_5 23 rfl rfl)
theorem dX5_init_140 : decode cX5_init 140 = .ok (.sipush 512, 3) := dk_17 2 0 (dk_at dksX5_init_6 0 rfl rfl)
theorem dX5_init_143 : decode cX5_init 143 = .ok (.newarray .int, 2) := dk_188_10 (dk_at dksX5_init_6 3 rfl rfl)
theorem dX5_init_145 : decode cX5_init 145 = .ok (.putfield 59, 3) := dk_181 0 59 (dk_at dksX5_init_6 5 rfl rfl)
theorem dX5_init_148 : decode cX5_init 148 = .ok (.aload_n 0, 1) := dk_42 (dk_at dksX5_init_6 8 rfl rfl)
theorem dX5_init_149 : decode cX5_init 149 = .ok (.bipush 80, 2) := dk_16 80 (dk_at dksX5_init_6 9 rfl rfl)
theorem dX5_init_151 : decode cX5_init 151 = .ok (.newarray .int, 2) := dk_188_10 (dk_at dksX5_init_6 11 rfl rfl)
theorem dX5_init_153 : decode cX5_init 153 = .ok (.putfield 62, 3) := dk_181 0 62 (dk_at dksX5_init_6 13 rfl rfl)
theorem dX5_init_156 : decode cX5_init 156 = .ok (.aload_n 0, 1) := dk_42 (dk_at dksX5_init_6 16 rfl rfl)
theorem dX5_init_157 : decode cX5_init 157 = .ok (.bipush 80, 2) := dk_16 80 (dk_at dksX5_init_6 17 rfl rfl)
theorem dX5_init_159 : decode cX5_init 159 = .ok (.newarray .int, 2) := dk_188_10 (dk_at dksX5_init_6 19 rfl rfl)
theorem dX5_init_161 : decode cX5_init 161 = .ok (.putfield 65, 3) := dk_181 0 65 (dk_at dksX5_init_6 21 rfl rfl)
theorem dX5_init_164 : decode cX5_init 164 = .ok (.aload_n 0, 1) := dk_42 (dk_at dksX5_init_7 0 rfl rfl)
theorem dX5_init_165 : decode cX5_init 165 = .ok (.bipush 100, 2) := dk_16 100 (dk_at dksX5_init_7 1 rfl rfl)
theorem dX5_init_167 : decode cX5_init 167 = .ok (.newarray .int, 2) := dk_188_10 (dk_at dksX5_init_7 3 rfl rfl)
theorem dX5_init_169 : decode cX5_init 169 = .ok (.putfield 68, 3) := dk_181 0 68 (dk_at dksX5_init_7 5 rfl rfl)
theorem dX5_init_172 : decode cX5_init 172 = .ok (.aload_n 0, 1) := dk_42 (dk_at dksX5_init_7 8 rfl rfl)
theorem dX5_init_173 : decode cX5_init 173 = .ok (.bipush 8, 2) := dk_16 8 (dk_at dksX5_init_7 9 rfl rfl)
theorem dX5_init_175 : decode cX5_init 175 = .ok (.newarray .int, 2) := dk_188_10 (dk_at dksX5_init_7 11 rfl rfl)
theorem dX5_init_177 : decode cX5_init 177 = .ok (.putfield 71, 3) := dk_181 0 71 (dk_at dksX5_init_7 13 rfl rfl)
theorem dX5_init_180 : decode cX5_init 180 = .ok (.aload_n 0, 1) := dk_42 (dk_at dksX5_init_7 16 rfl rfl)
theorem dX5_init_181 : decode cX5_init 181 = .ok (.sipush 900, 3) := dk_17 3 132 (dk_at dksX5_init_7 17 rfl rfl)
theorem dX5_init_184 : decode cX5_init 184 = .ok (.newarray .int, 2) := dk_188_10 (dk_at dksX5_init_7 20 rfl rfl)
theorem dX5_init_186 : decode cX5_init 186 = .ok (.putfield 74, 3) := dk_181 0 74 (dk_at dksX5_init_8 0 rfl rfl)
theorem dX5_init_189 : decode cX5_init 189 = .ok (.aload_n 0, 1) := dk_42 (dk_at dksX5_init_8 3 rfl rfl)
theorem dX5_init_190 : decode cX5_init 190 = .ok (.iconst (-1), 1) := dk_2 (dk_at dksX5_init_8 4 rfl rfl)
theorem dX5_init_191 : decode cX5_init 191 = .ok (.putfield 77, 3) := dk_181 0 77 (dk_at dksX5_init_8 5 rfl rfl)
theorem dX5_init_194 : decode cX5_init 194 = .ok (.aload_n 0, 1) := dk_42 (dk_at dksX5_init_8 8 rfl rfl)
theorem dX5_init_195 : decode cX5_init 195 = .ok (.sipush 144, 3) := dk_17 0 144 (dk_at dksX5_init_8 9 rfl rfl)
theorem dX5_init_198 : decode cX5_init 198 = .ok (.newarray .int, 2) := dk_188_10 (dk_at dksX5_init_8 12 rfl rfl)
theorem dX5_init_200 : decode cX5_init 200 = .ok (.putfield 81, 3) := dk_181 0 81 (dk_at dksX5_init_8 14 rfl rfl)
theorem dX5_init_203 : decode cX5_init 203 = .ok (.aload_n 0, 1) := dk_42 (dk_at dksX5_init_8 17 rfl rfl)
theorem dX5_init_204 : decode cX5_init 204 = .ok (.sipush 144, 3) := dk_17 0 144 (dk_at dksX5_init_8 18 rfl rfl)
theorem dX5_init_207 : decode cX5_init 207 = .ok (.newarray .boolean, 2) := dk_188_4 (dk_at dksX5_init_8 21 rfl rfl)
theorem dX5_init_209 : decode cX5_init 209 = .ok (.putfield 84, 3) := dk_181 0 84 (dk_at dksX5_init_9 0 rfl rfl)
theorem dX5_init_212 : decode cX5_init 212 = .ok (.aload_n 0, 1) := dk_42 (dk_at dksX5_init_9 3 rfl rfl)
theorem dX5_init_213 : decode cX5_init 213 = .ok (.sipush 144, 3) := dk_17 0 144 (dk_at dksX5_init_9 4 rfl rfl)
theorem dX5_init_216 : decode cX5_init 216 = .ok (.newarray .int, 2) := dk_188_10 (dk_at dksX5_init_9 7 rfl rfl)
theorem dX5_init_218 : decode cX5_init 218 = .ok (.putfield 88, 3) := dk_181 0 88 (dk_at dksX5_init_9 9 rfl rfl)
theorem dX5_init_221 : decode cX5_init 221 = .ok (.aload_n 0, 1) := dk_42 (dk_at dksX5_init_9 12 rfl rfl)
theorem dX5_init_222 : decode cX5_init 222 = .ok (.sipush 1500, 3) := dk_17 5 220 (dk_at dksX5_init_9 13 rfl rfl)
theorem dX5_init_225 : decode cX5_init 225 = .ok (.newarray .int, 2) := dk_188_10 (dk_at dksX5_init_9 16 rfl rfl)
theorem dX5_init_227 : decode cX5_init 227 = .ok (.putfield 91, 3) := dk_181 0 91 (dk_at dksX5_init_9 18 rfl rfl)
theorem dX5_init_230 : decode cX5_init 230 = .ok (.aload_n 0, 1) := dk_42 (dk_at dksX5_init_9 21 rfl rfl)
theorem dX5_init_231 : decode cX5_init 231 = .ok (.iconst 4, 1) := dk_7 (dk_at dksX5_init_9 22 rfl rfl)
theorem dX5_init_232 : decode cX5_init 232 = .ok (.iconst 4, 1) := dk_7 (dk_at dksX5_init_9 23 rfl rfl)
theorem dX5_init_233 : decode cX5_init 233 = .ok (.invokevirtual 94, 3) := dk_182 0 94 (dk_at dksX5_init_10 0 rfl rfl)
theorem dX5_init_236 : decode cX5_init 236 = .ok (.aload_n 0, 1) := dk_42 (dk_at dksX5_init_10 3 rfl rfl)
theorem dX5_init_237 : decode cX5_init 237 = .ok (.getfield 22, 3) := dk_180 0 22 (dk_at dksX5_init_10 4 rfl rfl)
theorem dX5_init_240 : decode cX5_init 240 = .ok (.iconst 0, 1) := dk_3 (dk_at dksX5_init_10 7 rfl rfl)
theorem dX5_init_241 : decode cX5_init 241 = .ok (.ldc2_w 98, 3) := dk_20 0 98 (dk_at dksX5_init_10 8 rfl rfl)
theorem dX5_init_244 : decode cX5_init 244 = .ok (.lastore, 1) := dk_80 (dk_at dksX5_init_10 11 rfl rfl)
theorem dX5_init_245 : decode cX5_init 245 = .ok (.aload_n 0, 1) := dk_42 (dk_at dksX5_init_10 12 rfl rfl)
theorem dX5_init_246 : decode cX5_init 246 = .ok (.getfield 7, 3) := dk_180 0 7 (dk_at dksX5_init_10 13 rfl rfl)
theorem dX5_init_249 : decode cX5_init 249 = .ok (.iconst 2, 1) := dk_5 (dk_at dksX5_init_10 16 rfl rfl)
theorem dX5_init_250 : decode cX5_init 250 = .ok (.iconst 1, 1) := dk_4 (dk_at dksX5_init_10 17 rfl rfl)
theorem dX5_init_251 : decode cX5_init 251 = .ok (.iastore, 1) := dk_79 (dk_at dksX5_init_10 18 rfl rfl)
theorem dX5_init_252 : decode cX5_init 252 = .ok (.return_, 1) := dk_177 (dk_at dksX5_init_10 19 rfl rfl)
abbrev cX5_begins : ByteArray := prog_20_method_8_code
def yX5_begins : MethodName := ⟨RX5, "begins", "(II)V"⟩
def dkwX5_begins_3 : List UInt8 := [16, 12, 79, 177]
abbrev dktX5_begins_3 : List UInt8 := dkwX5_begins_3 ++ []
def dkwX5_begins_2 : List UInt8 := [27, 79, 42, 180, 0, 7, 4, 28, 79, 42, 180, 0, 7, 16, 7, 2, 79, 42, 180, 0, 7, 16, 8]
abbrev dktX5_begins_2 : List UInt8 := dkwX5_begins_2 ++ dktX5_begins_3
def dkwX5_begins_1 : List UInt8 := [29, 16, 48, 162, 0, 16, 42, 180, 0, 22, 29, 9, 80, 132, 3, 1, 167, 255, 240, 42, 180, 0, 7, 3]
abbrev dktX5_begins_1 : List UInt8 := dkwX5_begins_1 ++ dktX5_begins_2
def dkwX5_begins_0 : List UInt8 := [3, 62, 29, 17, 1, 10, 162, 0, 16, 42, 180, 0, 7, 29, 3, 79, 132, 3, 1, 167, 255, 239, 3, 62]
abbrev dktX5_begins_0 : List UInt8 := dkwX5_begins_0 ++ dktX5_begins_1
theorem dksX5_begins_0 : cX5_begins.data.toList.drop 0 = dktX5_begins_0 := by decide +kernel
theorem dksX5_begins_1 : cX5_begins.data.toList.drop 24 = dktX5_begins_1 := dk_seg dksX5_begins_0 24 rfl rfl
theorem dksX5_begins_2 : cX5_begins.data.toList.drop 48 = dktX5_begins_2 := dk_seg dksX5_begins_1 24 rfl rfl
theorem dksX5_begins_3 : cX5_begins.data.toList.drop 71 = dktX5_begins_3 := dk_seg dksX5_begins_2 23 rfl rfl
theorem dX5_begins_0 : decode cX5_begins 0 = .ok (.iconst 0, 1) := dk_3 (dk_at dksX5_begins_0 0 rfl rfl)
theorem dX5_begins_1 : decode cX5_begins 1 = .ok (.istore_n 3, 1) := dk_62 (dk_at dksX5_begins_0 1 rfl rfl)
theorem dX5_begins_2 : decode cX5_begins 2 = .ok (.iload_n 3, 1) := dk_29 (dk_at dksX5_begins_0 2 rfl rfl)
theorem dX5_begins_3 : decode cX5_begins 3 = .ok (.sipush 266, 3) := dk_17 1 10 (dk_at dksX5_begins_0 3 rfl rfl)
theorem dX5_begins_6 : decode cX5_begins 6 = .ok (.if_icmp .ge 16, 3) := dk_162 0 16 (dk_at dksX5_begins_0 6 rfl rfl)
theorem dX5_begins_9 : decode cX5_begins 9 = .ok (.aload_n 0, 1) := dk_42 (dk_at dksX5_begins_0 9 rfl rfl)
theorem dX5_begins_10 : decode cX5_begins 10 = .ok (.getfield 7, 3) := dk_180 0 7 (dk_at dksX5_begins_0 10 rfl rfl)
theorem dX5_begins_13 : decode cX5_begins 13 = .ok (.iload_n 3, 1) := dk_29 (dk_at dksX5_begins_0 13 rfl rfl)
theorem dX5_begins_14 : decode cX5_begins 14 = .ok (.iconst 0, 1) := dk_3 (dk_at dksX5_begins_0 14 rfl rfl)
theorem dX5_begins_15 : decode cX5_begins 15 = .ok (.iastore, 1) := dk_79 (dk_at dksX5_begins_0 15 rfl rfl)
theorem dX5_begins_16 : decode cX5_begins 16 = .ok (.iinc 3 1, 3) := dk_132 3 1 (dk_at dksX5_begins_0 16 rfl rfl)
theorem dX5_begins_19 : decode cX5_begins 19 = .ok (.goto (-17), 3) := dk_167 255 239 (dk_at dksX5_begins_0 19 rfl rfl)
theorem dX5_begins_22 : decode cX5_begins 22 = .ok (.iconst 0, 1) := dk_3 (dk_at dksX5_begins_0 22 rfl rfl)
theorem dX5_begins_23 : decode cX5_begins 23 = .ok (.istore_n 3, 1) := dk_62 (dk_at dksX5_begins_0 23 rfl rfl)
theorem dX5_begins_24 : decode cX5_begins 24 = .ok (.iload_n 3, 1) := dk_29 (dk_at dksX5_begins_1 0 rfl rfl)
theorem dX5_begins_25 : decode cX5_begins 25 = .ok (.bipush 48, 2) := dk_16 48 (dk_at dksX5_begins_1 1 rfl rfl)
theorem dX5_begins_27 : decode cX5_begins 27 = .ok (.if_icmp .ge 16, 3) := dk_162 0 16 (dk_at dksX5_begins_1 3 rfl rfl)
theorem dX5_begins_30 : decode cX5_begins 30 = .ok (.aload_n 0, 1) := dk_42 (dk_at dksX5_begins_1 6 rfl rfl)
theorem dX5_begins_31 : decode cX5_begins 31 = .ok (.getfield 22, 3) := dk_180 0 22 (dk_at dksX5_begins_1 7 rfl rfl)
theorem dX5_begins_34 : decode cX5_begins 34 = .ok (.iload_n 3, 1) := dk_29 (dk_at dksX5_begins_1 10 rfl rfl)
theorem dX5_begins_35 : decode cX5_begins 35 = .ok (.lconst 0, 1) := dk_9 (dk_at dksX5_begins_1 11 rfl rfl)
theorem dX5_begins_36 : decode cX5_begins 36 = .ok (.lastore, 1) := dk_80 (dk_at dksX5_begins_1 12 rfl rfl)
theorem dX5_begins_37 : decode cX5_begins 37 = .ok (.iinc 3 1, 3) := dk_132 3 1 (dk_at dksX5_begins_1 13 rfl rfl)
theorem dX5_begins_40 : decode cX5_begins 40 = .ok (.goto (-16), 3) := dk_167 255 240 (dk_at dksX5_begins_1 16 rfl rfl)
theorem dX5_begins_43 : decode cX5_begins 43 = .ok (.aload_n 0, 1) := dk_42 (dk_at dksX5_begins_1 19 rfl rfl)
theorem dX5_begins_44 : decode cX5_begins 44 = .ok (.getfield 7, 3) := dk_180 0 7 (dk_at dksX5_begins_1 20 rfl rfl)
theorem dX5_begins_47 : decode cX5_begins 47 = .ok (.iconst 0, 1) := dk_3 (dk_at dksX5_begins_1 23 rfl rfl)
theorem dX5_begins_48 : decode cX5_begins 48 = .ok (.iload_n 1, 1) := dk_27 (dk_at dksX5_begins_2 0 rfl rfl)
theorem dX5_begins_49 : decode cX5_begins 49 = .ok (.iastore, 1) := dk_79 (dk_at dksX5_begins_2 1 rfl rfl)
theorem dX5_begins_50 : decode cX5_begins 50 = .ok (.aload_n 0, 1) := dk_42 (dk_at dksX5_begins_2 2 rfl rfl)
theorem dX5_begins_51 : decode cX5_begins 51 = .ok (.getfield 7, 3) := dk_180 0 7 (dk_at dksX5_begins_2 3 rfl rfl)
theorem dX5_begins_54 : decode cX5_begins 54 = .ok (.iconst 1, 1) := dk_4 (dk_at dksX5_begins_2 6 rfl rfl)
theorem dX5_begins_55 : decode cX5_begins 55 = .ok (.iload_n 2, 1) := dk_28 (dk_at dksX5_begins_2 7 rfl rfl)
theorem dX5_begins_56 : decode cX5_begins 56 = .ok (.iastore, 1) := dk_79 (dk_at dksX5_begins_2 8 rfl rfl)
theorem dX5_begins_57 : decode cX5_begins 57 = .ok (.aload_n 0, 1) := dk_42 (dk_at dksX5_begins_2 9 rfl rfl)
theorem dX5_begins_58 : decode cX5_begins 58 = .ok (.getfield 7, 3) := dk_180 0 7 (dk_at dksX5_begins_2 10 rfl rfl)
theorem dX5_begins_61 : decode cX5_begins 61 = .ok (.bipush 7, 2) := dk_16 7 (dk_at dksX5_begins_2 13 rfl rfl)
theorem dX5_begins_63 : decode cX5_begins 63 = .ok (.iconst (-1), 1) := dk_2 (dk_at dksX5_begins_2 15 rfl rfl)
theorem dX5_begins_64 : decode cX5_begins 64 = .ok (.iastore, 1) := dk_79 (dk_at dksX5_begins_2 16 rfl rfl)
theorem dX5_begins_65 : decode cX5_begins 65 = .ok (.aload_n 0, 1) := dk_42 (dk_at dksX5_begins_2 17 rfl rfl)
theorem dX5_begins_66 : decode cX5_begins 66 = .ok (.getfield 7, 3) := dk_180 0 7 (dk_at dksX5_begins_2 18 rfl rfl)
theorem dX5_begins_69 : decode cX5_begins 69 = .ok (.bipush 8, 2) := dk_16 8 (dk_at dksX5_begins_2 21 rfl rfl)
theorem dX5_begins_71 : decode cX5_begins 71 = .ok (.bipush 12, 2) := dk_16 12 (dk_at dksX5_begins_3 0 rfl rfl)
theorem dX5_begins_73 : decode cX5_begins 73 = .ok (.iastore, 1) := dk_79 (dk_at dksX5_begins_3 2 rfl rfl)
theorem dX5_begins_74 : decode cX5_begins 74 = .ok (.return_, 1) := dk_177 (dk_at dksX5_begins_3 3 rfl rfl)
abbrev cX5_thrown : ByteArray := prog_20_method_2_code
def yX5_thrown : MethodName := ⟨RX5, "thrown", "()I"⟩
theorem dX5_thrown_0 : decode cX5_thrown 0 = .ok (.aload_n 0, 1) := by decide +kernel
theorem dX5_thrown_1 : decode cX5_thrown 1 = .ok (.getfield 100, 3) := by decide +kernel
theorem dX5_thrown_4 : decode cX5_thrown 4 = .ok (.ireturn, 1) := by decide +kernel
abbrev cX5_appendInput : ByteArray := prog_20_method_54_code
def yX5_appendInput : MethodName := ⟨RX5, "appendInput", "(IIIII)I"⟩
def dkwX5_appendInput_2 : List UInt8 := [182, 1, 2, 42, 180, 0, 255, 172]
abbrev dktX5_appendInput_2 : List UInt8 := dkwX5_appendInput_2 ++ []
def dkwX5_appendInput_1 : List UInt8 := [182, 1, 2, 42, 28, 182, 1, 2, 42, 29, 182, 1, 2, 42, 21, 4, 182, 1, 2, 42, 21, 5]
abbrev dktX5_appendInput_1 : List UInt8 := dkwX5_appendInput_1 ++ dktX5_appendInput_2
def dkwX5_appendInput_0 : List UInt8 := [42, 3, 181, 0, 100, 42, 180, 0, 255, 16, 20, 96, 17, 3, 132, 164, 0, 5, 2, 172, 42, 27]
abbrev dktX5_appendInput_0 : List UInt8 := dkwX5_appendInput_0 ++ dktX5_appendInput_1
theorem dksX5_appendInput_0 : cX5_appendInput.data.toList.drop 0 = dktX5_appendInput_0 := by decide +kernel
theorem dksX5_appendInput_1 : cX5_appendInput.data.toList.drop 22 = dktX5_appendInput_1 := dk_seg dksX5_appendInput_0 22 rfl rfl
theorem dksX5_appendInput_2 : cX5_appendInput.data.toList.drop 44 = dktX5_appendInput_2 := dk_seg dksX5_appendInput_1 22 rfl rfl
theorem dX5_appendInput_0 : decode cX5_appendInput 0 = .ok (.aload_n 0, 1) := dk_42 (dk_at dksX5_appendInput_0 0 rfl rfl)
theorem dX5_appendInput_1 : decode cX5_appendInput 1 = .ok (.iconst 0, 1) := dk_3 (dk_at dksX5_appendInput_0 1 rfl rfl)
theorem dX5_appendInput_2 : decode cX5_appendInput 2 = .ok (.putfield 100, 3) := dk_181 0 100 (dk_at dksX5_appendInput_0 2 rfl rfl)
theorem dX5_appendInput_5 : decode cX5_appendInput 5 = .ok (.aload_n 0, 1) := dk_42 (dk_at dksX5_appendInput_0 5 rfl rfl)
theorem dX5_appendInput_6 : decode cX5_appendInput 6 = .ok (.getfield 255, 3) := dk_180 0 255 (dk_at dksX5_appendInput_0 6 rfl rfl)
theorem dX5_appendInput_9 : decode cX5_appendInput 9 = .ok (.bipush 20, 2) := dk_16 20 (dk_at dksX5_appendInput_0 9 rfl rfl)
theorem dX5_appendInput_11 : decode cX5_appendInput 11 = .ok (.iadd, 1) := dk_96 (dk_at dksX5_appendInput_0 11 rfl rfl)
theorem dX5_appendInput_12 : decode cX5_appendInput 12 = .ok (.sipush 900, 3) := dk_17 3 132 (dk_at dksX5_appendInput_0 12 rfl rfl)
theorem dX5_appendInput_15 : decode cX5_appendInput 15 = .ok (.if_icmp .le 5, 3) := dk_164 0 5 (dk_at dksX5_appendInput_0 15 rfl rfl)
theorem dX5_appendInput_18 : decode cX5_appendInput 18 = .ok (.iconst (-1), 1) := dk_2 (dk_at dksX5_appendInput_0 18 rfl rfl)
theorem dX5_appendInput_19 : decode cX5_appendInput 19 = .ok (.ireturn, 1) := dk_172 (dk_at dksX5_appendInput_0 19 rfl rfl)
theorem dX5_appendInput_20 : decode cX5_appendInput 20 = .ok (.aload_n 0, 1) := dk_42 (dk_at dksX5_appendInput_0 20 rfl rfl)
theorem dX5_appendInput_21 : decode cX5_appendInput 21 = .ok (.iload_n 1, 1) := dk_27 (dk_at dksX5_appendInput_0 21 rfl rfl)
theorem dX5_appendInput_22 : decode cX5_appendInput 22 = .ok (.invokevirtual 258, 3) := dk_182 1 2 (dk_at dksX5_appendInput_1 0 rfl rfl)
theorem dX5_appendInput_25 : decode cX5_appendInput 25 = .ok (.aload_n 0, 1) := dk_42 (dk_at dksX5_appendInput_1 3 rfl rfl)
theorem dX5_appendInput_26 : decode cX5_appendInput 26 = .ok (.iload_n 2, 1) := dk_28 (dk_at dksX5_appendInput_1 4 rfl rfl)
theorem dX5_appendInput_27 : decode cX5_appendInput 27 = .ok (.invokevirtual 258, 3) := dk_182 1 2 (dk_at dksX5_appendInput_1 5 rfl rfl)
theorem dX5_appendInput_30 : decode cX5_appendInput 30 = .ok (.aload_n 0, 1) := dk_42 (dk_at dksX5_appendInput_1 8 rfl rfl)
theorem dX5_appendInput_31 : decode cX5_appendInput 31 = .ok (.iload_n 3, 1) := dk_29 (dk_at dksX5_appendInput_1 9 rfl rfl)
theorem dX5_appendInput_32 : decode cX5_appendInput 32 = .ok (.invokevirtual 258, 3) := dk_182 1 2 (dk_at dksX5_appendInput_1 10 rfl rfl)
theorem dX5_appendInput_35 : decode cX5_appendInput 35 = .ok (.aload_n 0, 1) := dk_42 (dk_at dksX5_appendInput_1 13 rfl rfl)
theorem dX5_appendInput_36 : decode cX5_appendInput 36 = .ok (.iload 4, 2) := dk_21 4 (dk_at dksX5_appendInput_1 14 rfl rfl)
theorem dX5_appendInput_38 : decode cX5_appendInput 38 = .ok (.invokevirtual 258, 3) := dk_182 1 2 (dk_at dksX5_appendInput_1 16 rfl rfl)
theorem dX5_appendInput_41 : decode cX5_appendInput 41 = .ok (.aload_n 0, 1) := dk_42 (dk_at dksX5_appendInput_1 19 rfl rfl)
theorem dX5_appendInput_42 : decode cX5_appendInput 42 = .ok (.iload 5, 2) := dk_21 5 (dk_at dksX5_appendInput_1 20 rfl rfl)
theorem dX5_appendInput_44 : decode cX5_appendInput 44 = .ok (.invokevirtual 258, 3) := dk_182 1 2 (dk_at dksX5_appendInput_2 0 rfl rfl)
theorem dX5_appendInput_47 : decode cX5_appendInput 47 = .ok (.aload_n 0, 1) := dk_42 (dk_at dksX5_appendInput_2 3 rfl rfl)
theorem dX5_appendInput_48 : decode cX5_appendInput 48 = .ok (.getfield 255, 3) := dk_180 0 255 (dk_at dksX5_appendInput_2 4 rfl rfl)
theorem dX5_appendInput_51 : decode cX5_appendInput 51 = .ok (.ireturn, 1) := dk_172 (dk_at dksX5_appendInput_2 7 rfl rfl)
abbrev cX5_appendWord : ByteArray := prog_20_method_53_code
def yX5_appendWord : MethodName := ⟨RX5, "appendWord", "(I)V"⟩
def dkwX5_appendWord_1 : List UInt8 := [89, 180, 0, 255, 4, 96, 181, 0, 255, 132, 2, 248, 167, 255, 223, 177]
abbrev dktX5_appendWord_1 : List UInt8 := dkwX5_appendWord_1 ++ []
def dkwX5_appendWord_0 : List UInt8 := [16, 24, 61, 28, 155, 0, 35, 42, 180, 0, 74, 42, 180, 0, 255, 27, 28, 122, 17, 0, 255, 126, 79, 42]
abbrev dktX5_appendWord_0 : List UInt8 := dkwX5_appendWord_0 ++ dktX5_appendWord_1
theorem dksX5_appendWord_0 : cX5_appendWord.data.toList.drop 0 = dktX5_appendWord_0 := by decide +kernel
theorem dksX5_appendWord_1 : cX5_appendWord.data.toList.drop 24 = dktX5_appendWord_1 := dk_seg dksX5_appendWord_0 24 rfl rfl
theorem dX5_appendWord_0 : decode cX5_appendWord 0 = .ok (.bipush 24, 2) := dk_16 24 (dk_at dksX5_appendWord_0 0 rfl rfl)
theorem dX5_appendWord_2 : decode cX5_appendWord 2 = .ok (.istore_n 2, 1) := dk_61 (dk_at dksX5_appendWord_0 2 rfl rfl)
theorem dX5_appendWord_3 : decode cX5_appendWord 3 = .ok (.iload_n 2, 1) := dk_28 (dk_at dksX5_appendWord_0 3 rfl rfl)
theorem dX5_appendWord_4 : decode cX5_appendWord 4 = .ok (.ifCond .lt 35, 3) := dk_155 0 35 (dk_at dksX5_appendWord_0 4 rfl rfl)
theorem dX5_appendWord_7 : decode cX5_appendWord 7 = .ok (.aload_n 0, 1) := dk_42 (dk_at dksX5_appendWord_0 7 rfl rfl)
theorem dX5_appendWord_8 : decode cX5_appendWord 8 = .ok (.getfield 74, 3) := dk_180 0 74 (dk_at dksX5_appendWord_0 8 rfl rfl)
theorem dX5_appendWord_11 : decode cX5_appendWord 11 = .ok (.aload_n 0, 1) := dk_42 (dk_at dksX5_appendWord_0 11 rfl rfl)
theorem dX5_appendWord_12 : decode cX5_appendWord 12 = .ok (.getfield 255, 3) := dk_180 0 255 (dk_at dksX5_appendWord_0 12 rfl rfl)
theorem dX5_appendWord_15 : decode cX5_appendWord 15 = .ok (.iload_n 1, 1) := dk_27 (dk_at dksX5_appendWord_0 15 rfl rfl)
theorem dX5_appendWord_16 : decode cX5_appendWord 16 = .ok (.iload_n 2, 1) := dk_28 (dk_at dksX5_appendWord_0 16 rfl rfl)
theorem dX5_appendWord_17 : decode cX5_appendWord 17 = .ok (.ishr, 1) := dk_122 (dk_at dksX5_appendWord_0 17 rfl rfl)
theorem dX5_appendWord_18 : decode cX5_appendWord 18 = .ok (.sipush 255, 3) := dk_17 0 255 (dk_at dksX5_appendWord_0 18 rfl rfl)
theorem dX5_appendWord_21 : decode cX5_appendWord 21 = .ok (.iand, 1) := dk_126 (dk_at dksX5_appendWord_0 21 rfl rfl)
theorem dX5_appendWord_22 : decode cX5_appendWord 22 = .ok (.iastore, 1) := dk_79 (dk_at dksX5_appendWord_0 22 rfl rfl)
theorem dX5_appendWord_23 : decode cX5_appendWord 23 = .ok (.aload_n 0, 1) := dk_42 (dk_at dksX5_appendWord_0 23 rfl rfl)
theorem dX5_appendWord_24 : decode cX5_appendWord 24 = .ok (.dup, 1) := dk_89 (dk_at dksX5_appendWord_1 0 rfl rfl)
theorem dX5_appendWord_25 : decode cX5_appendWord 25 = .ok (.getfield 255, 3) := dk_180 0 255 (dk_at dksX5_appendWord_1 1 rfl rfl)
theorem dX5_appendWord_28 : decode cX5_appendWord 28 = .ok (.iconst 1, 1) := dk_4 (dk_at dksX5_appendWord_1 4 rfl rfl)
theorem dX5_appendWord_29 : decode cX5_appendWord 29 = .ok (.iadd, 1) := dk_96 (dk_at dksX5_appendWord_1 5 rfl rfl)
theorem dX5_appendWord_30 : decode cX5_appendWord 30 = .ok (.putfield 255, 3) := dk_181 0 255 (dk_at dksX5_appendWord_1 6 rfl rfl)
theorem dX5_appendWord_33 : decode cX5_appendWord 33 = .ok (.iinc 2 (-8), 3) := dk_132 2 248 (dk_at dksX5_appendWord_1 9 rfl rfl)
theorem dX5_appendWord_36 : decode cX5_appendWord 36 = .ok (.goto (-33), 3) := dk_167 255 223 (dk_at dksX5_appendWord_1 12 rfl rfl)
theorem dX5_appendWord_39 : decode cX5_appendWord 39 = .ok (.return_, 1) := dk_177 (dk_at dksX5_appendWord_1 15 rfl rfl)
abbrev cX5_truncateInput : ByteArray := prog_20_method_55_code
def yX5_truncateInput : MethodName := ⟨RX5, "truncateInput", "(I)Z"⟩
def dkwX5_truncateInput_1 : List UInt8 := [4, 172]
abbrev dktX5_truncateInput_1 : List UInt8 := dkwX5_truncateInput_1 ++ []
def dkwX5_truncateInput_0 : List UInt8 := [42, 3, 181, 0, 100, 27, 3, 42, 180, 0, 255, 184, 0, 103, 154, 0, 5, 3, 172, 42, 27, 181, 0, 255]
abbrev dktX5_truncateInput_0 : List UInt8 := dkwX5_truncateInput_0 ++ dktX5_truncateInput_1
theorem dksX5_truncateInput_0 : cX5_truncateInput.data.toList.drop 0 = dktX5_truncateInput_0 := by decide +kernel
theorem dksX5_truncateInput_1 : cX5_truncateInput.data.toList.drop 24 = dktX5_truncateInput_1 := dk_seg dksX5_truncateInput_0 24 rfl rfl
theorem dX5_truncateInput_0 : decode cX5_truncateInput 0 = .ok (.aload_n 0, 1) := dk_42 (dk_at dksX5_truncateInput_0 0 rfl rfl)
theorem dX5_truncateInput_1 : decode cX5_truncateInput 1 = .ok (.iconst 0, 1) := dk_3 (dk_at dksX5_truncateInput_0 1 rfl rfl)
theorem dX5_truncateInput_2 : decode cX5_truncateInput 2 = .ok (.putfield 100, 3) := dk_181 0 100 (dk_at dksX5_truncateInput_0 2 rfl rfl)
theorem dX5_truncateInput_5 : decode cX5_truncateInput 5 = .ok (.iload_n 1, 1) := dk_27 (dk_at dksX5_truncateInput_0 5 rfl rfl)
theorem dX5_truncateInput_6 : decode cX5_truncateInput 6 = .ok (.iconst 0, 1) := dk_3 (dk_at dksX5_truncateInput_0 6 rfl rfl)
theorem dX5_truncateInput_7 : decode cX5_truncateInput 7 = .ok (.aload_n 0, 1) := dk_42 (dk_at dksX5_truncateInput_0 7 rfl rfl)
theorem dX5_truncateInput_8 : decode cX5_truncateInput 8 = .ok (.getfield 255, 3) := dk_180 0 255 (dk_at dksX5_truncateInput_0 8 rfl rfl)
theorem dX5_truncateInput_11 : decode cX5_truncateInput 11 = .ok (.invokestatic 103, 3) := dk_184 0 103 (dk_at dksX5_truncateInput_0 11 rfl rfl)
theorem dX5_truncateInput_14 : decode cX5_truncateInput 14 = .ok (.ifCond .ne 5, 3) := dk_154 0 5 (dk_at dksX5_truncateInput_0 14 rfl rfl)
theorem dX5_truncateInput_17 : decode cX5_truncateInput 17 = .ok (.iconst 0, 1) := dk_3 (dk_at dksX5_truncateInput_0 17 rfl rfl)
theorem dX5_truncateInput_18 : decode cX5_truncateInput 18 = .ok (.ireturn, 1) := dk_172 (dk_at dksX5_truncateInput_0 18 rfl rfl)
theorem dX5_truncateInput_19 : decode cX5_truncateInput 19 = .ok (.aload_n 0, 1) := dk_42 (dk_at dksX5_truncateInput_0 19 rfl rfl)
theorem dX5_truncateInput_20 : decode cX5_truncateInput 20 = .ok (.iload_n 1, 1) := dk_27 (dk_at dksX5_truncateInput_0 20 rfl rfl)
theorem dX5_truncateInput_21 : decode cX5_truncateInput 21 = .ok (.putfield 255, 3) := dk_181 0 255 (dk_at dksX5_truncateInput_0 21 rfl rfl)
theorem dX5_truncateInput_24 : decode cX5_truncateInput 24 = .ok (.iconst 1, 1) := dk_4 (dk_at dksX5_truncateInput_1 0 rfl rfl)
theorem dX5_truncateInput_25 : decode cX5_truncateInput 25 = .ok (.ireturn, 1) := dk_172 (dk_at dksX5_truncateInput_1 1 rfl rfl)
abbrev cX5_inRange : ByteArray := prog_20_method_3_code
def yX5_inRange : MethodName := ⟨RX5, "inRange", "(III)Z"⟩
def dkwX5_inRange_0 : List UInt8 := [26, 27, 161, 0, 12, 26, 28, 163, 0, 7, 4, 167, 0, 4, 3, 172]
abbrev dktX5_inRange_0 : List UInt8 := dkwX5_inRange_0 ++ []
theorem dksX5_inRange_0 : cX5_inRange.data.toList.drop 0 = dktX5_inRange_0 := by decide +kernel
theorem dX5_inRange_0 : decode cX5_inRange 0 = .ok (.iload_n 0, 1) := dk_26 (dk_at dksX5_inRange_0 0 rfl rfl)
theorem dX5_inRange_1 : decode cX5_inRange 1 = .ok (.iload_n 1, 1) := dk_27 (dk_at dksX5_inRange_0 1 rfl rfl)
theorem dX5_inRange_2 : decode cX5_inRange 2 = .ok (.if_icmp .lt 12, 3) := dk_161 0 12 (dk_at dksX5_inRange_0 2 rfl rfl)
theorem dX5_inRange_5 : decode cX5_inRange 5 = .ok (.iload_n 0, 1) := dk_26 (dk_at dksX5_inRange_0 5 rfl rfl)
theorem dX5_inRange_6 : decode cX5_inRange 6 = .ok (.iload_n 2, 1) := dk_28 (dk_at dksX5_inRange_0 6 rfl rfl)
theorem dX5_inRange_7 : decode cX5_inRange 7 = .ok (.if_icmp .gt 7, 3) := dk_163 0 7 (dk_at dksX5_inRange_0 7 rfl rfl)
theorem dX5_inRange_10 : decode cX5_inRange 10 = .ok (.iconst 1, 1) := dk_4 (dk_at dksX5_inRange_0 10 rfl rfl)
theorem dX5_inRange_11 : decode cX5_inRange 11 = .ok (.goto 4, 3) := dk_167 0 4 (dk_at dksX5_inRange_0 11 rfl rfl)
theorem dX5_inRange_14 : decode cX5_inRange 14 = .ok (.iconst 0, 1) := dk_3 (dk_at dksX5_inRange_0 14 rfl rfl)
theorem dX5_inRange_15 : decode cX5_inRange 15 = .ok (.ireturn, 1) := dk_172 (dk_at dksX5_inRange_0 15 rfl rfl)
abbrev cX5_loadMap : ByteArray := prog_20_method_81_code
def yX5_loadMap : MethodName := ⟨RX5, "loadMap", "()I"⟩
def dkwX5_loadMap_5 : List UInt8 := [184, 0, 114, 2, 172, 42, 3, 181, 0, 107, 42, 3, 181, 1, 149, 42, 180, 0, 7, 6, 46, 172]
abbrev dktX5_loadMap_5 : List UInt8 := dkwX5_loadMap_5 ++ []
def dkwX5_loadMap_4 : List UInt8 := [3, 42, 180, 0, 7, 3, 17, 1, 10, 184, 0, 110, 42, 180, 0, 26, 3, 42, 180, 0, 22, 3, 16, 48]
abbrev dktX5_loadMap_4 : List UInt8 := dkwX5_loadMap_4 ++ dktX5_loadMap_5
def dkwX5_loadMap_3 : List UInt8 := [42, 42, 180, 1, 30, 181, 1, 146, 42, 42, 180, 1, 33, 181, 0, 77, 27, 154, 0, 36, 42, 180, 0, 13]
abbrev dktX5_loadMap_3 : List UInt8 := dkwX5_loadMap_3 ++ dktX5_loadMap_4
def dkwX5_loadMap_2 : List UInt8 := [42, 3, 181, 1, 8, 42, 3, 181, 1, 78, 42, 182, 1, 52, 42, 182, 1, 143, 60, 42, 3, 181, 0, 255]
abbrev dktX5_loadMap_2 : List UInt8 := dkwX5_loadMap_2 ++ dktX5_loadMap_3
def dkwX5_loadMap_1 : List UInt8 := [180, 0, 22, 3, 42, 180, 0, 26, 3, 16, 48, 184, 0, 114, 42, 3, 181, 1, 30, 42, 2, 181, 1, 33]
abbrev dktX5_loadMap_1 : List UInt8 := dkwX5_loadMap_1 ++ dktX5_loadMap_2
def dkwX5_loadMap_0 : List UInt8 := [42, 3, 181, 0, 100, 42, 180, 0, 7, 3, 42, 180, 0, 13, 3, 17, 1, 10, 184, 0, 110, 42]
abbrev dktX5_loadMap_0 : List UInt8 := dkwX5_loadMap_0 ++ dktX5_loadMap_1
theorem dksX5_loadMap_0 : cX5_loadMap.data.toList.drop 0 = dktX5_loadMap_0 := by decide +kernel
theorem dksX5_loadMap_1 : cX5_loadMap.data.toList.drop 22 = dktX5_loadMap_1 := dk_seg dksX5_loadMap_0 22 rfl rfl
theorem dksX5_loadMap_2 : cX5_loadMap.data.toList.drop 46 = dktX5_loadMap_2 := dk_seg dksX5_loadMap_1 24 rfl rfl
theorem dksX5_loadMap_3 : cX5_loadMap.data.toList.drop 70 = dktX5_loadMap_3 := dk_seg dksX5_loadMap_2 24 rfl rfl
theorem dksX5_loadMap_4 : cX5_loadMap.data.toList.drop 94 = dktX5_loadMap_4 := dk_seg dksX5_loadMap_3 24 rfl rfl
theorem dksX5_loadMap_5 : cX5_loadMap.data.toList.drop 118 = dktX5_loadMap_5 := dk_seg dksX5_loadMap_4 24 rfl rfl
theorem dX5_loadMap_0 : decode cX5_loadMap 0 = .ok (.aload_n 0, 1) := dk_42 (dk_at dksX5_loadMap_0 0 rfl rfl)
theorem dX5_loadMap_1 : decode cX5_loadMap 1 = .ok (.iconst 0, 1) := dk_3 (dk_at dksX5_loadMap_0 1 rfl rfl)
theorem dX5_loadMap_2 : decode cX5_loadMap 2 = .ok (.putfield 100, 3) := dk_181 0 100 (dk_at dksX5_loadMap_0 2 rfl rfl)
theorem dX5_loadMap_5 : decode cX5_loadMap 5 = .ok (.aload_n 0, 1) := dk_42 (dk_at dksX5_loadMap_0 5 rfl rfl)
theorem dX5_loadMap_6 : decode cX5_loadMap 6 = .ok (.getfield 7, 3) := dk_180 0 7 (dk_at dksX5_loadMap_0 6 rfl rfl)
theorem dX5_loadMap_9 : decode cX5_loadMap 9 = .ok (.iconst 0, 1) := dk_3 (dk_at dksX5_loadMap_0 9 rfl rfl)
theorem dX5_loadMap_10 : decode cX5_loadMap 10 = .ok (.aload_n 0, 1) := dk_42 (dk_at dksX5_loadMap_0 10 rfl rfl)
theorem dX5_loadMap_11 : decode cX5_loadMap 11 = .ok (.getfield 13, 3) := dk_180 0 13 (dk_at dksX5_loadMap_0 11 rfl rfl)
theorem dX5_loadMap_14 : decode cX5_loadMap 14 = .ok (.iconst 0, 1) := dk_3 (dk_at dksX5_loadMap_0 14 rfl rfl)
theorem dX5_loadMap_15 : decode cX5_loadMap 15 = .ok (.sipush 266, 3) := dk_17 1 10 (dk_at dksX5_loadMap_0 15 rfl rfl)
theorem dX5_loadMap_18 : decode cX5_loadMap 18 = .ok (.invokestatic 110, 3) := dk_184 0 110 (dk_at dksX5_loadMap_0 18 rfl rfl)
theorem dX5_loadMap_21 : decode cX5_loadMap 21 = .ok (.aload_n 0, 1) := dk_42 (dk_at dksX5_loadMap_0 21 rfl rfl)
theorem dX5_loadMap_22 : decode cX5_loadMap 22 = .ok (.getfield 22, 3) := dk_180 0 22 (dk_at dksX5_loadMap_1 0 rfl rfl)
theorem dX5_loadMap_25 : decode cX5_loadMap 25 = .ok (.iconst 0, 1) := dk_3 (dk_at dksX5_loadMap_1 3 rfl rfl)
theorem dX5_loadMap_26 : decode cX5_loadMap 26 = .ok (.aload_n 0, 1) := dk_42 (dk_at dksX5_loadMap_1 4 rfl rfl)
theorem dX5_loadMap_27 : decode cX5_loadMap 27 = .ok (.getfield 26, 3) := dk_180 0 26 (dk_at dksX5_loadMap_1 5 rfl rfl)
theorem dX5_loadMap_30 : decode cX5_loadMap 30 = .ok (.iconst 0, 1) := dk_3 (dk_at dksX5_loadMap_1 8 rfl rfl)
theorem dX5_loadMap_31 : decode cX5_loadMap 31 = .ok (.bipush 48, 2) := dk_16 48 (dk_at dksX5_loadMap_1 9 rfl rfl)
theorem dX5_loadMap_33 : decode cX5_loadMap 33 = .ok (.invokestatic 114, 3) := dk_184 0 114 (dk_at dksX5_loadMap_1 11 rfl rfl)
theorem dX5_loadMap_36 : decode cX5_loadMap 36 = .ok (.aload_n 0, 1) := dk_42 (dk_at dksX5_loadMap_1 14 rfl rfl)
theorem dX5_loadMap_37 : decode cX5_loadMap 37 = .ok (.iconst 0, 1) := dk_3 (dk_at dksX5_loadMap_1 15 rfl rfl)
theorem dX5_loadMap_38 : decode cX5_loadMap 38 = .ok (.putfield 286, 3) := dk_181 1 30 (dk_at dksX5_loadMap_1 16 rfl rfl)
theorem dX5_loadMap_41 : decode cX5_loadMap 41 = .ok (.aload_n 0, 1) := dk_42 (dk_at dksX5_loadMap_1 19 rfl rfl)
theorem dX5_loadMap_42 : decode cX5_loadMap 42 = .ok (.iconst (-1), 1) := dk_2 (dk_at dksX5_loadMap_1 20 rfl rfl)
theorem dX5_loadMap_43 : decode cX5_loadMap 43 = .ok (.putfield 289, 3) := dk_181 1 33 (dk_at dksX5_loadMap_1 21 rfl rfl)
theorem dX5_loadMap_46 : decode cX5_loadMap 46 = .ok (.aload_n 0, 1) := dk_42 (dk_at dksX5_loadMap_2 0 rfl rfl)
theorem dX5_loadMap_47 : decode cX5_loadMap 47 = .ok (.iconst 0, 1) := dk_3 (dk_at dksX5_loadMap_2 1 rfl rfl)
theorem dX5_loadMap_48 : decode cX5_loadMap 48 = .ok (.putfield 264, 3) := dk_181 1 8 (dk_at dksX5_loadMap_2 2 rfl rfl)
theorem dX5_loadMap_51 : decode cX5_loadMap 51 = .ok (.aload_n 0, 1) := dk_42 (dk_at dksX5_loadMap_2 5 rfl rfl)
theorem dX5_loadMap_52 : decode cX5_loadMap 52 = .ok (.iconst 0, 1) := dk_3 (dk_at dksX5_loadMap_2 6 rfl rfl)
theorem dX5_loadMap_53 : decode cX5_loadMap 53 = .ok (.putfield 334, 3) := dk_181 1 78 (dk_at dksX5_loadMap_2 7 rfl rfl)
theorem dX5_loadMap_56 : decode cX5_loadMap 56 = .ok (.aload_n 0, 1) := dk_42 (dk_at dksX5_loadMap_2 10 rfl rfl)
theorem dX5_loadMap_57 : decode cX5_loadMap 57 = .ok (.invokevirtual 308, 3) := dk_182 1 52 (dk_at dksX5_loadMap_2 11 rfl rfl)
theorem dX5_loadMap_60 : decode cX5_loadMap 60 = .ok (.aload_n 0, 1) := dk_42 (dk_at dksX5_loadMap_2 14 rfl rfl)
theorem dX5_loadMap_61 : decode cX5_loadMap 61 = .ok (.invokevirtual 399, 3) := dk_182 1 143 (dk_at dksX5_loadMap_2 15 rfl rfl)
theorem dX5_loadMap_64 : decode cX5_loadMap 64 = .ok (.istore_n 1, 1) := dk_60 (dk_at dksX5_loadMap_2 18 rfl rfl)
theorem dX5_loadMap_65 : decode cX5_loadMap 65 = .ok (.aload_n 0, 1) := dk_42 (dk_at dksX5_loadMap_2 19 rfl rfl)
theorem dX5_loadMap_66 : decode cX5_loadMap 66 = .ok (.iconst 0, 1) := dk_3 (dk_at dksX5_loadMap_2 20 rfl rfl)
theorem dX5_loadMap_67 : decode cX5_loadMap 67 = .ok (.putfield 255, 3) := dk_181 0 255 (dk_at dksX5_loadMap_2 21 rfl rfl)
theorem dX5_loadMap_70 : decode cX5_loadMap 70 = .ok (.aload_n 0, 1) := dk_42 (dk_at dksX5_loadMap_3 0 rfl rfl)
theorem dX5_loadMap_71 : decode cX5_loadMap 71 = .ok (.aload_n 0, 1) := dk_42 (dk_at dksX5_loadMap_3 1 rfl rfl)
theorem dX5_loadMap_72 : decode cX5_loadMap 72 = .ok (.getfield 286, 3) := dk_180 1 30 (dk_at dksX5_loadMap_3 2 rfl rfl)
theorem dX5_loadMap_75 : decode cX5_loadMap 75 = .ok (.putfield 402, 3) := dk_181 1 146 (dk_at dksX5_loadMap_3 5 rfl rfl)
theorem dX5_loadMap_78 : decode cX5_loadMap 78 = .ok (.aload_n 0, 1) := dk_42 (dk_at dksX5_loadMap_3 8 rfl rfl)
theorem dX5_loadMap_79 : decode cX5_loadMap 79 = .ok (.aload_n 0, 1) := dk_42 (dk_at dksX5_loadMap_3 9 rfl rfl)
theorem dX5_loadMap_80 : decode cX5_loadMap 80 = .ok (.getfield 289, 3) := dk_180 1 33 (dk_at dksX5_loadMap_3 10 rfl rfl)
theorem dX5_loadMap_83 : decode cX5_loadMap 83 = .ok (.putfield 77, 3) := dk_181 0 77 (dk_at dksX5_loadMap_3 13 rfl rfl)
theorem dX5_loadMap_86 : decode cX5_loadMap 86 = .ok (.iload_n 1, 1) := dk_27 (dk_at dksX5_loadMap_3 16 rfl rfl)
theorem dX5_loadMap_87 : decode cX5_loadMap 87 = .ok (.ifCond .ne 36, 3) := dk_154 0 36 (dk_at dksX5_loadMap_3 17 rfl rfl)
theorem dX5_loadMap_90 : decode cX5_loadMap 90 = .ok (.aload_n 0, 1) := dk_42 (dk_at dksX5_loadMap_3 20 rfl rfl)
theorem dX5_loadMap_91 : decode cX5_loadMap 91 = .ok (.getfield 13, 3) := dk_180 0 13 (dk_at dksX5_loadMap_3 21 rfl rfl)
theorem dX5_loadMap_94 : decode cX5_loadMap 94 = .ok (.iconst 0, 1) := dk_3 (dk_at dksX5_loadMap_4 0 rfl rfl)
theorem dX5_loadMap_95 : decode cX5_loadMap 95 = .ok (.aload_n 0, 1) := dk_42 (dk_at dksX5_loadMap_4 1 rfl rfl)
theorem dX5_loadMap_96 : decode cX5_loadMap 96 = .ok (.getfield 7, 3) := dk_180 0 7 (dk_at dksX5_loadMap_4 2 rfl rfl)
theorem dX5_loadMap_99 : decode cX5_loadMap 99 = .ok (.iconst 0, 1) := dk_3 (dk_at dksX5_loadMap_4 5 rfl rfl)
theorem dX5_loadMap_100 : decode cX5_loadMap 100 = .ok (.sipush 266, 3) := dk_17 1 10 (dk_at dksX5_loadMap_4 6 rfl rfl)
theorem dX5_loadMap_103 : decode cX5_loadMap 103 = .ok (.invokestatic 110, 3) := dk_184 0 110 (dk_at dksX5_loadMap_4 9 rfl rfl)
theorem dX5_loadMap_106 : decode cX5_loadMap 106 = .ok (.aload_n 0, 1) := dk_42 (dk_at dksX5_loadMap_4 12 rfl rfl)
theorem dX5_loadMap_107 : decode cX5_loadMap 107 = .ok (.getfield 26, 3) := dk_180 0 26 (dk_at dksX5_loadMap_4 13 rfl rfl)
theorem dX5_loadMap_110 : decode cX5_loadMap 110 = .ok (.iconst 0, 1) := dk_3 (dk_at dksX5_loadMap_4 16 rfl rfl)
theorem dX5_loadMap_111 : decode cX5_loadMap 111 = .ok (.aload_n 0, 1) := dk_42 (dk_at dksX5_loadMap_4 17 rfl rfl)
theorem dX5_loadMap_112 : decode cX5_loadMap 112 = .ok (.getfield 22, 3) := dk_180 0 22 (dk_at dksX5_loadMap_4 18 rfl rfl)
theorem dX5_loadMap_115 : decode cX5_loadMap 115 = .ok (.iconst 0, 1) := dk_3 (dk_at dksX5_loadMap_4 21 rfl rfl)
theorem dX5_loadMap_116 : decode cX5_loadMap 116 = .ok (.bipush 48, 2) := dk_16 48 (dk_at dksX5_loadMap_4 22 rfl rfl)
theorem dX5_loadMap_118 : decode cX5_loadMap 118 = .ok (.invokestatic 114, 3) := dk_184 0 114 (dk_at dksX5_loadMap_5 0 rfl rfl)
theorem dX5_loadMap_121 : decode cX5_loadMap 121 = .ok (.iconst (-1), 1) := dk_2 (dk_at dksX5_loadMap_5 3 rfl rfl)
theorem dX5_loadMap_122 : decode cX5_loadMap 122 = .ok (.ireturn, 1) := dk_172 (dk_at dksX5_loadMap_5 4 rfl rfl)
theorem dX5_loadMap_123 : decode cX5_loadMap 123 = .ok (.aload_n 0, 1) := dk_42 (dk_at dksX5_loadMap_5 5 rfl rfl)
theorem dX5_loadMap_124 : decode cX5_loadMap 124 = .ok (.iconst 0, 1) := dk_3 (dk_at dksX5_loadMap_5 6 rfl rfl)
theorem dX5_loadMap_125 : decode cX5_loadMap 125 = .ok (.putfield 107, 3) := dk_181 0 107 (dk_at dksX5_loadMap_5 7 rfl rfl)
theorem dX5_loadMap_128 : decode cX5_loadMap 128 = .ok (.aload_n 0, 1) := dk_42 (dk_at dksX5_loadMap_5 10 rfl rfl)
theorem dX5_loadMap_129 : decode cX5_loadMap 129 = .ok (.iconst 0, 1) := dk_3 (dk_at dksX5_loadMap_5 11 rfl rfl)
theorem dX5_loadMap_130 : decode cX5_loadMap 130 = .ok (.putfield 405, 3) := dk_181 1 149 (dk_at dksX5_loadMap_5 12 rfl rfl)
theorem dX5_loadMap_133 : decode cX5_loadMap 133 = .ok (.aload_n 0, 1) := dk_42 (dk_at dksX5_loadMap_5 15 rfl rfl)
theorem dX5_loadMap_134 : decode cX5_loadMap 134 = .ok (.getfield 7, 3) := dk_180 0 7 (dk_at dksX5_loadMap_5 16 rfl rfl)
theorem dX5_loadMap_137 : decode cX5_loadMap 137 = .ok (.iconst 3, 1) := dk_6 (dk_at dksX5_loadMap_5 19 rfl rfl)
theorem dX5_loadMap_138 : decode cX5_loadMap 138 = .ok (.iaload, 1) := dk_46 (dk_at dksX5_loadMap_5 20 rfl rfl)
theorem dX5_loadMap_139 : decode cX5_loadMap 139 = .ok (.ireturn, 1) := dk_172 (dk_at dksX5_loadMap_5 21 rfl rfl)
abbrev cX5_copies : ByteArray := prog_20_method_6_code
def yX5_copies : MethodName := ⟨RX5, "copies", "([II[III)V"⟩
def dkwX5_copies_1 : List UInt8 := [132, 5, 1, 167, 255, 234, 177]
abbrev dktX5_copies_1 : List UInt8 := dkwX5_copies_1 ++ []
def dkwX5_copies_0 : List UInt8 := [3, 54, 5, 21, 5, 21, 4, 162, 0, 21, 44, 29, 21, 5, 96, 42, 27, 21, 5, 96, 46, 79]
abbrev dktX5_copies_0 : List UInt8 := dkwX5_copies_0 ++ dktX5_copies_1
theorem dksX5_copies_0 : cX5_copies.data.toList.drop 0 = dktX5_copies_0 := by decide +kernel
theorem dksX5_copies_1 : cX5_copies.data.toList.drop 22 = dktX5_copies_1 := dk_seg dksX5_copies_0 22 rfl rfl
theorem dX5_copies_0 : decode cX5_copies 0 = .ok (.iconst 0, 1) := dk_3 (dk_at dksX5_copies_0 0 rfl rfl)
theorem dX5_copies_1 : decode cX5_copies 1 = .ok (.istore 5, 2) := dk_54 5 (dk_at dksX5_copies_0 1 rfl rfl)
theorem dX5_copies_3 : decode cX5_copies 3 = .ok (.iload 5, 2) := dk_21 5 (dk_at dksX5_copies_0 3 rfl rfl)
theorem dX5_copies_5 : decode cX5_copies 5 = .ok (.iload 4, 2) := dk_21 4 (dk_at dksX5_copies_0 5 rfl rfl)
theorem dX5_copies_7 : decode cX5_copies 7 = .ok (.if_icmp .ge 21, 3) := dk_162 0 21 (dk_at dksX5_copies_0 7 rfl rfl)
theorem dX5_copies_10 : decode cX5_copies 10 = .ok (.aload_n 2, 1) := dk_44 (dk_at dksX5_copies_0 10 rfl rfl)
theorem dX5_copies_11 : decode cX5_copies 11 = .ok (.iload_n 3, 1) := dk_29 (dk_at dksX5_copies_0 11 rfl rfl)
theorem dX5_copies_12 : decode cX5_copies 12 = .ok (.iload 5, 2) := dk_21 5 (dk_at dksX5_copies_0 12 rfl rfl)
theorem dX5_copies_14 : decode cX5_copies 14 = .ok (.iadd, 1) := dk_96 (dk_at dksX5_copies_0 14 rfl rfl)
theorem dX5_copies_15 : decode cX5_copies 15 = .ok (.aload_n 0, 1) := dk_42 (dk_at dksX5_copies_0 15 rfl rfl)
theorem dX5_copies_16 : decode cX5_copies 16 = .ok (.iload_n 1, 1) := dk_27 (dk_at dksX5_copies_0 16 rfl rfl)
theorem dX5_copies_17 : decode cX5_copies 17 = .ok (.iload 5, 2) := dk_21 5 (dk_at dksX5_copies_0 17 rfl rfl)
theorem dX5_copies_19 : decode cX5_copies 19 = .ok (.iadd, 1) := dk_96 (dk_at dksX5_copies_0 19 rfl rfl)
theorem dX5_copies_20 : decode cX5_copies 20 = .ok (.iaload, 1) := dk_46 (dk_at dksX5_copies_0 20 rfl rfl)
theorem dX5_copies_21 : decode cX5_copies 21 = .ok (.iastore, 1) := dk_79 (dk_at dksX5_copies_0 21 rfl rfl)
theorem dX5_copies_22 : decode cX5_copies 22 = .ok (.iinc 5 1, 3) := dk_132 5 1 (dk_at dksX5_copies_1 0 rfl rfl)
theorem dX5_copies_25 : decode cX5_copies 25 = .ok (.goto (-22), 3) := dk_167 255 234 (dk_at dksX5_copies_1 3 rfl rfl)
theorem dX5_copies_28 : decode cX5_copies 28 = .ok (.return_, 1) := dk_177 (dk_at dksX5_copies_1 6 rfl rfl)
abbrev cX5_copiesNames : ByteArray := prog_20_method_7_code
def yX5_copiesNames : MethodName := ⟨RX5, "copiesNames", "([JI[JII)V"⟩
def dkwX5_copiesNames_1 : List UInt8 := [132, 5, 1, 167, 255, 234, 177]
abbrev dktX5_copiesNames_1 : List UInt8 := dkwX5_copiesNames_1 ++ []
def dkwX5_copiesNames_0 : List UInt8 := [3, 54, 5, 21, 5, 21, 4, 162, 0, 21, 44, 29, 21, 5, 96, 42, 27, 21, 5, 96, 47, 80]
abbrev dktX5_copiesNames_0 : List UInt8 := dkwX5_copiesNames_0 ++ dktX5_copiesNames_1
theorem dksX5_copiesNames_0 : cX5_copiesNames.data.toList.drop 0 = dktX5_copiesNames_0 := by decide +kernel
theorem dksX5_copiesNames_1 : cX5_copiesNames.data.toList.drop 22 = dktX5_copiesNames_1 := dk_seg dksX5_copiesNames_0 22 rfl rfl
theorem dX5_copiesNames_0 : decode cX5_copiesNames 0 = .ok (.iconst 0, 1) := dk_3 (dk_at dksX5_copiesNames_0 0 rfl rfl)
theorem dX5_copiesNames_1 : decode cX5_copiesNames 1 = .ok (.istore 5, 2) := dk_54 5 (dk_at dksX5_copiesNames_0 1 rfl rfl)
theorem dX5_copiesNames_3 : decode cX5_copiesNames 3 = .ok (.iload 5, 2) := dk_21 5 (dk_at dksX5_copiesNames_0 3 rfl rfl)
theorem dX5_copiesNames_5 : decode cX5_copiesNames 5 = .ok (.iload 4, 2) := dk_21 4 (dk_at dksX5_copiesNames_0 5 rfl rfl)
theorem dX5_copiesNames_7 : decode cX5_copiesNames 7 = .ok (.if_icmp .ge 21, 3) := dk_162 0 21 (dk_at dksX5_copiesNames_0 7 rfl rfl)
theorem dX5_copiesNames_10 : decode cX5_copiesNames 10 = .ok (.aload_n 2, 1) := dk_44 (dk_at dksX5_copiesNames_0 10 rfl rfl)
theorem dX5_copiesNames_11 : decode cX5_copiesNames 11 = .ok (.iload_n 3, 1) := dk_29 (dk_at dksX5_copiesNames_0 11 rfl rfl)
theorem dX5_copiesNames_12 : decode cX5_copiesNames 12 = .ok (.iload 5, 2) := dk_21 5 (dk_at dksX5_copiesNames_0 12 rfl rfl)
theorem dX5_copiesNames_14 : decode cX5_copiesNames 14 = .ok (.iadd, 1) := dk_96 (dk_at dksX5_copiesNames_0 14 rfl rfl)
theorem dX5_copiesNames_15 : decode cX5_copiesNames 15 = .ok (.aload_n 0, 1) := dk_42 (dk_at dksX5_copiesNames_0 15 rfl rfl)
theorem dX5_copiesNames_16 : decode cX5_copiesNames 16 = .ok (.iload_n 1, 1) := dk_27 (dk_at dksX5_copiesNames_0 16 rfl rfl)
theorem dX5_copiesNames_17 : decode cX5_copiesNames 17 = .ok (.iload 5, 2) := dk_21 5 (dk_at dksX5_copiesNames_0 17 rfl rfl)
theorem dX5_copiesNames_19 : decode cX5_copiesNames 19 = .ok (.iadd, 1) := dk_96 (dk_at dksX5_copiesNames_0 19 rfl rfl)
theorem dX5_copiesNames_20 : decode cX5_copiesNames 20 = .ok (.laload, 1) := dk_47 (dk_at dksX5_copiesNames_0 20 rfl rfl)
theorem dX5_copiesNames_21 : decode cX5_copiesNames 21 = .ok (.lastore, 1) := dk_80 (dk_at dksX5_copiesNames_0 21 rfl rfl)
theorem dX5_copiesNames_22 : decode cX5_copiesNames 22 = .ok (.iinc 5 1, 3) := dk_132 5 1 (dk_at dksX5_copiesNames_1 0 rfl rfl)
theorem dX5_copiesNames_25 : decode cX5_copiesNames 25 = .ok (.goto (-22), 3) := dk_167 255 234 (dk_at dksX5_copiesNames_1 3 rfl rfl)
theorem dX5_copiesNames_28 : decode cX5_copiesNames 28 = .ok (.return_, 1) := dk_177 (dk_at dksX5_copiesNames_1 6 rfl rfl)
abbrev cX5_advanceToken : ByteArray := prog_20_method_58_code
def yX5_advanceToken : MethodName := ⟨RX5, "advanceToken", "()V"⟩
def dkwX5_advanceToken_10 : List UInt8 := [180, 1, 8, 4, 96, 181, 1, 8, 177]
abbrev dktX5_advanceToken_10 : List UInt8 := dkwX5_advanceToken_10 ++ []
def dkwX5_advanceToken_9 : List UInt8 := [181, 1, 8, 167, 255, 192, 42, 27, 16, 59, 160, 0, 7, 6, 167, 0, 4, 7, 181, 1, 17, 42, 89]
abbrev dktX5_advanceToken_9 : List UInt8 := dkwX5_advanceToken_9 ++ dktX5_advanceToken_10
def dkwX5_advanceToken_8 : List UInt8 := [42, 42, 180, 1, 8, 182, 1, 5, 96, 16, 48, 100, 181, 1, 14, 42, 89, 180, 1, 8, 4, 96]
abbrev dktX5_advanceToken_8 : List UInt8 := dkwX5_advanceToken_8 ++ dktX5_advanceToken_9
def dkwX5_advanceToken_7 : List UInt8 := [153, 0, 77, 42, 180, 1, 8, 42, 180, 1, 11, 100, 6, 162, 0, 26, 42, 16, 10, 42, 180, 1, 14, 104]
abbrev dktX5_advanceToken_7 : List UInt8 := dkwX5_advanceToken_7 ++ dktX5_advanceToken_8
def dkwX5_advanceToken_6 : List UInt8 := [153, 0, 75, 42, 5, 181, 1, 17, 42, 42, 180, 1, 8, 182, 1, 5, 16, 48, 16, 57, 184, 0, 103]
abbrev dktX5_advanceToken_6 : List UInt8 := dkwX5_advanceToken_6 ++ dktX5_advanceToken_7
def dkwX5_advanceToken_5 : List UInt8 := [180, 1, 11, 42, 180, 1, 8, 182, 1, 23, 181, 1, 26, 167, 0, 111, 27, 16, 48, 16, 57, 184, 0, 103]
abbrev dktX5_advanceToken_5 : List UInt8 := dkwX5_advanceToken_5 ++ dktX5_advanceToken_6
def dkwX5_advanceToken_4 : List UInt8 := [182, 1, 20, 153, 0, 16, 42, 89, 180, 1, 8, 4, 96, 181, 1, 8, 167, 255, 235, 42, 42, 42]
abbrev dktX5_advanceToken_4 : List UInt8 := dkwX5_advanceToken_4 ++ dktX5_advanceToken_5
def dkwX5_advanceToken_3 : List UInt8 := [167, 0, 170, 42, 42, 180, 1, 8, 182, 1, 20, 153, 0, 51, 42, 4, 181, 1, 17, 42, 42, 180, 1, 8]
abbrev dktX5_advanceToken_3 : List UInt8 := dkwX5_advanceToken_3 ++ dktX5_advanceToken_4
def dkwX5_advanceToken_2 : List UInt8 := [42, 42, 180, 1, 8, 182, 1, 5, 60, 42, 3, 181, 1, 14, 27, 2, 160, 0, 11, 42, 3, 181, 1, 17]
abbrev dktX5_advanceToken_2 : List UInt8 := dkwX5_advanceToken_2 ++ dktX5_advanceToken_3
def dkwX5_advanceToken_1 : List UInt8 := [160, 0, 16, 42, 89, 180, 1, 8, 4, 96, 181, 1, 8, 167, 255, 220, 42, 42, 180, 1, 8, 181, 1, 11]
abbrev dktX5_advanceToken_1 : List UInt8 := dkwX5_advanceToken_1 ++ dktX5_advanceToken_2
def dkwX5_advanceToken_0 : List UInt8 := [42, 42, 180, 1, 8, 182, 1, 5, 16, 32, 159, 0, 16, 42, 42, 180, 1, 8, 182, 1, 5, 16, 10]
abbrev dktX5_advanceToken_0 : List UInt8 := dkwX5_advanceToken_0 ++ dktX5_advanceToken_1
theorem dksX5_advanceToken_0 : cX5_advanceToken.data.toList.drop 0 = dktX5_advanceToken_0 := by decide +kernel
theorem dksX5_advanceToken_1 : cX5_advanceToken.data.toList.drop 23 = dktX5_advanceToken_1 := dk_seg dksX5_advanceToken_0 23 rfl rfl
theorem dksX5_advanceToken_2 : cX5_advanceToken.data.toList.drop 47 = dktX5_advanceToken_2 := dk_seg dksX5_advanceToken_1 24 rfl rfl
theorem dksX5_advanceToken_3 : cX5_advanceToken.data.toList.drop 71 = dktX5_advanceToken_3 := dk_seg dksX5_advanceToken_2 24 rfl rfl
theorem dksX5_advanceToken_4 : cX5_advanceToken.data.toList.drop 95 = dktX5_advanceToken_4 := dk_seg dksX5_advanceToken_3 24 rfl rfl
theorem dksX5_advanceToken_5 : cX5_advanceToken.data.toList.drop 117 = dktX5_advanceToken_5 := dk_seg dksX5_advanceToken_4 22 rfl rfl
theorem dksX5_advanceToken_6 : cX5_advanceToken.data.toList.drop 141 = dktX5_advanceToken_6 := dk_seg dksX5_advanceToken_5 24 rfl rfl
theorem dksX5_advanceToken_7 : cX5_advanceToken.data.toList.drop 164 = dktX5_advanceToken_7 := dk_seg dksX5_advanceToken_6 23 rfl rfl
theorem dksX5_advanceToken_8 : cX5_advanceToken.data.toList.drop 188 = dktX5_advanceToken_8 := dk_seg dksX5_advanceToken_7 24 rfl rfl
theorem dksX5_advanceToken_9 : cX5_advanceToken.data.toList.drop 210 = dktX5_advanceToken_9 := dk_seg dksX5_advanceToken_8 22 rfl rfl
theorem dksX5_advanceToken_10 : cX5_advanceToken.data.toList.drop 233 = dktX5_advanceToken_10 := dk_seg dksX5_advanceToken_9 23 rfl rfl
theorem dX5_advanceToken_0 : decode cX5_advanceToken 0 = .ok (.aload_n 0, 1) := dk_42 (dk_at dksX5_advanceToken_0 0 rfl rfl)
theorem dX5_advanceToken_1 : decode cX5_advanceToken 1 = .ok (.aload_n 0, 1) := dk_42 (dk_at dksX5_advanceToken_0 1 rfl rfl)
theorem dX5_advanceToken_2 : decode cX5_advanceToken 2 = .ok (.getfield 264, 3) := dk_180 1 8 (dk_at dksX5_advanceToken_0 2 rfl rfl)
theorem dX5_advanceToken_5 : decode cX5_advanceToken 5 = .ok (.invokevirtual 261, 3) := dk_182 1 5 (dk_at dksX5_advanceToken_0 5 rfl rfl)
theorem dX5_advanceToken_8 : decode cX5_advanceToken 8 = .ok (.bipush 32, 2) := dk_16 32 (dk_at dksX5_advanceToken_0 8 rfl rfl)
theorem dX5_advanceToken_10 : decode cX5_advanceToken 10 = .ok (.if_icmp .eq 16, 3) := dk_159 0 16 (dk_at dksX5_advanceToken_0 10 rfl rfl)
theorem dX5_advanceToken_13 : decode cX5_advanceToken 13 = .ok (.aload_n 0, 1) := dk_42 (dk_at dksX5_advanceToken_0 13 rfl rfl)
theorem dX5_advanceToken_14 : decode cX5_advanceToken 14 = .ok (.aload_n 0, 1) := dk_42 (dk_at dksX5_advanceToken_0 14 rfl rfl)
theorem dX5_advanceToken_15 : decode cX5_advanceToken 15 = .ok (.getfield 264, 3) := dk_180 1 8 (dk_at dksX5_advanceToken_0 15 rfl rfl)
theorem dX5_advanceToken_18 : decode cX5_advanceToken 18 = .ok (.invokevirtual 261, 3) := dk_182 1 5 (dk_at dksX5_advanceToken_0 18 rfl rfl)
theorem dX5_advanceToken_21 : decode cX5_advanceToken 21 = .ok (.bipush 10, 2) := dk_16 10 (dk_at dksX5_advanceToken_0 21 rfl rfl)
theorem dX5_advanceToken_23 : decode cX5_advanceToken 23 = .ok (.if_icmp .ne 16, 3) := dk_160 0 16 (dk_at dksX5_advanceToken_1 0 rfl rfl)
theorem dX5_advanceToken_26 : decode cX5_advanceToken 26 = .ok (.aload_n 0, 1) := dk_42 (dk_at dksX5_advanceToken_1 3 rfl rfl)
theorem dX5_advanceToken_27 : decode cX5_advanceToken 27 = .ok (.dup, 1) := dk_89 (dk_at dksX5_advanceToken_1 4 rfl rfl)
theorem dX5_advanceToken_28 : decode cX5_advanceToken 28 = .ok (.getfield 264, 3) := dk_180 1 8 (dk_at dksX5_advanceToken_1 5 rfl rfl)
theorem dX5_advanceToken_31 : decode cX5_advanceToken 31 = .ok (.iconst 1, 1) := dk_4 (dk_at dksX5_advanceToken_1 8 rfl rfl)
theorem dX5_advanceToken_32 : decode cX5_advanceToken 32 = .ok (.iadd, 1) := dk_96 (dk_at dksX5_advanceToken_1 9 rfl rfl)
theorem dX5_advanceToken_33 : decode cX5_advanceToken 33 = .ok (.putfield 264, 3) := dk_181 1 8 (dk_at dksX5_advanceToken_1 10 rfl rfl)
theorem dX5_advanceToken_36 : decode cX5_advanceToken 36 = .ok (.goto (-36), 3) := dk_167 255 220 (dk_at dksX5_advanceToken_1 13 rfl rfl)
theorem dX5_advanceToken_39 : decode cX5_advanceToken 39 = .ok (.aload_n 0, 1) := dk_42 (dk_at dksX5_advanceToken_1 16 rfl rfl)
theorem dX5_advanceToken_40 : decode cX5_advanceToken 40 = .ok (.aload_n 0, 1) := dk_42 (dk_at dksX5_advanceToken_1 17 rfl rfl)
theorem dX5_advanceToken_41 : decode cX5_advanceToken 41 = .ok (.getfield 264, 3) := dk_180 1 8 (dk_at dksX5_advanceToken_1 18 rfl rfl)
theorem dX5_advanceToken_44 : decode cX5_advanceToken 44 = .ok (.putfield 267, 3) := dk_181 1 11 (dk_at dksX5_advanceToken_1 21 rfl rfl)
theorem dX5_advanceToken_47 : decode cX5_advanceToken 47 = .ok (.aload_n 0, 1) := dk_42 (dk_at dksX5_advanceToken_2 0 rfl rfl)
theorem dX5_advanceToken_48 : decode cX5_advanceToken 48 = .ok (.aload_n 0, 1) := dk_42 (dk_at dksX5_advanceToken_2 1 rfl rfl)
theorem dX5_advanceToken_49 : decode cX5_advanceToken 49 = .ok (.getfield 264, 3) := dk_180 1 8 (dk_at dksX5_advanceToken_2 2 rfl rfl)
theorem dX5_advanceToken_52 : decode cX5_advanceToken 52 = .ok (.invokevirtual 261, 3) := dk_182 1 5 (dk_at dksX5_advanceToken_2 5 rfl rfl)
theorem dX5_advanceToken_55 : decode cX5_advanceToken 55 = .ok (.istore_n 1, 1) := dk_60 (dk_at dksX5_advanceToken_2 8 rfl rfl)
theorem dX5_advanceToken_56 : decode cX5_advanceToken 56 = .ok (.aload_n 0, 1) := dk_42 (dk_at dksX5_advanceToken_2 9 rfl rfl)
theorem dX5_advanceToken_57 : decode cX5_advanceToken 57 = .ok (.iconst 0, 1) := dk_3 (dk_at dksX5_advanceToken_2 10 rfl rfl)
theorem dX5_advanceToken_58 : decode cX5_advanceToken 58 = .ok (.putfield 270, 3) := dk_181 1 14 (dk_at dksX5_advanceToken_2 11 rfl rfl)
theorem dX5_advanceToken_61 : decode cX5_advanceToken 61 = .ok (.iload_n 1, 1) := dk_27 (dk_at dksX5_advanceToken_2 14 rfl rfl)
theorem dX5_advanceToken_62 : decode cX5_advanceToken 62 = .ok (.iconst (-1), 1) := dk_2 (dk_at dksX5_advanceToken_2 15 rfl rfl)
theorem dX5_advanceToken_63 : decode cX5_advanceToken 63 = .ok (.if_icmp .ne 11, 3) := dk_160 0 11 (dk_at dksX5_advanceToken_2 16 rfl rfl)
theorem dX5_advanceToken_66 : decode cX5_advanceToken 66 = .ok (.aload_n 0, 1) := dk_42 (dk_at dksX5_advanceToken_2 19 rfl rfl)
theorem dX5_advanceToken_67 : decode cX5_advanceToken 67 = .ok (.iconst 0, 1) := dk_3 (dk_at dksX5_advanceToken_2 20 rfl rfl)
theorem dX5_advanceToken_68 : decode cX5_advanceToken 68 = .ok (.putfield 273, 3) := dk_181 1 17 (dk_at dksX5_advanceToken_2 21 rfl rfl)
theorem dX5_advanceToken_71 : decode cX5_advanceToken 71 = .ok (.goto 170, 3) := dk_167 0 170 (dk_at dksX5_advanceToken_3 0 rfl rfl)
theorem dX5_advanceToken_74 : decode cX5_advanceToken 74 = .ok (.aload_n 0, 1) := dk_42 (dk_at dksX5_advanceToken_3 3 rfl rfl)
theorem dX5_advanceToken_75 : decode cX5_advanceToken 75 = .ok (.aload_n 0, 1) := dk_42 (dk_at dksX5_advanceToken_3 4 rfl rfl)
theorem dX5_advanceToken_76 : decode cX5_advanceToken 76 = .ok (.getfield 264, 3) := dk_180 1 8 (dk_at dksX5_advanceToken_3 5 rfl rfl)
theorem dX5_advanceToken_79 : decode cX5_advanceToken 79 = .ok (.invokevirtual 276, 3) := dk_182 1 20 (dk_at dksX5_advanceToken_3 8 rfl rfl)
theorem dX5_advanceToken_82 : decode cX5_advanceToken 82 = .ok (.ifCond .eq 51, 3) := dk_153 0 51 (dk_at dksX5_advanceToken_3 11 rfl rfl)
theorem dX5_advanceToken_85 : decode cX5_advanceToken 85 = .ok (.aload_n 0, 1) := dk_42 (dk_at dksX5_advanceToken_3 14 rfl rfl)
theorem dX5_advanceToken_86 : decode cX5_advanceToken 86 = .ok (.iconst 1, 1) := dk_4 (dk_at dksX5_advanceToken_3 15 rfl rfl)
theorem dX5_advanceToken_87 : decode cX5_advanceToken 87 = .ok (.putfield 273, 3) := dk_181 1 17 (dk_at dksX5_advanceToken_3 16 rfl rfl)
theorem dX5_advanceToken_90 : decode cX5_advanceToken 90 = .ok (.aload_n 0, 1) := dk_42 (dk_at dksX5_advanceToken_3 19 rfl rfl)
theorem dX5_advanceToken_91 : decode cX5_advanceToken 91 = .ok (.aload_n 0, 1) := dk_42 (dk_at dksX5_advanceToken_3 20 rfl rfl)
theorem dX5_advanceToken_92 : decode cX5_advanceToken 92 = .ok (.getfield 264, 3) := dk_180 1 8 (dk_at dksX5_advanceToken_3 21 rfl rfl)
theorem dX5_advanceToken_95 : decode cX5_advanceToken 95 = .ok (.invokevirtual 276, 3) := dk_182 1 20 (dk_at dksX5_advanceToken_4 0 rfl rfl)
theorem dX5_advanceToken_98 : decode cX5_advanceToken 98 = .ok (.ifCond .eq 16, 3) := dk_153 0 16 (dk_at dksX5_advanceToken_4 3 rfl rfl)
theorem dX5_advanceToken_101 : decode cX5_advanceToken 101 = .ok (.aload_n 0, 1) := dk_42 (dk_at dksX5_advanceToken_4 6 rfl rfl)
theorem dX5_advanceToken_102 : decode cX5_advanceToken 102 = .ok (.dup, 1) := dk_89 (dk_at dksX5_advanceToken_4 7 rfl rfl)
theorem dX5_advanceToken_103 : decode cX5_advanceToken 103 = .ok (.getfield 264, 3) := dk_180 1 8 (dk_at dksX5_advanceToken_4 8 rfl rfl)
theorem dX5_advanceToken_106 : decode cX5_advanceToken 106 = .ok (.iconst 1, 1) := dk_4 (dk_at dksX5_advanceToken_4 11 rfl rfl)
theorem dX5_advanceToken_107 : decode cX5_advanceToken 107 = .ok (.iadd, 1) := dk_96 (dk_at dksX5_advanceToken_4 12 rfl rfl)
theorem dX5_advanceToken_108 : decode cX5_advanceToken 108 = .ok (.putfield 264, 3) := dk_181 1 8 (dk_at dksX5_advanceToken_4 13 rfl rfl)
theorem dX5_advanceToken_111 : decode cX5_advanceToken 111 = .ok (.goto (-21), 3) := dk_167 255 235 (dk_at dksX5_advanceToken_4 16 rfl rfl)
theorem dX5_advanceToken_114 : decode cX5_advanceToken 114 = .ok (.aload_n 0, 1) := dk_42 (dk_at dksX5_advanceToken_4 19 rfl rfl)
theorem dX5_advanceToken_115 : decode cX5_advanceToken 115 = .ok (.aload_n 0, 1) := dk_42 (dk_at dksX5_advanceToken_4 20 rfl rfl)
theorem dX5_advanceToken_116 : decode cX5_advanceToken 116 = .ok (.aload_n 0, 1) := dk_42 (dk_at dksX5_advanceToken_4 21 rfl rfl)
theorem dX5_advanceToken_117 : decode cX5_advanceToken 117 = .ok (.getfield 267, 3) := dk_180 1 11 (dk_at dksX5_advanceToken_5 0 rfl rfl)
theorem dX5_advanceToken_120 : decode cX5_advanceToken 120 = .ok (.aload_n 0, 1) := dk_42 (dk_at dksX5_advanceToken_5 3 rfl rfl)
theorem dX5_advanceToken_121 : decode cX5_advanceToken 121 = .ok (.getfield 264, 3) := dk_180 1 8 (dk_at dksX5_advanceToken_5 4 rfl rfl)
theorem dX5_advanceToken_124 : decode cX5_advanceToken 124 = .ok (.invokevirtual 279, 3) := dk_182 1 23 (dk_at dksX5_advanceToken_5 7 rfl rfl)
theorem dX5_advanceToken_127 : decode cX5_advanceToken 127 = .ok (.putfield 282, 3) := dk_181 1 26 (dk_at dksX5_advanceToken_5 10 rfl rfl)
theorem dX5_advanceToken_130 : decode cX5_advanceToken 130 = .ok (.goto 111, 3) := dk_167 0 111 (dk_at dksX5_advanceToken_5 13 rfl rfl)
theorem dX5_advanceToken_133 : decode cX5_advanceToken 133 = .ok (.iload_n 1, 1) := dk_27 (dk_at dksX5_advanceToken_5 16 rfl rfl)
theorem dX5_advanceToken_134 : decode cX5_advanceToken 134 = .ok (.bipush 48, 2) := dk_16 48 (dk_at dksX5_advanceToken_5 17 rfl rfl)
theorem dX5_advanceToken_136 : decode cX5_advanceToken 136 = .ok (.bipush 57, 2) := dk_16 57 (dk_at dksX5_advanceToken_5 19 rfl rfl)
theorem dX5_advanceToken_138 : decode cX5_advanceToken 138 = .ok (.invokestatic 103, 3) := dk_184 0 103 (dk_at dksX5_advanceToken_5 21 rfl rfl)
theorem dX5_advanceToken_141 : decode cX5_advanceToken 141 = .ok (.ifCond .eq 75, 3) := dk_153 0 75 (dk_at dksX5_advanceToken_6 0 rfl rfl)
theorem dX5_advanceToken_144 : decode cX5_advanceToken 144 = .ok (.aload_n 0, 1) := dk_42 (dk_at dksX5_advanceToken_6 3 rfl rfl)
theorem dX5_advanceToken_145 : decode cX5_advanceToken 145 = .ok (.iconst 2, 1) := dk_5 (dk_at dksX5_advanceToken_6 4 rfl rfl)
theorem dX5_advanceToken_146 : decode cX5_advanceToken 146 = .ok (.putfield 273, 3) := dk_181 1 17 (dk_at dksX5_advanceToken_6 5 rfl rfl)
theorem dX5_advanceToken_149 : decode cX5_advanceToken 149 = .ok (.aload_n 0, 1) := dk_42 (dk_at dksX5_advanceToken_6 8 rfl rfl)
theorem dX5_advanceToken_150 : decode cX5_advanceToken 150 = .ok (.aload_n 0, 1) := dk_42 (dk_at dksX5_advanceToken_6 9 rfl rfl)
theorem dX5_advanceToken_151 : decode cX5_advanceToken 151 = .ok (.getfield 264, 3) := dk_180 1 8 (dk_at dksX5_advanceToken_6 10 rfl rfl)
theorem dX5_advanceToken_154 : decode cX5_advanceToken 154 = .ok (.invokevirtual 261, 3) := dk_182 1 5 (dk_at dksX5_advanceToken_6 13 rfl rfl)
theorem dX5_advanceToken_157 : decode cX5_advanceToken 157 = .ok (.bipush 48, 2) := dk_16 48 (dk_at dksX5_advanceToken_6 16 rfl rfl)
theorem dX5_advanceToken_159 : decode cX5_advanceToken 159 = .ok (.bipush 57, 2) := dk_16 57 (dk_at dksX5_advanceToken_6 18 rfl rfl)
theorem dX5_advanceToken_161 : decode cX5_advanceToken 161 = .ok (.invokestatic 103, 3) := dk_184 0 103 (dk_at dksX5_advanceToken_6 20 rfl rfl)
theorem dX5_advanceToken_164 : decode cX5_advanceToken 164 = .ok (.ifCond .eq 77, 3) := dk_153 0 77 (dk_at dksX5_advanceToken_7 0 rfl rfl)
theorem dX5_advanceToken_167 : decode cX5_advanceToken 167 = .ok (.aload_n 0, 1) := dk_42 (dk_at dksX5_advanceToken_7 3 rfl rfl)
theorem dX5_advanceToken_168 : decode cX5_advanceToken 168 = .ok (.getfield 264, 3) := dk_180 1 8 (dk_at dksX5_advanceToken_7 4 rfl rfl)
theorem dX5_advanceToken_171 : decode cX5_advanceToken 171 = .ok (.aload_n 0, 1) := dk_42 (dk_at dksX5_advanceToken_7 7 rfl rfl)
theorem dX5_advanceToken_172 : decode cX5_advanceToken 172 = .ok (.getfield 267, 3) := dk_180 1 11 (dk_at dksX5_advanceToken_7 8 rfl rfl)
theorem dX5_advanceToken_175 : decode cX5_advanceToken 175 = .ok (.isub, 1) := dk_100 (dk_at dksX5_advanceToken_7 11 rfl rfl)
theorem dX5_advanceToken_176 : decode cX5_advanceToken 176 = .ok (.iconst 3, 1) := dk_6 (dk_at dksX5_advanceToken_7 12 rfl rfl)
theorem dX5_advanceToken_177 : decode cX5_advanceToken 177 = .ok (.if_icmp .ge 26, 3) := dk_162 0 26 (dk_at dksX5_advanceToken_7 13 rfl rfl)
theorem dX5_advanceToken_180 : decode cX5_advanceToken 180 = .ok (.aload_n 0, 1) := dk_42 (dk_at dksX5_advanceToken_7 16 rfl rfl)
theorem dX5_advanceToken_181 : decode cX5_advanceToken 181 = .ok (.bipush 10, 2) := dk_16 10 (dk_at dksX5_advanceToken_7 17 rfl rfl)
theorem dX5_advanceToken_183 : decode cX5_advanceToken 183 = .ok (.aload_n 0, 1) := dk_42 (dk_at dksX5_advanceToken_7 19 rfl rfl)
theorem dX5_advanceToken_184 : decode cX5_advanceToken 184 = .ok (.getfield 270, 3) := dk_180 1 14 (dk_at dksX5_advanceToken_7 20 rfl rfl)
theorem dX5_advanceToken_187 : decode cX5_advanceToken 187 = .ok (.imul, 1) := dk_104 (dk_at dksX5_advanceToken_7 23 rfl rfl)
theorem dX5_advanceToken_188 : decode cX5_advanceToken 188 = .ok (.aload_n 0, 1) := dk_42 (dk_at dksX5_advanceToken_8 0 rfl rfl)
theorem dX5_advanceToken_189 : decode cX5_advanceToken 189 = .ok (.aload_n 0, 1) := dk_42 (dk_at dksX5_advanceToken_8 1 rfl rfl)
theorem dX5_advanceToken_190 : decode cX5_advanceToken 190 = .ok (.getfield 264, 3) := dk_180 1 8 (dk_at dksX5_advanceToken_8 2 rfl rfl)
theorem dX5_advanceToken_193 : decode cX5_advanceToken 193 = .ok (.invokevirtual 261, 3) := dk_182 1 5 (dk_at dksX5_advanceToken_8 5 rfl rfl)
theorem dX5_advanceToken_196 : decode cX5_advanceToken 196 = .ok (.iadd, 1) := dk_96 (dk_at dksX5_advanceToken_8 8 rfl rfl)
theorem dX5_advanceToken_197 : decode cX5_advanceToken 197 = .ok (.bipush 48, 2) := dk_16 48 (dk_at dksX5_advanceToken_8 9 rfl rfl)
theorem dX5_advanceToken_199 : decode cX5_advanceToken 199 = .ok (.isub, 1) := dk_100 (dk_at dksX5_advanceToken_8 11 rfl rfl)
theorem dX5_advanceToken_200 : decode cX5_advanceToken 200 = .ok (.putfield 270, 3) := dk_181 1 14 (dk_at dksX5_advanceToken_8 12 rfl rfl)
theorem dX5_advanceToken_203 : decode cX5_advanceToken 203 = .ok (.aload_n 0, 1) := dk_42 (dk_at dksX5_advanceToken_8 15 rfl rfl)
theorem dX5_advanceToken_204 : decode cX5_advanceToken 204 = .ok (.dup, 1) := dk_89 (dk_at dksX5_advanceToken_8 16 rfl rfl)
theorem dX5_advanceToken_205 : decode cX5_advanceToken 205 = .ok (.getfield 264, 3) := dk_180 1 8 (dk_at dksX5_advanceToken_8 17 rfl rfl)
theorem dX5_advanceToken_208 : decode cX5_advanceToken 208 = .ok (.iconst 1, 1) := dk_4 (dk_at dksX5_advanceToken_8 20 rfl rfl)
theorem dX5_advanceToken_209 : decode cX5_advanceToken 209 = .ok (.iadd, 1) := dk_96 (dk_at dksX5_advanceToken_8 21 rfl rfl)
theorem dX5_advanceToken_210 : decode cX5_advanceToken 210 = .ok (.putfield 264, 3) := dk_181 1 8 (dk_at dksX5_advanceToken_9 0 rfl rfl)
theorem dX5_advanceToken_213 : decode cX5_advanceToken 213 = .ok (.goto (-64), 3) := dk_167 255 192 (dk_at dksX5_advanceToken_9 3 rfl rfl)
theorem dX5_advanceToken_216 : decode cX5_advanceToken 216 = .ok (.aload_n 0, 1) := dk_42 (dk_at dksX5_advanceToken_9 6 rfl rfl)
theorem dX5_advanceToken_217 : decode cX5_advanceToken 217 = .ok (.iload_n 1, 1) := dk_27 (dk_at dksX5_advanceToken_9 7 rfl rfl)
theorem dX5_advanceToken_218 : decode cX5_advanceToken 218 = .ok (.bipush 59, 2) := dk_16 59 (dk_at dksX5_advanceToken_9 8 rfl rfl)
theorem dX5_advanceToken_220 : decode cX5_advanceToken 220 = .ok (.if_icmp .ne 7, 3) := dk_160 0 7 (dk_at dksX5_advanceToken_9 10 rfl rfl)
theorem dX5_advanceToken_223 : decode cX5_advanceToken 223 = .ok (.iconst 3, 1) := dk_6 (dk_at dksX5_advanceToken_9 13 rfl rfl)
theorem dX5_advanceToken_224 : decode cX5_advanceToken 224 = .ok (.goto 4, 3) := dk_167 0 4 (dk_at dksX5_advanceToken_9 14 rfl rfl)
theorem dX5_advanceToken_227 : decode cX5_advanceToken 227 = .ok (.iconst 4, 1) := dk_7 (dk_at dksX5_advanceToken_9 17 rfl rfl)
theorem dX5_advanceToken_228 : decode cX5_advanceToken 228 = .ok (.putfield 273, 3) := dk_181 1 17 (dk_at dksX5_advanceToken_9 18 rfl rfl)
theorem dX5_advanceToken_231 : decode cX5_advanceToken 231 = .ok (.aload_n 0, 1) := dk_42 (dk_at dksX5_advanceToken_9 21 rfl rfl)
theorem dX5_advanceToken_232 : decode cX5_advanceToken 232 = .ok (.dup, 1) := dk_89 (dk_at dksX5_advanceToken_9 22 rfl rfl)
theorem dX5_advanceToken_233 : decode cX5_advanceToken 233 = .ok (.getfield 264, 3) := dk_180 1 8 (dk_at dksX5_advanceToken_10 0 rfl rfl)
theorem dX5_advanceToken_236 : decode cX5_advanceToken 236 = .ok (.iconst 1, 1) := dk_4 (dk_at dksX5_advanceToken_10 3 rfl rfl)
theorem dX5_advanceToken_237 : decode cX5_advanceToken 237 = .ok (.iadd, 1) := dk_96 (dk_at dksX5_advanceToken_10 4 rfl rfl)
theorem dX5_advanceToken_238 : decode cX5_advanceToken 238 = .ok (.putfield 264, 3) := dk_181 1 8 (dk_at dksX5_advanceToken_10 5 rfl rfl)
theorem dX5_advanceToken_241 : decode cX5_advanceToken 241 = .ok (.return_, 1) := dk_177 (dk_at dksX5_advanceToken_10 8 rfl rfl)
abbrev cX5_byteAt : ByteArray := prog_20_method_56_code
def yX5_byteAt : MethodName := ⟨RX5, "byteAt", "(I)I"⟩
def dkwX5_byteAt_0 : List UInt8 := [27, 42, 180, 0, 255, 162, 0, 12, 42, 180, 0, 74, 27, 46, 167, 0, 4, 2, 172]
abbrev dktX5_byteAt_0 : List UInt8 := dkwX5_byteAt_0 ++ []
theorem dksX5_byteAt_0 : cX5_byteAt.data.toList.drop 0 = dktX5_byteAt_0 := by decide +kernel
theorem dX5_byteAt_0 : decode cX5_byteAt 0 = .ok (.iload_n 1, 1) := dk_27 (dk_at dksX5_byteAt_0 0 rfl rfl)
theorem dX5_byteAt_1 : decode cX5_byteAt 1 = .ok (.aload_n 0, 1) := dk_42 (dk_at dksX5_byteAt_0 1 rfl rfl)
theorem dX5_byteAt_2 : decode cX5_byteAt 2 = .ok (.getfield 255, 3) := dk_180 0 255 (dk_at dksX5_byteAt_0 2 rfl rfl)
theorem dX5_byteAt_5 : decode cX5_byteAt 5 = .ok (.if_icmp .ge 12, 3) := dk_162 0 12 (dk_at dksX5_byteAt_0 5 rfl rfl)
theorem dX5_byteAt_8 : decode cX5_byteAt 8 = .ok (.aload_n 0, 1) := dk_42 (dk_at dksX5_byteAt_0 8 rfl rfl)
theorem dX5_byteAt_9 : decode cX5_byteAt 9 = .ok (.getfield 74, 3) := dk_180 0 74 (dk_at dksX5_byteAt_0 9 rfl rfl)
theorem dX5_byteAt_12 : decode cX5_byteAt 12 = .ok (.iload_n 1, 1) := dk_27 (dk_at dksX5_byteAt_0 12 rfl rfl)
theorem dX5_byteAt_13 : decode cX5_byteAt 13 = .ok (.iaload, 1) := dk_46 (dk_at dksX5_byteAt_0 13 rfl rfl)
theorem dX5_byteAt_14 : decode cX5_byteAt 14 = .ok (.goto 4, 3) := dk_167 0 4 (dk_at dksX5_byteAt_0 14 rfl rfl)
theorem dX5_byteAt_17 : decode cX5_byteAt 17 = .ok (.iconst (-1), 1) := dk_2 (dk_at dksX5_byteAt_0 17 rfl rfl)
theorem dX5_byteAt_18 : decode cX5_byteAt 18 = .ok (.ireturn, 1) := dk_172 (dk_at dksX5_byteAt_0 18 rfl rfl)
abbrev cX5_isLetter : ByteArray := prog_20_method_57_code
def yX5_isLetter : MethodName := ⟨RX5, "isLetter", "(I)Z"⟩
def dkwX5_isLetter_0 : List UInt8 := [42, 27, 182, 1, 5, 16, 97, 16, 122, 184, 0, 103, 172]
abbrev dktX5_isLetter_0 : List UInt8 := dkwX5_isLetter_0 ++ []
theorem dksX5_isLetter_0 : cX5_isLetter.data.toList.drop 0 = dktX5_isLetter_0 := by decide +kernel
theorem dX5_isLetter_0 : decode cX5_isLetter 0 = .ok (.aload_n 0, 1) := dk_42 (dk_at dksX5_isLetter_0 0 rfl rfl)
theorem dX5_isLetter_1 : decode cX5_isLetter 1 = .ok (.iload_n 1, 1) := dk_27 (dk_at dksX5_isLetter_0 1 rfl rfl)
theorem dX5_isLetter_2 : decode cX5_isLetter 2 = .ok (.invokevirtual 261, 3) := dk_182 1 5 (dk_at dksX5_isLetter_0 2 rfl rfl)
theorem dX5_isLetter_5 : decode cX5_isLetter 5 = .ok (.bipush 97, 2) := dk_16 97 (dk_at dksX5_isLetter_0 5 rfl rfl)
theorem dX5_isLetter_7 : decode cX5_isLetter 7 = .ok (.bipush 122, 2) := dk_16 122 (dk_at dksX5_isLetter_0 7 rfl rfl)
theorem dX5_isLetter_9 : decode cX5_isLetter 9 = .ok (.invokestatic 103, 3) := dk_184 0 103 (dk_at dksX5_isLetter_0 9 rfl rfl)
theorem dX5_isLetter_12 : decode cX5_isLetter 12 = .ok (.ireturn, 1) := dk_172 (dk_at dksX5_isLetter_0 12 rfl rfl)
abbrev cX5_nameAt : ByteArray := prog_20_method_59_code
def yX5_nameAt : MethodName := ⟨RX5, "nameAt", "(II)J"⟩
def dkwX5_nameAt_2 : List UInt8 := [167, 255, 216, 33, 173]
abbrev dktX5_nameAt_2 : List UInt8 := dkwX5_nameAt_2 ++ []
def dkwX5_nameAt_1 : List UInt8 := [162, 0, 16, 42, 180, 0, 74, 21, 5, 46, 16, 96, 100, 167, 0, 4, 3, 133, 97, 66, 132, 5, 1]
abbrev dktX5_nameAt_1 : List UInt8 := dkwX5_nameAt_1 ++ dktX5_nameAt_2
def dkwX5_nameAt_0 : List UInt8 := [9, 66, 27, 54, 5, 21, 5, 27, 16, 7, 96, 162, 0, 37, 20, 0, 150, 33, 105, 21, 5, 28]
abbrev dktX5_nameAt_0 : List UInt8 := dkwX5_nameAt_0 ++ dktX5_nameAt_1
theorem dksX5_nameAt_0 : cX5_nameAt.data.toList.drop 0 = dktX5_nameAt_0 := by decide +kernel
theorem dksX5_nameAt_1 : cX5_nameAt.data.toList.drop 22 = dktX5_nameAt_1 := dk_seg dksX5_nameAt_0 22 rfl rfl
theorem dksX5_nameAt_2 : cX5_nameAt.data.toList.drop 45 = dktX5_nameAt_2 := dk_seg dksX5_nameAt_1 23 rfl rfl
theorem dX5_nameAt_0 : decode cX5_nameAt 0 = .ok (.lconst 0, 1) := dk_9 (dk_at dksX5_nameAt_0 0 rfl rfl)
theorem dX5_nameAt_1 : decode cX5_nameAt 1 = .ok (.lstore_n 3, 1) := dk_66 (dk_at dksX5_nameAt_0 1 rfl rfl)
theorem dX5_nameAt_2 : decode cX5_nameAt 2 = .ok (.iload_n 1, 1) := dk_27 (dk_at dksX5_nameAt_0 2 rfl rfl)
theorem dX5_nameAt_3 : decode cX5_nameAt 3 = .ok (.istore 5, 2) := dk_54 5 (dk_at dksX5_nameAt_0 3 rfl rfl)
theorem dX5_nameAt_5 : decode cX5_nameAt 5 = .ok (.iload 5, 2) := dk_21 5 (dk_at dksX5_nameAt_0 5 rfl rfl)
theorem dX5_nameAt_7 : decode cX5_nameAt 7 = .ok (.iload_n 1, 1) := dk_27 (dk_at dksX5_nameAt_0 7 rfl rfl)
theorem dX5_nameAt_8 : decode cX5_nameAt 8 = .ok (.bipush 7, 2) := dk_16 7 (dk_at dksX5_nameAt_0 8 rfl rfl)
theorem dX5_nameAt_10 : decode cX5_nameAt 10 = .ok (.iadd, 1) := dk_96 (dk_at dksX5_nameAt_0 10 rfl rfl)
theorem dX5_nameAt_11 : decode cX5_nameAt 11 = .ok (.if_icmp .ge 37, 3) := dk_162 0 37 (dk_at dksX5_nameAt_0 11 rfl rfl)
theorem dX5_nameAt_14 : decode cX5_nameAt 14 = .ok (.ldc2_w 150, 3) := dk_20 0 150 (dk_at dksX5_nameAt_0 14 rfl rfl)
theorem dX5_nameAt_17 : decode cX5_nameAt 17 = .ok (.lload_n 3, 1) := dk_33 (dk_at dksX5_nameAt_0 17 rfl rfl)
theorem dX5_nameAt_18 : decode cX5_nameAt 18 = .ok (.lmul, 1) := dk_105 (dk_at dksX5_nameAt_0 18 rfl rfl)
theorem dX5_nameAt_19 : decode cX5_nameAt 19 = .ok (.iload 5, 2) := dk_21 5 (dk_at dksX5_nameAt_0 19 rfl rfl)
theorem dX5_nameAt_21 : decode cX5_nameAt 21 = .ok (.iload_n 2, 1) := dk_28 (dk_at dksX5_nameAt_0 21 rfl rfl)
theorem dX5_nameAt_22 : decode cX5_nameAt 22 = .ok (.if_icmp .ge 16, 3) := dk_162 0 16 (dk_at dksX5_nameAt_1 0 rfl rfl)
theorem dX5_nameAt_25 : decode cX5_nameAt 25 = .ok (.aload_n 0, 1) := dk_42 (dk_at dksX5_nameAt_1 3 rfl rfl)
theorem dX5_nameAt_26 : decode cX5_nameAt 26 = .ok (.getfield 74, 3) := dk_180 0 74 (dk_at dksX5_nameAt_1 4 rfl rfl)
theorem dX5_nameAt_29 : decode cX5_nameAt 29 = .ok (.iload 5, 2) := dk_21 5 (dk_at dksX5_nameAt_1 7 rfl rfl)
theorem dX5_nameAt_31 : decode cX5_nameAt 31 = .ok (.iaload, 1) := dk_46 (dk_at dksX5_nameAt_1 9 rfl rfl)
theorem dX5_nameAt_32 : decode cX5_nameAt 32 = .ok (.bipush 96, 2) := dk_16 96 (dk_at dksX5_nameAt_1 10 rfl rfl)
theorem dX5_nameAt_34 : decode cX5_nameAt 34 = .ok (.isub, 1) := dk_100 (dk_at dksX5_nameAt_1 12 rfl rfl)
theorem dX5_nameAt_35 : decode cX5_nameAt 35 = .ok (.goto 4, 3) := dk_167 0 4 (dk_at dksX5_nameAt_1 13 rfl rfl)
theorem dX5_nameAt_38 : decode cX5_nameAt 38 = .ok (.iconst 0, 1) := dk_3 (dk_at dksX5_nameAt_1 16 rfl rfl)
theorem dX5_nameAt_39 : decode cX5_nameAt 39 = .ok (.i2l, 1) := dk_133 (dk_at dksX5_nameAt_1 17 rfl rfl)
theorem dX5_nameAt_40 : decode cX5_nameAt 40 = .ok (.ladd, 1) := dk_97 (dk_at dksX5_nameAt_1 18 rfl rfl)
theorem dX5_nameAt_41 : decode cX5_nameAt 41 = .ok (.lstore_n 3, 1) := dk_66 (dk_at dksX5_nameAt_1 19 rfl rfl)
theorem dX5_nameAt_42 : decode cX5_nameAt 42 = .ok (.iinc 5 1, 3) := dk_132 5 1 (dk_at dksX5_nameAt_1 20 rfl rfl)
theorem dX5_nameAt_45 : decode cX5_nameAt 45 = .ok (.goto (-40), 3) := dk_167 255 216 (dk_at dksX5_nameAt_2 0 rfl rfl)
theorem dX5_nameAt_48 : decode cX5_nameAt 48 = .ok (.lload_n 3, 1) := dk_33 (dk_at dksX5_nameAt_2 3 rfl rfl)
theorem dX5_nameAt_49 : decode cX5_nameAt 49 = .ok (.lreturn, 1) := dk_173 (dk_at dksX5_nameAt_2 4 rfl rfl)
abbrev cX5_readText : ByteArray := prog_20_method_80_code
def yX5_readText : MethodName := ⟨RX5, "readText", "()Z"⟩
def dkwX5_readText_2 : List UInt8 := [42, 8, 182, 1, 46, 153, 0, 7, 4, 167, 0, 4, 3, 172]
abbrev dktX5_readText_2 : List UInt8 := dkwX5_readText_2 ++ []
def dkwX5_readText_1 : List UInt8 := [182, 1, 140, 153, 0, 10, 42, 182, 1, 137, 154, 255, 238, 3, 172, 42, 180, 0, 7, 5, 46, 157, 0, 11]
abbrev dktX5_readText_1 : List UInt8 := dkwX5_readText_1 ++ dktX5_readText_2
def dkwX5_readText_0 : List UInt8 := [42, 182, 1, 134, 153, 0, 10, 42, 182, 1, 137, 154, 0, 5, 3, 172, 42, 180, 1, 17, 153, 0, 19, 42]
abbrev dktX5_readText_0 : List UInt8 := dkwX5_readText_0 ++ dktX5_readText_1
theorem dksX5_readText_0 : cX5_readText.data.toList.drop 0 = dktX5_readText_0 := by decide +kernel
theorem dksX5_readText_1 : cX5_readText.data.toList.drop 24 = dktX5_readText_1 := dk_seg dksX5_readText_0 24 rfl rfl
theorem dksX5_readText_2 : cX5_readText.data.toList.drop 48 = dktX5_readText_2 := dk_seg dksX5_readText_1 24 rfl rfl
theorem dX5_readText_0 : decode cX5_readText 0 = .ok (.aload_n 0, 1) := dk_42 (dk_at dksX5_readText_0 0 rfl rfl)
theorem dX5_readText_1 : decode cX5_readText 1 = .ok (.invokevirtual 390, 3) := dk_182 1 134 (dk_at dksX5_readText_0 1 rfl rfl)
theorem dX5_readText_4 : decode cX5_readText 4 = .ok (.ifCond .eq 10, 3) := dk_153 0 10 (dk_at dksX5_readText_0 4 rfl rfl)
theorem dX5_readText_7 : decode cX5_readText 7 = .ok (.aload_n 0, 1) := dk_42 (dk_at dksX5_readText_0 7 rfl rfl)
theorem dX5_readText_8 : decode cX5_readText 8 = .ok (.invokevirtual 393, 3) := dk_182 1 137 (dk_at dksX5_readText_0 8 rfl rfl)
theorem dX5_readText_11 : decode cX5_readText 11 = .ok (.ifCond .ne 5, 3) := dk_154 0 5 (dk_at dksX5_readText_0 11 rfl rfl)
theorem dX5_readText_14 : decode cX5_readText 14 = .ok (.iconst 0, 1) := dk_3 (dk_at dksX5_readText_0 14 rfl rfl)
theorem dX5_readText_15 : decode cX5_readText 15 = .ok (.ireturn, 1) := dk_172 (dk_at dksX5_readText_0 15 rfl rfl)
theorem dX5_readText_16 : decode cX5_readText 16 = .ok (.aload_n 0, 1) := dk_42 (dk_at dksX5_readText_0 16 rfl rfl)
theorem dX5_readText_17 : decode cX5_readText 17 = .ok (.getfield 273, 3) := dk_180 1 17 (dk_at dksX5_readText_0 17 rfl rfl)
theorem dX5_readText_20 : decode cX5_readText 20 = .ok (.ifCond .eq 19, 3) := dk_153 0 19 (dk_at dksX5_readText_0 20 rfl rfl)
theorem dX5_readText_23 : decode cX5_readText 23 = .ok (.aload_n 0, 1) := dk_42 (dk_at dksX5_readText_0 23 rfl rfl)
theorem dX5_readText_24 : decode cX5_readText 24 = .ok (.invokevirtual 396, 3) := dk_182 1 140 (dk_at dksX5_readText_1 0 rfl rfl)
theorem dX5_readText_27 : decode cX5_readText 27 = .ok (.ifCond .eq 10, 3) := dk_153 0 10 (dk_at dksX5_readText_1 3 rfl rfl)
theorem dX5_readText_30 : decode cX5_readText 30 = .ok (.aload_n 0, 1) := dk_42 (dk_at dksX5_readText_1 6 rfl rfl)
theorem dX5_readText_31 : decode cX5_readText 31 = .ok (.invokevirtual 393, 3) := dk_182 1 137 (dk_at dksX5_readText_1 7 rfl rfl)
theorem dX5_readText_34 : decode cX5_readText 34 = .ok (.ifCond .ne (-18), 3) := dk_154 255 238 (dk_at dksX5_readText_1 10 rfl rfl)
theorem dX5_readText_37 : decode cX5_readText 37 = .ok (.iconst 0, 1) := dk_3 (dk_at dksX5_readText_1 13 rfl rfl)
theorem dX5_readText_38 : decode cX5_readText 38 = .ok (.ireturn, 1) := dk_172 (dk_at dksX5_readText_1 14 rfl rfl)
theorem dX5_readText_39 : decode cX5_readText 39 = .ok (.aload_n 0, 1) := dk_42 (dk_at dksX5_readText_1 15 rfl rfl)
theorem dX5_readText_40 : decode cX5_readText 40 = .ok (.getfield 7, 3) := dk_180 0 7 (dk_at dksX5_readText_1 16 rfl rfl)
theorem dX5_readText_43 : decode cX5_readText 43 = .ok (.iconst 2, 1) := dk_5 (dk_at dksX5_readText_1 19 rfl rfl)
theorem dX5_readText_44 : decode cX5_readText 44 = .ok (.iaload, 1) := dk_46 (dk_at dksX5_readText_1 20 rfl rfl)
theorem dX5_readText_45 : decode cX5_readText 45 = .ok (.ifCond .gt 11, 3) := dk_157 0 11 (dk_at dksX5_readText_1 21 rfl rfl)
theorem dX5_readText_48 : decode cX5_readText 48 = .ok (.aload_n 0, 1) := dk_42 (dk_at dksX5_readText_2 0 rfl rfl)
theorem dX5_readText_49 : decode cX5_readText 49 = .ok (.iconst 5, 1) := dk_8 (dk_at dksX5_readText_2 1 rfl rfl)
theorem dX5_readText_50 : decode cX5_readText 50 = .ok (.invokevirtual 302, 3) := dk_182 1 46 (dk_at dksX5_readText_2 2 rfl rfl)
theorem dX5_readText_53 : decode cX5_readText 53 = .ok (.ifCond .eq 7, 3) := dk_153 0 7 (dk_at dksX5_readText_2 5 rfl rfl)
theorem dX5_readText_56 : decode cX5_readText 56 = .ok (.iconst 1, 1) := dk_4 (dk_at dksX5_readText_2 8 rfl rfl)
theorem dX5_readText_57 : decode cX5_readText 57 = .ok (.goto 4, 3) := dk_167 0 4 (dk_at dksX5_readText_2 9 rfl rfl)
theorem dX5_readText_60 : decode cX5_readText 60 = .ok (.iconst 0, 1) := dk_3 (dk_at dksX5_readText_2 12 rfl rfl)
theorem dX5_readText_61 : decode cX5_readText 61 = .ok (.ireturn, 1) := dk_172 (dk_at dksX5_readText_2 13 rfl rfl)
abbrev cX5_readMap : ByteArray := prog_20_method_68_code
def yX5_readMap : MethodName := ⟨RX5, "readMap", "()Z"⟩
def dkwX5_readMap_2 : List UInt8 := [172, 42, 27, 42, 180, 1, 49, 182, 0, 94, 4, 172]
abbrev dktX5_readMap_2 : List UInt8 := dkwX5_readMap_2 ++ []
def dkwX5_readMap_1 : List UInt8 := [182, 1, 75, 154, 0, 5, 3, 172, 42, 180, 1, 49, 60, 42, 5, 16, 12, 182, 1, 75, 154, 0, 5, 3]
abbrev dktX5_readMap_1 : List UInt8 := dkwX5_readMap_1 ++ dktX5_readMap_2
def dkwX5_readMap_0 : List UInt8 := [42, 19, 1, 69, 182, 1, 71, 154, 0, 9, 42, 4, 182, 1, 46, 172, 42, 182, 1, 52, 42, 5, 16, 12]
abbrev dktX5_readMap_0 : List UInt8 := dkwX5_readMap_0 ++ dktX5_readMap_1
theorem dksX5_readMap_0 : cX5_readMap.data.toList.drop 0 = dktX5_readMap_0 := by decide +kernel
theorem dksX5_readMap_1 : cX5_readMap.data.toList.drop 24 = dktX5_readMap_1 := dk_seg dksX5_readMap_0 24 rfl rfl
theorem dksX5_readMap_2 : cX5_readMap.data.toList.drop 48 = dktX5_readMap_2 := dk_seg dksX5_readMap_1 24 rfl rfl
theorem dX5_readMap_0 : decode cX5_readMap 0 = .ok (.aload_n 0, 1) := dk_42 (dk_at dksX5_readMap_0 0 rfl rfl)
theorem dX5_readMap_1 : decode cX5_readMap 1 = .ok (.ldc_w 325, 3) := dk_19 1 69 (dk_at dksX5_readMap_0 1 rfl rfl)
theorem dX5_readMap_4 : decode cX5_readMap 4 = .ok (.invokevirtual 327, 3) := dk_182 1 71 (dk_at dksX5_readMap_0 4 rfl rfl)
theorem dX5_readMap_7 : decode cX5_readMap 7 = .ok (.ifCond .ne 9, 3) := dk_154 0 9 (dk_at dksX5_readMap_0 7 rfl rfl)
theorem dX5_readMap_10 : decode cX5_readMap 10 = .ok (.aload_n 0, 1) := dk_42 (dk_at dksX5_readMap_0 10 rfl rfl)
theorem dX5_readMap_11 : decode cX5_readMap 11 = .ok (.iconst 1, 1) := dk_4 (dk_at dksX5_readMap_0 11 rfl rfl)
theorem dX5_readMap_12 : decode cX5_readMap 12 = .ok (.invokevirtual 302, 3) := dk_182 1 46 (dk_at dksX5_readMap_0 12 rfl rfl)
theorem dX5_readMap_15 : decode cX5_readMap 15 = .ok (.ireturn, 1) := dk_172 (dk_at dksX5_readMap_0 15 rfl rfl)
theorem dX5_readMap_16 : decode cX5_readMap 16 = .ok (.aload_n 0, 1) := dk_42 (dk_at dksX5_readMap_0 16 rfl rfl)
theorem dX5_readMap_17 : decode cX5_readMap 17 = .ok (.invokevirtual 308, 3) := dk_182 1 52 (dk_at dksX5_readMap_0 17 rfl rfl)
theorem dX5_readMap_20 : decode cX5_readMap 20 = .ok (.aload_n 0, 1) := dk_42 (dk_at dksX5_readMap_0 20 rfl rfl)
theorem dX5_readMap_21 : decode cX5_readMap 21 = .ok (.iconst 2, 1) := dk_5 (dk_at dksX5_readMap_0 21 rfl rfl)
theorem dX5_readMap_22 : decode cX5_readMap 22 = .ok (.bipush 12, 2) := dk_16 12 (dk_at dksX5_readMap_0 22 rfl rfl)
theorem dX5_readMap_24 : decode cX5_readMap 24 = .ok (.invokevirtual 331, 3) := dk_182 1 75 (dk_at dksX5_readMap_1 0 rfl rfl)
theorem dX5_readMap_27 : decode cX5_readMap 27 = .ok (.ifCond .ne 5, 3) := dk_154 0 5 (dk_at dksX5_readMap_1 3 rfl rfl)
theorem dX5_readMap_30 : decode cX5_readMap 30 = .ok (.iconst 0, 1) := dk_3 (dk_at dksX5_readMap_1 6 rfl rfl)
theorem dX5_readMap_31 : decode cX5_readMap 31 = .ok (.ireturn, 1) := dk_172 (dk_at dksX5_readMap_1 7 rfl rfl)
theorem dX5_readMap_32 : decode cX5_readMap 32 = .ok (.aload_n 0, 1) := dk_42 (dk_at dksX5_readMap_1 8 rfl rfl)
theorem dX5_readMap_33 : decode cX5_readMap 33 = .ok (.getfield 305, 3) := dk_180 1 49 (dk_at dksX5_readMap_1 9 rfl rfl)
theorem dX5_readMap_36 : decode cX5_readMap 36 = .ok (.istore_n 1, 1) := dk_60 (dk_at dksX5_readMap_1 12 rfl rfl)
theorem dX5_readMap_37 : decode cX5_readMap 37 = .ok (.aload_n 0, 1) := dk_42 (dk_at dksX5_readMap_1 13 rfl rfl)
theorem dX5_readMap_38 : decode cX5_readMap 38 = .ok (.iconst 2, 1) := dk_5 (dk_at dksX5_readMap_1 14 rfl rfl)
theorem dX5_readMap_39 : decode cX5_readMap 39 = .ok (.bipush 12, 2) := dk_16 12 (dk_at dksX5_readMap_1 15 rfl rfl)
theorem dX5_readMap_41 : decode cX5_readMap 41 = .ok (.invokevirtual 331, 3) := dk_182 1 75 (dk_at dksX5_readMap_1 17 rfl rfl)
theorem dX5_readMap_44 : decode cX5_readMap 44 = .ok (.ifCond .ne 5, 3) := dk_154 0 5 (dk_at dksX5_readMap_1 20 rfl rfl)
theorem dX5_readMap_47 : decode cX5_readMap 47 = .ok (.iconst 0, 1) := dk_3 (dk_at dksX5_readMap_1 23 rfl rfl)
theorem dX5_readMap_48 : decode cX5_readMap 48 = .ok (.ireturn, 1) := dk_172 (dk_at dksX5_readMap_2 0 rfl rfl)
theorem dX5_readMap_49 : decode cX5_readMap 49 = .ok (.aload_n 0, 1) := dk_42 (dk_at dksX5_readMap_2 1 rfl rfl)
theorem dX5_readMap_50 : decode cX5_readMap 50 = .ok (.iload_n 1, 1) := dk_27 (dk_at dksX5_readMap_2 2 rfl rfl)
theorem dX5_readMap_51 : decode cX5_readMap 51 = .ok (.aload_n 0, 1) := dk_42 (dk_at dksX5_readMap_2 3 rfl rfl)
theorem dX5_readMap_52 : decode cX5_readMap 52 = .ok (.getfield 305, 3) := dk_180 1 49 (dk_at dksX5_readMap_2 4 rfl rfl)
theorem dX5_readMap_55 : decode cX5_readMap 55 = .ok (.invokevirtual 94, 3) := dk_182 0 94 (dk_at dksX5_readMap_2 7 rfl rfl)
theorem dX5_readMap_58 : decode cX5_readMap 58 = .ok (.iconst 1, 1) := dk_4 (dk_at dksX5_readMap_2 10 rfl rfl)
theorem dX5_readMap_59 : decode cX5_readMap 59 = .ok (.ireturn, 1) := dk_172 (dk_at dksX5_readMap_2 11 rfl rfl)
abbrev cX5_isWord : ByteArray := prog_20_method_61_code
def yX5_isWord : MethodName := ⟨RX5, "isWord", "(Ljava/lang/String;)Z"⟩
def dkwX5_isWord_2 : List UInt8 := [28, 182, 1, 42, 159, 0, 5, 3, 172, 132, 2, 1, 167, 255, 224, 4, 172]
abbrev dktX5_isWord_2 : List UInt8 := dkwX5_isWord_2 ++ []
def dkwX5_isWord_1 : List UInt8 := [3, 172, 3, 61, 28, 43, 182, 1, 36, 162, 0, 30, 42, 180, 0, 74, 42, 180, 1, 11, 28, 96, 46, 43]
abbrev dktX5_isWord_1 : List UInt8 := dkwX5_isWord_1 ++ dktX5_isWord_2
def dkwX5_isWord_0 : List UInt8 := [42, 180, 1, 17, 4, 160, 0, 19, 42, 180, 1, 8, 42, 180, 1, 11, 100, 43, 182, 1, 36, 159, 0, 5]
abbrev dktX5_isWord_0 : List UInt8 := dkwX5_isWord_0 ++ dktX5_isWord_1
theorem dksX5_isWord_0 : cX5_isWord.data.toList.drop 0 = dktX5_isWord_0 := by decide +kernel
theorem dksX5_isWord_1 : cX5_isWord.data.toList.drop 24 = dktX5_isWord_1 := dk_seg dksX5_isWord_0 24 rfl rfl
theorem dksX5_isWord_2 : cX5_isWord.data.toList.drop 48 = dktX5_isWord_2 := dk_seg dksX5_isWord_1 24 rfl rfl
theorem dX5_isWord_0 : decode cX5_isWord 0 = .ok (.aload_n 0, 1) := dk_42 (dk_at dksX5_isWord_0 0 rfl rfl)
theorem dX5_isWord_1 : decode cX5_isWord 1 = .ok (.getfield 273, 3) := dk_180 1 17 (dk_at dksX5_isWord_0 1 rfl rfl)
theorem dX5_isWord_4 : decode cX5_isWord 4 = .ok (.iconst 1, 1) := dk_4 (dk_at dksX5_isWord_0 4 rfl rfl)
theorem dX5_isWord_5 : decode cX5_isWord 5 = .ok (.if_icmp .ne 19, 3) := dk_160 0 19 (dk_at dksX5_isWord_0 5 rfl rfl)
theorem dX5_isWord_8 : decode cX5_isWord 8 = .ok (.aload_n 0, 1) := dk_42 (dk_at dksX5_isWord_0 8 rfl rfl)
theorem dX5_isWord_9 : decode cX5_isWord 9 = .ok (.getfield 264, 3) := dk_180 1 8 (dk_at dksX5_isWord_0 9 rfl rfl)
theorem dX5_isWord_12 : decode cX5_isWord 12 = .ok (.aload_n 0, 1) := dk_42 (dk_at dksX5_isWord_0 12 rfl rfl)
theorem dX5_isWord_13 : decode cX5_isWord 13 = .ok (.getfield 267, 3) := dk_180 1 11 (dk_at dksX5_isWord_0 13 rfl rfl)
theorem dX5_isWord_16 : decode cX5_isWord 16 = .ok (.isub, 1) := dk_100 (dk_at dksX5_isWord_0 16 rfl rfl)
theorem dX5_isWord_17 : decode cX5_isWord 17 = .ok (.aload_n 1, 1) := dk_43 (dk_at dksX5_isWord_0 17 rfl rfl)
theorem dX5_isWord_18 : decode cX5_isWord 18 = .ok (.invokevirtual 292, 3) := dk_182 1 36 (dk_at dksX5_isWord_0 18 rfl rfl)
theorem dX5_isWord_21 : decode cX5_isWord 21 = .ok (.if_icmp .eq 5, 3) := dk_159 0 5 (dk_at dksX5_isWord_0 21 rfl rfl)
theorem dX5_isWord_24 : decode cX5_isWord 24 = .ok (.iconst 0, 1) := dk_3 (dk_at dksX5_isWord_1 0 rfl rfl)
theorem dX5_isWord_25 : decode cX5_isWord 25 = .ok (.ireturn, 1) := dk_172 (dk_at dksX5_isWord_1 1 rfl rfl)
theorem dX5_isWord_26 : decode cX5_isWord 26 = .ok (.iconst 0, 1) := dk_3 (dk_at dksX5_isWord_1 2 rfl rfl)
theorem dX5_isWord_27 : decode cX5_isWord 27 = .ok (.istore_n 2, 1) := dk_61 (dk_at dksX5_isWord_1 3 rfl rfl)
theorem dX5_isWord_28 : decode cX5_isWord 28 = .ok (.iload_n 2, 1) := dk_28 (dk_at dksX5_isWord_1 4 rfl rfl)
theorem dX5_isWord_29 : decode cX5_isWord 29 = .ok (.aload_n 1, 1) := dk_43 (dk_at dksX5_isWord_1 5 rfl rfl)
theorem dX5_isWord_30 : decode cX5_isWord 30 = .ok (.invokevirtual 292, 3) := dk_182 1 36 (dk_at dksX5_isWord_1 6 rfl rfl)
theorem dX5_isWord_33 : decode cX5_isWord 33 = .ok (.if_icmp .ge 30, 3) := dk_162 0 30 (dk_at dksX5_isWord_1 9 rfl rfl)
theorem dX5_isWord_36 : decode cX5_isWord 36 = .ok (.aload_n 0, 1) := dk_42 (dk_at dksX5_isWord_1 12 rfl rfl)
theorem dX5_isWord_37 : decode cX5_isWord 37 = .ok (.getfield 74, 3) := dk_180 0 74 (dk_at dksX5_isWord_1 13 rfl rfl)
theorem dX5_isWord_40 : decode cX5_isWord 40 = .ok (.aload_n 0, 1) := dk_42 (dk_at dksX5_isWord_1 16 rfl rfl)
theorem dX5_isWord_41 : decode cX5_isWord 41 = .ok (.getfield 267, 3) := dk_180 1 11 (dk_at dksX5_isWord_1 17 rfl rfl)
theorem dX5_isWord_44 : decode cX5_isWord 44 = .ok (.iload_n 2, 1) := dk_28 (dk_at dksX5_isWord_1 20 rfl rfl)
theorem dX5_isWord_45 : decode cX5_isWord 45 = .ok (.iadd, 1) := dk_96 (dk_at dksX5_isWord_1 21 rfl rfl)
theorem dX5_isWord_46 : decode cX5_isWord 46 = .ok (.iaload, 1) := dk_46 (dk_at dksX5_isWord_1 22 rfl rfl)
theorem dX5_isWord_47 : decode cX5_isWord 47 = .ok (.aload_n 1, 1) := dk_43 (dk_at dksX5_isWord_1 23 rfl rfl)
theorem dX5_isWord_48 : decode cX5_isWord 48 = .ok (.iload_n 2, 1) := dk_28 (dk_at dksX5_isWord_2 0 rfl rfl)
theorem dX5_isWord_49 : decode cX5_isWord 49 = .ok (.invokevirtual 298, 3) := dk_182 1 42 (dk_at dksX5_isWord_2 1 rfl rfl)
theorem dX5_isWord_52 : decode cX5_isWord 52 = .ok (.if_icmp .eq 5, 3) := dk_159 0 5 (dk_at dksX5_isWord_2 4 rfl rfl)
theorem dX5_isWord_55 : decode cX5_isWord 55 = .ok (.iconst 0, 1) := dk_3 (dk_at dksX5_isWord_2 7 rfl rfl)
theorem dX5_isWord_56 : decode cX5_isWord 56 = .ok (.ireturn, 1) := dk_172 (dk_at dksX5_isWord_2 8 rfl rfl)
theorem dX5_isWord_57 : decode cX5_isWord 57 = .ok (.iinc 2 1, 3) := dk_132 2 1 (dk_at dksX5_isWord_2 9 rfl rfl)
theorem dX5_isWord_60 : decode cX5_isWord 60 = .ok (.goto (-32), 3) := dk_167 255 224 (dk_at dksX5_isWord_2 12 rfl rfl)
theorem dX5_isWord_63 : decode cX5_isWord 63 = .ok (.iconst 1, 1) := dk_4 (dk_at dksX5_isWord_2 15 rfl rfl)
theorem dX5_isWord_64 : decode cX5_isWord 64 = .ok (.ireturn, 1) := dk_172 (dk_at dksX5_isWord_2 16 rfl rfl)
abbrev cX5_failsAt : ByteArray := prog_20_method_60_code
def yX5_failsAt : MethodName := ⟨RX5, "failsAt", "(I)Z"⟩
def dkwX5_failsAt_0 : List UInt8 := [42, 180, 1, 30, 154, 0, 16, 42, 27, 181, 1, 30, 42, 42, 180, 1, 11, 181, 1, 33, 3, 172]
abbrev dktX5_failsAt_0 : List UInt8 := dkwX5_failsAt_0 ++ []
theorem dksX5_failsAt_0 : cX5_failsAt.data.toList.drop 0 = dktX5_failsAt_0 := by decide +kernel
theorem dX5_failsAt_0 : decode cX5_failsAt 0 = .ok (.aload_n 0, 1) := dk_42 (dk_at dksX5_failsAt_0 0 rfl rfl)
theorem dX5_failsAt_1 : decode cX5_failsAt 1 = .ok (.getfield 286, 3) := dk_180 1 30 (dk_at dksX5_failsAt_0 1 rfl rfl)
theorem dX5_failsAt_4 : decode cX5_failsAt 4 = .ok (.ifCond .ne 16, 3) := dk_154 0 16 (dk_at dksX5_failsAt_0 4 rfl rfl)
theorem dX5_failsAt_7 : decode cX5_failsAt 7 = .ok (.aload_n 0, 1) := dk_42 (dk_at dksX5_failsAt_0 7 rfl rfl)
theorem dX5_failsAt_8 : decode cX5_failsAt 8 = .ok (.iload_n 1, 1) := dk_27 (dk_at dksX5_failsAt_0 8 rfl rfl)
theorem dX5_failsAt_9 : decode cX5_failsAt 9 = .ok (.putfield 286, 3) := dk_181 1 30 (dk_at dksX5_failsAt_0 9 rfl rfl)
theorem dX5_failsAt_12 : decode cX5_failsAt 12 = .ok (.aload_n 0, 1) := dk_42 (dk_at dksX5_failsAt_0 12 rfl rfl)
theorem dX5_failsAt_13 : decode cX5_failsAt 13 = .ok (.aload_n 0, 1) := dk_42 (dk_at dksX5_failsAt_0 13 rfl rfl)
theorem dX5_failsAt_14 : decode cX5_failsAt 14 = .ok (.getfield 267, 3) := dk_180 1 11 (dk_at dksX5_failsAt_0 14 rfl rfl)
theorem dX5_failsAt_17 : decode cX5_failsAt 17 = .ok (.putfield 289, 3) := dk_181 1 33 (dk_at dksX5_failsAt_0 17 rfl rfl)
theorem dX5_failsAt_20 : decode cX5_failsAt 20 = .ok (.iconst 0, 1) := dk_3 (dk_at dksX5_failsAt_0 20 rfl rfl)
theorem dX5_failsAt_21 : decode cX5_failsAt 21 = .ok (.ireturn, 1) := dk_172 (dk_at dksX5_failsAt_0 21 rfl rfl)
abbrev cX5_reads : ByteArray := prog_20_method_62_code
def yX5_reads : MethodName := ⟨RX5, "reads", "(II)Z"⟩
def dkwX5_reads_2 : List UInt8 := [180, 1, 14, 181, 1, 49, 42, 182, 1, 52, 4, 172]
abbrev dktX5_reads_2 : List UInt8 := dkwX5_reads_2 ++ []
def dkwX5_reads_1 : List UInt8 := [182, 1, 46, 172, 42, 180, 1, 14, 27, 28, 184, 0, 103, 154, 0, 9, 42, 5, 182, 1, 46, 172, 42, 42]
abbrev dktX5_reads_1 : List UInt8 := dkwX5_reads_1 ++ dktX5_reads_2
def dkwX5_reads_0 : List UInt8 := [42, 180, 1, 17, 5, 160, 0, 16, 42, 180, 1, 8, 42, 180, 1, 11, 100, 6, 164, 0, 9, 42, 4]
abbrev dktX5_reads_0 : List UInt8 := dkwX5_reads_0 ++ dktX5_reads_1
theorem dksX5_reads_0 : cX5_reads.data.toList.drop 0 = dktX5_reads_0 := by decide +kernel
theorem dksX5_reads_1 : cX5_reads.data.toList.drop 23 = dktX5_reads_1 := dk_seg dksX5_reads_0 23 rfl rfl
theorem dksX5_reads_2 : cX5_reads.data.toList.drop 47 = dktX5_reads_2 := dk_seg dksX5_reads_1 24 rfl rfl
theorem dX5_reads_0 : decode cX5_reads 0 = .ok (.aload_n 0, 1) := dk_42 (dk_at dksX5_reads_0 0 rfl rfl)
theorem dX5_reads_1 : decode cX5_reads 1 = .ok (.getfield 273, 3) := dk_180 1 17 (dk_at dksX5_reads_0 1 rfl rfl)
theorem dX5_reads_4 : decode cX5_reads 4 = .ok (.iconst 2, 1) := dk_5 (dk_at dksX5_reads_0 4 rfl rfl)
theorem dX5_reads_5 : decode cX5_reads 5 = .ok (.if_icmp .ne 16, 3) := dk_160 0 16 (dk_at dksX5_reads_0 5 rfl rfl)
theorem dX5_reads_8 : decode cX5_reads 8 = .ok (.aload_n 0, 1) := dk_42 (dk_at dksX5_reads_0 8 rfl rfl)
theorem dX5_reads_9 : decode cX5_reads 9 = .ok (.getfield 264, 3) := dk_180 1 8 (dk_at dksX5_reads_0 9 rfl rfl)
theorem dX5_reads_12 : decode cX5_reads 12 = .ok (.aload_n 0, 1) := dk_42 (dk_at dksX5_reads_0 12 rfl rfl)
theorem dX5_reads_13 : decode cX5_reads 13 = .ok (.getfield 267, 3) := dk_180 1 11 (dk_at dksX5_reads_0 13 rfl rfl)
theorem dX5_reads_16 : decode cX5_reads 16 = .ok (.isub, 1) := dk_100 (dk_at dksX5_reads_0 16 rfl rfl)
theorem dX5_reads_17 : decode cX5_reads 17 = .ok (.iconst 3, 1) := dk_6 (dk_at dksX5_reads_0 17 rfl rfl)
theorem dX5_reads_18 : decode cX5_reads 18 = .ok (.if_icmp .le 9, 3) := dk_164 0 9 (dk_at dksX5_reads_0 18 rfl rfl)
theorem dX5_reads_21 : decode cX5_reads 21 = .ok (.aload_n 0, 1) := dk_42 (dk_at dksX5_reads_0 21 rfl rfl)
theorem dX5_reads_22 : decode cX5_reads 22 = .ok (.iconst 1, 1) := dk_4 (dk_at dksX5_reads_0 22 rfl rfl)
theorem dX5_reads_23 : decode cX5_reads 23 = .ok (.invokevirtual 302, 3) := dk_182 1 46 (dk_at dksX5_reads_1 0 rfl rfl)
theorem dX5_reads_26 : decode cX5_reads 26 = .ok (.ireturn, 1) := dk_172 (dk_at dksX5_reads_1 3 rfl rfl)
theorem dX5_reads_27 : decode cX5_reads 27 = .ok (.aload_n 0, 1) := dk_42 (dk_at dksX5_reads_1 4 rfl rfl)
theorem dX5_reads_28 : decode cX5_reads 28 = .ok (.getfield 270, 3) := dk_180 1 14 (dk_at dksX5_reads_1 5 rfl rfl)
theorem dX5_reads_31 : decode cX5_reads 31 = .ok (.iload_n 1, 1) := dk_27 (dk_at dksX5_reads_1 8 rfl rfl)
theorem dX5_reads_32 : decode cX5_reads 32 = .ok (.iload_n 2, 1) := dk_28 (dk_at dksX5_reads_1 9 rfl rfl)
theorem dX5_reads_33 : decode cX5_reads 33 = .ok (.invokestatic 103, 3) := dk_184 0 103 (dk_at dksX5_reads_1 10 rfl rfl)
theorem dX5_reads_36 : decode cX5_reads 36 = .ok (.ifCond .ne 9, 3) := dk_154 0 9 (dk_at dksX5_reads_1 13 rfl rfl)
theorem dX5_reads_39 : decode cX5_reads 39 = .ok (.aload_n 0, 1) := dk_42 (dk_at dksX5_reads_1 16 rfl rfl)
theorem dX5_reads_40 : decode cX5_reads 40 = .ok (.iconst 2, 1) := dk_5 (dk_at dksX5_reads_1 17 rfl rfl)
theorem dX5_reads_41 : decode cX5_reads 41 = .ok (.invokevirtual 302, 3) := dk_182 1 46 (dk_at dksX5_reads_1 18 rfl rfl)
theorem dX5_reads_44 : decode cX5_reads 44 = .ok (.ireturn, 1) := dk_172 (dk_at dksX5_reads_1 21 rfl rfl)
theorem dX5_reads_45 : decode cX5_reads 45 = .ok (.aload_n 0, 1) := dk_42 (dk_at dksX5_reads_1 22 rfl rfl)
theorem dX5_reads_46 : decode cX5_reads 46 = .ok (.aload_n 0, 1) := dk_42 (dk_at dksX5_reads_1 23 rfl rfl)
theorem dX5_reads_47 : decode cX5_reads 47 = .ok (.getfield 270, 3) := dk_180 1 14 (dk_at dksX5_reads_2 0 rfl rfl)
theorem dX5_reads_50 : decode cX5_reads 50 = .ok (.putfield 305, 3) := dk_181 1 49 (dk_at dksX5_reads_2 3 rfl rfl)
theorem dX5_reads_53 : decode cX5_reads 53 = .ok (.aload_n 0, 1) := dk_42 (dk_at dksX5_reads_2 6 rfl rfl)
theorem dX5_reads_54 : decode cX5_reads 54 = .ok (.invokevirtual 308, 3) := dk_182 1 52 (dk_at dksX5_reads_2 7 rfl rfl)
theorem dX5_reads_57 : decode cX5_reads 57 = .ok (.iconst 1, 1) := dk_4 (dk_at dksX5_reads_2 10 rfl rfl)
theorem dX5_reads_58 : decode cX5_reads 58 = .ok (.ireturn, 1) := dk_172 (dk_at dksX5_reads_2 11 rfl rfl)
abbrev cX5_readEnd : ByteArray := prog_20_method_79_code
def yX5_readEnd : MethodName := ⟨RX5, "readEnd", "()Z"⟩
def dkwX5_readEnd_0 : List UInt8 := [42, 180, 1, 17, 6, 159, 0, 9, 42, 4, 182, 1, 46, 172, 42, 182, 1, 52, 4, 172]
abbrev dktX5_readEnd_0 : List UInt8 := dkwX5_readEnd_0 ++ []
theorem dksX5_readEnd_0 : cX5_readEnd.data.toList.drop 0 = dktX5_readEnd_0 := by decide +kernel
theorem dX5_readEnd_0 : decode cX5_readEnd 0 = .ok (.aload_n 0, 1) := dk_42 (dk_at dksX5_readEnd_0 0 rfl rfl)
theorem dX5_readEnd_1 : decode cX5_readEnd 1 = .ok (.getfield 273, 3) := dk_180 1 17 (dk_at dksX5_readEnd_0 1 rfl rfl)
theorem dX5_readEnd_4 : decode cX5_readEnd 4 = .ok (.iconst 3, 1) := dk_6 (dk_at dksX5_readEnd_0 4 rfl rfl)
theorem dX5_readEnd_5 : decode cX5_readEnd 5 = .ok (.if_icmp .eq 9, 3) := dk_159 0 9 (dk_at dksX5_readEnd_0 5 rfl rfl)
theorem dX5_readEnd_8 : decode cX5_readEnd 8 = .ok (.aload_n 0, 1) := dk_42 (dk_at dksX5_readEnd_0 8 rfl rfl)
theorem dX5_readEnd_9 : decode cX5_readEnd 9 = .ok (.iconst 1, 1) := dk_4 (dk_at dksX5_readEnd_0 9 rfl rfl)
theorem dX5_readEnd_10 : decode cX5_readEnd 10 = .ok (.invokevirtual 302, 3) := dk_182 1 46 (dk_at dksX5_readEnd_0 10 rfl rfl)
theorem dX5_readEnd_13 : decode cX5_readEnd 13 = .ok (.ireturn, 1) := dk_172 (dk_at dksX5_readEnd_0 13 rfl rfl)
theorem dX5_readEnd_14 : decode cX5_readEnd 14 = .ok (.aload_n 0, 1) := dk_42 (dk_at dksX5_readEnd_0 14 rfl rfl)
theorem dX5_readEnd_15 : decode cX5_readEnd 15 = .ok (.invokevirtual 308, 3) := dk_182 1 52 (dk_at dksX5_readEnd_0 15 rfl rfl)
theorem dX5_readEnd_18 : decode cX5_readEnd 18 = .ok (.iconst 1, 1) := dk_4 (dk_at dksX5_readEnd_0 18 rfl rfl)
theorem dX5_readEnd_19 : decode cX5_readEnd 19 = .ok (.ireturn, 1) := dk_172 (dk_at dksX5_readEnd_0 19 rfl rfl)
abbrev cX5_readStatement : ByteArray := prog_20_method_78_code
def yX5_readStatement : MethodName := ⟨RX5, "readStatement", "()Z"⟩
def dkwX5_readStatement_6 : List UInt8 := [182, 1, 131, 167, 0, 8, 42, 4, 182, 1, 46, 172]
abbrev dktX5_readStatement_6 : List UInt8 := dkwX5_readStatement_6 ++ []
def dkwX5_readStatement_5 : List UInt8 := [182, 1, 71, 153, 0, 8, 42, 182, 1, 126, 172, 42, 19, 1, 129, 182, 1, 71, 153, 0, 10, 42]
abbrev dktX5_readStatement_5 : List UInt8 := dkwX5_readStatement_5 ++ dktX5_readStatement_6
def dkwX5_readStatement_4 : List UInt8 := [182, 1, 116, 172, 42, 19, 1, 119, 182, 1, 71, 153, 0, 8, 42, 182, 1, 121, 172, 42, 19, 1, 124]
abbrev dktX5_readStatement_4 : List UInt8 := dkwX5_readStatement_4 ++ dktX5_readStatement_5
def dkwX5_readStatement_3 : List UInt8 := [182, 1, 71, 153, 0, 8, 42, 182, 1, 111, 172, 42, 19, 1, 114, 182, 1, 71, 153, 0, 8, 42]
abbrev dktX5_readStatement_3 : List UInt8 := dkwX5_readStatement_3 ++ dktX5_readStatement_4
def dkwX5_readStatement_2 : List UInt8 := [19, 1, 107, 182, 1, 71, 153, 0, 13, 42, 5, 16, 9, 3, 3, 182, 1, 101, 172, 42, 19, 1, 109]
abbrev dktX5_readStatement_2 : List UInt8 := dkwX5_readStatement_2 ++ dktX5_readStatement_3
def dkwX5_readStatement_1 : List UInt8 := [19, 1, 105, 182, 1, 71, 153, 0, 15, 42, 4, 16, 6, 3, 17, 3, 231, 182, 1, 101, 172, 42]
abbrev dktX5_readStatement_1 : List UInt8 := dkwX5_readStatement_1 ++ dktX5_readStatement_2
def dkwX5_readStatement_0 : List UInt8 := [42, 19, 1, 99, 182, 1, 71, 153, 0, 14, 42, 3, 16, 8, 7, 16, 30, 182, 1, 101, 172, 42]
abbrev dktX5_readStatement_0 : List UInt8 := dkwX5_readStatement_0 ++ dktX5_readStatement_1
theorem dksX5_readStatement_0 : cX5_readStatement.data.toList.drop 0 = dktX5_readStatement_0 := by decide +kernel
theorem dksX5_readStatement_1 : cX5_readStatement.data.toList.drop 22 = dktX5_readStatement_1 := dk_seg dksX5_readStatement_0 22 rfl rfl
theorem dksX5_readStatement_2 : cX5_readStatement.data.toList.drop 44 = dktX5_readStatement_2 := dk_seg dksX5_readStatement_1 22 rfl rfl
theorem dksX5_readStatement_3 : cX5_readStatement.data.toList.drop 67 = dktX5_readStatement_3 := dk_seg dksX5_readStatement_2 23 rfl rfl
theorem dksX5_readStatement_4 : cX5_readStatement.data.toList.drop 89 = dktX5_readStatement_4 := dk_seg dksX5_readStatement_3 22 rfl rfl
theorem dksX5_readStatement_5 : cX5_readStatement.data.toList.drop 112 = dktX5_readStatement_5 := dk_seg dksX5_readStatement_4 23 rfl rfl
theorem dksX5_readStatement_6 : cX5_readStatement.data.toList.drop 134 = dktX5_readStatement_6 := dk_seg dksX5_readStatement_5 22 rfl rfl
theorem dX5_readStatement_0 : decode cX5_readStatement 0 = .ok (.aload_n 0, 1) := dk_42 (dk_at dksX5_readStatement_0 0 rfl rfl)
theorem dX5_readStatement_1 : decode cX5_readStatement 1 = .ok (.ldc_w 355, 3) := dk_19 1 99 (dk_at dksX5_readStatement_0 1 rfl rfl)
theorem dX5_readStatement_4 : decode cX5_readStatement 4 = .ok (.invokevirtual 327, 3) := dk_182 1 71 (dk_at dksX5_readStatement_0 4 rfl rfl)
theorem dX5_readStatement_7 : decode cX5_readStatement 7 = .ok (.ifCond .eq 14, 3) := dk_153 0 14 (dk_at dksX5_readStatement_0 7 rfl rfl)
theorem dX5_readStatement_10 : decode cX5_readStatement 10 = .ok (.aload_n 0, 1) := dk_42 (dk_at dksX5_readStatement_0 10 rfl rfl)
theorem dX5_readStatement_11 : decode cX5_readStatement 11 = .ok (.iconst 0, 1) := dk_3 (dk_at dksX5_readStatement_0 11 rfl rfl)
theorem dX5_readStatement_12 : decode cX5_readStatement 12 = .ok (.bipush 8, 2) := dk_16 8 (dk_at dksX5_readStatement_0 12 rfl rfl)
theorem dX5_readStatement_14 : decode cX5_readStatement 14 = .ok (.iconst 4, 1) := dk_7 (dk_at dksX5_readStatement_0 14 rfl rfl)
theorem dX5_readStatement_15 : decode cX5_readStatement 15 = .ok (.bipush 30, 2) := dk_16 30 (dk_at dksX5_readStatement_0 15 rfl rfl)
theorem dX5_readStatement_17 : decode cX5_readStatement 17 = .ok (.invokevirtual 357, 3) := dk_182 1 101 (dk_at dksX5_readStatement_0 17 rfl rfl)
theorem dX5_readStatement_20 : decode cX5_readStatement 20 = .ok (.ireturn, 1) := dk_172 (dk_at dksX5_readStatement_0 20 rfl rfl)
theorem dX5_readStatement_21 : decode cX5_readStatement 21 = .ok (.aload_n 0, 1) := dk_42 (dk_at dksX5_readStatement_0 21 rfl rfl)
theorem dX5_readStatement_22 : decode cX5_readStatement 22 = .ok (.ldc_w 361, 3) := dk_19 1 105 (dk_at dksX5_readStatement_1 0 rfl rfl)
theorem dX5_readStatement_25 : decode cX5_readStatement 25 = .ok (.invokevirtual 327, 3) := dk_182 1 71 (dk_at dksX5_readStatement_1 3 rfl rfl)
theorem dX5_readStatement_28 : decode cX5_readStatement 28 = .ok (.ifCond .eq 15, 3) := dk_153 0 15 (dk_at dksX5_readStatement_1 6 rfl rfl)
theorem dX5_readStatement_31 : decode cX5_readStatement 31 = .ok (.aload_n 0, 1) := dk_42 (dk_at dksX5_readStatement_1 9 rfl rfl)
theorem dX5_readStatement_32 : decode cX5_readStatement 32 = .ok (.iconst 1, 1) := dk_4 (dk_at dksX5_readStatement_1 10 rfl rfl)
theorem dX5_readStatement_33 : decode cX5_readStatement 33 = .ok (.bipush 6, 2) := dk_16 6 (dk_at dksX5_readStatement_1 11 rfl rfl)
theorem dX5_readStatement_35 : decode cX5_readStatement 35 = .ok (.iconst 0, 1) := dk_3 (dk_at dksX5_readStatement_1 13 rfl rfl)
theorem dX5_readStatement_36 : decode cX5_readStatement 36 = .ok (.sipush 999, 3) := dk_17 3 231 (dk_at dksX5_readStatement_1 14 rfl rfl)
theorem dX5_readStatement_39 : decode cX5_readStatement 39 = .ok (.invokevirtual 357, 3) := dk_182 1 101 (dk_at dksX5_readStatement_1 17 rfl rfl)
theorem dX5_readStatement_42 : decode cX5_readStatement 42 = .ok (.ireturn, 1) := dk_172 (dk_at dksX5_readStatement_1 20 rfl rfl)
theorem dX5_readStatement_43 : decode cX5_readStatement 43 = .ok (.aload_n 0, 1) := dk_42 (dk_at dksX5_readStatement_1 21 rfl rfl)
theorem dX5_readStatement_44 : decode cX5_readStatement 44 = .ok (.ldc_w 363, 3) := dk_19 1 107 (dk_at dksX5_readStatement_2 0 rfl rfl)
theorem dX5_readStatement_47 : decode cX5_readStatement 47 = .ok (.invokevirtual 327, 3) := dk_182 1 71 (dk_at dksX5_readStatement_2 3 rfl rfl)
theorem dX5_readStatement_50 : decode cX5_readStatement 50 = .ok (.ifCond .eq 13, 3) := dk_153 0 13 (dk_at dksX5_readStatement_2 6 rfl rfl)
theorem dX5_readStatement_53 : decode cX5_readStatement 53 = .ok (.aload_n 0, 1) := dk_42 (dk_at dksX5_readStatement_2 9 rfl rfl)
theorem dX5_readStatement_54 : decode cX5_readStatement 54 = .ok (.iconst 2, 1) := dk_5 (dk_at dksX5_readStatement_2 10 rfl rfl)
theorem dX5_readStatement_55 : decode cX5_readStatement 55 = .ok (.bipush 9, 2) := dk_16 9 (dk_at dksX5_readStatement_2 11 rfl rfl)
theorem dX5_readStatement_57 : decode cX5_readStatement 57 = .ok (.iconst 0, 1) := dk_3 (dk_at dksX5_readStatement_2 13 rfl rfl)
theorem dX5_readStatement_58 : decode cX5_readStatement 58 = .ok (.iconst 0, 1) := dk_3 (dk_at dksX5_readStatement_2 14 rfl rfl)
theorem dX5_readStatement_59 : decode cX5_readStatement 59 = .ok (.invokevirtual 357, 3) := dk_182 1 101 (dk_at dksX5_readStatement_2 15 rfl rfl)
theorem dX5_readStatement_62 : decode cX5_readStatement 62 = .ok (.ireturn, 1) := dk_172 (dk_at dksX5_readStatement_2 18 rfl rfl)
theorem dX5_readStatement_63 : decode cX5_readStatement 63 = .ok (.aload_n 0, 1) := dk_42 (dk_at dksX5_readStatement_2 19 rfl rfl)
theorem dX5_readStatement_64 : decode cX5_readStatement 64 = .ok (.ldc_w 365, 3) := dk_19 1 109 (dk_at dksX5_readStatement_2 20 rfl rfl)
theorem dX5_readStatement_67 : decode cX5_readStatement 67 = .ok (.invokevirtual 327, 3) := dk_182 1 71 (dk_at dksX5_readStatement_3 0 rfl rfl)
theorem dX5_readStatement_70 : decode cX5_readStatement 70 = .ok (.ifCond .eq 8, 3) := dk_153 0 8 (dk_at dksX5_readStatement_3 3 rfl rfl)
theorem dX5_readStatement_73 : decode cX5_readStatement 73 = .ok (.aload_n 0, 1) := dk_42 (dk_at dksX5_readStatement_3 6 rfl rfl)
theorem dX5_readStatement_74 : decode cX5_readStatement 74 = .ok (.invokevirtual 367, 3) := dk_182 1 111 (dk_at dksX5_readStatement_3 7 rfl rfl)
theorem dX5_readStatement_77 : decode cX5_readStatement 77 = .ok (.ireturn, 1) := dk_172 (dk_at dksX5_readStatement_3 10 rfl rfl)
theorem dX5_readStatement_78 : decode cX5_readStatement 78 = .ok (.aload_n 0, 1) := dk_42 (dk_at dksX5_readStatement_3 11 rfl rfl)
theorem dX5_readStatement_79 : decode cX5_readStatement 79 = .ok (.ldc_w 370, 3) := dk_19 1 114 (dk_at dksX5_readStatement_3 12 rfl rfl)
theorem dX5_readStatement_82 : decode cX5_readStatement 82 = .ok (.invokevirtual 327, 3) := dk_182 1 71 (dk_at dksX5_readStatement_3 15 rfl rfl)
theorem dX5_readStatement_85 : decode cX5_readStatement 85 = .ok (.ifCond .eq 8, 3) := dk_153 0 8 (dk_at dksX5_readStatement_3 18 rfl rfl)
theorem dX5_readStatement_88 : decode cX5_readStatement 88 = .ok (.aload_n 0, 1) := dk_42 (dk_at dksX5_readStatement_3 21 rfl rfl)
theorem dX5_readStatement_89 : decode cX5_readStatement 89 = .ok (.invokevirtual 372, 3) := dk_182 1 116 (dk_at dksX5_readStatement_4 0 rfl rfl)
theorem dX5_readStatement_92 : decode cX5_readStatement 92 = .ok (.ireturn, 1) := dk_172 (dk_at dksX5_readStatement_4 3 rfl rfl)
theorem dX5_readStatement_93 : decode cX5_readStatement 93 = .ok (.aload_n 0, 1) := dk_42 (dk_at dksX5_readStatement_4 4 rfl rfl)
theorem dX5_readStatement_94 : decode cX5_readStatement 94 = .ok (.ldc_w 375, 3) := dk_19 1 119 (dk_at dksX5_readStatement_4 5 rfl rfl)
theorem dX5_readStatement_97 : decode cX5_readStatement 97 = .ok (.invokevirtual 327, 3) := dk_182 1 71 (dk_at dksX5_readStatement_4 8 rfl rfl)
theorem dX5_readStatement_100 : decode cX5_readStatement 100 = .ok (.ifCond .eq 8, 3) := dk_153 0 8 (dk_at dksX5_readStatement_4 11 rfl rfl)
theorem dX5_readStatement_103 : decode cX5_readStatement 103 = .ok (.aload_n 0, 1) := dk_42 (dk_at dksX5_readStatement_4 14 rfl rfl)
theorem dX5_readStatement_104 : decode cX5_readStatement 104 = .ok (.invokevirtual 377, 3) := dk_182 1 121 (dk_at dksX5_readStatement_4 15 rfl rfl)
theorem dX5_readStatement_107 : decode cX5_readStatement 107 = .ok (.ireturn, 1) := dk_172 (dk_at dksX5_readStatement_4 18 rfl rfl)
theorem dX5_readStatement_108 : decode cX5_readStatement 108 = .ok (.aload_n 0, 1) := dk_42 (dk_at dksX5_readStatement_4 19 rfl rfl)
theorem dX5_readStatement_109 : decode cX5_readStatement 109 = .ok (.ldc_w 380, 3) := dk_19 1 124 (dk_at dksX5_readStatement_4 20 rfl rfl)
theorem dX5_readStatement_112 : decode cX5_readStatement 112 = .ok (.invokevirtual 327, 3) := dk_182 1 71 (dk_at dksX5_readStatement_5 0 rfl rfl)
theorem dX5_readStatement_115 : decode cX5_readStatement 115 = .ok (.ifCond .eq 8, 3) := dk_153 0 8 (dk_at dksX5_readStatement_5 3 rfl rfl)
theorem dX5_readStatement_118 : decode cX5_readStatement 118 = .ok (.aload_n 0, 1) := dk_42 (dk_at dksX5_readStatement_5 6 rfl rfl)
theorem dX5_readStatement_119 : decode cX5_readStatement 119 = .ok (.invokevirtual 382, 3) := dk_182 1 126 (dk_at dksX5_readStatement_5 7 rfl rfl)
theorem dX5_readStatement_122 : decode cX5_readStatement 122 = .ok (.ireturn, 1) := dk_172 (dk_at dksX5_readStatement_5 10 rfl rfl)
theorem dX5_readStatement_123 : decode cX5_readStatement 123 = .ok (.aload_n 0, 1) := dk_42 (dk_at dksX5_readStatement_5 11 rfl rfl)
theorem dX5_readStatement_124 : decode cX5_readStatement 124 = .ok (.ldc_w 385, 3) := dk_19 1 129 (dk_at dksX5_readStatement_5 12 rfl rfl)
theorem dX5_readStatement_127 : decode cX5_readStatement 127 = .ok (.invokevirtual 327, 3) := dk_182 1 71 (dk_at dksX5_readStatement_5 15 rfl rfl)
theorem dX5_readStatement_130 : decode cX5_readStatement 130 = .ok (.ifCond .eq 10, 3) := dk_153 0 10 (dk_at dksX5_readStatement_5 18 rfl rfl)
theorem dX5_readStatement_133 : decode cX5_readStatement 133 = .ok (.aload_n 0, 1) := dk_42 (dk_at dksX5_readStatement_5 21 rfl rfl)
theorem dX5_readStatement_134 : decode cX5_readStatement 134 = .ok (.invokevirtual 387, 3) := dk_182 1 131 (dk_at dksX5_readStatement_6 0 rfl rfl)
theorem dX5_readStatement_137 : decode cX5_readStatement 137 = .ok (.goto 8, 3) := dk_167 0 8 (dk_at dksX5_readStatement_6 3 rfl rfl)
theorem dX5_readStatement_140 : decode cX5_readStatement 140 = .ok (.aload_n 0, 1) := dk_42 (dk_at dksX5_readStatement_6 6 rfl rfl)
theorem dX5_readStatement_141 : decode cX5_readStatement 141 = .ok (.iconst 1, 1) := dk_4 (dk_at dksX5_readStatement_6 7 rfl rfl)
theorem dX5_readStatement_142 : decode cX5_readStatement 142 = .ok (.invokevirtual 302, 3) := dk_182 1 46 (dk_at dksX5_readStatement_6 8 rfl rfl)
theorem dX5_readStatement_145 : decode cX5_readStatement 145 = .ok (.ireturn, 1) := dk_172 (dk_at dksX5_readStatement_6 11 rfl rfl)
abbrev cX5_readOnce : ByteArray := prog_20_method_69_code
def yX5_readOnce : MethodName := ⟨RX5, "readOnce", "(IIII)Z"⟩
def dkwX5_readOnce_3 : List UInt8 := [4, 172]
abbrev dktX5_readOnce_3 : List UInt8 := dkwX5_readOnce_3 ++ []
def dkwX5_readOnce_2 : List UInt8 := [4, 172, 42, 29, 21, 4, 182, 1, 75, 154, 0, 5, 3, 172, 42, 180, 0, 7, 28, 42, 180, 1, 49, 79]
abbrev dktX5_readOnce_2 : List UInt8 := dkwX5_readOnce_2 ++ dktX5_readOnce_3
def dkwX5_readOnce_1 : List UInt8 := [27, 120, 128, 181, 1, 78, 42, 182, 1, 52, 28, 16, 9, 160, 0, 13, 42, 180, 0, 7, 16, 9, 4, 79]
abbrev dktX5_readOnce_1 : List UInt8 := dkwX5_readOnce_1 ++ dktX5_readOnce_2
def dkwX5_readOnce_0 : List UInt8 := [42, 180, 1, 78, 27, 122, 4, 126, 4, 160, 0, 9, 42, 6, 182, 1, 46, 172, 42, 89, 180, 1, 78, 4]
abbrev dktX5_readOnce_0 : List UInt8 := dkwX5_readOnce_0 ++ dktX5_readOnce_1
theorem dksX5_readOnce_0 : cX5_readOnce.data.toList.drop 0 = dktX5_readOnce_0 := by decide +kernel
theorem dksX5_readOnce_1 : cX5_readOnce.data.toList.drop 24 = dktX5_readOnce_1 := dk_seg dksX5_readOnce_0 24 rfl rfl
theorem dksX5_readOnce_2 : cX5_readOnce.data.toList.drop 48 = dktX5_readOnce_2 := dk_seg dksX5_readOnce_1 24 rfl rfl
theorem dksX5_readOnce_3 : cX5_readOnce.data.toList.drop 72 = dktX5_readOnce_3 := dk_seg dksX5_readOnce_2 24 rfl rfl
theorem dX5_readOnce_0 : decode cX5_readOnce 0 = .ok (.aload_n 0, 1) := dk_42 (dk_at dksX5_readOnce_0 0 rfl rfl)
theorem dX5_readOnce_1 : decode cX5_readOnce 1 = .ok (.getfield 334, 3) := dk_180 1 78 (dk_at dksX5_readOnce_0 1 rfl rfl)
theorem dX5_readOnce_4 : decode cX5_readOnce 4 = .ok (.iload_n 1, 1) := dk_27 (dk_at dksX5_readOnce_0 4 rfl rfl)
theorem dX5_readOnce_5 : decode cX5_readOnce 5 = .ok (.ishr, 1) := dk_122 (dk_at dksX5_readOnce_0 5 rfl rfl)
theorem dX5_readOnce_6 : decode cX5_readOnce 6 = .ok (.iconst 1, 1) := dk_4 (dk_at dksX5_readOnce_0 6 rfl rfl)
theorem dX5_readOnce_7 : decode cX5_readOnce 7 = .ok (.iand, 1) := dk_126 (dk_at dksX5_readOnce_0 7 rfl rfl)
theorem dX5_readOnce_8 : decode cX5_readOnce 8 = .ok (.iconst 1, 1) := dk_4 (dk_at dksX5_readOnce_0 8 rfl rfl)
theorem dX5_readOnce_9 : decode cX5_readOnce 9 = .ok (.if_icmp .ne 9, 3) := dk_160 0 9 (dk_at dksX5_readOnce_0 9 rfl rfl)
theorem dX5_readOnce_12 : decode cX5_readOnce 12 = .ok (.aload_n 0, 1) := dk_42 (dk_at dksX5_readOnce_0 12 rfl rfl)
theorem dX5_readOnce_13 : decode cX5_readOnce 13 = .ok (.iconst 3, 1) := dk_6 (dk_at dksX5_readOnce_0 13 rfl rfl)
theorem dX5_readOnce_14 : decode cX5_readOnce 14 = .ok (.invokevirtual 302, 3) := dk_182 1 46 (dk_at dksX5_readOnce_0 14 rfl rfl)
theorem dX5_readOnce_17 : decode cX5_readOnce 17 = .ok (.ireturn, 1) := dk_172 (dk_at dksX5_readOnce_0 17 rfl rfl)
theorem dX5_readOnce_18 : decode cX5_readOnce 18 = .ok (.aload_n 0, 1) := dk_42 (dk_at dksX5_readOnce_0 18 rfl rfl)
theorem dX5_readOnce_19 : decode cX5_readOnce 19 = .ok (.dup, 1) := dk_89 (dk_at dksX5_readOnce_0 19 rfl rfl)
theorem dX5_readOnce_20 : decode cX5_readOnce 20 = .ok (.getfield 334, 3) := dk_180 1 78 (dk_at dksX5_readOnce_0 20 rfl rfl)
theorem dX5_readOnce_23 : decode cX5_readOnce 23 = .ok (.iconst 1, 1) := dk_4 (dk_at dksX5_readOnce_0 23 rfl rfl)
theorem dX5_readOnce_24 : decode cX5_readOnce 24 = .ok (.iload_n 1, 1) := dk_27 (dk_at dksX5_readOnce_1 0 rfl rfl)
theorem dX5_readOnce_25 : decode cX5_readOnce 25 = .ok (.ishl, 1) := dk_120 (dk_at dksX5_readOnce_1 1 rfl rfl)
theorem dX5_readOnce_26 : decode cX5_readOnce 26 = .ok (.ior, 1) := dk_128 (dk_at dksX5_readOnce_1 2 rfl rfl)
theorem dX5_readOnce_27 : decode cX5_readOnce 27 = .ok (.putfield 334, 3) := dk_181 1 78 (dk_at dksX5_readOnce_1 3 rfl rfl)
theorem dX5_readOnce_30 : decode cX5_readOnce 30 = .ok (.aload_n 0, 1) := dk_42 (dk_at dksX5_readOnce_1 6 rfl rfl)
theorem dX5_readOnce_31 : decode cX5_readOnce 31 = .ok (.invokevirtual 308, 3) := dk_182 1 52 (dk_at dksX5_readOnce_1 7 rfl rfl)
theorem dX5_readOnce_34 : decode cX5_readOnce 34 = .ok (.iload_n 2, 1) := dk_28 (dk_at dksX5_readOnce_1 10 rfl rfl)
theorem dX5_readOnce_35 : decode cX5_readOnce 35 = .ok (.bipush 9, 2) := dk_16 9 (dk_at dksX5_readOnce_1 11 rfl rfl)
theorem dX5_readOnce_37 : decode cX5_readOnce 37 = .ok (.if_icmp .ne 13, 3) := dk_160 0 13 (dk_at dksX5_readOnce_1 13 rfl rfl)
theorem dX5_readOnce_40 : decode cX5_readOnce 40 = .ok (.aload_n 0, 1) := dk_42 (dk_at dksX5_readOnce_1 16 rfl rfl)
theorem dX5_readOnce_41 : decode cX5_readOnce 41 = .ok (.getfield 7, 3) := dk_180 0 7 (dk_at dksX5_readOnce_1 17 rfl rfl)
theorem dX5_readOnce_44 : decode cX5_readOnce 44 = .ok (.bipush 9, 2) := dk_16 9 (dk_at dksX5_readOnce_1 20 rfl rfl)
theorem dX5_readOnce_46 : decode cX5_readOnce 46 = .ok (.iconst 1, 1) := dk_4 (dk_at dksX5_readOnce_1 22 rfl rfl)
theorem dX5_readOnce_47 : decode cX5_readOnce 47 = .ok (.iastore, 1) := dk_79 (dk_at dksX5_readOnce_1 23 rfl rfl)
theorem dX5_readOnce_48 : decode cX5_readOnce 48 = .ok (.iconst 1, 1) := dk_4 (dk_at dksX5_readOnce_2 0 rfl rfl)
theorem dX5_readOnce_49 : decode cX5_readOnce 49 = .ok (.ireturn, 1) := dk_172 (dk_at dksX5_readOnce_2 1 rfl rfl)
theorem dX5_readOnce_50 : decode cX5_readOnce 50 = .ok (.aload_n 0, 1) := dk_42 (dk_at dksX5_readOnce_2 2 rfl rfl)
theorem dX5_readOnce_51 : decode cX5_readOnce 51 = .ok (.iload_n 3, 1) := dk_29 (dk_at dksX5_readOnce_2 3 rfl rfl)
theorem dX5_readOnce_52 : decode cX5_readOnce 52 = .ok (.iload 4, 2) := dk_21 4 (dk_at dksX5_readOnce_2 4 rfl rfl)
theorem dX5_readOnce_54 : decode cX5_readOnce 54 = .ok (.invokevirtual 331, 3) := dk_182 1 75 (dk_at dksX5_readOnce_2 6 rfl rfl)
theorem dX5_readOnce_57 : decode cX5_readOnce 57 = .ok (.ifCond .ne 5, 3) := dk_154 0 5 (dk_at dksX5_readOnce_2 9 rfl rfl)
theorem dX5_readOnce_60 : decode cX5_readOnce 60 = .ok (.iconst 0, 1) := dk_3 (dk_at dksX5_readOnce_2 12 rfl rfl)
theorem dX5_readOnce_61 : decode cX5_readOnce 61 = .ok (.ireturn, 1) := dk_172 (dk_at dksX5_readOnce_2 13 rfl rfl)
theorem dX5_readOnce_62 : decode cX5_readOnce 62 = .ok (.aload_n 0, 1) := dk_42 (dk_at dksX5_readOnce_2 14 rfl rfl)
theorem dX5_readOnce_63 : decode cX5_readOnce 63 = .ok (.getfield 7, 3) := dk_180 0 7 (dk_at dksX5_readOnce_2 15 rfl rfl)
theorem dX5_readOnce_66 : decode cX5_readOnce 66 = .ok (.iload_n 2, 1) := dk_28 (dk_at dksX5_readOnce_2 18 rfl rfl)
theorem dX5_readOnce_67 : decode cX5_readOnce 67 = .ok (.aload_n 0, 1) := dk_42 (dk_at dksX5_readOnce_2 19 rfl rfl)
theorem dX5_readOnce_68 : decode cX5_readOnce 68 = .ok (.getfield 305, 3) := dk_180 1 49 (dk_at dksX5_readOnce_2 20 rfl rfl)
theorem dX5_readOnce_71 : decode cX5_readOnce 71 = .ok (.iastore, 1) := dk_79 (dk_at dksX5_readOnce_2 23 rfl rfl)
theorem dX5_readOnce_72 : decode cX5_readOnce 72 = .ok (.iconst 1, 1) := dk_4 (dk_at dksX5_readOnce_3 0 rfl rfl)
theorem dX5_readOnce_73 : decode cX5_readOnce 73 = .ok (.ireturn, 1) := dk_172 (dk_at dksX5_readOnce_3 1 rfl rfl)
abbrev cX5_readCounty : ByteArray := prog_20_method_70_code
def yX5_readCounty : MethodName := ⟨RX5, "readCounty", "()Z"⟩
def dkwX5_readCounty_2 : List UInt8 := [172]
abbrev dktX5_readCounty_2 : List UInt8 := dkwX5_readCounty_2 ++ []
def dkwX5_readCounty_1 : List UInt8 := [180, 0, 7, 5, 46, 182, 1, 81, 154, 0, 5, 3, 172, 42, 180, 0, 7, 5, 92, 46, 4, 96, 79, 4]
abbrev dktX5_readCounty_1 : List UInt8 := dkwX5_readCounty_1 ++ dktX5_readCounty_2
def dkwX5_readCounty_0 : List UInt8 := [42, 180, 0, 7, 5, 46, 16, 8, 160, 0, 9, 42, 8, 182, 1, 46, 172, 42, 182, 1, 52, 42, 3, 42]
abbrev dktX5_readCounty_0 : List UInt8 := dkwX5_readCounty_0 ++ dktX5_readCounty_1
theorem dksX5_readCounty_0 : cX5_readCounty.data.toList.drop 0 = dktX5_readCounty_0 := by decide +kernel
theorem dksX5_readCounty_1 : cX5_readCounty.data.toList.drop 24 = dktX5_readCounty_1 := dk_seg dksX5_readCounty_0 24 rfl rfl
theorem dksX5_readCounty_2 : cX5_readCounty.data.toList.drop 48 = dktX5_readCounty_2 := dk_seg dksX5_readCounty_1 24 rfl rfl
theorem dX5_readCounty_0 : decode cX5_readCounty 0 = .ok (.aload_n 0, 1) := dk_42 (dk_at dksX5_readCounty_0 0 rfl rfl)
theorem dX5_readCounty_1 : decode cX5_readCounty 1 = .ok (.getfield 7, 3) := dk_180 0 7 (dk_at dksX5_readCounty_0 1 rfl rfl)
theorem dX5_readCounty_4 : decode cX5_readCounty 4 = .ok (.iconst 2, 1) := dk_5 (dk_at dksX5_readCounty_0 4 rfl rfl)
theorem dX5_readCounty_5 : decode cX5_readCounty 5 = .ok (.iaload, 1) := dk_46 (dk_at dksX5_readCounty_0 5 rfl rfl)
theorem dX5_readCounty_6 : decode cX5_readCounty 6 = .ok (.bipush 8, 2) := dk_16 8 (dk_at dksX5_readCounty_0 6 rfl rfl)
theorem dX5_readCounty_8 : decode cX5_readCounty 8 = .ok (.if_icmp .ne 9, 3) := dk_160 0 9 (dk_at dksX5_readCounty_0 8 rfl rfl)
theorem dX5_readCounty_11 : decode cX5_readCounty 11 = .ok (.aload_n 0, 1) := dk_42 (dk_at dksX5_readCounty_0 11 rfl rfl)
theorem dX5_readCounty_12 : decode cX5_readCounty 12 = .ok (.iconst 5, 1) := dk_8 (dk_at dksX5_readCounty_0 12 rfl rfl)
theorem dX5_readCounty_13 : decode cX5_readCounty 13 = .ok (.invokevirtual 302, 3) := dk_182 1 46 (dk_at dksX5_readCounty_0 13 rfl rfl)
theorem dX5_readCounty_16 : decode cX5_readCounty 16 = .ok (.ireturn, 1) := dk_172 (dk_at dksX5_readCounty_0 16 rfl rfl)
theorem dX5_readCounty_17 : decode cX5_readCounty 17 = .ok (.aload_n 0, 1) := dk_42 (dk_at dksX5_readCounty_0 17 rfl rfl)
theorem dX5_readCounty_18 : decode cX5_readCounty 18 = .ok (.invokevirtual 308, 3) := dk_182 1 52 (dk_at dksX5_readCounty_0 18 rfl rfl)
theorem dX5_readCounty_21 : decode cX5_readCounty 21 = .ok (.aload_n 0, 1) := dk_42 (dk_at dksX5_readCounty_0 21 rfl rfl)
theorem dX5_readCounty_22 : decode cX5_readCounty 22 = .ok (.iconst 0, 1) := dk_3 (dk_at dksX5_readCounty_0 22 rfl rfl)
theorem dX5_readCounty_23 : decode cX5_readCounty 23 = .ok (.aload_n 0, 1) := dk_42 (dk_at dksX5_readCounty_0 23 rfl rfl)
theorem dX5_readCounty_24 : decode cX5_readCounty 24 = .ok (.getfield 7, 3) := dk_180 0 7 (dk_at dksX5_readCounty_1 0 rfl rfl)
theorem dX5_readCounty_27 : decode cX5_readCounty 27 = .ok (.iconst 2, 1) := dk_5 (dk_at dksX5_readCounty_1 3 rfl rfl)
theorem dX5_readCounty_28 : decode cX5_readCounty 28 = .ok (.iaload, 1) := dk_46 (dk_at dksX5_readCounty_1 4 rfl rfl)
theorem dX5_readCounty_29 : decode cX5_readCounty 29 = .ok (.invokevirtual 337, 3) := dk_182 1 81 (dk_at dksX5_readCounty_1 5 rfl rfl)
theorem dX5_readCounty_32 : decode cX5_readCounty 32 = .ok (.ifCond .ne 5, 3) := dk_154 0 5 (dk_at dksX5_readCounty_1 8 rfl rfl)
theorem dX5_readCounty_35 : decode cX5_readCounty 35 = .ok (.iconst 0, 1) := dk_3 (dk_at dksX5_readCounty_1 11 rfl rfl)
theorem dX5_readCounty_36 : decode cX5_readCounty 36 = .ok (.ireturn, 1) := dk_172 (dk_at dksX5_readCounty_1 12 rfl rfl)
theorem dX5_readCounty_37 : decode cX5_readCounty 37 = .ok (.aload_n 0, 1) := dk_42 (dk_at dksX5_readCounty_1 13 rfl rfl)
theorem dX5_readCounty_38 : decode cX5_readCounty 38 = .ok (.getfield 7, 3) := dk_180 0 7 (dk_at dksX5_readCounty_1 14 rfl rfl)
theorem dX5_readCounty_41 : decode cX5_readCounty 41 = .ok (.iconst 2, 1) := dk_5 (dk_at dksX5_readCounty_1 17 rfl rfl)
theorem dX5_readCounty_42 : decode cX5_readCounty 42 = .ok (.dup2, 1) := dk_92 (dk_at dksX5_readCounty_1 18 rfl rfl)
theorem dX5_readCounty_43 : decode cX5_readCounty 43 = .ok (.iaload, 1) := dk_46 (dk_at dksX5_readCounty_1 19 rfl rfl)
theorem dX5_readCounty_44 : decode cX5_readCounty 44 = .ok (.iconst 1, 1) := dk_4 (dk_at dksX5_readCounty_1 20 rfl rfl)
theorem dX5_readCounty_45 : decode cX5_readCounty 45 = .ok (.iadd, 1) := dk_96 (dk_at dksX5_readCounty_1 21 rfl rfl)
theorem dX5_readCounty_46 : decode cX5_readCounty 46 = .ok (.iastore, 1) := dk_79 (dk_at dksX5_readCounty_1 22 rfl rfl)
theorem dX5_readCounty_47 : decode cX5_readCounty 47 = .ok (.iconst 1, 1) := dk_4 (dk_at dksX5_readCounty_1 23 rfl rfl)
theorem dX5_readCounty_48 : decode cX5_readCounty 48 = .ok (.ireturn, 1) := dk_172 (dk_at dksX5_readCounty_2 0 rfl rfl)
abbrev cX5_readsNew : ByteArray := prog_20_method_65_code
def yX5_readsNew : MethodName := ⟨RX5, "readsNew", "(II)Z"⟩
def dkwX5_readsNew_1 : List UInt8 := [6, 182, 1, 46, 172, 42, 180, 0, 22, 27, 28, 96, 42, 180, 1, 55, 80, 42, 182, 1, 52, 4, 172]
abbrev dktX5_readsNew_1 : List UInt8 := dkwX5_readsNew_1 ++ []
def dkwX5_readsNew_0 : List UInt8 := [42, 182, 1, 58, 154, 0, 5, 3, 172, 42, 27, 28, 42, 180, 1, 55, 182, 1, 62, 2, 159, 0, 9, 42]
abbrev dktX5_readsNew_0 : List UInt8 := dkwX5_readsNew_0 ++ dktX5_readsNew_1
theorem dksX5_readsNew_0 : cX5_readsNew.data.toList.drop 0 = dktX5_readsNew_0 := by decide +kernel
theorem dksX5_readsNew_1 : cX5_readsNew.data.toList.drop 24 = dktX5_readsNew_1 := dk_seg dksX5_readsNew_0 24 rfl rfl
theorem dX5_readsNew_0 : decode cX5_readsNew 0 = .ok (.aload_n 0, 1) := dk_42 (dk_at dksX5_readsNew_0 0 rfl rfl)
theorem dX5_readsNew_1 : decode cX5_readsNew 1 = .ok (.invokevirtual 314, 3) := dk_182 1 58 (dk_at dksX5_readsNew_0 1 rfl rfl)
theorem dX5_readsNew_4 : decode cX5_readsNew 4 = .ok (.ifCond .ne 5, 3) := dk_154 0 5 (dk_at dksX5_readsNew_0 4 rfl rfl)
theorem dX5_readsNew_7 : decode cX5_readsNew 7 = .ok (.iconst 0, 1) := dk_3 (dk_at dksX5_readsNew_0 7 rfl rfl)
theorem dX5_readsNew_8 : decode cX5_readsNew 8 = .ok (.ireturn, 1) := dk_172 (dk_at dksX5_readsNew_0 8 rfl rfl)
theorem dX5_readsNew_9 : decode cX5_readsNew 9 = .ok (.aload_n 0, 1) := dk_42 (dk_at dksX5_readsNew_0 9 rfl rfl)
theorem dX5_readsNew_10 : decode cX5_readsNew 10 = .ok (.iload_n 1, 1) := dk_27 (dk_at dksX5_readsNew_0 10 rfl rfl)
theorem dX5_readsNew_11 : decode cX5_readsNew 11 = .ok (.iload_n 2, 1) := dk_28 (dk_at dksX5_readsNew_0 11 rfl rfl)
theorem dX5_readsNew_12 : decode cX5_readsNew 12 = .ok (.aload_n 0, 1) := dk_42 (dk_at dksX5_readsNew_0 12 rfl rfl)
theorem dX5_readsNew_13 : decode cX5_readsNew 13 = .ok (.getfield 311, 3) := dk_180 1 55 (dk_at dksX5_readsNew_0 13 rfl rfl)
theorem dX5_readsNew_16 : decode cX5_readsNew 16 = .ok (.invokevirtual 318, 3) := dk_182 1 62 (dk_at dksX5_readsNew_0 16 rfl rfl)
theorem dX5_readsNew_19 : decode cX5_readsNew 19 = .ok (.iconst (-1), 1) := dk_2 (dk_at dksX5_readsNew_0 19 rfl rfl)
theorem dX5_readsNew_20 : decode cX5_readsNew 20 = .ok (.if_icmp .eq 9, 3) := dk_159 0 9 (dk_at dksX5_readsNew_0 20 rfl rfl)
theorem dX5_readsNew_23 : decode cX5_readsNew 23 = .ok (.aload_n 0, 1) := dk_42 (dk_at dksX5_readsNew_0 23 rfl rfl)
theorem dX5_readsNew_24 : decode cX5_readsNew 24 = .ok (.iconst 3, 1) := dk_6 (dk_at dksX5_readsNew_1 0 rfl rfl)
theorem dX5_readsNew_25 : decode cX5_readsNew 25 = .ok (.invokevirtual 302, 3) := dk_182 1 46 (dk_at dksX5_readsNew_1 1 rfl rfl)
theorem dX5_readsNew_28 : decode cX5_readsNew 28 = .ok (.ireturn, 1) := dk_172 (dk_at dksX5_readsNew_1 4 rfl rfl)
theorem dX5_readsNew_29 : decode cX5_readsNew 29 = .ok (.aload_n 0, 1) := dk_42 (dk_at dksX5_readsNew_1 5 rfl rfl)
theorem dX5_readsNew_30 : decode cX5_readsNew 30 = .ok (.getfield 22, 3) := dk_180 0 22 (dk_at dksX5_readsNew_1 6 rfl rfl)
theorem dX5_readsNew_33 : decode cX5_readsNew 33 = .ok (.iload_n 1, 1) := dk_27 (dk_at dksX5_readsNew_1 9 rfl rfl)
theorem dX5_readsNew_34 : decode cX5_readsNew 34 = .ok (.iload_n 2, 1) := dk_28 (dk_at dksX5_readsNew_1 10 rfl rfl)
theorem dX5_readsNew_35 : decode cX5_readsNew 35 = .ok (.iadd, 1) := dk_96 (dk_at dksX5_readsNew_1 11 rfl rfl)
theorem dX5_readsNew_36 : decode cX5_readsNew 36 = .ok (.aload_n 0, 1) := dk_42 (dk_at dksX5_readsNew_1 12 rfl rfl)
theorem dX5_readsNew_37 : decode cX5_readsNew 37 = .ok (.getfield 311, 3) := dk_180 1 55 (dk_at dksX5_readsNew_1 13 rfl rfl)
theorem dX5_readsNew_40 : decode cX5_readsNew 40 = .ok (.lastore, 1) := dk_80 (dk_at dksX5_readsNew_1 16 rfl rfl)
theorem dX5_readsNew_41 : decode cX5_readsNew 41 = .ok (.aload_n 0, 1) := dk_42 (dk_at dksX5_readsNew_1 17 rfl rfl)
theorem dX5_readsNew_42 : decode cX5_readsNew 42 = .ok (.invokevirtual 308, 3) := dk_182 1 52 (dk_at dksX5_readsNew_1 18 rfl rfl)
theorem dX5_readsNew_45 : decode cX5_readsNew 45 = .ok (.iconst 1, 1) := dk_4 (dk_at dksX5_readsNew_1 21 rfl rfl)
theorem dX5_readsNew_46 : decode cX5_readsNew 46 = .ok (.ireturn, 1) := dk_172 (dk_at dksX5_readsNew_1 22 rfl rfl)
abbrev cX5_seesName : ByteArray := prog_20_method_63_code
def yX5_seesName : MethodName := ⟨RX5, "seesName", "()Z"⟩
def dkwX5_seesName_1 : List UInt8 := [182, 1, 46, 172, 42, 42, 180, 1, 26, 181, 1, 55, 4, 172]
abbrev dktX5_seesName_1 : List UInt8 := dkwX5_seesName_1 ++ []
def dkwX5_seesName_0 : List UInt8 := [42, 180, 1, 17, 4, 160, 0, 17, 42, 180, 1, 8, 42, 180, 1, 11, 100, 16, 7, 164, 0, 9, 42, 4]
abbrev dktX5_seesName_0 : List UInt8 := dkwX5_seesName_0 ++ dktX5_seesName_1
theorem dksX5_seesName_0 : cX5_seesName.data.toList.drop 0 = dktX5_seesName_0 := by decide +kernel
theorem dksX5_seesName_1 : cX5_seesName.data.toList.drop 24 = dktX5_seesName_1 := dk_seg dksX5_seesName_0 24 rfl rfl
theorem dX5_seesName_0 : decode cX5_seesName 0 = .ok (.aload_n 0, 1) := dk_42 (dk_at dksX5_seesName_0 0 rfl rfl)
theorem dX5_seesName_1 : decode cX5_seesName 1 = .ok (.getfield 273, 3) := dk_180 1 17 (dk_at dksX5_seesName_0 1 rfl rfl)
theorem dX5_seesName_4 : decode cX5_seesName 4 = .ok (.iconst 1, 1) := dk_4 (dk_at dksX5_seesName_0 4 rfl rfl)
theorem dX5_seesName_5 : decode cX5_seesName 5 = .ok (.if_icmp .ne 17, 3) := dk_160 0 17 (dk_at dksX5_seesName_0 5 rfl rfl)
theorem dX5_seesName_8 : decode cX5_seesName 8 = .ok (.aload_n 0, 1) := dk_42 (dk_at dksX5_seesName_0 8 rfl rfl)
theorem dX5_seesName_9 : decode cX5_seesName 9 = .ok (.getfield 264, 3) := dk_180 1 8 (dk_at dksX5_seesName_0 9 rfl rfl)
theorem dX5_seesName_12 : decode cX5_seesName 12 = .ok (.aload_n 0, 1) := dk_42 (dk_at dksX5_seesName_0 12 rfl rfl)
theorem dX5_seesName_13 : decode cX5_seesName 13 = .ok (.getfield 267, 3) := dk_180 1 11 (dk_at dksX5_seesName_0 13 rfl rfl)
theorem dX5_seesName_16 : decode cX5_seesName 16 = .ok (.isub, 1) := dk_100 (dk_at dksX5_seesName_0 16 rfl rfl)
theorem dX5_seesName_17 : decode cX5_seesName 17 = .ok (.bipush 7, 2) := dk_16 7 (dk_at dksX5_seesName_0 17 rfl rfl)
theorem dX5_seesName_19 : decode cX5_seesName 19 = .ok (.if_icmp .le 9, 3) := dk_164 0 9 (dk_at dksX5_seesName_0 19 rfl rfl)
theorem dX5_seesName_22 : decode cX5_seesName 22 = .ok (.aload_n 0, 1) := dk_42 (dk_at dksX5_seesName_0 22 rfl rfl)
theorem dX5_seesName_23 : decode cX5_seesName 23 = .ok (.iconst 1, 1) := dk_4 (dk_at dksX5_seesName_0 23 rfl rfl)
theorem dX5_seesName_24 : decode cX5_seesName 24 = .ok (.invokevirtual 302, 3) := dk_182 1 46 (dk_at dksX5_seesName_1 0 rfl rfl)
theorem dX5_seesName_27 : decode cX5_seesName 27 = .ok (.ireturn, 1) := dk_172 (dk_at dksX5_seesName_1 3 rfl rfl)
theorem dX5_seesName_28 : decode cX5_seesName 28 = .ok (.aload_n 0, 1) := dk_42 (dk_at dksX5_seesName_1 4 rfl rfl)
theorem dX5_seesName_29 : decode cX5_seesName 29 = .ok (.aload_n 0, 1) := dk_42 (dk_at dksX5_seesName_1 5 rfl rfl)
theorem dX5_seesName_30 : decode cX5_seesName 30 = .ok (.getfield 282, 3) := dk_180 1 26 (dk_at dksX5_seesName_1 6 rfl rfl)
theorem dX5_seesName_33 : decode cX5_seesName 33 = .ok (.putfield 311, 3) := dk_181 1 55 (dk_at dksX5_seesName_1 9 rfl rfl)
theorem dX5_seesName_36 : decode cX5_seesName 36 = .ok (.iconst 1, 1) := dk_4 (dk_at dksX5_seesName_1 12 rfl rfl)
theorem dX5_seesName_37 : decode cX5_seesName 37 = .ok (.ireturn, 1) := dk_172 (dk_at dksX5_seesName_1 13 rfl rfl)
abbrev cX5_found : ByteArray := prog_20_method_64_code
def yX5_found : MethodName := ⟨RX5, "found", "(IIJ)I"⟩
def dkwX5_found_1 : List UInt8 := [21, 5, 172, 132, 5, 1, 167, 255, 230, 2, 172]
abbrev dktX5_found_1 : List UInt8 := dkwX5_found_1 ++ []
def dkwX5_found_0 : List UInt8 := [3, 54, 5, 21, 5, 28, 162, 0, 26, 42, 180, 0, 22, 27, 21, 5, 96, 47, 33, 148, 154, 0, 6]
abbrev dktX5_found_0 : List UInt8 := dkwX5_found_0 ++ dktX5_found_1
theorem dksX5_found_0 : cX5_found.data.toList.drop 0 = dktX5_found_0 := by decide +kernel
theorem dksX5_found_1 : cX5_found.data.toList.drop 23 = dktX5_found_1 := dk_seg dksX5_found_0 23 rfl rfl
theorem dX5_found_0 : decode cX5_found 0 = .ok (.iconst 0, 1) := dk_3 (dk_at dksX5_found_0 0 rfl rfl)
theorem dX5_found_1 : decode cX5_found 1 = .ok (.istore 5, 2) := dk_54 5 (dk_at dksX5_found_0 1 rfl rfl)
theorem dX5_found_3 : decode cX5_found 3 = .ok (.iload 5, 2) := dk_21 5 (dk_at dksX5_found_0 3 rfl rfl)
theorem dX5_found_5 : decode cX5_found 5 = .ok (.iload_n 2, 1) := dk_28 (dk_at dksX5_found_0 5 rfl rfl)
theorem dX5_found_6 : decode cX5_found 6 = .ok (.if_icmp .ge 26, 3) := dk_162 0 26 (dk_at dksX5_found_0 6 rfl rfl)
theorem dX5_found_9 : decode cX5_found 9 = .ok (.aload_n 0, 1) := dk_42 (dk_at dksX5_found_0 9 rfl rfl)
theorem dX5_found_10 : decode cX5_found 10 = .ok (.getfield 22, 3) := dk_180 0 22 (dk_at dksX5_found_0 10 rfl rfl)
theorem dX5_found_13 : decode cX5_found 13 = .ok (.iload_n 1, 1) := dk_27 (dk_at dksX5_found_0 13 rfl rfl)
theorem dX5_found_14 : decode cX5_found 14 = .ok (.iload 5, 2) := dk_21 5 (dk_at dksX5_found_0 14 rfl rfl)
theorem dX5_found_16 : decode cX5_found 16 = .ok (.iadd, 1) := dk_96 (dk_at dksX5_found_0 16 rfl rfl)
theorem dX5_found_17 : decode cX5_found 17 = .ok (.laload, 1) := dk_47 (dk_at dksX5_found_0 17 rfl rfl)
theorem dX5_found_18 : decode cX5_found 18 = .ok (.lload_n 3, 1) := dk_33 (dk_at dksX5_found_0 18 rfl rfl)
theorem dX5_found_19 : decode cX5_found 19 = .ok (.lcmp, 1) := dk_148 (dk_at dksX5_found_0 19 rfl rfl)
theorem dX5_found_20 : decode cX5_found 20 = .ok (.ifCond .ne 6, 3) := dk_154 0 6 (dk_at dksX5_found_0 20 rfl rfl)
theorem dX5_found_23 : decode cX5_found 23 = .ok (.iload 5, 2) := dk_21 5 (dk_at dksX5_found_1 0 rfl rfl)
theorem dX5_found_25 : decode cX5_found 25 = .ok (.ireturn, 1) := dk_172 (dk_at dksX5_found_1 2 rfl rfl)
theorem dX5_found_26 : decode cX5_found 26 = .ok (.iinc 5 1, 3) := dk_132 5 1 (dk_at dksX5_found_1 3 rfl rfl)
theorem dX5_found_29 : decode cX5_found 29 = .ok (.goto (-26), 3) := dk_167 255 230 (dk_at dksX5_found_1 6 rfl rfl)
theorem dX5_found_32 : decode cX5_found 32 = .ok (.iconst (-1), 1) := dk_2 (dk_at dksX5_found_1 9 rfl rfl)
theorem dX5_found_33 : decode cX5_found 33 = .ok (.ireturn, 1) := dk_172 (dk_at dksX5_found_1 10 rfl rfl)
abbrev cX5_readVillage : ByteArray := prog_20_method_71_code
def yX5_readVillage : MethodName := ⟨RX5, "readVillage", "()Z"⟩
def dkwX5_readVillage_8 : List UInt8 := [154, 0, 5, 3, 172, 42, 180, 0, 7, 27, 6, 96, 42, 180, 1, 49, 79, 4, 172]
abbrev dktX5_readVillage_8 : List UInt8 := dkwX5_readVillage_8 ++ []
def dkwX5_readVillage_7 : List UInt8 := [4, 172, 42, 182, 1, 52, 42, 42, 180, 0, 7, 27, 5, 96, 46, 4, 96, 17, 3, 231, 182, 1, 75]
abbrev dktX5_readVillage_7 : List UInt8 := dkwX5_readVillage_7 ++ dktX5_readVillage_8
def dkwX5_readVillage_6 : List UInt8 := [17, 3, 232, 79, 42, 180, 0, 7, 6, 92, 46, 4, 96, 79, 42, 19, 1, 84, 182, 1, 71, 154, 0, 5]
abbrev dktX5_readVillage_6 : List UInt8 := dkwX5_readVillage_6 ++ dktX5_readVillage_7
def dkwX5_readVillage_5 : List UInt8 := [154, 0, 5, 3, 172, 42, 180, 0, 7, 27, 5, 96, 42, 180, 1, 49, 79, 42, 180, 0, 7, 27, 6, 96]
abbrev dktX5_readVillage_5 : List UInt8 := dkwX5_readVillage_5 ++ dktX5_readVillage_6
def dkwX5_readVillage_4 : List UInt8 := [3, 172, 42, 180, 0, 7, 27, 4, 96, 42, 180, 1, 49, 79, 42, 3, 17, 3, 231, 182, 1, 75]
abbrev dktX5_readVillage_4 : List UInt8 := dkwX5_readVillage_4 ++ dktX5_readVillage_5
def dkwX5_readVillage_3 : List UInt8 := [27, 3, 96, 42, 180, 1, 49, 79, 42, 3, 42, 180, 0, 7, 4, 46, 4, 100, 182, 1, 75, 154, 0, 5]
abbrev dktX5_readVillage_3 : List UInt8 := dkwX5_readVillage_3 ++ dktX5_readVillage_4
def dkwX5_readVillage_2 : List UInt8 := [96, 60, 42, 3, 42, 180, 0, 7, 3, 46, 4, 100, 182, 1, 75, 154, 0, 5, 3, 172, 42, 180, 0, 7]
abbrev dktX5_readVillage_2 : List UInt8 := dkwX5_readVillage_2 ++ dktX5_readVillage_3
def dkwX5_readVillage_1 : List UInt8 := [42, 180, 0, 7, 6, 46, 182, 1, 81, 154, 0, 5, 3, 172, 16, 10, 7, 42, 180, 0, 7, 6, 46, 104]
abbrev dktX5_readVillage_1 : List UInt8 := dkwX5_readVillage_1 ++ dktX5_readVillage_2
def dkwX5_readVillage_0 : List UInt8 := [42, 180, 0, 7, 6, 46, 16, 24, 160, 0, 9, 42, 8, 182, 1, 46, 172, 42, 182, 1, 52, 42, 16, 8]
abbrev dktX5_readVillage_0 : List UInt8 := dkwX5_readVillage_0 ++ dktX5_readVillage_1
theorem dksX5_readVillage_0 : cX5_readVillage.data.toList.drop 0 = dktX5_readVillage_0 := by decide +kernel
theorem dksX5_readVillage_1 : cX5_readVillage.data.toList.drop 24 = dktX5_readVillage_1 := dk_seg dksX5_readVillage_0 24 rfl rfl
theorem dksX5_readVillage_2 : cX5_readVillage.data.toList.drop 48 = dktX5_readVillage_2 := dk_seg dksX5_readVillage_1 24 rfl rfl
theorem dksX5_readVillage_3 : cX5_readVillage.data.toList.drop 72 = dktX5_readVillage_3 := dk_seg dksX5_readVillage_2 24 rfl rfl
theorem dksX5_readVillage_4 : cX5_readVillage.data.toList.drop 96 = dktX5_readVillage_4 := dk_seg dksX5_readVillage_3 24 rfl rfl
theorem dksX5_readVillage_5 : cX5_readVillage.data.toList.drop 118 = dktX5_readVillage_5 := dk_seg dksX5_readVillage_4 22 rfl rfl
theorem dksX5_readVillage_6 : cX5_readVillage.data.toList.drop 142 = dktX5_readVillage_6 := dk_seg dksX5_readVillage_5 24 rfl rfl
theorem dksX5_readVillage_7 : cX5_readVillage.data.toList.drop 166 = dktX5_readVillage_7 := dk_seg dksX5_readVillage_6 24 rfl rfl
theorem dksX5_readVillage_8 : cX5_readVillage.data.toList.drop 189 = dktX5_readVillage_8 := dk_seg dksX5_readVillage_7 23 rfl rfl
theorem dX5_readVillage_0 : decode cX5_readVillage 0 = .ok (.aload_n 0, 1) := dk_42 (dk_at dksX5_readVillage_0 0 rfl rfl)
theorem dX5_readVillage_1 : decode cX5_readVillage 1 = .ok (.getfield 7, 3) := dk_180 0 7 (dk_at dksX5_readVillage_0 1 rfl rfl)
theorem dX5_readVillage_4 : decode cX5_readVillage 4 = .ok (.iconst 3, 1) := dk_6 (dk_at dksX5_readVillage_0 4 rfl rfl)
theorem dX5_readVillage_5 : decode cX5_readVillage 5 = .ok (.iaload, 1) := dk_46 (dk_at dksX5_readVillage_0 5 rfl rfl)
theorem dX5_readVillage_6 : decode cX5_readVillage 6 = .ok (.bipush 24, 2) := dk_16 24 (dk_at dksX5_readVillage_0 6 rfl rfl)
theorem dX5_readVillage_8 : decode cX5_readVillage 8 = .ok (.if_icmp .ne 9, 3) := dk_160 0 9 (dk_at dksX5_readVillage_0 8 rfl rfl)
theorem dX5_readVillage_11 : decode cX5_readVillage 11 = .ok (.aload_n 0, 1) := dk_42 (dk_at dksX5_readVillage_0 11 rfl rfl)
theorem dX5_readVillage_12 : decode cX5_readVillage 12 = .ok (.iconst 5, 1) := dk_8 (dk_at dksX5_readVillage_0 12 rfl rfl)
theorem dX5_readVillage_13 : decode cX5_readVillage 13 = .ok (.invokevirtual 302, 3) := dk_182 1 46 (dk_at dksX5_readVillage_0 13 rfl rfl)
theorem dX5_readVillage_16 : decode cX5_readVillage 16 = .ok (.ireturn, 1) := dk_172 (dk_at dksX5_readVillage_0 16 rfl rfl)
theorem dX5_readVillage_17 : decode cX5_readVillage 17 = .ok (.aload_n 0, 1) := dk_42 (dk_at dksX5_readVillage_0 17 rfl rfl)
theorem dX5_readVillage_18 : decode cX5_readVillage 18 = .ok (.invokevirtual 308, 3) := dk_182 1 52 (dk_at dksX5_readVillage_0 18 rfl rfl)
theorem dX5_readVillage_21 : decode cX5_readVillage 21 = .ok (.aload_n 0, 1) := dk_42 (dk_at dksX5_readVillage_0 21 rfl rfl)
theorem dX5_readVillage_22 : decode cX5_readVillage 22 = .ok (.bipush 8, 2) := dk_16 8 (dk_at dksX5_readVillage_0 22 rfl rfl)
theorem dX5_readVillage_24 : decode cX5_readVillage 24 = .ok (.aload_n 0, 1) := dk_42 (dk_at dksX5_readVillage_1 0 rfl rfl)
theorem dX5_readVillage_25 : decode cX5_readVillage 25 = .ok (.getfield 7, 3) := dk_180 0 7 (dk_at dksX5_readVillage_1 1 rfl rfl)
theorem dX5_readVillage_28 : decode cX5_readVillage 28 = .ok (.iconst 3, 1) := dk_6 (dk_at dksX5_readVillage_1 4 rfl rfl)
theorem dX5_readVillage_29 : decode cX5_readVillage 29 = .ok (.iaload, 1) := dk_46 (dk_at dksX5_readVillage_1 5 rfl rfl)
theorem dX5_readVillage_30 : decode cX5_readVillage 30 = .ok (.invokevirtual 337, 3) := dk_182 1 81 (dk_at dksX5_readVillage_1 6 rfl rfl)
theorem dX5_readVillage_33 : decode cX5_readVillage 33 = .ok (.ifCond .ne 5, 3) := dk_154 0 5 (dk_at dksX5_readVillage_1 9 rfl rfl)
theorem dX5_readVillage_36 : decode cX5_readVillage 36 = .ok (.iconst 0, 1) := dk_3 (dk_at dksX5_readVillage_1 12 rfl rfl)
theorem dX5_readVillage_37 : decode cX5_readVillage 37 = .ok (.ireturn, 1) := dk_172 (dk_at dksX5_readVillage_1 13 rfl rfl)
theorem dX5_readVillage_38 : decode cX5_readVillage 38 = .ok (.bipush 10, 2) := dk_16 10 (dk_at dksX5_readVillage_1 14 rfl rfl)
theorem dX5_readVillage_40 : decode cX5_readVillage 40 = .ok (.iconst 4, 1) := dk_7 (dk_at dksX5_readVillage_1 16 rfl rfl)
theorem dX5_readVillage_41 : decode cX5_readVillage 41 = .ok (.aload_n 0, 1) := dk_42 (dk_at dksX5_readVillage_1 17 rfl rfl)
theorem dX5_readVillage_42 : decode cX5_readVillage 42 = .ok (.getfield 7, 3) := dk_180 0 7 (dk_at dksX5_readVillage_1 18 rfl rfl)
theorem dX5_readVillage_45 : decode cX5_readVillage 45 = .ok (.iconst 3, 1) := dk_6 (dk_at dksX5_readVillage_1 21 rfl rfl)
theorem dX5_readVillage_46 : decode cX5_readVillage 46 = .ok (.iaload, 1) := dk_46 (dk_at dksX5_readVillage_1 22 rfl rfl)
theorem dX5_readVillage_47 : decode cX5_readVillage 47 = .ok (.imul, 1) := dk_104 (dk_at dksX5_readVillage_1 23 rfl rfl)
theorem dX5_readVillage_48 : decode cX5_readVillage 48 = .ok (.iadd, 1) := dk_96 (dk_at dksX5_readVillage_2 0 rfl rfl)
theorem dX5_readVillage_49 : decode cX5_readVillage 49 = .ok (.istore_n 1, 1) := dk_60 (dk_at dksX5_readVillage_2 1 rfl rfl)
theorem dX5_readVillage_50 : decode cX5_readVillage 50 = .ok (.aload_n 0, 1) := dk_42 (dk_at dksX5_readVillage_2 2 rfl rfl)
theorem dX5_readVillage_51 : decode cX5_readVillage 51 = .ok (.iconst 0, 1) := dk_3 (dk_at dksX5_readVillage_2 3 rfl rfl)
theorem dX5_readVillage_52 : decode cX5_readVillage 52 = .ok (.aload_n 0, 1) := dk_42 (dk_at dksX5_readVillage_2 4 rfl rfl)
theorem dX5_readVillage_53 : decode cX5_readVillage 53 = .ok (.getfield 7, 3) := dk_180 0 7 (dk_at dksX5_readVillage_2 5 rfl rfl)
theorem dX5_readVillage_56 : decode cX5_readVillage 56 = .ok (.iconst 0, 1) := dk_3 (dk_at dksX5_readVillage_2 8 rfl rfl)
theorem dX5_readVillage_57 : decode cX5_readVillage 57 = .ok (.iaload, 1) := dk_46 (dk_at dksX5_readVillage_2 9 rfl rfl)
theorem dX5_readVillage_58 : decode cX5_readVillage 58 = .ok (.iconst 1, 1) := dk_4 (dk_at dksX5_readVillage_2 10 rfl rfl)
theorem dX5_readVillage_59 : decode cX5_readVillage 59 = .ok (.isub, 1) := dk_100 (dk_at dksX5_readVillage_2 11 rfl rfl)
theorem dX5_readVillage_60 : decode cX5_readVillage 60 = .ok (.invokevirtual 331, 3) := dk_182 1 75 (dk_at dksX5_readVillage_2 12 rfl rfl)
theorem dX5_readVillage_63 : decode cX5_readVillage 63 = .ok (.ifCond .ne 5, 3) := dk_154 0 5 (dk_at dksX5_readVillage_2 15 rfl rfl)
theorem dX5_readVillage_66 : decode cX5_readVillage 66 = .ok (.iconst 0, 1) := dk_3 (dk_at dksX5_readVillage_2 18 rfl rfl)
theorem dX5_readVillage_67 : decode cX5_readVillage 67 = .ok (.ireturn, 1) := dk_172 (dk_at dksX5_readVillage_2 19 rfl rfl)
theorem dX5_readVillage_68 : decode cX5_readVillage 68 = .ok (.aload_n 0, 1) := dk_42 (dk_at dksX5_readVillage_2 20 rfl rfl)
theorem dX5_readVillage_69 : decode cX5_readVillage 69 = .ok (.getfield 7, 3) := dk_180 0 7 (dk_at dksX5_readVillage_2 21 rfl rfl)
theorem dX5_readVillage_72 : decode cX5_readVillage 72 = .ok (.iload_n 1, 1) := dk_27 (dk_at dksX5_readVillage_3 0 rfl rfl)
theorem dX5_readVillage_73 : decode cX5_readVillage 73 = .ok (.iconst 0, 1) := dk_3 (dk_at dksX5_readVillage_3 1 rfl rfl)
theorem dX5_readVillage_74 : decode cX5_readVillage 74 = .ok (.iadd, 1) := dk_96 (dk_at dksX5_readVillage_3 2 rfl rfl)
theorem dX5_readVillage_75 : decode cX5_readVillage 75 = .ok (.aload_n 0, 1) := dk_42 (dk_at dksX5_readVillage_3 3 rfl rfl)
theorem dX5_readVillage_76 : decode cX5_readVillage 76 = .ok (.getfield 305, 3) := dk_180 1 49 (dk_at dksX5_readVillage_3 4 rfl rfl)
theorem dX5_readVillage_79 : decode cX5_readVillage 79 = .ok (.iastore, 1) := dk_79 (dk_at dksX5_readVillage_3 7 rfl rfl)
theorem dX5_readVillage_80 : decode cX5_readVillage 80 = .ok (.aload_n 0, 1) := dk_42 (dk_at dksX5_readVillage_3 8 rfl rfl)
theorem dX5_readVillage_81 : decode cX5_readVillage 81 = .ok (.iconst 0, 1) := dk_3 (dk_at dksX5_readVillage_3 9 rfl rfl)
theorem dX5_readVillage_82 : decode cX5_readVillage 82 = .ok (.aload_n 0, 1) := dk_42 (dk_at dksX5_readVillage_3 10 rfl rfl)
theorem dX5_readVillage_83 : decode cX5_readVillage 83 = .ok (.getfield 7, 3) := dk_180 0 7 (dk_at dksX5_readVillage_3 11 rfl rfl)
theorem dX5_readVillage_86 : decode cX5_readVillage 86 = .ok (.iconst 1, 1) := dk_4 (dk_at dksX5_readVillage_3 14 rfl rfl)
theorem dX5_readVillage_87 : decode cX5_readVillage 87 = .ok (.iaload, 1) := dk_46 (dk_at dksX5_readVillage_3 15 rfl rfl)
theorem dX5_readVillage_88 : decode cX5_readVillage 88 = .ok (.iconst 1, 1) := dk_4 (dk_at dksX5_readVillage_3 16 rfl rfl)
theorem dX5_readVillage_89 : decode cX5_readVillage 89 = .ok (.isub, 1) := dk_100 (dk_at dksX5_readVillage_3 17 rfl rfl)
theorem dX5_readVillage_90 : decode cX5_readVillage 90 = .ok (.invokevirtual 331, 3) := dk_182 1 75 (dk_at dksX5_readVillage_3 18 rfl rfl)
theorem dX5_readVillage_93 : decode cX5_readVillage 93 = .ok (.ifCond .ne 5, 3) := dk_154 0 5 (dk_at dksX5_readVillage_3 21 rfl rfl)
theorem dX5_readVillage_96 : decode cX5_readVillage 96 = .ok (.iconst 0, 1) := dk_3 (dk_at dksX5_readVillage_4 0 rfl rfl)
theorem dX5_readVillage_97 : decode cX5_readVillage 97 = .ok (.ireturn, 1) := dk_172 (dk_at dksX5_readVillage_4 1 rfl rfl)
theorem dX5_readVillage_98 : decode cX5_readVillage 98 = .ok (.aload_n 0, 1) := dk_42 (dk_at dksX5_readVillage_4 2 rfl rfl)
theorem dX5_readVillage_99 : decode cX5_readVillage 99 = .ok (.getfield 7, 3) := dk_180 0 7 (dk_at dksX5_readVillage_4 3 rfl rfl)
theorem dX5_readVillage_102 : decode cX5_readVillage 102 = .ok (.iload_n 1, 1) := dk_27 (dk_at dksX5_readVillage_4 6 rfl rfl)
theorem dX5_readVillage_103 : decode cX5_readVillage 103 = .ok (.iconst 1, 1) := dk_4 (dk_at dksX5_readVillage_4 7 rfl rfl)
theorem dX5_readVillage_104 : decode cX5_readVillage 104 = .ok (.iadd, 1) := dk_96 (dk_at dksX5_readVillage_4 8 rfl rfl)
theorem dX5_readVillage_105 : decode cX5_readVillage 105 = .ok (.aload_n 0, 1) := dk_42 (dk_at dksX5_readVillage_4 9 rfl rfl)
theorem dX5_readVillage_106 : decode cX5_readVillage 106 = .ok (.getfield 305, 3) := dk_180 1 49 (dk_at dksX5_readVillage_4 10 rfl rfl)
theorem dX5_readVillage_109 : decode cX5_readVillage 109 = .ok (.iastore, 1) := dk_79 (dk_at dksX5_readVillage_4 13 rfl rfl)
theorem dX5_readVillage_110 : decode cX5_readVillage 110 = .ok (.aload_n 0, 1) := dk_42 (dk_at dksX5_readVillage_4 14 rfl rfl)
theorem dX5_readVillage_111 : decode cX5_readVillage 111 = .ok (.iconst 0, 1) := dk_3 (dk_at dksX5_readVillage_4 15 rfl rfl)
theorem dX5_readVillage_112 : decode cX5_readVillage 112 = .ok (.sipush 999, 3) := dk_17 3 231 (dk_at dksX5_readVillage_4 16 rfl rfl)
theorem dX5_readVillage_115 : decode cX5_readVillage 115 = .ok (.invokevirtual 331, 3) := dk_182 1 75 (dk_at dksX5_readVillage_4 19 rfl rfl)
theorem dX5_readVillage_118 : decode cX5_readVillage 118 = .ok (.ifCond .ne 5, 3) := dk_154 0 5 (dk_at dksX5_readVillage_5 0 rfl rfl)
theorem dX5_readVillage_121 : decode cX5_readVillage 121 = .ok (.iconst 0, 1) := dk_3 (dk_at dksX5_readVillage_5 3 rfl rfl)
theorem dX5_readVillage_122 : decode cX5_readVillage 122 = .ok (.ireturn, 1) := dk_172 (dk_at dksX5_readVillage_5 4 rfl rfl)
theorem dX5_readVillage_123 : decode cX5_readVillage 123 = .ok (.aload_n 0, 1) := dk_42 (dk_at dksX5_readVillage_5 5 rfl rfl)
theorem dX5_readVillage_124 : decode cX5_readVillage 124 = .ok (.getfield 7, 3) := dk_180 0 7 (dk_at dksX5_readVillage_5 6 rfl rfl)
theorem dX5_readVillage_127 : decode cX5_readVillage 127 = .ok (.iload_n 1, 1) := dk_27 (dk_at dksX5_readVillage_5 9 rfl rfl)
theorem dX5_readVillage_128 : decode cX5_readVillage 128 = .ok (.iconst 2, 1) := dk_5 (dk_at dksX5_readVillage_5 10 rfl rfl)
theorem dX5_readVillage_129 : decode cX5_readVillage 129 = .ok (.iadd, 1) := dk_96 (dk_at dksX5_readVillage_5 11 rfl rfl)
theorem dX5_readVillage_130 : decode cX5_readVillage 130 = .ok (.aload_n 0, 1) := dk_42 (dk_at dksX5_readVillage_5 12 rfl rfl)
theorem dX5_readVillage_131 : decode cX5_readVillage 131 = .ok (.getfield 305, 3) := dk_180 1 49 (dk_at dksX5_readVillage_5 13 rfl rfl)
theorem dX5_readVillage_134 : decode cX5_readVillage 134 = .ok (.iastore, 1) := dk_79 (dk_at dksX5_readVillage_5 16 rfl rfl)
theorem dX5_readVillage_135 : decode cX5_readVillage 135 = .ok (.aload_n 0, 1) := dk_42 (dk_at dksX5_readVillage_5 17 rfl rfl)
theorem dX5_readVillage_136 : decode cX5_readVillage 136 = .ok (.getfield 7, 3) := dk_180 0 7 (dk_at dksX5_readVillage_5 18 rfl rfl)
theorem dX5_readVillage_139 : decode cX5_readVillage 139 = .ok (.iload_n 1, 1) := dk_27 (dk_at dksX5_readVillage_5 21 rfl rfl)
theorem dX5_readVillage_140 : decode cX5_readVillage 140 = .ok (.iconst 3, 1) := dk_6 (dk_at dksX5_readVillage_5 22 rfl rfl)
theorem dX5_readVillage_141 : decode cX5_readVillage 141 = .ok (.iadd, 1) := dk_96 (dk_at dksX5_readVillage_5 23 rfl rfl)
theorem dX5_readVillage_142 : decode cX5_readVillage 142 = .ok (.sipush 1000, 3) := dk_17 3 232 (dk_at dksX5_readVillage_6 0 rfl rfl)
theorem dX5_readVillage_145 : decode cX5_readVillage 145 = .ok (.iastore, 1) := dk_79 (dk_at dksX5_readVillage_6 3 rfl rfl)
theorem dX5_readVillage_146 : decode cX5_readVillage 146 = .ok (.aload_n 0, 1) := dk_42 (dk_at dksX5_readVillage_6 4 rfl rfl)
theorem dX5_readVillage_147 : decode cX5_readVillage 147 = .ok (.getfield 7, 3) := dk_180 0 7 (dk_at dksX5_readVillage_6 5 rfl rfl)
theorem dX5_readVillage_150 : decode cX5_readVillage 150 = .ok (.iconst 3, 1) := dk_6 (dk_at dksX5_readVillage_6 8 rfl rfl)
theorem dX5_readVillage_151 : decode cX5_readVillage 151 = .ok (.dup2, 1) := dk_92 (dk_at dksX5_readVillage_6 9 rfl rfl)
theorem dX5_readVillage_152 : decode cX5_readVillage 152 = .ok (.iaload, 1) := dk_46 (dk_at dksX5_readVillage_6 10 rfl rfl)
theorem dX5_readVillage_153 : decode cX5_readVillage 153 = .ok (.iconst 1, 1) := dk_4 (dk_at dksX5_readVillage_6 11 rfl rfl)
theorem dX5_readVillage_154 : decode cX5_readVillage 154 = .ok (.iadd, 1) := dk_96 (dk_at dksX5_readVillage_6 12 rfl rfl)
theorem dX5_readVillage_155 : decode cX5_readVillage 155 = .ok (.iastore, 1) := dk_79 (dk_at dksX5_readVillage_6 13 rfl rfl)
theorem dX5_readVillage_156 : decode cX5_readVillage 156 = .ok (.aload_n 0, 1) := dk_42 (dk_at dksX5_readVillage_6 14 rfl rfl)
theorem dX5_readVillage_157 : decode cX5_readVillage 157 = .ok (.ldc_w 340, 3) := dk_19 1 84 (dk_at dksX5_readVillage_6 15 rfl rfl)
theorem dX5_readVillage_160 : decode cX5_readVillage 160 = .ok (.invokevirtual 327, 3) := dk_182 1 71 (dk_at dksX5_readVillage_6 18 rfl rfl)
theorem dX5_readVillage_163 : decode cX5_readVillage 163 = .ok (.ifCond .ne 5, 3) := dk_154 0 5 (dk_at dksX5_readVillage_6 21 rfl rfl)
theorem dX5_readVillage_166 : decode cX5_readVillage 166 = .ok (.iconst 1, 1) := dk_4 (dk_at dksX5_readVillage_7 0 rfl rfl)
theorem dX5_readVillage_167 : decode cX5_readVillage 167 = .ok (.ireturn, 1) := dk_172 (dk_at dksX5_readVillage_7 1 rfl rfl)
theorem dX5_readVillage_168 : decode cX5_readVillage 168 = .ok (.aload_n 0, 1) := dk_42 (dk_at dksX5_readVillage_7 2 rfl rfl)
theorem dX5_readVillage_169 : decode cX5_readVillage 169 = .ok (.invokevirtual 308, 3) := dk_182 1 52 (dk_at dksX5_readVillage_7 3 rfl rfl)
theorem dX5_readVillage_172 : decode cX5_readVillage 172 = .ok (.aload_n 0, 1) := dk_42 (dk_at dksX5_readVillage_7 6 rfl rfl)
theorem dX5_readVillage_173 : decode cX5_readVillage 173 = .ok (.aload_n 0, 1) := dk_42 (dk_at dksX5_readVillage_7 7 rfl rfl)
theorem dX5_readVillage_174 : decode cX5_readVillage 174 = .ok (.getfield 7, 3) := dk_180 0 7 (dk_at dksX5_readVillage_7 8 rfl rfl)
theorem dX5_readVillage_177 : decode cX5_readVillage 177 = .ok (.iload_n 1, 1) := dk_27 (dk_at dksX5_readVillage_7 11 rfl rfl)
theorem dX5_readVillage_178 : decode cX5_readVillage 178 = .ok (.iconst 2, 1) := dk_5 (dk_at dksX5_readVillage_7 12 rfl rfl)
theorem dX5_readVillage_179 : decode cX5_readVillage 179 = .ok (.iadd, 1) := dk_96 (dk_at dksX5_readVillage_7 13 rfl rfl)
theorem dX5_readVillage_180 : decode cX5_readVillage 180 = .ok (.iaload, 1) := dk_46 (dk_at dksX5_readVillage_7 14 rfl rfl)
theorem dX5_readVillage_181 : decode cX5_readVillage 181 = .ok (.iconst 1, 1) := dk_4 (dk_at dksX5_readVillage_7 15 rfl rfl)
theorem dX5_readVillage_182 : decode cX5_readVillage 182 = .ok (.iadd, 1) := dk_96 (dk_at dksX5_readVillage_7 16 rfl rfl)
theorem dX5_readVillage_183 : decode cX5_readVillage 183 = .ok (.sipush 999, 3) := dk_17 3 231 (dk_at dksX5_readVillage_7 17 rfl rfl)
theorem dX5_readVillage_186 : decode cX5_readVillage 186 = .ok (.invokevirtual 331, 3) := dk_182 1 75 (dk_at dksX5_readVillage_7 20 rfl rfl)
theorem dX5_readVillage_189 : decode cX5_readVillage 189 = .ok (.ifCond .ne 5, 3) := dk_154 0 5 (dk_at dksX5_readVillage_8 0 rfl rfl)
theorem dX5_readVillage_192 : decode cX5_readVillage 192 = .ok (.iconst 0, 1) := dk_3 (dk_at dksX5_readVillage_8 3 rfl rfl)
theorem dX5_readVillage_193 : decode cX5_readVillage 193 = .ok (.ireturn, 1) := dk_172 (dk_at dksX5_readVillage_8 4 rfl rfl)
theorem dX5_readVillage_194 : decode cX5_readVillage 194 = .ok (.aload_n 0, 1) := dk_42 (dk_at dksX5_readVillage_8 5 rfl rfl)
theorem dX5_readVillage_195 : decode cX5_readVillage 195 = .ok (.getfield 7, 3) := dk_180 0 7 (dk_at dksX5_readVillage_8 6 rfl rfl)
theorem dX5_readVillage_198 : decode cX5_readVillage 198 = .ok (.iload_n 1, 1) := dk_27 (dk_at dksX5_readVillage_8 9 rfl rfl)
theorem dX5_readVillage_199 : decode cX5_readVillage 199 = .ok (.iconst 3, 1) := dk_6 (dk_at dksX5_readVillage_8 10 rfl rfl)
theorem dX5_readVillage_200 : decode cX5_readVillage 200 = .ok (.iadd, 1) := dk_96 (dk_at dksX5_readVillage_8 11 rfl rfl)
theorem dX5_readVillage_201 : decode cX5_readVillage 201 = .ok (.aload_n 0, 1) := dk_42 (dk_at dksX5_readVillage_8 12 rfl rfl)
theorem dX5_readVillage_202 : decode cX5_readVillage 202 = .ok (.getfield 305, 3) := dk_180 1 49 (dk_at dksX5_readVillage_8 13 rfl rfl)
theorem dX5_readVillage_205 : decode cX5_readVillage 205 = .ok (.iastore, 1) := dk_79 (dk_at dksX5_readVillage_8 16 rfl rfl)
theorem dX5_readVillage_206 : decode cX5_readVillage 206 = .ok (.iconst 1, 1) := dk_4 (dk_at dksX5_readVillage_8 17 rfl rfl)
theorem dX5_readVillage_207 : decode cX5_readVillage 207 = .ok (.ireturn, 1) := dk_172 (dk_at dksX5_readVillage_8 18 rfl rfl)
abbrev cX5_readRedraw : ByteArray := prog_20_method_74_code
def yX5_readRedraw : MethodName := ⟨RX5, "readRedraw", "()Z"⟩
def dkwX5_readRedraw_7 : List UInt8 := [4, 172]
abbrev dktX5_readRedraw_7 : List UInt8 := dkwX5_readRedraw_7 ++ []
def dkwX5_readRedraw_6 : List UInt8 := [180, 0, 7, 5, 46, 182, 1, 89, 154, 0, 5, 3, 172, 42, 27, 3, 42, 180, 1, 49, 2, 182, 1, 92]
abbrev dktX5_readRedraw_6 : List UInt8 := dkwX5_readRedraw_6 ++ dktX5_readRedraw_7
def dkwX5_readRedraw_5 : List UInt8 := [182, 1, 75, 154, 0, 5, 3, 172, 42, 28, 29, 21, 4, 42, 180, 1, 49, 182, 1, 86, 42, 3, 42]
abbrev dktX5_readRedraw_5 : List UInt8 := dkwX5_readRedraw_5 ++ dktX5_readRedraw_6
def dkwX5_readRedraw_4 : List UInt8 := [182, 1, 75, 154, 0, 5, 3, 172, 42, 180, 1, 49, 54, 4, 42, 4, 42, 180, 0, 7, 4, 46, 29, 100]
abbrev dktX5_readRedraw_4 : List UInt8 := dkwX5_readRedraw_4 ++ dktX5_readRedraw_5
def dkwX5_readRedraw_3 : List UInt8 := [100, 182, 1, 75, 154, 0, 5, 3, 172, 42, 180, 1, 49, 62, 42, 4, 42, 180, 0, 7, 3, 46, 28, 100]
abbrev dktX5_readRedraw_3 : List UInt8 := dkwX5_readRedraw_3 ++ dktX5_readRedraw_4
def dkwX5_readRedraw_2 : List UInt8 := [4, 100, 182, 1, 75, 154, 0, 5, 3, 172, 42, 180, 1, 49, 61, 42, 3, 42, 180, 0, 7, 4, 46, 4]
abbrev dktX5_readRedraw_2 : List UInt8 := dkwX5_readRedraw_2 ++ dktX5_readRedraw_3
def dkwX5_readRedraw_1 : List UInt8 := [17, 3, 231, 182, 1, 75, 154, 0, 5, 3, 172, 42, 180, 1, 49, 60, 42, 3, 42, 180, 0, 7, 3, 46]
abbrev dktX5_readRedraw_1 : List UInt8 := dkwX5_readRedraw_1 ++ dktX5_readRedraw_2
def dkwX5_readRedraw_0 : List UInt8 := [42, 180, 0, 7, 7, 46, 16, 16, 160, 0, 9, 42, 8, 182, 1, 46, 172, 42, 182, 1, 52, 42, 3]
abbrev dktX5_readRedraw_0 : List UInt8 := dkwX5_readRedraw_0 ++ dktX5_readRedraw_1
theorem dksX5_readRedraw_0 : cX5_readRedraw.data.toList.drop 0 = dktX5_readRedraw_0 := by decide +kernel
theorem dksX5_readRedraw_1 : cX5_readRedraw.data.toList.drop 23 = dktX5_readRedraw_1 := dk_seg dksX5_readRedraw_0 23 rfl rfl
theorem dksX5_readRedraw_2 : cX5_readRedraw.data.toList.drop 47 = dktX5_readRedraw_2 := dk_seg dksX5_readRedraw_1 24 rfl rfl
theorem dksX5_readRedraw_3 : cX5_readRedraw.data.toList.drop 71 = dktX5_readRedraw_3 := dk_seg dksX5_readRedraw_2 24 rfl rfl
theorem dksX5_readRedraw_4 : cX5_readRedraw.data.toList.drop 95 = dktX5_readRedraw_4 := dk_seg dksX5_readRedraw_3 24 rfl rfl
theorem dksX5_readRedraw_5 : cX5_readRedraw.data.toList.drop 119 = dktX5_readRedraw_5 := dk_seg dksX5_readRedraw_4 24 rfl rfl
theorem dksX5_readRedraw_6 : cX5_readRedraw.data.toList.drop 142 = dktX5_readRedraw_6 := dk_seg dksX5_readRedraw_5 23 rfl rfl
theorem dksX5_readRedraw_7 : cX5_readRedraw.data.toList.drop 166 = dktX5_readRedraw_7 := dk_seg dksX5_readRedraw_6 24 rfl rfl
theorem dX5_readRedraw_0 : decode cX5_readRedraw 0 = .ok (.aload_n 0, 1) := dk_42 (dk_at dksX5_readRedraw_0 0 rfl rfl)
theorem dX5_readRedraw_1 : decode cX5_readRedraw 1 = .ok (.getfield 7, 3) := dk_180 0 7 (dk_at dksX5_readRedraw_0 1 rfl rfl)
theorem dX5_readRedraw_4 : decode cX5_readRedraw 4 = .ok (.iconst 4, 1) := dk_7 (dk_at dksX5_readRedraw_0 4 rfl rfl)
theorem dX5_readRedraw_5 : decode cX5_readRedraw 5 = .ok (.iaload, 1) := dk_46 (dk_at dksX5_readRedraw_0 5 rfl rfl)
theorem dX5_readRedraw_6 : decode cX5_readRedraw 6 = .ok (.bipush 16, 2) := dk_16 16 (dk_at dksX5_readRedraw_0 6 rfl rfl)
theorem dX5_readRedraw_8 : decode cX5_readRedraw 8 = .ok (.if_icmp .ne 9, 3) := dk_160 0 9 (dk_at dksX5_readRedraw_0 8 rfl rfl)
theorem dX5_readRedraw_11 : decode cX5_readRedraw 11 = .ok (.aload_n 0, 1) := dk_42 (dk_at dksX5_readRedraw_0 11 rfl rfl)
theorem dX5_readRedraw_12 : decode cX5_readRedraw 12 = .ok (.iconst 5, 1) := dk_8 (dk_at dksX5_readRedraw_0 12 rfl rfl)
theorem dX5_readRedraw_13 : decode cX5_readRedraw 13 = .ok (.invokevirtual 302, 3) := dk_182 1 46 (dk_at dksX5_readRedraw_0 13 rfl rfl)
theorem dX5_readRedraw_16 : decode cX5_readRedraw 16 = .ok (.ireturn, 1) := dk_172 (dk_at dksX5_readRedraw_0 16 rfl rfl)
theorem dX5_readRedraw_17 : decode cX5_readRedraw 17 = .ok (.aload_n 0, 1) := dk_42 (dk_at dksX5_readRedraw_0 17 rfl rfl)
theorem dX5_readRedraw_18 : decode cX5_readRedraw 18 = .ok (.invokevirtual 308, 3) := dk_182 1 52 (dk_at dksX5_readRedraw_0 18 rfl rfl)
theorem dX5_readRedraw_21 : decode cX5_readRedraw 21 = .ok (.aload_n 0, 1) := dk_42 (dk_at dksX5_readRedraw_0 21 rfl rfl)
theorem dX5_readRedraw_22 : decode cX5_readRedraw 22 = .ok (.iconst 0, 1) := dk_3 (dk_at dksX5_readRedraw_0 22 rfl rfl)
theorem dX5_readRedraw_23 : decode cX5_readRedraw 23 = .ok (.sipush 999, 3) := dk_17 3 231 (dk_at dksX5_readRedraw_1 0 rfl rfl)
theorem dX5_readRedraw_26 : decode cX5_readRedraw 26 = .ok (.invokevirtual 331, 3) := dk_182 1 75 (dk_at dksX5_readRedraw_1 3 rfl rfl)
theorem dX5_readRedraw_29 : decode cX5_readRedraw 29 = .ok (.ifCond .ne 5, 3) := dk_154 0 5 (dk_at dksX5_readRedraw_1 6 rfl rfl)
theorem dX5_readRedraw_32 : decode cX5_readRedraw 32 = .ok (.iconst 0, 1) := dk_3 (dk_at dksX5_readRedraw_1 9 rfl rfl)
theorem dX5_readRedraw_33 : decode cX5_readRedraw 33 = .ok (.ireturn, 1) := dk_172 (dk_at dksX5_readRedraw_1 10 rfl rfl)
theorem dX5_readRedraw_34 : decode cX5_readRedraw 34 = .ok (.aload_n 0, 1) := dk_42 (dk_at dksX5_readRedraw_1 11 rfl rfl)
theorem dX5_readRedraw_35 : decode cX5_readRedraw 35 = .ok (.getfield 305, 3) := dk_180 1 49 (dk_at dksX5_readRedraw_1 12 rfl rfl)
theorem dX5_readRedraw_38 : decode cX5_readRedraw 38 = .ok (.istore_n 1, 1) := dk_60 (dk_at dksX5_readRedraw_1 15 rfl rfl)
theorem dX5_readRedraw_39 : decode cX5_readRedraw 39 = .ok (.aload_n 0, 1) := dk_42 (dk_at dksX5_readRedraw_1 16 rfl rfl)
theorem dX5_readRedraw_40 : decode cX5_readRedraw 40 = .ok (.iconst 0, 1) := dk_3 (dk_at dksX5_readRedraw_1 17 rfl rfl)
theorem dX5_readRedraw_41 : decode cX5_readRedraw 41 = .ok (.aload_n 0, 1) := dk_42 (dk_at dksX5_readRedraw_1 18 rfl rfl)
theorem dX5_readRedraw_42 : decode cX5_readRedraw 42 = .ok (.getfield 7, 3) := dk_180 0 7 (dk_at dksX5_readRedraw_1 19 rfl rfl)
theorem dX5_readRedraw_45 : decode cX5_readRedraw 45 = .ok (.iconst 0, 1) := dk_3 (dk_at dksX5_readRedraw_1 22 rfl rfl)
theorem dX5_readRedraw_46 : decode cX5_readRedraw 46 = .ok (.iaload, 1) := dk_46 (dk_at dksX5_readRedraw_1 23 rfl rfl)
theorem dX5_readRedraw_47 : decode cX5_readRedraw 47 = .ok (.iconst 1, 1) := dk_4 (dk_at dksX5_readRedraw_2 0 rfl rfl)
theorem dX5_readRedraw_48 : decode cX5_readRedraw 48 = .ok (.isub, 1) := dk_100 (dk_at dksX5_readRedraw_2 1 rfl rfl)
theorem dX5_readRedraw_49 : decode cX5_readRedraw 49 = .ok (.invokevirtual 331, 3) := dk_182 1 75 (dk_at dksX5_readRedraw_2 2 rfl rfl)
theorem dX5_readRedraw_52 : decode cX5_readRedraw 52 = .ok (.ifCond .ne 5, 3) := dk_154 0 5 (dk_at dksX5_readRedraw_2 5 rfl rfl)
theorem dX5_readRedraw_55 : decode cX5_readRedraw 55 = .ok (.iconst 0, 1) := dk_3 (dk_at dksX5_readRedraw_2 8 rfl rfl)
theorem dX5_readRedraw_56 : decode cX5_readRedraw 56 = .ok (.ireturn, 1) := dk_172 (dk_at dksX5_readRedraw_2 9 rfl rfl)
theorem dX5_readRedraw_57 : decode cX5_readRedraw 57 = .ok (.aload_n 0, 1) := dk_42 (dk_at dksX5_readRedraw_2 10 rfl rfl)
theorem dX5_readRedraw_58 : decode cX5_readRedraw 58 = .ok (.getfield 305, 3) := dk_180 1 49 (dk_at dksX5_readRedraw_2 11 rfl rfl)
theorem dX5_readRedraw_61 : decode cX5_readRedraw 61 = .ok (.istore_n 2, 1) := dk_61 (dk_at dksX5_readRedraw_2 14 rfl rfl)
theorem dX5_readRedraw_62 : decode cX5_readRedraw 62 = .ok (.aload_n 0, 1) := dk_42 (dk_at dksX5_readRedraw_2 15 rfl rfl)
theorem dX5_readRedraw_63 : decode cX5_readRedraw 63 = .ok (.iconst 0, 1) := dk_3 (dk_at dksX5_readRedraw_2 16 rfl rfl)
theorem dX5_readRedraw_64 : decode cX5_readRedraw 64 = .ok (.aload_n 0, 1) := dk_42 (dk_at dksX5_readRedraw_2 17 rfl rfl)
theorem dX5_readRedraw_65 : decode cX5_readRedraw 65 = .ok (.getfield 7, 3) := dk_180 0 7 (dk_at dksX5_readRedraw_2 18 rfl rfl)
theorem dX5_readRedraw_68 : decode cX5_readRedraw 68 = .ok (.iconst 1, 1) := dk_4 (dk_at dksX5_readRedraw_2 21 rfl rfl)
theorem dX5_readRedraw_69 : decode cX5_readRedraw 69 = .ok (.iaload, 1) := dk_46 (dk_at dksX5_readRedraw_2 22 rfl rfl)
theorem dX5_readRedraw_70 : decode cX5_readRedraw 70 = .ok (.iconst 1, 1) := dk_4 (dk_at dksX5_readRedraw_2 23 rfl rfl)
theorem dX5_readRedraw_71 : decode cX5_readRedraw 71 = .ok (.isub, 1) := dk_100 (dk_at dksX5_readRedraw_3 0 rfl rfl)
theorem dX5_readRedraw_72 : decode cX5_readRedraw 72 = .ok (.invokevirtual 331, 3) := dk_182 1 75 (dk_at dksX5_readRedraw_3 1 rfl rfl)
theorem dX5_readRedraw_75 : decode cX5_readRedraw 75 = .ok (.ifCond .ne 5, 3) := dk_154 0 5 (dk_at dksX5_readRedraw_3 4 rfl rfl)
theorem dX5_readRedraw_78 : decode cX5_readRedraw 78 = .ok (.iconst 0, 1) := dk_3 (dk_at dksX5_readRedraw_3 7 rfl rfl)
theorem dX5_readRedraw_79 : decode cX5_readRedraw 79 = .ok (.ireturn, 1) := dk_172 (dk_at dksX5_readRedraw_3 8 rfl rfl)
theorem dX5_readRedraw_80 : decode cX5_readRedraw 80 = .ok (.aload_n 0, 1) := dk_42 (dk_at dksX5_readRedraw_3 9 rfl rfl)
theorem dX5_readRedraw_81 : decode cX5_readRedraw 81 = .ok (.getfield 305, 3) := dk_180 1 49 (dk_at dksX5_readRedraw_3 10 rfl rfl)
theorem dX5_readRedraw_84 : decode cX5_readRedraw 84 = .ok (.istore_n 3, 1) := dk_62 (dk_at dksX5_readRedraw_3 13 rfl rfl)
theorem dX5_readRedraw_85 : decode cX5_readRedraw 85 = .ok (.aload_n 0, 1) := dk_42 (dk_at dksX5_readRedraw_3 14 rfl rfl)
theorem dX5_readRedraw_86 : decode cX5_readRedraw 86 = .ok (.iconst 1, 1) := dk_4 (dk_at dksX5_readRedraw_3 15 rfl rfl)
theorem dX5_readRedraw_87 : decode cX5_readRedraw 87 = .ok (.aload_n 0, 1) := dk_42 (dk_at dksX5_readRedraw_3 16 rfl rfl)
theorem dX5_readRedraw_88 : decode cX5_readRedraw 88 = .ok (.getfield 7, 3) := dk_180 0 7 (dk_at dksX5_readRedraw_3 17 rfl rfl)
theorem dX5_readRedraw_91 : decode cX5_readRedraw 91 = .ok (.iconst 0, 1) := dk_3 (dk_at dksX5_readRedraw_3 20 rfl rfl)
theorem dX5_readRedraw_92 : decode cX5_readRedraw 92 = .ok (.iaload, 1) := dk_46 (dk_at dksX5_readRedraw_3 21 rfl rfl)
theorem dX5_readRedraw_93 : decode cX5_readRedraw 93 = .ok (.iload_n 2, 1) := dk_28 (dk_at dksX5_readRedraw_3 22 rfl rfl)
theorem dX5_readRedraw_94 : decode cX5_readRedraw 94 = .ok (.isub, 1) := dk_100 (dk_at dksX5_readRedraw_3 23 rfl rfl)
theorem dX5_readRedraw_95 : decode cX5_readRedraw 95 = .ok (.invokevirtual 331, 3) := dk_182 1 75 (dk_at dksX5_readRedraw_4 0 rfl rfl)
theorem dX5_readRedraw_98 : decode cX5_readRedraw 98 = .ok (.ifCond .ne 5, 3) := dk_154 0 5 (dk_at dksX5_readRedraw_4 3 rfl rfl)
theorem dX5_readRedraw_101 : decode cX5_readRedraw 101 = .ok (.iconst 0, 1) := dk_3 (dk_at dksX5_readRedraw_4 6 rfl rfl)
theorem dX5_readRedraw_102 : decode cX5_readRedraw 102 = .ok (.ireturn, 1) := dk_172 (dk_at dksX5_readRedraw_4 7 rfl rfl)
theorem dX5_readRedraw_103 : decode cX5_readRedraw 103 = .ok (.aload_n 0, 1) := dk_42 (dk_at dksX5_readRedraw_4 8 rfl rfl)
theorem dX5_readRedraw_104 : decode cX5_readRedraw 104 = .ok (.getfield 305, 3) := dk_180 1 49 (dk_at dksX5_readRedraw_4 9 rfl rfl)
theorem dX5_readRedraw_107 : decode cX5_readRedraw 107 = .ok (.istore 4, 2) := dk_54 4 (dk_at dksX5_readRedraw_4 12 rfl rfl)
theorem dX5_readRedraw_109 : decode cX5_readRedraw 109 = .ok (.aload_n 0, 1) := dk_42 (dk_at dksX5_readRedraw_4 14 rfl rfl)
theorem dX5_readRedraw_110 : decode cX5_readRedraw 110 = .ok (.iconst 1, 1) := dk_4 (dk_at dksX5_readRedraw_4 15 rfl rfl)
theorem dX5_readRedraw_111 : decode cX5_readRedraw 111 = .ok (.aload_n 0, 1) := dk_42 (dk_at dksX5_readRedraw_4 16 rfl rfl)
theorem dX5_readRedraw_112 : decode cX5_readRedraw 112 = .ok (.getfield 7, 3) := dk_180 0 7 (dk_at dksX5_readRedraw_4 17 rfl rfl)
theorem dX5_readRedraw_115 : decode cX5_readRedraw 115 = .ok (.iconst 1, 1) := dk_4 (dk_at dksX5_readRedraw_4 20 rfl rfl)
theorem dX5_readRedraw_116 : decode cX5_readRedraw 116 = .ok (.iaload, 1) := dk_46 (dk_at dksX5_readRedraw_4 21 rfl rfl)
theorem dX5_readRedraw_117 : decode cX5_readRedraw 117 = .ok (.iload_n 3, 1) := dk_29 (dk_at dksX5_readRedraw_4 22 rfl rfl)
theorem dX5_readRedraw_118 : decode cX5_readRedraw 118 = .ok (.isub, 1) := dk_100 (dk_at dksX5_readRedraw_4 23 rfl rfl)
theorem dX5_readRedraw_119 : decode cX5_readRedraw 119 = .ok (.invokevirtual 331, 3) := dk_182 1 75 (dk_at dksX5_readRedraw_5 0 rfl rfl)
theorem dX5_readRedraw_122 : decode cX5_readRedraw 122 = .ok (.ifCond .ne 5, 3) := dk_154 0 5 (dk_at dksX5_readRedraw_5 3 rfl rfl)
theorem dX5_readRedraw_125 : decode cX5_readRedraw 125 = .ok (.iconst 0, 1) := dk_3 (dk_at dksX5_readRedraw_5 6 rfl rfl)
theorem dX5_readRedraw_126 : decode cX5_readRedraw 126 = .ok (.ireturn, 1) := dk_172 (dk_at dksX5_readRedraw_5 7 rfl rfl)
theorem dX5_readRedraw_127 : decode cX5_readRedraw 127 = .ok (.aload_n 0, 1) := dk_42 (dk_at dksX5_readRedraw_5 8 rfl rfl)
theorem dX5_readRedraw_128 : decode cX5_readRedraw 128 = .ok (.iload_n 2, 1) := dk_28 (dk_at dksX5_readRedraw_5 9 rfl rfl)
theorem dX5_readRedraw_129 : decode cX5_readRedraw 129 = .ok (.iload_n 3, 1) := dk_29 (dk_at dksX5_readRedraw_5 10 rfl rfl)
theorem dX5_readRedraw_130 : decode cX5_readRedraw 130 = .ok (.iload 4, 2) := dk_21 4 (dk_at dksX5_readRedraw_5 11 rfl rfl)
theorem dX5_readRedraw_132 : decode cX5_readRedraw 132 = .ok (.aload_n 0, 1) := dk_42 (dk_at dksX5_readRedraw_5 13 rfl rfl)
theorem dX5_readRedraw_133 : decode cX5_readRedraw 133 = .ok (.getfield 305, 3) := dk_180 1 49 (dk_at dksX5_readRedraw_5 14 rfl rfl)
theorem dX5_readRedraw_136 : decode cX5_readRedraw 136 = .ok (.invokevirtual 342, 3) := dk_182 1 86 (dk_at dksX5_readRedraw_5 17 rfl rfl)
theorem dX5_readRedraw_139 : decode cX5_readRedraw 139 = .ok (.aload_n 0, 1) := dk_42 (dk_at dksX5_readRedraw_5 20 rfl rfl)
theorem dX5_readRedraw_140 : decode cX5_readRedraw 140 = .ok (.iconst 0, 1) := dk_3 (dk_at dksX5_readRedraw_5 21 rfl rfl)
theorem dX5_readRedraw_141 : decode cX5_readRedraw 141 = .ok (.aload_n 0, 1) := dk_42 (dk_at dksX5_readRedraw_5 22 rfl rfl)
theorem dX5_readRedraw_142 : decode cX5_readRedraw 142 = .ok (.getfield 7, 3) := dk_180 0 7 (dk_at dksX5_readRedraw_6 0 rfl rfl)
theorem dX5_readRedraw_145 : decode cX5_readRedraw 145 = .ok (.iconst 2, 1) := dk_5 (dk_at dksX5_readRedraw_6 3 rfl rfl)
theorem dX5_readRedraw_146 : decode cX5_readRedraw 146 = .ok (.iaload, 1) := dk_46 (dk_at dksX5_readRedraw_6 4 rfl rfl)
theorem dX5_readRedraw_147 : decode cX5_readRedraw 147 = .ok (.invokevirtual 345, 3) := dk_182 1 89 (dk_at dksX5_readRedraw_6 5 rfl rfl)
theorem dX5_readRedraw_150 : decode cX5_readRedraw 150 = .ok (.ifCond .ne 5, 3) := dk_154 0 5 (dk_at dksX5_readRedraw_6 8 rfl rfl)
theorem dX5_readRedraw_153 : decode cX5_readRedraw 153 = .ok (.iconst 0, 1) := dk_3 (dk_at dksX5_readRedraw_6 11 rfl rfl)
theorem dX5_readRedraw_154 : decode cX5_readRedraw 154 = .ok (.ireturn, 1) := dk_172 (dk_at dksX5_readRedraw_6 12 rfl rfl)
theorem dX5_readRedraw_155 : decode cX5_readRedraw 155 = .ok (.aload_n 0, 1) := dk_42 (dk_at dksX5_readRedraw_6 13 rfl rfl)
theorem dX5_readRedraw_156 : decode cX5_readRedraw 156 = .ok (.iload_n 1, 1) := dk_27 (dk_at dksX5_readRedraw_6 14 rfl rfl)
theorem dX5_readRedraw_157 : decode cX5_readRedraw 157 = .ok (.iconst 0, 1) := dk_3 (dk_at dksX5_readRedraw_6 15 rfl rfl)
theorem dX5_readRedraw_158 : decode cX5_readRedraw 158 = .ok (.aload_n 0, 1) := dk_42 (dk_at dksX5_readRedraw_6 16 rfl rfl)
theorem dX5_readRedraw_159 : decode cX5_readRedraw 159 = .ok (.getfield 305, 3) := dk_180 1 49 (dk_at dksX5_readRedraw_6 17 rfl rfl)
theorem dX5_readRedraw_162 : decode cX5_readRedraw 162 = .ok (.iconst (-1), 1) := dk_2 (dk_at dksX5_readRedraw_6 20 rfl rfl)
theorem dX5_readRedraw_163 : decode cX5_readRedraw 163 = .ok (.invokevirtual 348, 3) := dk_182 1 92 (dk_at dksX5_readRedraw_6 21 rfl rfl)
theorem dX5_readRedraw_166 : decode cX5_readRedraw 166 = .ok (.iconst 1, 1) := dk_4 (dk_at dksX5_readRedraw_7 0 rfl rfl)
theorem dX5_readRedraw_167 : decode cX5_readRedraw 167 = .ok (.ireturn, 1) := dk_172 (dk_at dksX5_readRedraw_7 1 rfl rfl)
abbrev cX5_putsFrame : ByteArray := prog_20_method_73_code
def yX5_putsFrame : MethodName := ⟨RX5, "putsFrame", "(IIII)V"⟩
def dkwX5_putsFrame_2 : List UInt8 := [21, 5, 8, 96, 21, 4, 79, 177]
abbrev dktX5_putsFrame_2 : List UInt8 := dkwX5_putsFrame_2 ++ []
def dkwX5_putsFrame_1 : List UInt8 := [42, 180, 0, 7, 21, 5, 6, 96, 28, 79, 42, 180, 0, 7, 21, 5, 7, 96, 29, 79, 42, 180, 0, 7]
abbrev dktX5_putsFrame_1 : List UInt8 := dkwX5_putsFrame_1 ++ dktX5_putsFrame_2
def dkwX5_putsFrame_0 : List UInt8 := [16, 106, 16, 8, 42, 180, 0, 7, 7, 46, 104, 96, 54, 5, 42, 180, 0, 7, 21, 5, 5, 96, 27, 79]
abbrev dktX5_putsFrame_0 : List UInt8 := dkwX5_putsFrame_0 ++ dktX5_putsFrame_1
theorem dksX5_putsFrame_0 : cX5_putsFrame.data.toList.drop 0 = dktX5_putsFrame_0 := by decide +kernel
theorem dksX5_putsFrame_1 : cX5_putsFrame.data.toList.drop 24 = dktX5_putsFrame_1 := dk_seg dksX5_putsFrame_0 24 rfl rfl
theorem dksX5_putsFrame_2 : cX5_putsFrame.data.toList.drop 48 = dktX5_putsFrame_2 := dk_seg dksX5_putsFrame_1 24 rfl rfl
theorem dX5_putsFrame_0 : decode cX5_putsFrame 0 = .ok (.bipush 106, 2) := dk_16 106 (dk_at dksX5_putsFrame_0 0 rfl rfl)
theorem dX5_putsFrame_2 : decode cX5_putsFrame 2 = .ok (.bipush 8, 2) := dk_16 8 (dk_at dksX5_putsFrame_0 2 rfl rfl)
theorem dX5_putsFrame_4 : decode cX5_putsFrame 4 = .ok (.aload_n 0, 1) := dk_42 (dk_at dksX5_putsFrame_0 4 rfl rfl)
theorem dX5_putsFrame_5 : decode cX5_putsFrame 5 = .ok (.getfield 7, 3) := dk_180 0 7 (dk_at dksX5_putsFrame_0 5 rfl rfl)
theorem dX5_putsFrame_8 : decode cX5_putsFrame 8 = .ok (.iconst 4, 1) := dk_7 (dk_at dksX5_putsFrame_0 8 rfl rfl)
theorem dX5_putsFrame_9 : decode cX5_putsFrame 9 = .ok (.iaload, 1) := dk_46 (dk_at dksX5_putsFrame_0 9 rfl rfl)
theorem dX5_putsFrame_10 : decode cX5_putsFrame 10 = .ok (.imul, 1) := dk_104 (dk_at dksX5_putsFrame_0 10 rfl rfl)
theorem dX5_putsFrame_11 : decode cX5_putsFrame 11 = .ok (.iadd, 1) := dk_96 (dk_at dksX5_putsFrame_0 11 rfl rfl)
theorem dX5_putsFrame_12 : decode cX5_putsFrame 12 = .ok (.istore 5, 2) := dk_54 5 (dk_at dksX5_putsFrame_0 12 rfl rfl)
theorem dX5_putsFrame_14 : decode cX5_putsFrame 14 = .ok (.aload_n 0, 1) := dk_42 (dk_at dksX5_putsFrame_0 14 rfl rfl)
theorem dX5_putsFrame_15 : decode cX5_putsFrame 15 = .ok (.getfield 7, 3) := dk_180 0 7 (dk_at dksX5_putsFrame_0 15 rfl rfl)
theorem dX5_putsFrame_18 : decode cX5_putsFrame 18 = .ok (.iload 5, 2) := dk_21 5 (dk_at dksX5_putsFrame_0 18 rfl rfl)
theorem dX5_putsFrame_20 : decode cX5_putsFrame 20 = .ok (.iconst 2, 1) := dk_5 (dk_at dksX5_putsFrame_0 20 rfl rfl)
theorem dX5_putsFrame_21 : decode cX5_putsFrame 21 = .ok (.iadd, 1) := dk_96 (dk_at dksX5_putsFrame_0 21 rfl rfl)
theorem dX5_putsFrame_22 : decode cX5_putsFrame 22 = .ok (.iload_n 1, 1) := dk_27 (dk_at dksX5_putsFrame_0 22 rfl rfl)
theorem dX5_putsFrame_23 : decode cX5_putsFrame 23 = .ok (.iastore, 1) := dk_79 (dk_at dksX5_putsFrame_0 23 rfl rfl)
theorem dX5_putsFrame_24 : decode cX5_putsFrame 24 = .ok (.aload_n 0, 1) := dk_42 (dk_at dksX5_putsFrame_1 0 rfl rfl)
theorem dX5_putsFrame_25 : decode cX5_putsFrame 25 = .ok (.getfield 7, 3) := dk_180 0 7 (dk_at dksX5_putsFrame_1 1 rfl rfl)
theorem dX5_putsFrame_28 : decode cX5_putsFrame 28 = .ok (.iload 5, 2) := dk_21 5 (dk_at dksX5_putsFrame_1 4 rfl rfl)
theorem dX5_putsFrame_30 : decode cX5_putsFrame 30 = .ok (.iconst 3, 1) := dk_6 (dk_at dksX5_putsFrame_1 6 rfl rfl)
theorem dX5_putsFrame_31 : decode cX5_putsFrame 31 = .ok (.iadd, 1) := dk_96 (dk_at dksX5_putsFrame_1 7 rfl rfl)
theorem dX5_putsFrame_32 : decode cX5_putsFrame 32 = .ok (.iload_n 2, 1) := dk_28 (dk_at dksX5_putsFrame_1 8 rfl rfl)
theorem dX5_putsFrame_33 : decode cX5_putsFrame 33 = .ok (.iastore, 1) := dk_79 (dk_at dksX5_putsFrame_1 9 rfl rfl)
theorem dX5_putsFrame_34 : decode cX5_putsFrame 34 = .ok (.aload_n 0, 1) := dk_42 (dk_at dksX5_putsFrame_1 10 rfl rfl)
theorem dX5_putsFrame_35 : decode cX5_putsFrame 35 = .ok (.getfield 7, 3) := dk_180 0 7 (dk_at dksX5_putsFrame_1 11 rfl rfl)
theorem dX5_putsFrame_38 : decode cX5_putsFrame 38 = .ok (.iload 5, 2) := dk_21 5 (dk_at dksX5_putsFrame_1 14 rfl rfl)
theorem dX5_putsFrame_40 : decode cX5_putsFrame 40 = .ok (.iconst 4, 1) := dk_7 (dk_at dksX5_putsFrame_1 16 rfl rfl)
theorem dX5_putsFrame_41 : decode cX5_putsFrame 41 = .ok (.iadd, 1) := dk_96 (dk_at dksX5_putsFrame_1 17 rfl rfl)
theorem dX5_putsFrame_42 : decode cX5_putsFrame 42 = .ok (.iload_n 3, 1) := dk_29 (dk_at dksX5_putsFrame_1 18 rfl rfl)
theorem dX5_putsFrame_43 : decode cX5_putsFrame 43 = .ok (.iastore, 1) := dk_79 (dk_at dksX5_putsFrame_1 19 rfl rfl)
theorem dX5_putsFrame_44 : decode cX5_putsFrame 44 = .ok (.aload_n 0, 1) := dk_42 (dk_at dksX5_putsFrame_1 20 rfl rfl)
theorem dX5_putsFrame_45 : decode cX5_putsFrame 45 = .ok (.getfield 7, 3) := dk_180 0 7 (dk_at dksX5_putsFrame_1 21 rfl rfl)
theorem dX5_putsFrame_48 : decode cX5_putsFrame 48 = .ok (.iload 5, 2) := dk_21 5 (dk_at dksX5_putsFrame_2 0 rfl rfl)
theorem dX5_putsFrame_50 : decode cX5_putsFrame 50 = .ok (.iconst 5, 1) := dk_8 (dk_at dksX5_putsFrame_2 2 rfl rfl)
theorem dX5_putsFrame_51 : decode cX5_putsFrame 51 = .ok (.iadd, 1) := dk_96 (dk_at dksX5_putsFrame_2 3 rfl rfl)
theorem dX5_putsFrame_52 : decode cX5_putsFrame 52 = .ok (.iload 4, 2) := dk_21 4 (dk_at dksX5_putsFrame_2 4 rfl rfl)
theorem dX5_putsFrame_54 : decode cX5_putsFrame 54 = .ok (.iastore, 1) := dk_79 (dk_at dksX5_putsFrame_2 6 rfl rfl)
theorem dX5_putsFrame_55 : decode cX5_putsFrame 55 = .ok (.return_, 1) := dk_177 (dk_at dksX5_putsFrame_2 7 rfl rfl)
abbrev cX5_readsKnown : ByteArray := prog_20_method_67_code
def yX5_readsKnown : MethodName := ⟨RX5, "readsKnown", "(II)Z"⟩
def dkwX5_readsKnown_0 : List UInt8 := [42, 27, 28, 182, 1, 66, 154, 0, 5, 3, 172, 42, 182, 1, 52, 4, 172]
abbrev dktX5_readsKnown_0 : List UInt8 := dkwX5_readsKnown_0 ++ []
theorem dksX5_readsKnown_0 : cX5_readsKnown.data.toList.drop 0 = dktX5_readsKnown_0 := by decide +kernel
theorem dX5_readsKnown_0 : decode cX5_readsKnown 0 = .ok (.aload_n 0, 1) := dk_42 (dk_at dksX5_readsKnown_0 0 rfl rfl)
theorem dX5_readsKnown_1 : decode cX5_readsKnown 1 = .ok (.iload_n 1, 1) := dk_27 (dk_at dksX5_readsKnown_0 1 rfl rfl)
theorem dX5_readsKnown_2 : decode cX5_readsKnown 2 = .ok (.iload_n 2, 1) := dk_28 (dk_at dksX5_readsKnown_0 2 rfl rfl)
theorem dX5_readsKnown_3 : decode cX5_readsKnown 3 = .ok (.invokevirtual 322, 3) := dk_182 1 66 (dk_at dksX5_readsKnown_0 3 rfl rfl)
theorem dX5_readsKnown_6 : decode cX5_readsKnown 6 = .ok (.ifCond .ne 5, 3) := dk_154 0 5 (dk_at dksX5_readsKnown_0 6 rfl rfl)
theorem dX5_readsKnown_9 : decode cX5_readsKnown 9 = .ok (.iconst 0, 1) := dk_3 (dk_at dksX5_readsKnown_0 9 rfl rfl)
theorem dX5_readsKnown_10 : decode cX5_readsKnown 10 = .ok (.ireturn, 1) := dk_172 (dk_at dksX5_readsKnown_0 10 rfl rfl)
theorem dX5_readsKnown_11 : decode cX5_readsKnown 11 = .ok (.aload_n 0, 1) := dk_42 (dk_at dksX5_readsKnown_0 11 rfl rfl)
theorem dX5_readsKnown_12 : decode cX5_readsKnown 12 = .ok (.invokevirtual 308, 3) := dk_182 1 52 (dk_at dksX5_readsKnown_0 12 rfl rfl)
theorem dX5_readsKnown_15 : decode cX5_readsKnown 15 = .ok (.iconst 1, 1) := dk_4 (dk_at dksX5_readsKnown_0 15 rfl rfl)
theorem dX5_readsKnown_16 : decode cX5_readsKnown 16 = .ok (.ireturn, 1) := dk_172 (dk_at dksX5_readsKnown_0 16 rfl rfl)
abbrev cX5_seesKnown : ByteArray := prog_20_method_66_code
def yX5_seesKnown : MethodName := ⟨RX5, "seesKnown", "(II)Z"⟩
def dkwX5_seesKnown_1 : List UInt8 := [180, 1, 49, 2, 160, 0, 11, 42, 7, 182, 1, 46, 153, 0, 7, 4, 167, 0, 4, 3, 172]
abbrev dktX5_seesKnown_1 : List UInt8 := dkwX5_seesKnown_1 ++ []
def dkwX5_seesKnown_0 : List UInt8 := [42, 182, 1, 58, 154, 0, 5, 3, 172, 42, 42, 27, 28, 42, 180, 1, 55, 182, 1, 62, 181, 1, 49, 42]
abbrev dktX5_seesKnown_0 : List UInt8 := dkwX5_seesKnown_0 ++ dktX5_seesKnown_1
theorem dksX5_seesKnown_0 : cX5_seesKnown.data.toList.drop 0 = dktX5_seesKnown_0 := by decide +kernel
theorem dksX5_seesKnown_1 : cX5_seesKnown.data.toList.drop 24 = dktX5_seesKnown_1 := dk_seg dksX5_seesKnown_0 24 rfl rfl
theorem dX5_seesKnown_0 : decode cX5_seesKnown 0 = .ok (.aload_n 0, 1) := dk_42 (dk_at dksX5_seesKnown_0 0 rfl rfl)
theorem dX5_seesKnown_1 : decode cX5_seesKnown 1 = .ok (.invokevirtual 314, 3) := dk_182 1 58 (dk_at dksX5_seesKnown_0 1 rfl rfl)
theorem dX5_seesKnown_4 : decode cX5_seesKnown 4 = .ok (.ifCond .ne 5, 3) := dk_154 0 5 (dk_at dksX5_seesKnown_0 4 rfl rfl)
theorem dX5_seesKnown_7 : decode cX5_seesKnown 7 = .ok (.iconst 0, 1) := dk_3 (dk_at dksX5_seesKnown_0 7 rfl rfl)
theorem dX5_seesKnown_8 : decode cX5_seesKnown 8 = .ok (.ireturn, 1) := dk_172 (dk_at dksX5_seesKnown_0 8 rfl rfl)
theorem dX5_seesKnown_9 : decode cX5_seesKnown 9 = .ok (.aload_n 0, 1) := dk_42 (dk_at dksX5_seesKnown_0 9 rfl rfl)
theorem dX5_seesKnown_10 : decode cX5_seesKnown 10 = .ok (.aload_n 0, 1) := dk_42 (dk_at dksX5_seesKnown_0 10 rfl rfl)
theorem dX5_seesKnown_11 : decode cX5_seesKnown 11 = .ok (.iload_n 1, 1) := dk_27 (dk_at dksX5_seesKnown_0 11 rfl rfl)
theorem dX5_seesKnown_12 : decode cX5_seesKnown 12 = .ok (.iload_n 2, 1) := dk_28 (dk_at dksX5_seesKnown_0 12 rfl rfl)
theorem dX5_seesKnown_13 : decode cX5_seesKnown 13 = .ok (.aload_n 0, 1) := dk_42 (dk_at dksX5_seesKnown_0 13 rfl rfl)
theorem dX5_seesKnown_14 : decode cX5_seesKnown 14 = .ok (.getfield 311, 3) := dk_180 1 55 (dk_at dksX5_seesKnown_0 14 rfl rfl)
theorem dX5_seesKnown_17 : decode cX5_seesKnown 17 = .ok (.invokevirtual 318, 3) := dk_182 1 62 (dk_at dksX5_seesKnown_0 17 rfl rfl)
theorem dX5_seesKnown_20 : decode cX5_seesKnown 20 = .ok (.putfield 305, 3) := dk_181 1 49 (dk_at dksX5_seesKnown_0 20 rfl rfl)
theorem dX5_seesKnown_23 : decode cX5_seesKnown 23 = .ok (.aload_n 0, 1) := dk_42 (dk_at dksX5_seesKnown_0 23 rfl rfl)
theorem dX5_seesKnown_24 : decode cX5_seesKnown 24 = .ok (.getfield 305, 3) := dk_180 1 49 (dk_at dksX5_seesKnown_1 0 rfl rfl)
theorem dX5_seesKnown_27 : decode cX5_seesKnown 27 = .ok (.iconst (-1), 1) := dk_2 (dk_at dksX5_seesKnown_1 3 rfl rfl)
theorem dX5_seesKnown_28 : decode cX5_seesKnown 28 = .ok (.if_icmp .ne 11, 3) := dk_160 0 11 (dk_at dksX5_seesKnown_1 4 rfl rfl)
theorem dX5_seesKnown_31 : decode cX5_seesKnown 31 = .ok (.aload_n 0, 1) := dk_42 (dk_at dksX5_seesKnown_1 7 rfl rfl)
theorem dX5_seesKnown_32 : decode cX5_seesKnown 32 = .ok (.iconst 4, 1) := dk_7 (dk_at dksX5_seesKnown_1 8 rfl rfl)
theorem dX5_seesKnown_33 : decode cX5_seesKnown 33 = .ok (.invokevirtual 302, 3) := dk_182 1 46 (dk_at dksX5_seesKnown_1 9 rfl rfl)
theorem dX5_seesKnown_36 : decode cX5_seesKnown 36 = .ok (.ifCond .eq 7, 3) := dk_153 0 7 (dk_at dksX5_seesKnown_1 12 rfl rfl)
theorem dX5_seesKnown_39 : decode cX5_seesKnown 39 = .ok (.iconst 1, 1) := dk_4 (dk_at dksX5_seesKnown_1 15 rfl rfl)
theorem dX5_seesKnown_40 : decode cX5_seesKnown 40 = .ok (.goto 4, 3) := dk_167 0 4 (dk_at dksX5_seesKnown_1 16 rfl rfl)
theorem dX5_seesKnown_43 : decode cX5_seesKnown 43 = .ok (.iconst 0, 1) := dk_3 (dk_at dksX5_seesKnown_1 19 rfl rfl)
theorem dX5_seesKnown_44 : decode cX5_seesKnown 44 = .ok (.ireturn, 1) := dk_172 (dk_at dksX5_seesKnown_1 20 rfl rfl)
abbrev cX5_putsReform : ByteArray := prog_20_method_72_code
def yX5_putsReform : MethodName := ⟨RX5, "putsReform", "(IIII)V"⟩
def dkwX5_putsReform_2 : List UInt8 := [180, 0, 7, 21, 5, 16, 7, 96, 21, 4, 79, 42, 180, 0, 7, 7, 92, 46, 4, 96, 79, 177]
abbrev dktX5_putsReform_2 : List UInt8 := dkwX5_putsReform_2 ++ []
def dkwX5_putsReform_1 : List UInt8 := [42, 180, 0, 7, 21, 5, 4, 96, 28, 79, 42, 180, 0, 7, 21, 5, 16, 6, 96, 29, 79, 42]
abbrev dktX5_putsReform_1 : List UInt8 := dkwX5_putsReform_1 ++ dktX5_putsReform_2
def dkwX5_putsReform_0 : List UInt8 := [16, 106, 16, 8, 42, 180, 0, 7, 7, 46, 104, 96, 54, 5, 42, 180, 0, 7, 21, 5, 3, 96, 27, 79]
abbrev dktX5_putsReform_0 : List UInt8 := dkwX5_putsReform_0 ++ dktX5_putsReform_1
theorem dksX5_putsReform_0 : cX5_putsReform.data.toList.drop 0 = dktX5_putsReform_0 := by decide +kernel
theorem dksX5_putsReform_1 : cX5_putsReform.data.toList.drop 24 = dktX5_putsReform_1 := dk_seg dksX5_putsReform_0 24 rfl rfl
theorem dksX5_putsReform_2 : cX5_putsReform.data.toList.drop 46 = dktX5_putsReform_2 := dk_seg dksX5_putsReform_1 22 rfl rfl
theorem dX5_putsReform_0 : decode cX5_putsReform 0 = .ok (.bipush 106, 2) := dk_16 106 (dk_at dksX5_putsReform_0 0 rfl rfl)
theorem dX5_putsReform_2 : decode cX5_putsReform 2 = .ok (.bipush 8, 2) := dk_16 8 (dk_at dksX5_putsReform_0 2 rfl rfl)
theorem dX5_putsReform_4 : decode cX5_putsReform 4 = .ok (.aload_n 0, 1) := dk_42 (dk_at dksX5_putsReform_0 4 rfl rfl)
theorem dX5_putsReform_5 : decode cX5_putsReform 5 = .ok (.getfield 7, 3) := dk_180 0 7 (dk_at dksX5_putsReform_0 5 rfl rfl)
theorem dX5_putsReform_8 : decode cX5_putsReform 8 = .ok (.iconst 4, 1) := dk_7 (dk_at dksX5_putsReform_0 8 rfl rfl)
theorem dX5_putsReform_9 : decode cX5_putsReform 9 = .ok (.iaload, 1) := dk_46 (dk_at dksX5_putsReform_0 9 rfl rfl)
theorem dX5_putsReform_10 : decode cX5_putsReform 10 = .ok (.imul, 1) := dk_104 (dk_at dksX5_putsReform_0 10 rfl rfl)
theorem dX5_putsReform_11 : decode cX5_putsReform 11 = .ok (.iadd, 1) := dk_96 (dk_at dksX5_putsReform_0 11 rfl rfl)
theorem dX5_putsReform_12 : decode cX5_putsReform 12 = .ok (.istore 5, 2) := dk_54 5 (dk_at dksX5_putsReform_0 12 rfl rfl)
theorem dX5_putsReform_14 : decode cX5_putsReform 14 = .ok (.aload_n 0, 1) := dk_42 (dk_at dksX5_putsReform_0 14 rfl rfl)
theorem dX5_putsReform_15 : decode cX5_putsReform 15 = .ok (.getfield 7, 3) := dk_180 0 7 (dk_at dksX5_putsReform_0 15 rfl rfl)
theorem dX5_putsReform_18 : decode cX5_putsReform 18 = .ok (.iload 5, 2) := dk_21 5 (dk_at dksX5_putsReform_0 18 rfl rfl)
theorem dX5_putsReform_20 : decode cX5_putsReform 20 = .ok (.iconst 0, 1) := dk_3 (dk_at dksX5_putsReform_0 20 rfl rfl)
theorem dX5_putsReform_21 : decode cX5_putsReform 21 = .ok (.iadd, 1) := dk_96 (dk_at dksX5_putsReform_0 21 rfl rfl)
theorem dX5_putsReform_22 : decode cX5_putsReform 22 = .ok (.iload_n 1, 1) := dk_27 (dk_at dksX5_putsReform_0 22 rfl rfl)
theorem dX5_putsReform_23 : decode cX5_putsReform 23 = .ok (.iastore, 1) := dk_79 (dk_at dksX5_putsReform_0 23 rfl rfl)
theorem dX5_putsReform_24 : decode cX5_putsReform 24 = .ok (.aload_n 0, 1) := dk_42 (dk_at dksX5_putsReform_1 0 rfl rfl)
theorem dX5_putsReform_25 : decode cX5_putsReform 25 = .ok (.getfield 7, 3) := dk_180 0 7 (dk_at dksX5_putsReform_1 1 rfl rfl)
theorem dX5_putsReform_28 : decode cX5_putsReform 28 = .ok (.iload 5, 2) := dk_21 5 (dk_at dksX5_putsReform_1 4 rfl rfl)
theorem dX5_putsReform_30 : decode cX5_putsReform 30 = .ok (.iconst 1, 1) := dk_4 (dk_at dksX5_putsReform_1 6 rfl rfl)
theorem dX5_putsReform_31 : decode cX5_putsReform 31 = .ok (.iadd, 1) := dk_96 (dk_at dksX5_putsReform_1 7 rfl rfl)
theorem dX5_putsReform_32 : decode cX5_putsReform 32 = .ok (.iload_n 2, 1) := dk_28 (dk_at dksX5_putsReform_1 8 rfl rfl)
theorem dX5_putsReform_33 : decode cX5_putsReform 33 = .ok (.iastore, 1) := dk_79 (dk_at dksX5_putsReform_1 9 rfl rfl)
theorem dX5_putsReform_34 : decode cX5_putsReform 34 = .ok (.aload_n 0, 1) := dk_42 (dk_at dksX5_putsReform_1 10 rfl rfl)
theorem dX5_putsReform_35 : decode cX5_putsReform 35 = .ok (.getfield 7, 3) := dk_180 0 7 (dk_at dksX5_putsReform_1 11 rfl rfl)
theorem dX5_putsReform_38 : decode cX5_putsReform 38 = .ok (.iload 5, 2) := dk_21 5 (dk_at dksX5_putsReform_1 14 rfl rfl)
theorem dX5_putsReform_40 : decode cX5_putsReform 40 = .ok (.bipush 6, 2) := dk_16 6 (dk_at dksX5_putsReform_1 16 rfl rfl)
theorem dX5_putsReform_42 : decode cX5_putsReform 42 = .ok (.iadd, 1) := dk_96 (dk_at dksX5_putsReform_1 18 rfl rfl)
theorem dX5_putsReform_43 : decode cX5_putsReform 43 = .ok (.iload_n 3, 1) := dk_29 (dk_at dksX5_putsReform_1 19 rfl rfl)
theorem dX5_putsReform_44 : decode cX5_putsReform 44 = .ok (.iastore, 1) := dk_79 (dk_at dksX5_putsReform_1 20 rfl rfl)
theorem dX5_putsReform_45 : decode cX5_putsReform 45 = .ok (.aload_n 0, 1) := dk_42 (dk_at dksX5_putsReform_1 21 rfl rfl)
theorem dX5_putsReform_46 : decode cX5_putsReform 46 = .ok (.getfield 7, 3) := dk_180 0 7 (dk_at dksX5_putsReform_2 0 rfl rfl)
theorem dX5_putsReform_49 : decode cX5_putsReform 49 = .ok (.iload 5, 2) := dk_21 5 (dk_at dksX5_putsReform_2 3 rfl rfl)
theorem dX5_putsReform_51 : decode cX5_putsReform 51 = .ok (.bipush 7, 2) := dk_16 7 (dk_at dksX5_putsReform_2 5 rfl rfl)
theorem dX5_putsReform_53 : decode cX5_putsReform 53 = .ok (.iadd, 1) := dk_96 (dk_at dksX5_putsReform_2 7 rfl rfl)
theorem dX5_putsReform_54 : decode cX5_putsReform 54 = .ok (.iload 4, 2) := dk_21 4 (dk_at dksX5_putsReform_2 8 rfl rfl)
theorem dX5_putsReform_56 : decode cX5_putsReform 56 = .ok (.iastore, 1) := dk_79 (dk_at dksX5_putsReform_2 10 rfl rfl)
theorem dX5_putsReform_57 : decode cX5_putsReform 57 = .ok (.aload_n 0, 1) := dk_42 (dk_at dksX5_putsReform_2 11 rfl rfl)
theorem dX5_putsReform_58 : decode cX5_putsReform 58 = .ok (.getfield 7, 3) := dk_180 0 7 (dk_at dksX5_putsReform_2 12 rfl rfl)
theorem dX5_putsReform_61 : decode cX5_putsReform 61 = .ok (.iconst 4, 1) := dk_7 (dk_at dksX5_putsReform_2 15 rfl rfl)
theorem dX5_putsReform_62 : decode cX5_putsReform 62 = .ok (.dup2, 1) := dk_92 (dk_at dksX5_putsReform_2 16 rfl rfl)
theorem dX5_putsReform_63 : decode cX5_putsReform 63 = .ok (.iaload, 1) := dk_46 (dk_at dksX5_putsReform_2 17 rfl rfl)
theorem dX5_putsReform_64 : decode cX5_putsReform 64 = .ok (.iconst 1, 1) := dk_4 (dk_at dksX5_putsReform_2 18 rfl rfl)
theorem dX5_putsReform_65 : decode cX5_putsReform 65 = .ok (.iadd, 1) := dk_96 (dk_at dksX5_putsReform_2 19 rfl rfl)
theorem dX5_putsReform_66 : decode cX5_putsReform 66 = .ok (.iastore, 1) := dk_79 (dk_at dksX5_putsReform_2 20 rfl rfl)
theorem dX5_putsReform_67 : decode cX5_putsReform 67 = .ok (.return_, 1) := dk_177 (dk_at dksX5_putsReform_2 21 rfl rfl)
abbrev cX5_readJoin : ByteArray := prog_20_method_75_code
def yX5_readJoin : MethodName := ⟨RX5, "readJoin", "()Z"⟩
def dkwX5_readJoin_4 : List UInt8 := [180, 1, 49, 28, 182, 1, 92, 42, 182, 1, 52, 4, 172]
abbrev dktX5_readJoin_4 : List UInt8 := dkwX5_readJoin_4 ++ []
def dkwX5_readJoin_3 : List UInt8 := [154, 0, 5, 3, 172, 42, 180, 1, 49, 28, 160, 0, 9, 42, 6, 182, 1, 46, 172, 42, 27, 4, 42]
abbrev dktX5_readJoin_3 : List UInt8 := dkwX5_readJoin_3 ++ dktX5_readJoin_4
def dkwX5_readJoin_2 : List UInt8 := [182, 1, 89, 154, 0, 5, 3, 172, 42, 180, 1, 49, 61, 42, 3, 42, 180, 0, 7, 5, 46, 182, 1, 66]
abbrev dktX5_readJoin_2 : List UInt8 := dkwX5_readJoin_2 ++ dktX5_readJoin_3
def dkwX5_readJoin_1 : List UInt8 := [17, 3, 231, 182, 1, 75, 154, 0, 5, 3, 172, 42, 180, 1, 49, 60, 42, 3, 42, 180, 0, 7, 5, 46]
abbrev dktX5_readJoin_1 : List UInt8 := dkwX5_readJoin_1 ++ dktX5_readJoin_2
def dkwX5_readJoin_0 : List UInt8 := [42, 180, 0, 7, 7, 46, 16, 16, 160, 0, 9, 42, 8, 182, 1, 46, 172, 42, 182, 1, 52, 42, 3]
abbrev dktX5_readJoin_0 : List UInt8 := dkwX5_readJoin_0 ++ dktX5_readJoin_1
theorem dksX5_readJoin_0 : cX5_readJoin.data.toList.drop 0 = dktX5_readJoin_0 := by decide +kernel
theorem dksX5_readJoin_1 : cX5_readJoin.data.toList.drop 23 = dktX5_readJoin_1 := dk_seg dksX5_readJoin_0 23 rfl rfl
theorem dksX5_readJoin_2 : cX5_readJoin.data.toList.drop 47 = dktX5_readJoin_2 := dk_seg dksX5_readJoin_1 24 rfl rfl
theorem dksX5_readJoin_3 : cX5_readJoin.data.toList.drop 71 = dktX5_readJoin_3 := dk_seg dksX5_readJoin_2 24 rfl rfl
theorem dksX5_readJoin_4 : cX5_readJoin.data.toList.drop 94 = dktX5_readJoin_4 := dk_seg dksX5_readJoin_3 23 rfl rfl
theorem dX5_readJoin_0 : decode cX5_readJoin 0 = .ok (.aload_n 0, 1) := dk_42 (dk_at dksX5_readJoin_0 0 rfl rfl)
theorem dX5_readJoin_1 : decode cX5_readJoin 1 = .ok (.getfield 7, 3) := dk_180 0 7 (dk_at dksX5_readJoin_0 1 rfl rfl)
theorem dX5_readJoin_4 : decode cX5_readJoin 4 = .ok (.iconst 4, 1) := dk_7 (dk_at dksX5_readJoin_0 4 rfl rfl)
theorem dX5_readJoin_5 : decode cX5_readJoin 5 = .ok (.iaload, 1) := dk_46 (dk_at dksX5_readJoin_0 5 rfl rfl)
theorem dX5_readJoin_6 : decode cX5_readJoin 6 = .ok (.bipush 16, 2) := dk_16 16 (dk_at dksX5_readJoin_0 6 rfl rfl)
theorem dX5_readJoin_8 : decode cX5_readJoin 8 = .ok (.if_icmp .ne 9, 3) := dk_160 0 9 (dk_at dksX5_readJoin_0 8 rfl rfl)
theorem dX5_readJoin_11 : decode cX5_readJoin 11 = .ok (.aload_n 0, 1) := dk_42 (dk_at dksX5_readJoin_0 11 rfl rfl)
theorem dX5_readJoin_12 : decode cX5_readJoin 12 = .ok (.iconst 5, 1) := dk_8 (dk_at dksX5_readJoin_0 12 rfl rfl)
theorem dX5_readJoin_13 : decode cX5_readJoin 13 = .ok (.invokevirtual 302, 3) := dk_182 1 46 (dk_at dksX5_readJoin_0 13 rfl rfl)
theorem dX5_readJoin_16 : decode cX5_readJoin 16 = .ok (.ireturn, 1) := dk_172 (dk_at dksX5_readJoin_0 16 rfl rfl)
theorem dX5_readJoin_17 : decode cX5_readJoin 17 = .ok (.aload_n 0, 1) := dk_42 (dk_at dksX5_readJoin_0 17 rfl rfl)
theorem dX5_readJoin_18 : decode cX5_readJoin 18 = .ok (.invokevirtual 308, 3) := dk_182 1 52 (dk_at dksX5_readJoin_0 18 rfl rfl)
theorem dX5_readJoin_21 : decode cX5_readJoin 21 = .ok (.aload_n 0, 1) := dk_42 (dk_at dksX5_readJoin_0 21 rfl rfl)
theorem dX5_readJoin_22 : decode cX5_readJoin 22 = .ok (.iconst 0, 1) := dk_3 (dk_at dksX5_readJoin_0 22 rfl rfl)
theorem dX5_readJoin_23 : decode cX5_readJoin 23 = .ok (.sipush 999, 3) := dk_17 3 231 (dk_at dksX5_readJoin_1 0 rfl rfl)
theorem dX5_readJoin_26 : decode cX5_readJoin 26 = .ok (.invokevirtual 331, 3) := dk_182 1 75 (dk_at dksX5_readJoin_1 3 rfl rfl)
theorem dX5_readJoin_29 : decode cX5_readJoin 29 = .ok (.ifCond .ne 5, 3) := dk_154 0 5 (dk_at dksX5_readJoin_1 6 rfl rfl)
theorem dX5_readJoin_32 : decode cX5_readJoin 32 = .ok (.iconst 0, 1) := dk_3 (dk_at dksX5_readJoin_1 9 rfl rfl)
theorem dX5_readJoin_33 : decode cX5_readJoin 33 = .ok (.ireturn, 1) := dk_172 (dk_at dksX5_readJoin_1 10 rfl rfl)
theorem dX5_readJoin_34 : decode cX5_readJoin 34 = .ok (.aload_n 0, 1) := dk_42 (dk_at dksX5_readJoin_1 11 rfl rfl)
theorem dX5_readJoin_35 : decode cX5_readJoin 35 = .ok (.getfield 305, 3) := dk_180 1 49 (dk_at dksX5_readJoin_1 12 rfl rfl)
theorem dX5_readJoin_38 : decode cX5_readJoin 38 = .ok (.istore_n 1, 1) := dk_60 (dk_at dksX5_readJoin_1 15 rfl rfl)
theorem dX5_readJoin_39 : decode cX5_readJoin 39 = .ok (.aload_n 0, 1) := dk_42 (dk_at dksX5_readJoin_1 16 rfl rfl)
theorem dX5_readJoin_40 : decode cX5_readJoin 40 = .ok (.iconst 0, 1) := dk_3 (dk_at dksX5_readJoin_1 17 rfl rfl)
theorem dX5_readJoin_41 : decode cX5_readJoin 41 = .ok (.aload_n 0, 1) := dk_42 (dk_at dksX5_readJoin_1 18 rfl rfl)
theorem dX5_readJoin_42 : decode cX5_readJoin 42 = .ok (.getfield 7, 3) := dk_180 0 7 (dk_at dksX5_readJoin_1 19 rfl rfl)
theorem dX5_readJoin_45 : decode cX5_readJoin 45 = .ok (.iconst 2, 1) := dk_5 (dk_at dksX5_readJoin_1 22 rfl rfl)
theorem dX5_readJoin_46 : decode cX5_readJoin 46 = .ok (.iaload, 1) := dk_46 (dk_at dksX5_readJoin_1 23 rfl rfl)
theorem dX5_readJoin_47 : decode cX5_readJoin 47 = .ok (.invokevirtual 345, 3) := dk_182 1 89 (dk_at dksX5_readJoin_2 0 rfl rfl)
theorem dX5_readJoin_50 : decode cX5_readJoin 50 = .ok (.ifCond .ne 5, 3) := dk_154 0 5 (dk_at dksX5_readJoin_2 3 rfl rfl)
theorem dX5_readJoin_53 : decode cX5_readJoin 53 = .ok (.iconst 0, 1) := dk_3 (dk_at dksX5_readJoin_2 6 rfl rfl)
theorem dX5_readJoin_54 : decode cX5_readJoin 54 = .ok (.ireturn, 1) := dk_172 (dk_at dksX5_readJoin_2 7 rfl rfl)
theorem dX5_readJoin_55 : decode cX5_readJoin 55 = .ok (.aload_n 0, 1) := dk_42 (dk_at dksX5_readJoin_2 8 rfl rfl)
theorem dX5_readJoin_56 : decode cX5_readJoin 56 = .ok (.getfield 305, 3) := dk_180 1 49 (dk_at dksX5_readJoin_2 9 rfl rfl)
theorem dX5_readJoin_59 : decode cX5_readJoin 59 = .ok (.istore_n 2, 1) := dk_61 (dk_at dksX5_readJoin_2 12 rfl rfl)
theorem dX5_readJoin_60 : decode cX5_readJoin 60 = .ok (.aload_n 0, 1) := dk_42 (dk_at dksX5_readJoin_2 13 rfl rfl)
theorem dX5_readJoin_61 : decode cX5_readJoin 61 = .ok (.iconst 0, 1) := dk_3 (dk_at dksX5_readJoin_2 14 rfl rfl)
theorem dX5_readJoin_62 : decode cX5_readJoin 62 = .ok (.aload_n 0, 1) := dk_42 (dk_at dksX5_readJoin_2 15 rfl rfl)
theorem dX5_readJoin_63 : decode cX5_readJoin 63 = .ok (.getfield 7, 3) := dk_180 0 7 (dk_at dksX5_readJoin_2 16 rfl rfl)
theorem dX5_readJoin_66 : decode cX5_readJoin 66 = .ok (.iconst 2, 1) := dk_5 (dk_at dksX5_readJoin_2 19 rfl rfl)
theorem dX5_readJoin_67 : decode cX5_readJoin 67 = .ok (.iaload, 1) := dk_46 (dk_at dksX5_readJoin_2 20 rfl rfl)
theorem dX5_readJoin_68 : decode cX5_readJoin 68 = .ok (.invokevirtual 322, 3) := dk_182 1 66 (dk_at dksX5_readJoin_2 21 rfl rfl)
theorem dX5_readJoin_71 : decode cX5_readJoin 71 = .ok (.ifCond .ne 5, 3) := dk_154 0 5 (dk_at dksX5_readJoin_3 0 rfl rfl)
theorem dX5_readJoin_74 : decode cX5_readJoin 74 = .ok (.iconst 0, 1) := dk_3 (dk_at dksX5_readJoin_3 3 rfl rfl)
theorem dX5_readJoin_75 : decode cX5_readJoin 75 = .ok (.ireturn, 1) := dk_172 (dk_at dksX5_readJoin_3 4 rfl rfl)
theorem dX5_readJoin_76 : decode cX5_readJoin 76 = .ok (.aload_n 0, 1) := dk_42 (dk_at dksX5_readJoin_3 5 rfl rfl)
theorem dX5_readJoin_77 : decode cX5_readJoin 77 = .ok (.getfield 305, 3) := dk_180 1 49 (dk_at dksX5_readJoin_3 6 rfl rfl)
theorem dX5_readJoin_80 : decode cX5_readJoin 80 = .ok (.iload_n 2, 1) := dk_28 (dk_at dksX5_readJoin_3 9 rfl rfl)
theorem dX5_readJoin_81 : decode cX5_readJoin 81 = .ok (.if_icmp .ne 9, 3) := dk_160 0 9 (dk_at dksX5_readJoin_3 10 rfl rfl)
theorem dX5_readJoin_84 : decode cX5_readJoin 84 = .ok (.aload_n 0, 1) := dk_42 (dk_at dksX5_readJoin_3 13 rfl rfl)
theorem dX5_readJoin_85 : decode cX5_readJoin 85 = .ok (.iconst 3, 1) := dk_6 (dk_at dksX5_readJoin_3 14 rfl rfl)
theorem dX5_readJoin_86 : decode cX5_readJoin 86 = .ok (.invokevirtual 302, 3) := dk_182 1 46 (dk_at dksX5_readJoin_3 15 rfl rfl)
theorem dX5_readJoin_89 : decode cX5_readJoin 89 = .ok (.ireturn, 1) := dk_172 (dk_at dksX5_readJoin_3 18 rfl rfl)
theorem dX5_readJoin_90 : decode cX5_readJoin 90 = .ok (.aload_n 0, 1) := dk_42 (dk_at dksX5_readJoin_3 19 rfl rfl)
theorem dX5_readJoin_91 : decode cX5_readJoin 91 = .ok (.iload_n 1, 1) := dk_27 (dk_at dksX5_readJoin_3 20 rfl rfl)
theorem dX5_readJoin_92 : decode cX5_readJoin 92 = .ok (.iconst 1, 1) := dk_4 (dk_at dksX5_readJoin_3 21 rfl rfl)
theorem dX5_readJoin_93 : decode cX5_readJoin 93 = .ok (.aload_n 0, 1) := dk_42 (dk_at dksX5_readJoin_3 22 rfl rfl)
theorem dX5_readJoin_94 : decode cX5_readJoin 94 = .ok (.getfield 305, 3) := dk_180 1 49 (dk_at dksX5_readJoin_4 0 rfl rfl)
theorem dX5_readJoin_97 : decode cX5_readJoin 97 = .ok (.iload_n 2, 1) := dk_28 (dk_at dksX5_readJoin_4 3 rfl rfl)
theorem dX5_readJoin_98 : decode cX5_readJoin 98 = .ok (.invokevirtual 348, 3) := dk_182 1 92 (dk_at dksX5_readJoin_4 4 rfl rfl)
theorem dX5_readJoin_101 : decode cX5_readJoin 101 = .ok (.aload_n 0, 1) := dk_42 (dk_at dksX5_readJoin_4 7 rfl rfl)
theorem dX5_readJoin_102 : decode cX5_readJoin 102 = .ok (.invokevirtual 308, 3) := dk_182 1 52 (dk_at dksX5_readJoin_4 8 rfl rfl)
theorem dX5_readJoin_105 : decode cX5_readJoin 105 = .ok (.iconst 1, 1) := dk_4 (dk_at dksX5_readJoin_4 11 rfl rfl)
theorem dX5_readJoin_106 : decode cX5_readJoin 106 = .ok (.ireturn, 1) := dk_172 (dk_at dksX5_readJoin_4 12 rfl rfl)
abbrev cX5_readRename : ByteArray := prog_20_method_77_code
def yX5_readRename : MethodName := ⟨RX5, "readRename", "()Z"⟩
def dkwX5_readRename_3 : List UInt8 := [28, 42, 180, 1, 55, 182, 1, 95, 42, 182, 1, 52, 4, 172]
abbrev dktX5_readRename_3 : List UInt8 := dkwX5_readRename_3 ++ []
def dkwX5_readRename_2 : List UInt8 := [182, 1, 75, 154, 0, 5, 3, 172, 42, 180, 1, 49, 61, 42, 182, 1, 58, 154, 0, 5, 3, 172, 42, 27]
abbrev dktX5_readRename_2 : List UInt8 := dkwX5_readRename_2 ++ dktX5_readRename_3
def dkwX5_readRename_1 : List UInt8 := [42, 180, 0, 7, 6, 46, 182, 1, 89, 154, 0, 5, 3, 172, 42, 180, 1, 49, 60, 42, 3, 17, 3, 231]
abbrev dktX5_readRename_1 : List UInt8 := dkwX5_readRename_1 ++ dktX5_readRename_2
def dkwX5_readRename_0 : List UInt8 := [42, 180, 0, 7, 8, 46, 16, 16, 160, 0, 9, 42, 8, 182, 1, 46, 172, 42, 182, 1, 52, 42, 16, 8]
abbrev dktX5_readRename_0 : List UInt8 := dkwX5_readRename_0 ++ dktX5_readRename_1
theorem dksX5_readRename_0 : cX5_readRename.data.toList.drop 0 = dktX5_readRename_0 := by decide +kernel
theorem dksX5_readRename_1 : cX5_readRename.data.toList.drop 24 = dktX5_readRename_1 := dk_seg dksX5_readRename_0 24 rfl rfl
theorem dksX5_readRename_2 : cX5_readRename.data.toList.drop 48 = dktX5_readRename_2 := dk_seg dksX5_readRename_1 24 rfl rfl
theorem dksX5_readRename_3 : cX5_readRename.data.toList.drop 72 = dktX5_readRename_3 := dk_seg dksX5_readRename_2 24 rfl rfl
theorem dX5_readRename_0 : decode cX5_readRename 0 = .ok (.aload_n 0, 1) := dk_42 (dk_at dksX5_readRename_0 0 rfl rfl)
theorem dX5_readRename_1 : decode cX5_readRename 1 = .ok (.getfield 7, 3) := dk_180 0 7 (dk_at dksX5_readRename_0 1 rfl rfl)
theorem dX5_readRename_4 : decode cX5_readRename 4 = .ok (.iconst 5, 1) := dk_8 (dk_at dksX5_readRename_0 4 rfl rfl)
theorem dX5_readRename_5 : decode cX5_readRename 5 = .ok (.iaload, 1) := dk_46 (dk_at dksX5_readRename_0 5 rfl rfl)
theorem dX5_readRename_6 : decode cX5_readRename 6 = .ok (.bipush 16, 2) := dk_16 16 (dk_at dksX5_readRename_0 6 rfl rfl)
theorem dX5_readRename_8 : decode cX5_readRename 8 = .ok (.if_icmp .ne 9, 3) := dk_160 0 9 (dk_at dksX5_readRename_0 8 rfl rfl)
theorem dX5_readRename_11 : decode cX5_readRename 11 = .ok (.aload_n 0, 1) := dk_42 (dk_at dksX5_readRename_0 11 rfl rfl)
theorem dX5_readRename_12 : decode cX5_readRename 12 = .ok (.iconst 5, 1) := dk_8 (dk_at dksX5_readRename_0 12 rfl rfl)
theorem dX5_readRename_13 : decode cX5_readRename 13 = .ok (.invokevirtual 302, 3) := dk_182 1 46 (dk_at dksX5_readRename_0 13 rfl rfl)
theorem dX5_readRename_16 : decode cX5_readRename 16 = .ok (.ireturn, 1) := dk_172 (dk_at dksX5_readRename_0 16 rfl rfl)
theorem dX5_readRename_17 : decode cX5_readRename 17 = .ok (.aload_n 0, 1) := dk_42 (dk_at dksX5_readRename_0 17 rfl rfl)
theorem dX5_readRename_18 : decode cX5_readRename 18 = .ok (.invokevirtual 308, 3) := dk_182 1 52 (dk_at dksX5_readRename_0 18 rfl rfl)
theorem dX5_readRename_21 : decode cX5_readRename 21 = .ok (.aload_n 0, 1) := dk_42 (dk_at dksX5_readRename_0 21 rfl rfl)
theorem dX5_readRename_22 : decode cX5_readRename 22 = .ok (.bipush 8, 2) := dk_16 8 (dk_at dksX5_readRename_0 22 rfl rfl)
theorem dX5_readRename_24 : decode cX5_readRename 24 = .ok (.aload_n 0, 1) := dk_42 (dk_at dksX5_readRename_1 0 rfl rfl)
theorem dX5_readRename_25 : decode cX5_readRename 25 = .ok (.getfield 7, 3) := dk_180 0 7 (dk_at dksX5_readRename_1 1 rfl rfl)
theorem dX5_readRename_28 : decode cX5_readRename 28 = .ok (.iconst 3, 1) := dk_6 (dk_at dksX5_readRename_1 4 rfl rfl)
theorem dX5_readRename_29 : decode cX5_readRename 29 = .ok (.iaload, 1) := dk_46 (dk_at dksX5_readRename_1 5 rfl rfl)
theorem dX5_readRename_30 : decode cX5_readRename 30 = .ok (.invokevirtual 345, 3) := dk_182 1 89 (dk_at dksX5_readRename_1 6 rfl rfl)
theorem dX5_readRename_33 : decode cX5_readRename 33 = .ok (.ifCond .ne 5, 3) := dk_154 0 5 (dk_at dksX5_readRename_1 9 rfl rfl)
theorem dX5_readRename_36 : decode cX5_readRename 36 = .ok (.iconst 0, 1) := dk_3 (dk_at dksX5_readRename_1 12 rfl rfl)
theorem dX5_readRename_37 : decode cX5_readRename 37 = .ok (.ireturn, 1) := dk_172 (dk_at dksX5_readRename_1 13 rfl rfl)
theorem dX5_readRename_38 : decode cX5_readRename 38 = .ok (.aload_n 0, 1) := dk_42 (dk_at dksX5_readRename_1 14 rfl rfl)
theorem dX5_readRename_39 : decode cX5_readRename 39 = .ok (.getfield 305, 3) := dk_180 1 49 (dk_at dksX5_readRename_1 15 rfl rfl)
theorem dX5_readRename_42 : decode cX5_readRename 42 = .ok (.istore_n 1, 1) := dk_60 (dk_at dksX5_readRename_1 18 rfl rfl)
theorem dX5_readRename_43 : decode cX5_readRename 43 = .ok (.aload_n 0, 1) := dk_42 (dk_at dksX5_readRename_1 19 rfl rfl)
theorem dX5_readRename_44 : decode cX5_readRename 44 = .ok (.iconst 0, 1) := dk_3 (dk_at dksX5_readRename_1 20 rfl rfl)
theorem dX5_readRename_45 : decode cX5_readRename 45 = .ok (.sipush 999, 3) := dk_17 3 231 (dk_at dksX5_readRename_1 21 rfl rfl)
theorem dX5_readRename_48 : decode cX5_readRename 48 = .ok (.invokevirtual 331, 3) := dk_182 1 75 (dk_at dksX5_readRename_2 0 rfl rfl)
theorem dX5_readRename_51 : decode cX5_readRename 51 = .ok (.ifCond .ne 5, 3) := dk_154 0 5 (dk_at dksX5_readRename_2 3 rfl rfl)
theorem dX5_readRename_54 : decode cX5_readRename 54 = .ok (.iconst 0, 1) := dk_3 (dk_at dksX5_readRename_2 6 rfl rfl)
theorem dX5_readRename_55 : decode cX5_readRename 55 = .ok (.ireturn, 1) := dk_172 (dk_at dksX5_readRename_2 7 rfl rfl)
theorem dX5_readRename_56 : decode cX5_readRename 56 = .ok (.aload_n 0, 1) := dk_42 (dk_at dksX5_readRename_2 8 rfl rfl)
theorem dX5_readRename_57 : decode cX5_readRename 57 = .ok (.getfield 305, 3) := dk_180 1 49 (dk_at dksX5_readRename_2 9 rfl rfl)
theorem dX5_readRename_60 : decode cX5_readRename 60 = .ok (.istore_n 2, 1) := dk_61 (dk_at dksX5_readRename_2 12 rfl rfl)
theorem dX5_readRename_61 : decode cX5_readRename 61 = .ok (.aload_n 0, 1) := dk_42 (dk_at dksX5_readRename_2 13 rfl rfl)
theorem dX5_readRename_62 : decode cX5_readRename 62 = .ok (.invokevirtual 314, 3) := dk_182 1 58 (dk_at dksX5_readRename_2 14 rfl rfl)
theorem dX5_readRename_65 : decode cX5_readRename 65 = .ok (.ifCond .ne 5, 3) := dk_154 0 5 (dk_at dksX5_readRename_2 17 rfl rfl)
theorem dX5_readRename_68 : decode cX5_readRename 68 = .ok (.iconst 0, 1) := dk_3 (dk_at dksX5_readRename_2 20 rfl rfl)
theorem dX5_readRename_69 : decode cX5_readRename 69 = .ok (.ireturn, 1) := dk_172 (dk_at dksX5_readRename_2 21 rfl rfl)
theorem dX5_readRename_70 : decode cX5_readRename 70 = .ok (.aload_n 0, 1) := dk_42 (dk_at dksX5_readRename_2 22 rfl rfl)
theorem dX5_readRename_71 : decode cX5_readRename 71 = .ok (.iload_n 1, 1) := dk_27 (dk_at dksX5_readRename_2 23 rfl rfl)
theorem dX5_readRename_72 : decode cX5_readRename 72 = .ok (.iload_n 2, 1) := dk_28 (dk_at dksX5_readRename_3 0 rfl rfl)
theorem dX5_readRename_73 : decode cX5_readRename 73 = .ok (.aload_n 0, 1) := dk_42 (dk_at dksX5_readRename_3 1 rfl rfl)
theorem dX5_readRename_74 : decode cX5_readRename 74 = .ok (.getfield 311, 3) := dk_180 1 55 (dk_at dksX5_readRename_3 2 rfl rfl)
theorem dX5_readRename_77 : decode cX5_readRename 77 = .ok (.invokevirtual 351, 3) := dk_182 1 95 (dk_at dksX5_readRename_3 5 rfl rfl)
theorem dX5_readRename_80 : decode cX5_readRename 80 = .ok (.aload_n 0, 1) := dk_42 (dk_at dksX5_readRename_3 8 rfl rfl)
theorem dX5_readRename_81 : decode cX5_readRename 81 = .ok (.invokevirtual 308, 3) := dk_182 1 52 (dk_at dksX5_readRename_3 9 rfl rfl)
theorem dX5_readRename_84 : decode cX5_readRename 84 = .ok (.iconst 1, 1) := dk_4 (dk_at dksX5_readRename_3 12 rfl rfl)
theorem dX5_readRename_85 : decode cX5_readRename 85 = .ok (.ireturn, 1) := dk_172 (dk_at dksX5_readRename_3 13 rfl rfl)
abbrev cX5_putsRename : ByteArray := prog_20_method_76_code
def yX5_putsRename : MethodName := ⟨RX5, "putsRename", "(IIJ)V"⟩
def dkwX5_putsRename_2 : List UInt8 := [180, 0, 7, 8, 46, 96, 33, 80, 42, 180, 0, 7, 8, 92, 46, 4, 96, 79, 177]
abbrev dktX5_putsRename_2 : List UInt8 := dkwX5_putsRename_2 ++ []
def dkwX5_putsRename_1 : List UInt8 := [17, 0, 234, 5, 42, 180, 0, 7, 8, 46, 104, 96, 4, 96, 28, 79, 42, 180, 0, 22, 16, 32, 42]
abbrev dktX5_putsRename_1 : List UInt8 := dkwX5_putsRename_1 ++ dktX5_putsRename_2
def dkwX5_putsRename_0 : List UInt8 := [42, 180, 0, 7, 17, 0, 234, 5, 42, 180, 0, 7, 8, 46, 104, 96, 3, 96, 27, 79, 42, 180, 0, 7]
abbrev dktX5_putsRename_0 : List UInt8 := dkwX5_putsRename_0 ++ dktX5_putsRename_1
theorem dksX5_putsRename_0 : cX5_putsRename.data.toList.drop 0 = dktX5_putsRename_0 := by decide +kernel
theorem dksX5_putsRename_1 : cX5_putsRename.data.toList.drop 24 = dktX5_putsRename_1 := dk_seg dksX5_putsRename_0 24 rfl rfl
theorem dksX5_putsRename_2 : cX5_putsRename.data.toList.drop 47 = dktX5_putsRename_2 := dk_seg dksX5_putsRename_1 23 rfl rfl
theorem dX5_putsRename_0 : decode cX5_putsRename 0 = .ok (.aload_n 0, 1) := dk_42 (dk_at dksX5_putsRename_0 0 rfl rfl)
theorem dX5_putsRename_1 : decode cX5_putsRename 1 = .ok (.getfield 7, 3) := dk_180 0 7 (dk_at dksX5_putsRename_0 1 rfl rfl)
theorem dX5_putsRename_4 : decode cX5_putsRename 4 = .ok (.sipush 234, 3) := dk_17 0 234 (dk_at dksX5_putsRename_0 4 rfl rfl)
theorem dX5_putsRename_7 : decode cX5_putsRename 7 = .ok (.iconst 2, 1) := dk_5 (dk_at dksX5_putsRename_0 7 rfl rfl)
theorem dX5_putsRename_8 : decode cX5_putsRename 8 = .ok (.aload_n 0, 1) := dk_42 (dk_at dksX5_putsRename_0 8 rfl rfl)
theorem dX5_putsRename_9 : decode cX5_putsRename 9 = .ok (.getfield 7, 3) := dk_180 0 7 (dk_at dksX5_putsRename_0 9 rfl rfl)
theorem dX5_putsRename_12 : decode cX5_putsRename 12 = .ok (.iconst 5, 1) := dk_8 (dk_at dksX5_putsRename_0 12 rfl rfl)
theorem dX5_putsRename_13 : decode cX5_putsRename 13 = .ok (.iaload, 1) := dk_46 (dk_at dksX5_putsRename_0 13 rfl rfl)
theorem dX5_putsRename_14 : decode cX5_putsRename 14 = .ok (.imul, 1) := dk_104 (dk_at dksX5_putsRename_0 14 rfl rfl)
theorem dX5_putsRename_15 : decode cX5_putsRename 15 = .ok (.iadd, 1) := dk_96 (dk_at dksX5_putsRename_0 15 rfl rfl)
theorem dX5_putsRename_16 : decode cX5_putsRename 16 = .ok (.iconst 0, 1) := dk_3 (dk_at dksX5_putsRename_0 16 rfl rfl)
theorem dX5_putsRename_17 : decode cX5_putsRename 17 = .ok (.iadd, 1) := dk_96 (dk_at dksX5_putsRename_0 17 rfl rfl)
theorem dX5_putsRename_18 : decode cX5_putsRename 18 = .ok (.iload_n 1, 1) := dk_27 (dk_at dksX5_putsRename_0 18 rfl rfl)
theorem dX5_putsRename_19 : decode cX5_putsRename 19 = .ok (.iastore, 1) := dk_79 (dk_at dksX5_putsRename_0 19 rfl rfl)
theorem dX5_putsRename_20 : decode cX5_putsRename 20 = .ok (.aload_n 0, 1) := dk_42 (dk_at dksX5_putsRename_0 20 rfl rfl)
theorem dX5_putsRename_21 : decode cX5_putsRename 21 = .ok (.getfield 7, 3) := dk_180 0 7 (dk_at dksX5_putsRename_0 21 rfl rfl)
theorem dX5_putsRename_24 : decode cX5_putsRename 24 = .ok (.sipush 234, 3) := dk_17 0 234 (dk_at dksX5_putsRename_1 0 rfl rfl)
theorem dX5_putsRename_27 : decode cX5_putsRename 27 = .ok (.iconst 2, 1) := dk_5 (dk_at dksX5_putsRename_1 3 rfl rfl)
theorem dX5_putsRename_28 : decode cX5_putsRename 28 = .ok (.aload_n 0, 1) := dk_42 (dk_at dksX5_putsRename_1 4 rfl rfl)
theorem dX5_putsRename_29 : decode cX5_putsRename 29 = .ok (.getfield 7, 3) := dk_180 0 7 (dk_at dksX5_putsRename_1 5 rfl rfl)
theorem dX5_putsRename_32 : decode cX5_putsRename 32 = .ok (.iconst 5, 1) := dk_8 (dk_at dksX5_putsRename_1 8 rfl rfl)
theorem dX5_putsRename_33 : decode cX5_putsRename 33 = .ok (.iaload, 1) := dk_46 (dk_at dksX5_putsRename_1 9 rfl rfl)
theorem dX5_putsRename_34 : decode cX5_putsRename 34 = .ok (.imul, 1) := dk_104 (dk_at dksX5_putsRename_1 10 rfl rfl)
theorem dX5_putsRename_35 : decode cX5_putsRename 35 = .ok (.iadd, 1) := dk_96 (dk_at dksX5_putsRename_1 11 rfl rfl)
theorem dX5_putsRename_36 : decode cX5_putsRename 36 = .ok (.iconst 1, 1) := dk_4 (dk_at dksX5_putsRename_1 12 rfl rfl)
theorem dX5_putsRename_37 : decode cX5_putsRename 37 = .ok (.iadd, 1) := dk_96 (dk_at dksX5_putsRename_1 13 rfl rfl)
theorem dX5_putsRename_38 : decode cX5_putsRename 38 = .ok (.iload_n 2, 1) := dk_28 (dk_at dksX5_putsRename_1 14 rfl rfl)
theorem dX5_putsRename_39 : decode cX5_putsRename 39 = .ok (.iastore, 1) := dk_79 (dk_at dksX5_putsRename_1 15 rfl rfl)
theorem dX5_putsRename_40 : decode cX5_putsRename 40 = .ok (.aload_n 0, 1) := dk_42 (dk_at dksX5_putsRename_1 16 rfl rfl)
theorem dX5_putsRename_41 : decode cX5_putsRename 41 = .ok (.getfield 22, 3) := dk_180 0 22 (dk_at dksX5_putsRename_1 17 rfl rfl)
theorem dX5_putsRename_44 : decode cX5_putsRename 44 = .ok (.bipush 32, 2) := dk_16 32 (dk_at dksX5_putsRename_1 20 rfl rfl)
theorem dX5_putsRename_46 : decode cX5_putsRename 46 = .ok (.aload_n 0, 1) := dk_42 (dk_at dksX5_putsRename_1 22 rfl rfl)
theorem dX5_putsRename_47 : decode cX5_putsRename 47 = .ok (.getfield 7, 3) := dk_180 0 7 (dk_at dksX5_putsRename_2 0 rfl rfl)
theorem dX5_putsRename_50 : decode cX5_putsRename 50 = .ok (.iconst 5, 1) := dk_8 (dk_at dksX5_putsRename_2 3 rfl rfl)
theorem dX5_putsRename_51 : decode cX5_putsRename 51 = .ok (.iaload, 1) := dk_46 (dk_at dksX5_putsRename_2 4 rfl rfl)
theorem dX5_putsRename_52 : decode cX5_putsRename 52 = .ok (.iadd, 1) := dk_96 (dk_at dksX5_putsRename_2 5 rfl rfl)
theorem dX5_putsRename_53 : decode cX5_putsRename 53 = .ok (.lload_n 3, 1) := dk_33 (dk_at dksX5_putsRename_2 6 rfl rfl)
theorem dX5_putsRename_54 : decode cX5_putsRename 54 = .ok (.lastore, 1) := dk_80 (dk_at dksX5_putsRename_2 7 rfl rfl)
theorem dX5_putsRename_55 : decode cX5_putsRename 55 = .ok (.aload_n 0, 1) := dk_42 (dk_at dksX5_putsRename_2 8 rfl rfl)
theorem dX5_putsRename_56 : decode cX5_putsRename 56 = .ok (.getfield 7, 3) := dk_180 0 7 (dk_at dksX5_putsRename_2 9 rfl rfl)
theorem dX5_putsRename_59 : decode cX5_putsRename 59 = .ok (.iconst 5, 1) := dk_8 (dk_at dksX5_putsRename_2 12 rfl rfl)
theorem dX5_putsRename_60 : decode cX5_putsRename 60 = .ok (.dup2, 1) := dk_92 (dk_at dksX5_putsRename_2 13 rfl rfl)
theorem dX5_putsRename_61 : decode cX5_putsRename 61 = .ok (.iaload, 1) := dk_46 (dk_at dksX5_putsRename_2 14 rfl rfl)
theorem dX5_putsRename_62 : decode cX5_putsRename 62 = .ok (.iconst 1, 1) := dk_4 (dk_at dksX5_putsRename_2 15 rfl rfl)
theorem dX5_putsRename_63 : decode cX5_putsRename 63 = .ok (.iadd, 1) := dk_96 (dk_at dksX5_putsRename_2 16 rfl rfl)
theorem dX5_putsRename_64 : decode cX5_putsRename 64 = .ok (.iastore, 1) := dk_79 (dk_at dksX5_putsRename_2 17 rfl rfl)
theorem dX5_putsRename_65 : decode cX5_putsRename 65 = .ok (.return_, 1) := dk_177 (dk_at dksX5_putsRename_2 18 rfl rfl)
abbrev cX5_errorCode : ByteArray := prog_20_method_82_code
def yX5_errorCode : MethodName := ⟨RX5, "errorCode", "()I"⟩
def dkwX5_errorCode_0 : List UInt8 := [42, 3, 181, 0, 100, 42, 180, 1, 146, 172]
abbrev dktX5_errorCode_0 : List UInt8 := dkwX5_errorCode_0 ++ []
theorem dksX5_errorCode_0 : cX5_errorCode.data.toList.drop 0 = dktX5_errorCode_0 := by decide +kernel
theorem dX5_errorCode_0 : decode cX5_errorCode 0 = .ok (.aload_n 0, 1) := dk_42 (dk_at dksX5_errorCode_0 0 rfl rfl)
theorem dX5_errorCode_1 : decode cX5_errorCode 1 = .ok (.iconst 0, 1) := dk_3 (dk_at dksX5_errorCode_0 1 rfl rfl)
theorem dX5_errorCode_2 : decode cX5_errorCode 2 = .ok (.putfield 100, 3) := dk_181 0 100 (dk_at dksX5_errorCode_0 2 rfl rfl)
theorem dX5_errorCode_5 : decode cX5_errorCode 5 = .ok (.aload_n 0, 1) := dk_42 (dk_at dksX5_errorCode_0 5 rfl rfl)
theorem dX5_errorCode_6 : decode cX5_errorCode 6 = .ok (.getfield 402, 3) := dk_180 1 146 (dk_at dksX5_errorCode_0 6 rfl rfl)
theorem dX5_errorCode_9 : decode cX5_errorCode 9 = .ok (.ireturn, 1) := dk_172 (dk_at dksX5_errorCode_0 9 rfl rfl)
abbrev cX5_errorOffset : ByteArray := prog_20_method_83_code
def yX5_errorOffset : MethodName := ⟨RX5, "errorOffset", "()I"⟩
def dkwX5_errorOffset_0 : List UInt8 := [42, 3, 181, 0, 100, 42, 180, 0, 77, 172]
abbrev dktX5_errorOffset_0 : List UInt8 := dkwX5_errorOffset_0 ++ []
theorem dksX5_errorOffset_0 : cX5_errorOffset.data.toList.drop 0 = dktX5_errorOffset_0 := by decide +kernel
theorem dX5_errorOffset_0 : decode cX5_errorOffset 0 = .ok (.aload_n 0, 1) := dk_42 (dk_at dksX5_errorOffset_0 0 rfl rfl)
theorem dX5_errorOffset_1 : decode cX5_errorOffset 1 = .ok (.iconst 0, 1) := dk_3 (dk_at dksX5_errorOffset_0 1 rfl rfl)
theorem dX5_errorOffset_2 : decode cX5_errorOffset 2 = .ok (.putfield 100, 3) := dk_181 0 100 (dk_at dksX5_errorOffset_0 2 rfl rfl)
theorem dX5_errorOffset_5 : decode cX5_errorOffset 5 = .ok (.aload_n 0, 1) := dk_42 (dk_at dksX5_errorOffset_0 5 rfl rfl)
theorem dX5_errorOffset_6 : decode cX5_errorOffset 6 = .ok (.getfield 77, 3) := dk_180 0 77 (dk_at dksX5_errorOffset_0 6 rfl rfl)
theorem dX5_errorOffset_9 : decode cX5_errorOffset 9 = .ok (.ireturn, 1) := dk_172 (dk_at dksX5_errorOffset_0 9 rfl rfl)
abbrev cX5_count : ByteArray := prog_20_method_86_code
def yX5_count : MethodName := ⟨RX5, "count", "(I)I"⟩
def dkwX5_count_6 : List UInt8 := [180, 0, 107, 172, 42, 4, 181, 0, 100, 3, 172]
abbrev dktX5_count_6 : List UInt8 := dkwX5_count_6 ++ []
def dkwX5_count_5 : List UInt8 := [16, 9, 46, 172, 42, 42, 180, 0, 7, 16, 6, 46, 182, 1, 162, 172, 42, 27, 182, 1, 165, 172, 42]
abbrev dktX5_count_5 : List UInt8 := dkwX5_count_5 ++ dktX5_count_6
def dkwX5_count_4 : List UInt8 := [16, 6, 46, 172, 42, 180, 0, 7, 16, 7, 46, 172, 42, 180, 0, 7, 16, 8, 46, 172, 42, 180, 0, 7]
abbrev dktX5_count_4 : List UInt8 := dkwX5_count_4 ++ dktX5_count_5
def dkwX5_count_3 : List UInt8 := [180, 0, 7, 6, 46, 172, 42, 180, 0, 7, 7, 46, 172, 42, 180, 0, 7, 8, 46, 172, 42, 180, 0, 7]
abbrev dktX5_count_3 : List UInt8 := dkwX5_count_3 ++ dktX5_count_4
def dkwX5_count_2 : List UInt8 := [42, 180, 0, 7, 3, 46, 172, 42, 180, 0, 7, 4, 46, 172, 42, 180, 0, 7, 5, 46, 172, 42]
abbrev dktX5_count_2 : List UInt8 := dkwX5_count_2 ++ dktX5_count_3
def dkwX5_count_1 : List UInt8 := [170, 0, 0, 0, 0, 179, 0, 0, 0, 0, 0, 0, 0, 16, 0, 0, 0, 82, 0, 0, 0, 89, 0, 0, 0, 96, 0, 0, 0, 103, 0, 0, 0, 110, 0, 0, 0, 117, 0, 0, 0, 124, 0, 0, 0, 132, 0, 0, 0, 140, 0, 0, 0, 148, 0, 0, 0, 156, 0, 0, 0, 168, 0, 0, 0, 168, 0, 0, 0, 168, 0, 0, 0, 168, 0, 0, 0, 168, 0, 0, 0, 174]
abbrev dktX5_count_1 : List UInt8 := dkwX5_count_1 ++ dktX5_count_2
def dkwX5_count_0 : List UInt8 := [42, 3, 181, 0, 100, 27]
abbrev dktX5_count_0 : List UInt8 := dkwX5_count_0 ++ dktX5_count_1
theorem dksX5_count_0 : cX5_count.data.toList.drop 0 = dktX5_count_0 := by decide +kernel
theorem dksX5_count_1 : cX5_count.data.toList.drop 6 = dktX5_count_1 := dk_seg dksX5_count_0 6 rfl rfl
theorem dksX5_count_2 : cX5_count.data.toList.drop 88 = dktX5_count_2 := dk_seg dksX5_count_1 82 rfl rfl
theorem dksX5_count_3 : cX5_count.data.toList.drop 110 = dktX5_count_3 := dk_seg dksX5_count_2 22 rfl rfl
theorem dksX5_count_4 : cX5_count.data.toList.drop 134 = dktX5_count_4 := dk_seg dksX5_count_3 24 rfl rfl
theorem dksX5_count_5 : cX5_count.data.toList.drop 158 = dktX5_count_5 := dk_seg dksX5_count_4 24 rfl rfl
theorem dksX5_count_6 : cX5_count.data.toList.drop 181 = dktX5_count_6 := dk_seg dksX5_count_5 23 rfl rfl
theorem dX5_count_0 : decode cX5_count 0 = .ok (.aload_n 0, 1) := dk_42 (dk_at dksX5_count_0 0 rfl rfl)
theorem dX5_count_1 : decode cX5_count 1 = .ok (.iconst 0, 1) := dk_3 (dk_at dksX5_count_0 1 rfl rfl)
theorem dX5_count_2 : decode cX5_count 2 = .ok (.putfield 100, 3) := dk_181 0 100 (dk_at dksX5_count_0 2 rfl rfl)
theorem dX5_count_5 : decode cX5_count 5 = .ok (.iload_n 1, 1) := dk_27 (dk_at dksX5_count_0 5 rfl rfl)
theorem dX5_count_6 : decode cX5_count 6 = .ok (.tableswitch 179 0 16 #[82, 89, 96, 103, 110, 117, 124, 132, 140, 148, 156, 168, 168, 168, 168, 168, 174], 82) := by decide +kernel
theorem dX5_count_88 : decode cX5_count 88 = .ok (.aload_n 0, 1) := dk_42 (dk_at dksX5_count_2 0 rfl rfl)
theorem dX5_count_89 : decode cX5_count 89 = .ok (.getfield 7, 3) := dk_180 0 7 (dk_at dksX5_count_2 1 rfl rfl)
theorem dX5_count_92 : decode cX5_count 92 = .ok (.iconst 0, 1) := dk_3 (dk_at dksX5_count_2 4 rfl rfl)
theorem dX5_count_93 : decode cX5_count 93 = .ok (.iaload, 1) := dk_46 (dk_at dksX5_count_2 5 rfl rfl)
theorem dX5_count_94 : decode cX5_count 94 = .ok (.ireturn, 1) := dk_172 (dk_at dksX5_count_2 6 rfl rfl)
theorem dX5_count_95 : decode cX5_count 95 = .ok (.aload_n 0, 1) := dk_42 (dk_at dksX5_count_2 7 rfl rfl)
theorem dX5_count_96 : decode cX5_count 96 = .ok (.getfield 7, 3) := dk_180 0 7 (dk_at dksX5_count_2 8 rfl rfl)
theorem dX5_count_99 : decode cX5_count 99 = .ok (.iconst 1, 1) := dk_4 (dk_at dksX5_count_2 11 rfl rfl)
theorem dX5_count_100 : decode cX5_count 100 = .ok (.iaload, 1) := dk_46 (dk_at dksX5_count_2 12 rfl rfl)
theorem dX5_count_101 : decode cX5_count 101 = .ok (.ireturn, 1) := dk_172 (dk_at dksX5_count_2 13 rfl rfl)
theorem dX5_count_102 : decode cX5_count 102 = .ok (.aload_n 0, 1) := dk_42 (dk_at dksX5_count_2 14 rfl rfl)
theorem dX5_count_103 : decode cX5_count 103 = .ok (.getfield 7, 3) := dk_180 0 7 (dk_at dksX5_count_2 15 rfl rfl)
theorem dX5_count_106 : decode cX5_count 106 = .ok (.iconst 2, 1) := dk_5 (dk_at dksX5_count_2 18 rfl rfl)
theorem dX5_count_107 : decode cX5_count 107 = .ok (.iaload, 1) := dk_46 (dk_at dksX5_count_2 19 rfl rfl)
theorem dX5_count_108 : decode cX5_count 108 = .ok (.ireturn, 1) := dk_172 (dk_at dksX5_count_2 20 rfl rfl)
theorem dX5_count_109 : decode cX5_count 109 = .ok (.aload_n 0, 1) := dk_42 (dk_at dksX5_count_2 21 rfl rfl)
theorem dX5_count_110 : decode cX5_count 110 = .ok (.getfield 7, 3) := dk_180 0 7 (dk_at dksX5_count_3 0 rfl rfl)
theorem dX5_count_113 : decode cX5_count 113 = .ok (.iconst 3, 1) := dk_6 (dk_at dksX5_count_3 3 rfl rfl)
theorem dX5_count_114 : decode cX5_count 114 = .ok (.iaload, 1) := dk_46 (dk_at dksX5_count_3 4 rfl rfl)
theorem dX5_count_115 : decode cX5_count 115 = .ok (.ireturn, 1) := dk_172 (dk_at dksX5_count_3 5 rfl rfl)
theorem dX5_count_116 : decode cX5_count 116 = .ok (.aload_n 0, 1) := dk_42 (dk_at dksX5_count_3 6 rfl rfl)
theorem dX5_count_117 : decode cX5_count 117 = .ok (.getfield 7, 3) := dk_180 0 7 (dk_at dksX5_count_3 7 rfl rfl)
theorem dX5_count_120 : decode cX5_count 120 = .ok (.iconst 4, 1) := dk_7 (dk_at dksX5_count_3 10 rfl rfl)
theorem dX5_count_121 : decode cX5_count 121 = .ok (.iaload, 1) := dk_46 (dk_at dksX5_count_3 11 rfl rfl)
theorem dX5_count_122 : decode cX5_count 122 = .ok (.ireturn, 1) := dk_172 (dk_at dksX5_count_3 12 rfl rfl)
theorem dX5_count_123 : decode cX5_count 123 = .ok (.aload_n 0, 1) := dk_42 (dk_at dksX5_count_3 13 rfl rfl)
theorem dX5_count_124 : decode cX5_count 124 = .ok (.getfield 7, 3) := dk_180 0 7 (dk_at dksX5_count_3 14 rfl rfl)
theorem dX5_count_127 : decode cX5_count 127 = .ok (.iconst 5, 1) := dk_8 (dk_at dksX5_count_3 17 rfl rfl)
theorem dX5_count_128 : decode cX5_count 128 = .ok (.iaload, 1) := dk_46 (dk_at dksX5_count_3 18 rfl rfl)
theorem dX5_count_129 : decode cX5_count 129 = .ok (.ireturn, 1) := dk_172 (dk_at dksX5_count_3 19 rfl rfl)
theorem dX5_count_130 : decode cX5_count 130 = .ok (.aload_n 0, 1) := dk_42 (dk_at dksX5_count_3 20 rfl rfl)
theorem dX5_count_131 : decode cX5_count 131 = .ok (.getfield 7, 3) := dk_180 0 7 (dk_at dksX5_count_3 21 rfl rfl)
theorem dX5_count_134 : decode cX5_count 134 = .ok (.bipush 6, 2) := dk_16 6 (dk_at dksX5_count_4 0 rfl rfl)
theorem dX5_count_136 : decode cX5_count 136 = .ok (.iaload, 1) := dk_46 (dk_at dksX5_count_4 2 rfl rfl)
theorem dX5_count_137 : decode cX5_count 137 = .ok (.ireturn, 1) := dk_172 (dk_at dksX5_count_4 3 rfl rfl)
theorem dX5_count_138 : decode cX5_count 138 = .ok (.aload_n 0, 1) := dk_42 (dk_at dksX5_count_4 4 rfl rfl)
theorem dX5_count_139 : decode cX5_count 139 = .ok (.getfield 7, 3) := dk_180 0 7 (dk_at dksX5_count_4 5 rfl rfl)
theorem dX5_count_142 : decode cX5_count 142 = .ok (.bipush 7, 2) := dk_16 7 (dk_at dksX5_count_4 8 rfl rfl)
theorem dX5_count_144 : decode cX5_count 144 = .ok (.iaload, 1) := dk_46 (dk_at dksX5_count_4 10 rfl rfl)
theorem dX5_count_145 : decode cX5_count 145 = .ok (.ireturn, 1) := dk_172 (dk_at dksX5_count_4 11 rfl rfl)
theorem dX5_count_146 : decode cX5_count 146 = .ok (.aload_n 0, 1) := dk_42 (dk_at dksX5_count_4 12 rfl rfl)
theorem dX5_count_147 : decode cX5_count 147 = .ok (.getfield 7, 3) := dk_180 0 7 (dk_at dksX5_count_4 13 rfl rfl)
theorem dX5_count_150 : decode cX5_count 150 = .ok (.bipush 8, 2) := dk_16 8 (dk_at dksX5_count_4 16 rfl rfl)
theorem dX5_count_152 : decode cX5_count 152 = .ok (.iaload, 1) := dk_46 (dk_at dksX5_count_4 18 rfl rfl)
theorem dX5_count_153 : decode cX5_count 153 = .ok (.ireturn, 1) := dk_172 (dk_at dksX5_count_4 19 rfl rfl)
theorem dX5_count_154 : decode cX5_count 154 = .ok (.aload_n 0, 1) := dk_42 (dk_at dksX5_count_4 20 rfl rfl)
theorem dX5_count_155 : decode cX5_count 155 = .ok (.getfield 7, 3) := dk_180 0 7 (dk_at dksX5_count_4 21 rfl rfl)
theorem dX5_count_158 : decode cX5_count 158 = .ok (.bipush 9, 2) := dk_16 9 (dk_at dksX5_count_5 0 rfl rfl)
theorem dX5_count_160 : decode cX5_count 160 = .ok (.iaload, 1) := dk_46 (dk_at dksX5_count_5 2 rfl rfl)
theorem dX5_count_161 : decode cX5_count 161 = .ok (.ireturn, 1) := dk_172 (dk_at dksX5_count_5 3 rfl rfl)
theorem dX5_count_162 : decode cX5_count 162 = .ok (.aload_n 0, 1) := dk_42 (dk_at dksX5_count_5 4 rfl rfl)
theorem dX5_count_163 : decode cX5_count 163 = .ok (.aload_n 0, 1) := dk_42 (dk_at dksX5_count_5 5 rfl rfl)
theorem dX5_count_164 : decode cX5_count 164 = .ok (.getfield 7, 3) := dk_180 0 7 (dk_at dksX5_count_5 6 rfl rfl)
theorem dX5_count_167 : decode cX5_count 167 = .ok (.bipush 6, 2) := dk_16 6 (dk_at dksX5_count_5 9 rfl rfl)
theorem dX5_count_169 : decode cX5_count 169 = .ok (.iaload, 1) := dk_46 (dk_at dksX5_count_5 11 rfl rfl)
theorem dX5_count_170 : decode cX5_count 170 = .ok (.invokevirtual 418, 3) := dk_182 1 162 (dk_at dksX5_count_5 12 rfl rfl)
theorem dX5_count_173 : decode cX5_count 173 = .ok (.ireturn, 1) := dk_172 (dk_at dksX5_count_5 15 rfl rfl)
theorem dX5_count_174 : decode cX5_count 174 = .ok (.aload_n 0, 1) := dk_42 (dk_at dksX5_count_5 16 rfl rfl)
theorem dX5_count_175 : decode cX5_count 175 = .ok (.iload_n 1, 1) := dk_27 (dk_at dksX5_count_5 17 rfl rfl)
theorem dX5_count_176 : decode cX5_count 176 = .ok (.invokevirtual 421, 3) := dk_182 1 165 (dk_at dksX5_count_5 18 rfl rfl)
theorem dX5_count_179 : decode cX5_count 179 = .ok (.ireturn, 1) := dk_172 (dk_at dksX5_count_5 21 rfl rfl)
theorem dX5_count_180 : decode cX5_count 180 = .ok (.aload_n 0, 1) := dk_42 (dk_at dksX5_count_5 22 rfl rfl)
theorem dX5_count_181 : decode cX5_count 181 = .ok (.getfield 107, 3) := dk_180 0 107 (dk_at dksX5_count_6 0 rfl rfl)
theorem dX5_count_184 : decode cX5_count 184 = .ok (.ireturn, 1) := dk_172 (dk_at dksX5_count_6 3 rfl rfl)
theorem dX5_count_185 : decode cX5_count 185 = .ok (.aload_n 0, 1) := dk_42 (dk_at dksX5_count_6 4 rfl rfl)
theorem dX5_count_186 : decode cX5_count 186 = .ok (.iconst 1, 1) := dk_4 (dk_at dksX5_count_6 5 rfl rfl)
theorem dX5_count_187 : decode cX5_count 187 = .ok (.putfield 100, 3) := dk_181 0 100 (dk_at dksX5_count_6 6 rfl rfl)
theorem dX5_count_190 : decode cX5_count 190 = .ok (.iconst 0, 1) := dk_3 (dk_at dksX5_count_6 9 rfl rfl)
theorem dX5_count_191 : decode cX5_count 191 = .ok (.ireturn, 1) := dk_172 (dk_at dksX5_count_6 10 rfl rfl)
abbrev cX5_livingIn : ByteArray := prog_20_method_84_code
def yX5_livingIn : MethodName := ⟨RX5, "livingIn", "(I)I"⟩
def dkwX5_livingIn_1 : List UInt8 := [4, 167, 0, 4, 3, 96, 61, 132, 3, 1, 167, 255, 226, 28, 172]
abbrev dktX5_livingIn_1 : List UInt8 := dkwX5_livingIn_1 ++ []
def dkwX5_livingIn_0 : List UInt8 := [3, 61, 3, 62, 29, 42, 180, 0, 7, 6, 46, 162, 0, 26, 28, 42, 29, 27, 182, 0, 177, 153, 0, 7]
abbrev dktX5_livingIn_0 : List UInt8 := dkwX5_livingIn_0 ++ dktX5_livingIn_1
theorem dksX5_livingIn_0 : cX5_livingIn.data.toList.drop 0 = dktX5_livingIn_0 := by decide +kernel
theorem dksX5_livingIn_1 : cX5_livingIn.data.toList.drop 24 = dktX5_livingIn_1 := dk_seg dksX5_livingIn_0 24 rfl rfl
theorem dX5_livingIn_0 : decode cX5_livingIn 0 = .ok (.iconst 0, 1) := dk_3 (dk_at dksX5_livingIn_0 0 rfl rfl)
theorem dX5_livingIn_1 : decode cX5_livingIn 1 = .ok (.istore_n 2, 1) := dk_61 (dk_at dksX5_livingIn_0 1 rfl rfl)
theorem dX5_livingIn_2 : decode cX5_livingIn 2 = .ok (.iconst 0, 1) := dk_3 (dk_at dksX5_livingIn_0 2 rfl rfl)
theorem dX5_livingIn_3 : decode cX5_livingIn 3 = .ok (.istore_n 3, 1) := dk_62 (dk_at dksX5_livingIn_0 3 rfl rfl)
theorem dX5_livingIn_4 : decode cX5_livingIn 4 = .ok (.iload_n 3, 1) := dk_29 (dk_at dksX5_livingIn_0 4 rfl rfl)
theorem dX5_livingIn_5 : decode cX5_livingIn 5 = .ok (.aload_n 0, 1) := dk_42 (dk_at dksX5_livingIn_0 5 rfl rfl)
theorem dX5_livingIn_6 : decode cX5_livingIn 6 = .ok (.getfield 7, 3) := dk_180 0 7 (dk_at dksX5_livingIn_0 6 rfl rfl)
theorem dX5_livingIn_9 : decode cX5_livingIn 9 = .ok (.iconst 3, 1) := dk_6 (dk_at dksX5_livingIn_0 9 rfl rfl)
theorem dX5_livingIn_10 : decode cX5_livingIn 10 = .ok (.iaload, 1) := dk_46 (dk_at dksX5_livingIn_0 10 rfl rfl)
theorem dX5_livingIn_11 : decode cX5_livingIn 11 = .ok (.if_icmp .ge 26, 3) := dk_162 0 26 (dk_at dksX5_livingIn_0 11 rfl rfl)
theorem dX5_livingIn_14 : decode cX5_livingIn 14 = .ok (.iload_n 2, 1) := dk_28 (dk_at dksX5_livingIn_0 14 rfl rfl)
theorem dX5_livingIn_15 : decode cX5_livingIn 15 = .ok (.aload_n 0, 1) := dk_42 (dk_at dksX5_livingIn_0 15 rfl rfl)
theorem dX5_livingIn_16 : decode cX5_livingIn 16 = .ok (.iload_n 3, 1) := dk_29 (dk_at dksX5_livingIn_0 16 rfl rfl)
theorem dX5_livingIn_17 : decode cX5_livingIn 17 = .ok (.iload_n 1, 1) := dk_27 (dk_at dksX5_livingIn_0 17 rfl rfl)
theorem dX5_livingIn_18 : decode cX5_livingIn 18 = .ok (.invokevirtual 177, 3) := dk_182 0 177 (dk_at dksX5_livingIn_0 18 rfl rfl)
theorem dX5_livingIn_21 : decode cX5_livingIn 21 = .ok (.ifCond .eq 7, 3) := dk_153 0 7 (dk_at dksX5_livingIn_0 21 rfl rfl)
theorem dX5_livingIn_24 : decode cX5_livingIn 24 = .ok (.iconst 1, 1) := dk_4 (dk_at dksX5_livingIn_1 0 rfl rfl)
theorem dX5_livingIn_25 : decode cX5_livingIn 25 = .ok (.goto 4, 3) := dk_167 0 4 (dk_at dksX5_livingIn_1 1 rfl rfl)
theorem dX5_livingIn_28 : decode cX5_livingIn 28 = .ok (.iconst 0, 1) := dk_3 (dk_at dksX5_livingIn_1 4 rfl rfl)
theorem dX5_livingIn_29 : decode cX5_livingIn 29 = .ok (.iadd, 1) := dk_96 (dk_at dksX5_livingIn_1 5 rfl rfl)
theorem dX5_livingIn_30 : decode cX5_livingIn 30 = .ok (.istore_n 2, 1) := dk_61 (dk_at dksX5_livingIn_1 6 rfl rfl)
theorem dX5_livingIn_31 : decode cX5_livingIn 31 = .ok (.iinc 3 1, 3) := dk_132 3 1 (dk_at dksX5_livingIn_1 7 rfl rfl)
theorem dX5_livingIn_34 : decode cX5_livingIn 34 = .ok (.goto (-30), 3) := dk_167 255 226 (dk_at dksX5_livingIn_1 10 rfl rfl)
theorem dX5_livingIn_37 : decode cX5_livingIn 37 = .ok (.iload_n 2, 1) := dk_28 (dk_at dksX5_livingIn_1 13 rfl rfl)
theorem dX5_livingIn_38 : decode cX5_livingIn 38 = .ok (.ireturn, 1) := dk_172 (dk_at dksX5_livingIn_1 14 rfl rfl)
abbrev cX5_lives : ByteArray := prog_20_method_22_code
def yX5_lives : MethodName := ⟨RX5, "lives", "(II)Z"⟩
def dkwX5_lives_0 : List UInt8 := [28, 42, 27, 5, 182, 0, 140, 42, 27, 6, 182, 0, 140, 4, 100, 184, 0, 103, 172]
abbrev dktX5_lives_0 : List UInt8 := dkwX5_lives_0 ++ []
theorem dksX5_lives_0 : cX5_lives.data.toList.drop 0 = dktX5_lives_0 := by decide +kernel
theorem dX5_lives_0 : decode cX5_lives 0 = .ok (.iload_n 2, 1) := dk_28 (dk_at dksX5_lives_0 0 rfl rfl)
theorem dX5_lives_1 : decode cX5_lives 1 = .ok (.aload_n 0, 1) := dk_42 (dk_at dksX5_lives_0 1 rfl rfl)
theorem dX5_lives_2 : decode cX5_lives 2 = .ok (.iload_n 1, 1) := dk_27 (dk_at dksX5_lives_0 2 rfl rfl)
theorem dX5_lives_3 : decode cX5_lives 3 = .ok (.iconst 2, 1) := dk_5 (dk_at dksX5_lives_0 3 rfl rfl)
theorem dX5_lives_4 : decode cX5_lives 4 = .ok (.invokevirtual 140, 3) := dk_182 0 140 (dk_at dksX5_lives_0 4 rfl rfl)
theorem dX5_lives_7 : decode cX5_lives 7 = .ok (.aload_n 0, 1) := dk_42 (dk_at dksX5_lives_0 7 rfl rfl)
theorem dX5_lives_8 : decode cX5_lives 8 = .ok (.iload_n 1, 1) := dk_27 (dk_at dksX5_lives_0 8 rfl rfl)
theorem dX5_lives_9 : decode cX5_lives 9 = .ok (.iconst 3, 1) := dk_6 (dk_at dksX5_lives_0 9 rfl rfl)
theorem dX5_lives_10 : decode cX5_lives 10 = .ok (.invokevirtual 140, 3) := dk_182 0 140 (dk_at dksX5_lives_0 10 rfl rfl)
theorem dX5_lives_13 : decode cX5_lives 13 = .ok (.iconst 1, 1) := dk_4 (dk_at dksX5_lives_0 13 rfl rfl)
theorem dX5_lives_14 : decode cX5_lives 14 = .ok (.isub, 1) := dk_100 (dk_at dksX5_lives_0 14 rfl rfl)
theorem dX5_lives_15 : decode cX5_lives 15 = .ok (.invokestatic 103, 3) := dk_184 0 103 (dk_at dksX5_lives_0 15 rfl rfl)
theorem dX5_lives_18 : decode cX5_lives 18 = .ok (.ireturn, 1) := dk_172 (dk_at dksX5_lives_0 18 rfl rfl)
abbrev cX5_ofVillage : ByteArray := prog_20_method_10_code
def yX5_ofVillage : MethodName := ⟨RX5, "ofVillage", "(II)I"⟩
def dkwX5_ofVillage_0 : List UInt8 := [42, 180, 0, 7, 16, 10, 7, 27, 104, 96, 28, 96, 46, 172]
abbrev dktX5_ofVillage_0 : List UInt8 := dkwX5_ofVillage_0 ++ []
theorem dksX5_ofVillage_0 : cX5_ofVillage.data.toList.drop 0 = dktX5_ofVillage_0 := by decide +kernel
theorem dX5_ofVillage_0 : decode cX5_ofVillage 0 = .ok (.aload_n 0, 1) := dk_42 (dk_at dksX5_ofVillage_0 0 rfl rfl)
theorem dX5_ofVillage_1 : decode cX5_ofVillage 1 = .ok (.getfield 7, 3) := dk_180 0 7 (dk_at dksX5_ofVillage_0 1 rfl rfl)
theorem dX5_ofVillage_4 : decode cX5_ofVillage 4 = .ok (.bipush 10, 2) := dk_16 10 (dk_at dksX5_ofVillage_0 4 rfl rfl)
theorem dX5_ofVillage_6 : decode cX5_ofVillage 6 = .ok (.iconst 4, 1) := dk_7 (dk_at dksX5_ofVillage_0 6 rfl rfl)
theorem dX5_ofVillage_7 : decode cX5_ofVillage 7 = .ok (.iload_n 1, 1) := dk_27 (dk_at dksX5_ofVillage_0 7 rfl rfl)
theorem dX5_ofVillage_8 : decode cX5_ofVillage 8 = .ok (.imul, 1) := dk_104 (dk_at dksX5_ofVillage_0 8 rfl rfl)
theorem dX5_ofVillage_9 : decode cX5_ofVillage 9 = .ok (.iadd, 1) := dk_96 (dk_at dksX5_ofVillage_0 9 rfl rfl)
theorem dX5_ofVillage_10 : decode cX5_ofVillage 10 = .ok (.iload_n 2, 1) := dk_28 (dk_at dksX5_ofVillage_0 10 rfl rfl)
theorem dX5_ofVillage_11 : decode cX5_ofVillage 11 = .ok (.iadd, 1) := dk_96 (dk_at dksX5_ofVillage_0 11 rfl rfl)
theorem dX5_ofVillage_12 : decode cX5_ofVillage 12 = .ok (.iaload, 1) := dk_46 (dk_at dksX5_ofVillage_0 12 rfl rfl)
theorem dX5_ofVillage_13 : decode cX5_ofVillage 13 = .ok (.ireturn, 1) := dk_172 (dk_at dksX5_ofVillage_0 13 rfl rfl)
abbrev cX5_countOfLines : ByteArray := prog_20_method_85_code
def yX5_countOfLines : MethodName := ⟨RX5, "countOfLines", "(I)I"⟩
def dkwX5_countOfLines_3 : List UInt8 := [182, 1, 159, 172]
abbrev dktX5_countOfLines_3 : List UInt8 := dkwX5_countOfLines_3 ++ []
def dkwX5_countOfLines_2 : List UInt8 := [42, 180, 0, 170, 172, 42, 182, 1, 156, 172, 42, 180, 0, 194, 172, 42, 4, 182, 1, 159, 172, 42, 5]
abbrev dktX5_countOfLines_2 : List UInt8 := dkwX5_countOfLines_2 ++ dktX5_countOfLines_3
def dkwX5_countOfLines_1 : List UInt8 := [170, 0, 0, 0, 0, 0, 52, 0, 0, 0, 11, 0, 0, 0, 14, 0, 0, 0, 31, 0, 0, 0, 36, 0, 0, 0, 41, 0, 0, 0, 46]
abbrev dktX5_countOfLines_1 : List UInt8 := dkwX5_countOfLines_1 ++ dktX5_countOfLines_2
def dkwX5_countOfLines_0 : List UInt8 := [42, 182, 1, 153, 27]
abbrev dktX5_countOfLines_0 : List UInt8 := dkwX5_countOfLines_0 ++ dktX5_countOfLines_1
theorem dksX5_countOfLines_0 : cX5_countOfLines.data.toList.drop 0 = dktX5_countOfLines_0 := by decide +kernel
theorem dksX5_countOfLines_1 : cX5_countOfLines.data.toList.drop 5 = dktX5_countOfLines_1 := dk_seg dksX5_countOfLines_0 5 rfl rfl
theorem dksX5_countOfLines_2 : cX5_countOfLines.data.toList.drop 36 = dktX5_countOfLines_2 := dk_seg dksX5_countOfLines_1 31 rfl rfl
theorem dksX5_countOfLines_3 : cX5_countOfLines.data.toList.drop 59 = dktX5_countOfLines_3 := dk_seg dksX5_countOfLines_2 23 rfl rfl
theorem dX5_countOfLines_0 : decode cX5_countOfLines 0 = .ok (.aload_n 0, 1) := dk_42 (dk_at dksX5_countOfLines_0 0 rfl rfl)
theorem dX5_countOfLines_1 : decode cX5_countOfLines 1 = .ok (.invokevirtual 409, 3) := dk_182 1 153 (dk_at dksX5_countOfLines_0 1 rfl rfl)
theorem dX5_countOfLines_4 : decode cX5_countOfLines 4 = .ok (.iload_n 1, 1) := dk_27 (dk_at dksX5_countOfLines_0 4 rfl rfl)
theorem dX5_countOfLines_5 : decode cX5_countOfLines 5 = .ok (.tableswitch 52 11 14 #[31, 36, 41, 46], 31) := by decide +kernel
theorem dX5_countOfLines_36 : decode cX5_countOfLines 36 = .ok (.aload_n 0, 1) := dk_42 (dk_at dksX5_countOfLines_2 0 rfl rfl)
theorem dX5_countOfLines_37 : decode cX5_countOfLines 37 = .ok (.getfield 170, 3) := dk_180 0 170 (dk_at dksX5_countOfLines_2 1 rfl rfl)
theorem dX5_countOfLines_40 : decode cX5_countOfLines 40 = .ok (.ireturn, 1) := dk_172 (dk_at dksX5_countOfLines_2 4 rfl rfl)
theorem dX5_countOfLines_41 : decode cX5_countOfLines 41 = .ok (.aload_n 0, 1) := dk_42 (dk_at dksX5_countOfLines_2 5 rfl rfl)
theorem dX5_countOfLines_42 : decode cX5_countOfLines 42 = .ok (.invokevirtual 412, 3) := dk_182 1 156 (dk_at dksX5_countOfLines_2 6 rfl rfl)
theorem dX5_countOfLines_45 : decode cX5_countOfLines 45 = .ok (.ireturn, 1) := dk_172 (dk_at dksX5_countOfLines_2 9 rfl rfl)
theorem dX5_countOfLines_46 : decode cX5_countOfLines 46 = .ok (.aload_n 0, 1) := dk_42 (dk_at dksX5_countOfLines_2 10 rfl rfl)
theorem dX5_countOfLines_47 : decode cX5_countOfLines 47 = .ok (.getfield 194, 3) := dk_180 0 194 (dk_at dksX5_countOfLines_2 11 rfl rfl)
theorem dX5_countOfLines_50 : decode cX5_countOfLines 50 = .ok (.ireturn, 1) := dk_172 (dk_at dksX5_countOfLines_2 14 rfl rfl)
theorem dX5_countOfLines_51 : decode cX5_countOfLines 51 = .ok (.aload_n 0, 1) := dk_42 (dk_at dksX5_countOfLines_2 15 rfl rfl)
theorem dX5_countOfLines_52 : decode cX5_countOfLines 52 = .ok (.iconst 1, 1) := dk_4 (dk_at dksX5_countOfLines_2 16 rfl rfl)
theorem dX5_countOfLines_53 : decode cX5_countOfLines 53 = .ok (.invokevirtual 415, 3) := dk_182 1 159 (dk_at dksX5_countOfLines_2 17 rfl rfl)
theorem dX5_countOfLines_56 : decode cX5_countOfLines 56 = .ok (.ireturn, 1) := dk_172 (dk_at dksX5_countOfLines_2 20 rfl rfl)
theorem dX5_countOfLines_57 : decode cX5_countOfLines 57 = .ok (.aload_n 0, 1) := dk_42 (dk_at dksX5_countOfLines_2 21 rfl rfl)
theorem dX5_countOfLines_58 : decode cX5_countOfLines 58 = .ok (.iconst 2, 1) := dk_5 (dk_at dksX5_countOfLines_2 22 rfl rfl)
theorem dX5_countOfLines_59 : decode cX5_countOfLines 59 = .ok (.invokevirtual 415, 3) := dk_182 1 159 (dk_at dksX5_countOfLines_3 0 rfl rfl)
theorem dX5_countOfLines_62 : decode cX5_countOfLines 62 = .ok (.ireturn, 1) := dk_172 (dk_at dksX5_countOfLines_3 3 rfl rfl)
abbrev cX5_laysAll : ByteArray := prog_20_method_44_code
def yX5_laysAll : MethodName := ⟨RX5, "laysAll", "()V"⟩
def dkwX5_laysAll_1 : List UInt8 := [180, 0, 7, 16, 8, 46, 182, 0, 214, 177]
abbrev dktX5_laysAll_1 : List UInt8 := dkwX5_laysAll_1 ++ []
def dkwX5_laysAll_0 : List UInt8 := [42, 182, 0, 208, 42, 42, 180, 0, 7, 16, 6, 46, 42, 180, 0, 7, 16, 7, 46, 182, 0, 211, 42, 42]
abbrev dktX5_laysAll_0 : List UInt8 := dkwX5_laysAll_0 ++ dktX5_laysAll_1
theorem dksX5_laysAll_0 : cX5_laysAll.data.toList.drop 0 = dktX5_laysAll_0 := by decide +kernel
theorem dksX5_laysAll_1 : cX5_laysAll.data.toList.drop 24 = dktX5_laysAll_1 := dk_seg dksX5_laysAll_0 24 rfl rfl
theorem dX5_laysAll_0 : decode cX5_laysAll 0 = .ok (.aload_n 0, 1) := dk_42 (dk_at dksX5_laysAll_0 0 rfl rfl)
theorem dX5_laysAll_1 : decode cX5_laysAll 1 = .ok (.invokevirtual 208, 3) := dk_182 0 208 (dk_at dksX5_laysAll_0 1 rfl rfl)
theorem dX5_laysAll_4 : decode cX5_laysAll 4 = .ok (.aload_n 0, 1) := dk_42 (dk_at dksX5_laysAll_0 4 rfl rfl)
theorem dX5_laysAll_5 : decode cX5_laysAll 5 = .ok (.aload_n 0, 1) := dk_42 (dk_at dksX5_laysAll_0 5 rfl rfl)
theorem dX5_laysAll_6 : decode cX5_laysAll 6 = .ok (.getfield 7, 3) := dk_180 0 7 (dk_at dksX5_laysAll_0 6 rfl rfl)
theorem dX5_laysAll_9 : decode cX5_laysAll 9 = .ok (.bipush 6, 2) := dk_16 6 (dk_at dksX5_laysAll_0 9 rfl rfl)
theorem dX5_laysAll_11 : decode cX5_laysAll 11 = .ok (.iaload, 1) := dk_46 (dk_at dksX5_laysAll_0 11 rfl rfl)
theorem dX5_laysAll_12 : decode cX5_laysAll 12 = .ok (.aload_n 0, 1) := dk_42 (dk_at dksX5_laysAll_0 12 rfl rfl)
theorem dX5_laysAll_13 : decode cX5_laysAll 13 = .ok (.getfield 7, 3) := dk_180 0 7 (dk_at dksX5_laysAll_0 13 rfl rfl)
theorem dX5_laysAll_16 : decode cX5_laysAll 16 = .ok (.bipush 7, 2) := dk_16 7 (dk_at dksX5_laysAll_0 16 rfl rfl)
theorem dX5_laysAll_18 : decode cX5_laysAll 18 = .ok (.iaload, 1) := dk_46 (dk_at dksX5_laysAll_0 18 rfl rfl)
theorem dX5_laysAll_19 : decode cX5_laysAll 19 = .ok (.invokevirtual 211, 3) := dk_182 0 211 (dk_at dksX5_laysAll_0 19 rfl rfl)
theorem dX5_laysAll_22 : decode cX5_laysAll 22 = .ok (.aload_n 0, 1) := dk_42 (dk_at dksX5_laysAll_0 22 rfl rfl)
theorem dX5_laysAll_23 : decode cX5_laysAll 23 = .ok (.aload_n 0, 1) := dk_42 (dk_at dksX5_laysAll_0 23 rfl rfl)
theorem dX5_laysAll_24 : decode cX5_laysAll 24 = .ok (.getfield 7, 3) := dk_180 0 7 (dk_at dksX5_laysAll_1 0 rfl rfl)
theorem dX5_laysAll_27 : decode cX5_laysAll 27 = .ok (.bipush 8, 2) := dk_16 8 (dk_at dksX5_laysAll_1 3 rfl rfl)
theorem dX5_laysAll_29 : decode cX5_laysAll 29 = .ok (.iaload, 1) := dk_46 (dk_at dksX5_laysAll_1 5 rfl rfl)
theorem dX5_laysAll_30 : decode cX5_laysAll 30 = .ok (.invokevirtual 214, 3) := dk_182 0 214 (dk_at dksX5_laysAll_1 6 rfl rfl)
theorem dX5_laysAll_33 : decode cX5_laysAll 33 = .ok (.return_, 1) := dk_177 (dk_at dksX5_laysAll_1 9 rfl rfl)
abbrev cX5_asks : ByteArray := prog_20_method_17_code
def yX5_asks : MethodName := ⟨RX5, "asks", "()V"⟩
def dkwX5_asks_0 : List UInt8 := [42, 3, 181, 0, 100, 42, 182, 0, 130, 177]
abbrev dktX5_asks_0 : List UInt8 := dkwX5_asks_0 ++ []
theorem dksX5_asks_0 : cX5_asks.data.toList.drop 0 = dktX5_asks_0 := by decide +kernel
theorem dX5_asks_0 : decode cX5_asks 0 = .ok (.aload_n 0, 1) := dk_42 (dk_at dksX5_asks_0 0 rfl rfl)
theorem dX5_asks_1 : decode cX5_asks 1 = .ok (.iconst 0, 1) := dk_3 (dk_at dksX5_asks_0 1 rfl rfl)
theorem dX5_asks_2 : decode cX5_asks 2 = .ok (.putfield 100, 3) := dk_181 0 100 (dk_at dksX5_asks_0 2 rfl rfl)
theorem dX5_asks_5 : decode cX5_asks 5 = .ok (.aload_n 0, 1) := dk_42 (dk_at dksX5_asks_0 5 rfl rfl)
theorem dX5_asks_6 : decode cX5_asks 6 = .ok (.invokevirtual 130, 3) := dk_182 0 130 (dk_at dksX5_asks_0 6 rfl rfl)
theorem dX5_asks_9 : decode cX5_asks 9 = .ok (.return_, 1) := dk_177 (dk_at dksX5_asks_0 9 rfl rfl)
abbrev cX5_laysOrder : ByteArray := prog_20_method_16_code
def yX5_laysOrder : MethodName := ⟨RX5, "laysOrder", "()V"⟩
def dkwX5_laysOrder_3 : List UInt8 := [167, 255, 188, 177]
abbrev dktX5_laysOrder_3 : List UInt8 := dkwX5_laysOrder_3 ++ []
def dkwX5_laysOrder_2 : List UInt8 := [180, 0, 35, 28, 4, 100, 46, 79, 132, 2, 255, 167, 255, 213, 42, 180, 0, 35, 28, 27, 79, 132, 1, 1]
abbrev dktX5_laysOrder_2 : List UInt8 := dkwX5_laysOrder_2 ++ dktX5_laysOrder_3
def dkwX5_laysOrder_1 : List UInt8 := [4, 100, 46, 3, 182, 0, 126, 42, 27, 3, 182, 0, 126, 164, 0, 23, 42, 180, 0, 35, 28, 42]
abbrev dktX5_laysOrder_1 : List UInt8 := dkwX5_laysOrder_1 ++ dktX5_laysOrder_2
def dkwX5_laysOrder_0 : List UInt8 := [3, 60, 27, 42, 180, 0, 7, 7, 46, 162, 0, 64, 27, 61, 28, 158, 0, 45, 42, 42, 180, 0, 35, 28]
abbrev dktX5_laysOrder_0 : List UInt8 := dkwX5_laysOrder_0 ++ dktX5_laysOrder_1
theorem dksX5_laysOrder_0 : cX5_laysOrder.data.toList.drop 0 = dktX5_laysOrder_0 := by decide +kernel
theorem dksX5_laysOrder_1 : cX5_laysOrder.data.toList.drop 24 = dktX5_laysOrder_1 := dk_seg dksX5_laysOrder_0 24 rfl rfl
theorem dksX5_laysOrder_2 : cX5_laysOrder.data.toList.drop 46 = dktX5_laysOrder_2 := dk_seg dksX5_laysOrder_1 22 rfl rfl
theorem dksX5_laysOrder_3 : cX5_laysOrder.data.toList.drop 70 = dktX5_laysOrder_3 := dk_seg dksX5_laysOrder_2 24 rfl rfl
theorem dX5_laysOrder_0 : decode cX5_laysOrder 0 = .ok (.iconst 0, 1) := dk_3 (dk_at dksX5_laysOrder_0 0 rfl rfl)
theorem dX5_laysOrder_1 : decode cX5_laysOrder 1 = .ok (.istore_n 1, 1) := dk_60 (dk_at dksX5_laysOrder_0 1 rfl rfl)
theorem dX5_laysOrder_2 : decode cX5_laysOrder 2 = .ok (.iload_n 1, 1) := dk_27 (dk_at dksX5_laysOrder_0 2 rfl rfl)
theorem dX5_laysOrder_3 : decode cX5_laysOrder 3 = .ok (.aload_n 0, 1) := dk_42 (dk_at dksX5_laysOrder_0 3 rfl rfl)
theorem dX5_laysOrder_4 : decode cX5_laysOrder 4 = .ok (.getfield 7, 3) := dk_180 0 7 (dk_at dksX5_laysOrder_0 4 rfl rfl)
theorem dX5_laysOrder_7 : decode cX5_laysOrder 7 = .ok (.iconst 4, 1) := dk_7 (dk_at dksX5_laysOrder_0 7 rfl rfl)
theorem dX5_laysOrder_8 : decode cX5_laysOrder 8 = .ok (.iaload, 1) := dk_46 (dk_at dksX5_laysOrder_0 8 rfl rfl)
theorem dX5_laysOrder_9 : decode cX5_laysOrder 9 = .ok (.if_icmp .ge 64, 3) := dk_162 0 64 (dk_at dksX5_laysOrder_0 9 rfl rfl)
theorem dX5_laysOrder_12 : decode cX5_laysOrder 12 = .ok (.iload_n 1, 1) := dk_27 (dk_at dksX5_laysOrder_0 12 rfl rfl)
theorem dX5_laysOrder_13 : decode cX5_laysOrder 13 = .ok (.istore_n 2, 1) := dk_61 (dk_at dksX5_laysOrder_0 13 rfl rfl)
theorem dX5_laysOrder_14 : decode cX5_laysOrder 14 = .ok (.iload_n 2, 1) := dk_28 (dk_at dksX5_laysOrder_0 14 rfl rfl)
theorem dX5_laysOrder_15 : decode cX5_laysOrder 15 = .ok (.ifCond .le 45, 3) := dk_158 0 45 (dk_at dksX5_laysOrder_0 15 rfl rfl)
theorem dX5_laysOrder_18 : decode cX5_laysOrder 18 = .ok (.aload_n 0, 1) := dk_42 (dk_at dksX5_laysOrder_0 18 rfl rfl)
theorem dX5_laysOrder_19 : decode cX5_laysOrder 19 = .ok (.aload_n 0, 1) := dk_42 (dk_at dksX5_laysOrder_0 19 rfl rfl)
theorem dX5_laysOrder_20 : decode cX5_laysOrder 20 = .ok (.getfield 35, 3) := dk_180 0 35 (dk_at dksX5_laysOrder_0 20 rfl rfl)
theorem dX5_laysOrder_23 : decode cX5_laysOrder 23 = .ok (.iload_n 2, 1) := dk_28 (dk_at dksX5_laysOrder_0 23 rfl rfl)
theorem dX5_laysOrder_24 : decode cX5_laysOrder 24 = .ok (.iconst 1, 1) := dk_4 (dk_at dksX5_laysOrder_1 0 rfl rfl)
theorem dX5_laysOrder_25 : decode cX5_laysOrder 25 = .ok (.isub, 1) := dk_100 (dk_at dksX5_laysOrder_1 1 rfl rfl)
theorem dX5_laysOrder_26 : decode cX5_laysOrder 26 = .ok (.iaload, 1) := dk_46 (dk_at dksX5_laysOrder_1 2 rfl rfl)
theorem dX5_laysOrder_27 : decode cX5_laysOrder 27 = .ok (.iconst 0, 1) := dk_3 (dk_at dksX5_laysOrder_1 3 rfl rfl)
theorem dX5_laysOrder_28 : decode cX5_laysOrder 28 = .ok (.invokevirtual 126, 3) := dk_182 0 126 (dk_at dksX5_laysOrder_1 4 rfl rfl)
theorem dX5_laysOrder_31 : decode cX5_laysOrder 31 = .ok (.aload_n 0, 1) := dk_42 (dk_at dksX5_laysOrder_1 7 rfl rfl)
theorem dX5_laysOrder_32 : decode cX5_laysOrder 32 = .ok (.iload_n 1, 1) := dk_27 (dk_at dksX5_laysOrder_1 8 rfl rfl)
theorem dX5_laysOrder_33 : decode cX5_laysOrder 33 = .ok (.iconst 0, 1) := dk_3 (dk_at dksX5_laysOrder_1 9 rfl rfl)
theorem dX5_laysOrder_34 : decode cX5_laysOrder 34 = .ok (.invokevirtual 126, 3) := dk_182 0 126 (dk_at dksX5_laysOrder_1 10 rfl rfl)
theorem dX5_laysOrder_37 : decode cX5_laysOrder 37 = .ok (.if_icmp .le 23, 3) := dk_164 0 23 (dk_at dksX5_laysOrder_1 13 rfl rfl)
theorem dX5_laysOrder_40 : decode cX5_laysOrder 40 = .ok (.aload_n 0, 1) := dk_42 (dk_at dksX5_laysOrder_1 16 rfl rfl)
theorem dX5_laysOrder_41 : decode cX5_laysOrder 41 = .ok (.getfield 35, 3) := dk_180 0 35 (dk_at dksX5_laysOrder_1 17 rfl rfl)
theorem dX5_laysOrder_44 : decode cX5_laysOrder 44 = .ok (.iload_n 2, 1) := dk_28 (dk_at dksX5_laysOrder_1 20 rfl rfl)
theorem dX5_laysOrder_45 : decode cX5_laysOrder 45 = .ok (.aload_n 0, 1) := dk_42 (dk_at dksX5_laysOrder_1 21 rfl rfl)
theorem dX5_laysOrder_46 : decode cX5_laysOrder 46 = .ok (.getfield 35, 3) := dk_180 0 35 (dk_at dksX5_laysOrder_2 0 rfl rfl)
theorem dX5_laysOrder_49 : decode cX5_laysOrder 49 = .ok (.iload_n 2, 1) := dk_28 (dk_at dksX5_laysOrder_2 3 rfl rfl)
theorem dX5_laysOrder_50 : decode cX5_laysOrder 50 = .ok (.iconst 1, 1) := dk_4 (dk_at dksX5_laysOrder_2 4 rfl rfl)
theorem dX5_laysOrder_51 : decode cX5_laysOrder 51 = .ok (.isub, 1) := dk_100 (dk_at dksX5_laysOrder_2 5 rfl rfl)
theorem dX5_laysOrder_52 : decode cX5_laysOrder 52 = .ok (.iaload, 1) := dk_46 (dk_at dksX5_laysOrder_2 6 rfl rfl)
theorem dX5_laysOrder_53 : decode cX5_laysOrder 53 = .ok (.iastore, 1) := dk_79 (dk_at dksX5_laysOrder_2 7 rfl rfl)
theorem dX5_laysOrder_54 : decode cX5_laysOrder 54 = .ok (.iinc 2 (-1), 3) := dk_132 2 255 (dk_at dksX5_laysOrder_2 8 rfl rfl)
theorem dX5_laysOrder_57 : decode cX5_laysOrder 57 = .ok (.goto (-43), 3) := dk_167 255 213 (dk_at dksX5_laysOrder_2 11 rfl rfl)
theorem dX5_laysOrder_60 : decode cX5_laysOrder 60 = .ok (.aload_n 0, 1) := dk_42 (dk_at dksX5_laysOrder_2 14 rfl rfl)
theorem dX5_laysOrder_61 : decode cX5_laysOrder 61 = .ok (.getfield 35, 3) := dk_180 0 35 (dk_at dksX5_laysOrder_2 15 rfl rfl)
theorem dX5_laysOrder_64 : decode cX5_laysOrder 64 = .ok (.iload_n 2, 1) := dk_28 (dk_at dksX5_laysOrder_2 18 rfl rfl)
theorem dX5_laysOrder_65 : decode cX5_laysOrder 65 = .ok (.iload_n 1, 1) := dk_27 (dk_at dksX5_laysOrder_2 19 rfl rfl)
theorem dX5_laysOrder_66 : decode cX5_laysOrder 66 = .ok (.iastore, 1) := dk_79 (dk_at dksX5_laysOrder_2 20 rfl rfl)
theorem dX5_laysOrder_67 : decode cX5_laysOrder 67 = .ok (.iinc 1 1, 3) := dk_132 1 1 (dk_at dksX5_laysOrder_2 21 rfl rfl)
theorem dX5_laysOrder_70 : decode cX5_laysOrder 70 = .ok (.goto (-68), 3) := dk_167 255 188 (dk_at dksX5_laysOrder_3 0 rfl rfl)
theorem dX5_laysOrder_73 : decode cX5_laysOrder 73 = .ok (.return_, 1) := dk_177 (dk_at dksX5_laysOrder_3 3 rfl rfl)
abbrev cX5_ofReform : ByteArray := prog_20_method_11_code
def yX5_ofReform : MethodName := ⟨RX5, "ofReform", "(II)I"⟩
def dkwX5_ofReform_0 : List UInt8 := [42, 180, 0, 7, 16, 106, 16, 8, 27, 104, 96, 28, 96, 46, 172]
abbrev dktX5_ofReform_0 : List UInt8 := dkwX5_ofReform_0 ++ []
theorem dksX5_ofReform_0 : cX5_ofReform.data.toList.drop 0 = dktX5_ofReform_0 := by decide +kernel
theorem dX5_ofReform_0 : decode cX5_ofReform 0 = .ok (.aload_n 0, 1) := dk_42 (dk_at dksX5_ofReform_0 0 rfl rfl)
theorem dX5_ofReform_1 : decode cX5_ofReform 1 = .ok (.getfield 7, 3) := dk_180 0 7 (dk_at dksX5_ofReform_0 1 rfl rfl)
theorem dX5_ofReform_4 : decode cX5_ofReform 4 = .ok (.bipush 106, 2) := dk_16 106 (dk_at dksX5_ofReform_0 4 rfl rfl)
theorem dX5_ofReform_6 : decode cX5_ofReform 6 = .ok (.bipush 8, 2) := dk_16 8 (dk_at dksX5_ofReform_0 6 rfl rfl)
theorem dX5_ofReform_8 : decode cX5_ofReform 8 = .ok (.iload_n 1, 1) := dk_27 (dk_at dksX5_ofReform_0 8 rfl rfl)
theorem dX5_ofReform_9 : decode cX5_ofReform 9 = .ok (.imul, 1) := dk_104 (dk_at dksX5_ofReform_0 9 rfl rfl)
theorem dX5_ofReform_10 : decode cX5_ofReform 10 = .ok (.iadd, 1) := dk_96 (dk_at dksX5_ofReform_0 10 rfl rfl)
theorem dX5_ofReform_11 : decode cX5_ofReform 11 = .ok (.iload_n 2, 1) := dk_28 (dk_at dksX5_ofReform_0 11 rfl rfl)
theorem dX5_ofReform_12 : decode cX5_ofReform 12 = .ok (.iadd, 1) := dk_96 (dk_at dksX5_ofReform_0 12 rfl rfl)
theorem dX5_ofReform_13 : decode cX5_ofReform 13 = .ok (.iaload, 1) := dk_46 (dk_at dksX5_ofReform_0 13 rfl rfl)
theorem dX5_ofReform_14 : decode cX5_ofReform 14 = .ok (.ireturn, 1) := dk_172 (dk_at dksX5_ofReform_0 14 rfl rfl)
abbrev cX5_laysLines : ByteArray := prog_20_method_34_code
def yX5_laysLines : MethodName := ⟨RX5, "laysLines", "(II)V"⟩
def dkwX5_laysLines_6 : List UInt8 := [177]
abbrev dktX5_laysLines_6 : List UInt8 := dkwX5_laysLines_6 ++ []
def dkwX5_laysLines_5 : List UInt8 := [42, 42, 29, 28, 182, 0, 181, 42, 29, 28, 182, 0, 155, 5, 29, 182, 0, 184, 132, 3, 1, 167, 255, 125]
abbrev dktX5_laysLines_5 : List UInt8 := dkwX5_laysLines_5 ++ dktX5_laysLines_6
def dkwX5_laysLines_4 : List UInt8 := [21, 7, 47, 4, 29, 182, 0, 184, 132, 7, 1, 167, 255, 216, 42, 29, 28, 27, 182, 0, 188, 153, 0, 21]
abbrev dktX5_laysLines_4 : List UInt8 := dkwX5_laysLines_4 ++ dktX5_laysLines_5
def dkwX5_laysLines_3 : List UInt8 := [162, 0, 37, 42, 180, 0, 38, 21, 7, 47, 22, 5, 148, 153, 0, 18, 42, 21, 4, 42, 180, 0, 38]
abbrev dktX5_laysLines_3 : List UInt8 := dkwX5_laysLines_3 ++ dktX5_laysLines_4
def dkwX5_laysLines_2 : List UInt8 := [21, 4, 22, 5, 3, 29, 182, 0, 184, 42, 29, 27, 182, 0, 163, 3, 54, 7, 21, 7, 42, 180, 0, 152]
abbrev dktX5_laysLines_2 : List UInt8 := dkwX5_laysLines_2 ++ dktX5_laysLines_3
def dkwX5_laysLines_1 : List UInt8 := [154, 0, 6, 167, 0, 109, 42, 29, 27, 182, 0, 181, 54, 4, 42, 29, 27, 182, 0, 155, 55, 5, 42]
abbrev dktX5_laysLines_1 : List UInt8 := dkwX5_laysLines_1 ++ dktX5_laysLines_2
def dkwX5_laysLines_0 : List UInt8 := [42, 3, 181, 0, 170, 3, 62, 29, 42, 180, 0, 7, 6, 46, 162, 0, 127, 42, 29, 27, 182, 0, 177]
abbrev dktX5_laysLines_0 : List UInt8 := dkwX5_laysLines_0 ++ dktX5_laysLines_1
theorem dksX5_laysLines_0 : cX5_laysLines.data.toList.drop 0 = dktX5_laysLines_0 := by decide +kernel
theorem dksX5_laysLines_1 : cX5_laysLines.data.toList.drop 23 = dktX5_laysLines_1 := dk_seg dksX5_laysLines_0 23 rfl rfl
theorem dksX5_laysLines_2 : cX5_laysLines.data.toList.drop 46 = dktX5_laysLines_2 := dk_seg dksX5_laysLines_1 23 rfl rfl
theorem dksX5_laysLines_3 : cX5_laysLines.data.toList.drop 70 = dktX5_laysLines_3 := dk_seg dksX5_laysLines_2 24 rfl rfl
theorem dksX5_laysLines_4 : cX5_laysLines.data.toList.drop 93 = dktX5_laysLines_4 := dk_seg dksX5_laysLines_3 23 rfl rfl
theorem dksX5_laysLines_5 : cX5_laysLines.data.toList.drop 117 = dktX5_laysLines_5 := dk_seg dksX5_laysLines_4 24 rfl rfl
theorem dksX5_laysLines_6 : cX5_laysLines.data.toList.drop 141 = dktX5_laysLines_6 := dk_seg dksX5_laysLines_5 24 rfl rfl
theorem dX5_laysLines_0 : decode cX5_laysLines 0 = .ok (.aload_n 0, 1) := dk_42 (dk_at dksX5_laysLines_0 0 rfl rfl)
theorem dX5_laysLines_1 : decode cX5_laysLines 1 = .ok (.iconst 0, 1) := dk_3 (dk_at dksX5_laysLines_0 1 rfl rfl)
theorem dX5_laysLines_2 : decode cX5_laysLines 2 = .ok (.putfield 170, 3) := dk_181 0 170 (dk_at dksX5_laysLines_0 2 rfl rfl)
theorem dX5_laysLines_5 : decode cX5_laysLines 5 = .ok (.iconst 0, 1) := dk_3 (dk_at dksX5_laysLines_0 5 rfl rfl)
theorem dX5_laysLines_6 : decode cX5_laysLines 6 = .ok (.istore_n 3, 1) := dk_62 (dk_at dksX5_laysLines_0 6 rfl rfl)
theorem dX5_laysLines_7 : decode cX5_laysLines 7 = .ok (.iload_n 3, 1) := dk_29 (dk_at dksX5_laysLines_0 7 rfl rfl)
theorem dX5_laysLines_8 : decode cX5_laysLines 8 = .ok (.aload_n 0, 1) := dk_42 (dk_at dksX5_laysLines_0 8 rfl rfl)
theorem dX5_laysLines_9 : decode cX5_laysLines 9 = .ok (.getfield 7, 3) := dk_180 0 7 (dk_at dksX5_laysLines_0 9 rfl rfl)
theorem dX5_laysLines_12 : decode cX5_laysLines 12 = .ok (.iconst 3, 1) := dk_6 (dk_at dksX5_laysLines_0 12 rfl rfl)
theorem dX5_laysLines_13 : decode cX5_laysLines 13 = .ok (.iaload, 1) := dk_46 (dk_at dksX5_laysLines_0 13 rfl rfl)
theorem dX5_laysLines_14 : decode cX5_laysLines 14 = .ok (.if_icmp .ge 127, 3) := dk_162 0 127 (dk_at dksX5_laysLines_0 14 rfl rfl)
theorem dX5_laysLines_17 : decode cX5_laysLines 17 = .ok (.aload_n 0, 1) := dk_42 (dk_at dksX5_laysLines_0 17 rfl rfl)
theorem dX5_laysLines_18 : decode cX5_laysLines 18 = .ok (.iload_n 3, 1) := dk_29 (dk_at dksX5_laysLines_0 18 rfl rfl)
theorem dX5_laysLines_19 : decode cX5_laysLines 19 = .ok (.iload_n 1, 1) := dk_27 (dk_at dksX5_laysLines_0 19 rfl rfl)
theorem dX5_laysLines_20 : decode cX5_laysLines 20 = .ok (.invokevirtual 177, 3) := dk_182 0 177 (dk_at dksX5_laysLines_0 20 rfl rfl)
theorem dX5_laysLines_23 : decode cX5_laysLines 23 = .ok (.ifCond .ne 6, 3) := dk_154 0 6 (dk_at dksX5_laysLines_1 0 rfl rfl)
theorem dX5_laysLines_26 : decode cX5_laysLines 26 = .ok (.goto 109, 3) := dk_167 0 109 (dk_at dksX5_laysLines_1 3 rfl rfl)
theorem dX5_laysLines_29 : decode cX5_laysLines 29 = .ok (.aload_n 0, 1) := dk_42 (dk_at dksX5_laysLines_1 6 rfl rfl)
theorem dX5_laysLines_30 : decode cX5_laysLines 30 = .ok (.iload_n 3, 1) := dk_29 (dk_at dksX5_laysLines_1 7 rfl rfl)
theorem dX5_laysLines_31 : decode cX5_laysLines 31 = .ok (.iload_n 1, 1) := dk_27 (dk_at dksX5_laysLines_1 8 rfl rfl)
theorem dX5_laysLines_32 : decode cX5_laysLines 32 = .ok (.invokevirtual 181, 3) := dk_182 0 181 (dk_at dksX5_laysLines_1 9 rfl rfl)
theorem dX5_laysLines_35 : decode cX5_laysLines 35 = .ok (.istore 4, 2) := dk_54 4 (dk_at dksX5_laysLines_1 12 rfl rfl)
theorem dX5_laysLines_37 : decode cX5_laysLines 37 = .ok (.aload_n 0, 1) := dk_42 (dk_at dksX5_laysLines_1 14 rfl rfl)
theorem dX5_laysLines_38 : decode cX5_laysLines 38 = .ok (.iload_n 3, 1) := dk_29 (dk_at dksX5_laysLines_1 15 rfl rfl)
theorem dX5_laysLines_39 : decode cX5_laysLines 39 = .ok (.iload_n 1, 1) := dk_27 (dk_at dksX5_laysLines_1 16 rfl rfl)
theorem dX5_laysLines_40 : decode cX5_laysLines 40 = .ok (.invokevirtual 155, 3) := dk_182 0 155 (dk_at dksX5_laysLines_1 17 rfl rfl)
theorem dX5_laysLines_43 : decode cX5_laysLines 43 = .ok (.lstore 5, 2) := dk_55 5 (dk_at dksX5_laysLines_1 20 rfl rfl)
theorem dX5_laysLines_45 : decode cX5_laysLines 45 = .ok (.aload_n 0, 1) := dk_42 (dk_at dksX5_laysLines_1 22 rfl rfl)
theorem dX5_laysLines_46 : decode cX5_laysLines 46 = .ok (.iload 4, 2) := dk_21 4 (dk_at dksX5_laysLines_2 0 rfl rfl)
theorem dX5_laysLines_48 : decode cX5_laysLines 48 = .ok (.lload 5, 2) := dk_22 5 (dk_at dksX5_laysLines_2 2 rfl rfl)
theorem dX5_laysLines_50 : decode cX5_laysLines 50 = .ok (.iconst 0, 1) := dk_3 (dk_at dksX5_laysLines_2 4 rfl rfl)
theorem dX5_laysLines_51 : decode cX5_laysLines 51 = .ok (.iload_n 3, 1) := dk_29 (dk_at dksX5_laysLines_2 5 rfl rfl)
theorem dX5_laysLines_52 : decode cX5_laysLines 52 = .ok (.invokevirtual 184, 3) := dk_182 0 184 (dk_at dksX5_laysLines_2 6 rfl rfl)
theorem dX5_laysLines_55 : decode cX5_laysLines 55 = .ok (.aload_n 0, 1) := dk_42 (dk_at dksX5_laysLines_2 9 rfl rfl)
theorem dX5_laysLines_56 : decode cX5_laysLines 56 = .ok (.iload_n 3, 1) := dk_29 (dk_at dksX5_laysLines_2 10 rfl rfl)
theorem dX5_laysLines_57 : decode cX5_laysLines 57 = .ok (.iload_n 1, 1) := dk_27 (dk_at dksX5_laysLines_2 11 rfl rfl)
theorem dX5_laysLines_58 : decode cX5_laysLines 58 = .ok (.invokevirtual 163, 3) := dk_182 0 163 (dk_at dksX5_laysLines_2 12 rfl rfl)
theorem dX5_laysLines_61 : decode cX5_laysLines 61 = .ok (.iconst 0, 1) := dk_3 (dk_at dksX5_laysLines_2 15 rfl rfl)
theorem dX5_laysLines_62 : decode cX5_laysLines 62 = .ok (.istore 7, 2) := dk_54 7 (dk_at dksX5_laysLines_2 16 rfl rfl)
theorem dX5_laysLines_64 : decode cX5_laysLines 64 = .ok (.iload 7, 2) := dk_21 7 (dk_at dksX5_laysLines_2 18 rfl rfl)
theorem dX5_laysLines_66 : decode cX5_laysLines 66 = .ok (.aload_n 0, 1) := dk_42 (dk_at dksX5_laysLines_2 20 rfl rfl)
theorem dX5_laysLines_67 : decode cX5_laysLines 67 = .ok (.getfield 152, 3) := dk_180 0 152 (dk_at dksX5_laysLines_2 21 rfl rfl)
theorem dX5_laysLines_70 : decode cX5_laysLines 70 = .ok (.if_icmp .ge 37, 3) := dk_162 0 37 (dk_at dksX5_laysLines_3 0 rfl rfl)
theorem dX5_laysLines_73 : decode cX5_laysLines 73 = .ok (.aload_n 0, 1) := dk_42 (dk_at dksX5_laysLines_3 3 rfl rfl)
theorem dX5_laysLines_74 : decode cX5_laysLines 74 = .ok (.getfield 38, 3) := dk_180 0 38 (dk_at dksX5_laysLines_3 4 rfl rfl)
theorem dX5_laysLines_77 : decode cX5_laysLines 77 = .ok (.iload 7, 2) := dk_21 7 (dk_at dksX5_laysLines_3 7 rfl rfl)
theorem dX5_laysLines_79 : decode cX5_laysLines 79 = .ok (.laload, 1) := dk_47 (dk_at dksX5_laysLines_3 9 rfl rfl)
theorem dX5_laysLines_80 : decode cX5_laysLines 80 = .ok (.lload 5, 2) := dk_22 5 (dk_at dksX5_laysLines_3 10 rfl rfl)
theorem dX5_laysLines_82 : decode cX5_laysLines 82 = .ok (.lcmp, 1) := dk_148 (dk_at dksX5_laysLines_3 12 rfl rfl)
theorem dX5_laysLines_83 : decode cX5_laysLines 83 = .ok (.ifCond .eq 18, 3) := dk_153 0 18 (dk_at dksX5_laysLines_3 13 rfl rfl)
theorem dX5_laysLines_86 : decode cX5_laysLines 86 = .ok (.aload_n 0, 1) := dk_42 (dk_at dksX5_laysLines_3 16 rfl rfl)
theorem dX5_laysLines_87 : decode cX5_laysLines 87 = .ok (.iload 4, 2) := dk_21 4 (dk_at dksX5_laysLines_3 17 rfl rfl)
theorem dX5_laysLines_89 : decode cX5_laysLines 89 = .ok (.aload_n 0, 1) := dk_42 (dk_at dksX5_laysLines_3 19 rfl rfl)
theorem dX5_laysLines_90 : decode cX5_laysLines 90 = .ok (.getfield 38, 3) := dk_180 0 38 (dk_at dksX5_laysLines_3 20 rfl rfl)
theorem dX5_laysLines_93 : decode cX5_laysLines 93 = .ok (.iload 7, 2) := dk_21 7 (dk_at dksX5_laysLines_4 0 rfl rfl)
theorem dX5_laysLines_95 : decode cX5_laysLines 95 = .ok (.laload, 1) := dk_47 (dk_at dksX5_laysLines_4 2 rfl rfl)
theorem dX5_laysLines_96 : decode cX5_laysLines 96 = .ok (.iconst 1, 1) := dk_4 (dk_at dksX5_laysLines_4 3 rfl rfl)
theorem dX5_laysLines_97 : decode cX5_laysLines 97 = .ok (.iload_n 3, 1) := dk_29 (dk_at dksX5_laysLines_4 4 rfl rfl)
theorem dX5_laysLines_98 : decode cX5_laysLines 98 = .ok (.invokevirtual 184, 3) := dk_182 0 184 (dk_at dksX5_laysLines_4 5 rfl rfl)
theorem dX5_laysLines_101 : decode cX5_laysLines 101 = .ok (.iinc 7 1, 3) := dk_132 7 1 (dk_at dksX5_laysLines_4 8 rfl rfl)
theorem dX5_laysLines_104 : decode cX5_laysLines 104 = .ok (.goto (-40), 3) := dk_167 255 216 (dk_at dksX5_laysLines_4 11 rfl rfl)
theorem dX5_laysLines_107 : decode cX5_laysLines 107 = .ok (.aload_n 0, 1) := dk_42 (dk_at dksX5_laysLines_4 14 rfl rfl)
theorem dX5_laysLines_108 : decode cX5_laysLines 108 = .ok (.iload_n 3, 1) := dk_29 (dk_at dksX5_laysLines_4 15 rfl rfl)
theorem dX5_laysLines_109 : decode cX5_laysLines 109 = .ok (.iload_n 2, 1) := dk_28 (dk_at dksX5_laysLines_4 16 rfl rfl)
theorem dX5_laysLines_110 : decode cX5_laysLines 110 = .ok (.iload_n 1, 1) := dk_27 (dk_at dksX5_laysLines_4 17 rfl rfl)
theorem dX5_laysLines_111 : decode cX5_laysLines 111 = .ok (.invokevirtual 188, 3) := dk_182 0 188 (dk_at dksX5_laysLines_4 18 rfl rfl)
theorem dX5_laysLines_114 : decode cX5_laysLines 114 = .ok (.ifCond .eq 21, 3) := dk_153 0 21 (dk_at dksX5_laysLines_4 21 rfl rfl)
theorem dX5_laysLines_117 : decode cX5_laysLines 117 = .ok (.aload_n 0, 1) := dk_42 (dk_at dksX5_laysLines_5 0 rfl rfl)
theorem dX5_laysLines_118 : decode cX5_laysLines 118 = .ok (.aload_n 0, 1) := dk_42 (dk_at dksX5_laysLines_5 1 rfl rfl)
theorem dX5_laysLines_119 : decode cX5_laysLines 119 = .ok (.iload_n 3, 1) := dk_29 (dk_at dksX5_laysLines_5 2 rfl rfl)
theorem dX5_laysLines_120 : decode cX5_laysLines 120 = .ok (.iload_n 2, 1) := dk_28 (dk_at dksX5_laysLines_5 3 rfl rfl)
theorem dX5_laysLines_121 : decode cX5_laysLines 121 = .ok (.invokevirtual 181, 3) := dk_182 0 181 (dk_at dksX5_laysLines_5 4 rfl rfl)
theorem dX5_laysLines_124 : decode cX5_laysLines 124 = .ok (.aload_n 0, 1) := dk_42 (dk_at dksX5_laysLines_5 7 rfl rfl)
theorem dX5_laysLines_125 : decode cX5_laysLines 125 = .ok (.iload_n 3, 1) := dk_29 (dk_at dksX5_laysLines_5 8 rfl rfl)
theorem dX5_laysLines_126 : decode cX5_laysLines 126 = .ok (.iload_n 2, 1) := dk_28 (dk_at dksX5_laysLines_5 9 rfl rfl)
theorem dX5_laysLines_127 : decode cX5_laysLines 127 = .ok (.invokevirtual 155, 3) := dk_182 0 155 (dk_at dksX5_laysLines_5 10 rfl rfl)
theorem dX5_laysLines_130 : decode cX5_laysLines 130 = .ok (.iconst 2, 1) := dk_5 (dk_at dksX5_laysLines_5 13 rfl rfl)
theorem dX5_laysLines_131 : decode cX5_laysLines 131 = .ok (.iload_n 3, 1) := dk_29 (dk_at dksX5_laysLines_5 14 rfl rfl)
theorem dX5_laysLines_132 : decode cX5_laysLines 132 = .ok (.invokevirtual 184, 3) := dk_182 0 184 (dk_at dksX5_laysLines_5 15 rfl rfl)
theorem dX5_laysLines_135 : decode cX5_laysLines 135 = .ok (.iinc 3 1, 3) := dk_132 3 1 (dk_at dksX5_laysLines_5 18 rfl rfl)
theorem dX5_laysLines_138 : decode cX5_laysLines 138 = .ok (.goto (-131), 3) := dk_167 255 125 (dk_at dksX5_laysLines_5 21 rfl rfl)
theorem dX5_laysLines_141 : decode cX5_laysLines 141 = .ok (.return_, 1) := dk_177 (dk_at dksX5_laysLines_6 0 rfl rfl)
abbrev cX5_countyAt : ByteArray := prog_20_method_21_code
def yX5_countyAt : MethodName := ⟨RX5, "countyAt", "(II)I"⟩
def dkwX5_countyAt_0 : List UInt8 := [42, 42, 27, 3, 182, 0, 140, 42, 27, 4, 182, 0, 140, 28, 182, 0, 143, 172]
abbrev dktX5_countyAt_0 : List UInt8 := dkwX5_countyAt_0 ++ []
theorem dksX5_countyAt_0 : cX5_countyAt.data.toList.drop 0 = dktX5_countyAt_0 := by decide +kernel
theorem dX5_countyAt_0 : decode cX5_countyAt 0 = .ok (.aload_n 0, 1) := dk_42 (dk_at dksX5_countyAt_0 0 rfl rfl)
theorem dX5_countyAt_1 : decode cX5_countyAt 1 = .ok (.aload_n 0, 1) := dk_42 (dk_at dksX5_countyAt_0 1 rfl rfl)
theorem dX5_countyAt_2 : decode cX5_countyAt 2 = .ok (.iload_n 1, 1) := dk_27 (dk_at dksX5_countyAt_0 2 rfl rfl)
theorem dX5_countyAt_3 : decode cX5_countyAt 3 = .ok (.iconst 0, 1) := dk_3 (dk_at dksX5_countyAt_0 3 rfl rfl)
theorem dX5_countyAt_4 : decode cX5_countyAt 4 = .ok (.invokevirtual 140, 3) := dk_182 0 140 (dk_at dksX5_countyAt_0 4 rfl rfl)
theorem dX5_countyAt_7 : decode cX5_countyAt 7 = .ok (.aload_n 0, 1) := dk_42 (dk_at dksX5_countyAt_0 7 rfl rfl)
theorem dX5_countyAt_8 : decode cX5_countyAt 8 = .ok (.iload_n 1, 1) := dk_27 (dk_at dksX5_countyAt_0 8 rfl rfl)
theorem dX5_countyAt_9 : decode cX5_countyAt 9 = .ok (.iconst 1, 1) := dk_4 (dk_at dksX5_countyAt_0 9 rfl rfl)
theorem dX5_countyAt_10 : decode cX5_countyAt 10 = .ok (.invokevirtual 140, 3) := dk_182 0 140 (dk_at dksX5_countyAt_0 10 rfl rfl)
theorem dX5_countyAt_13 : decode cX5_countyAt 13 = .ok (.iload_n 2, 1) := dk_28 (dk_at dksX5_countyAt_0 13 rfl rfl)
theorem dX5_countyAt_14 : decode cX5_countyAt 14 = .ok (.invokevirtual 143, 3) := dk_182 0 143 (dk_at dksX5_countyAt_0 14 rfl rfl)
theorem dX5_countyAt_17 : decode cX5_countyAt 17 = .ok (.ireturn, 1) := dk_172 (dk_at dksX5_countyAt_0 17 rfl rfl)
abbrev cX5_ownerAt : ByteArray := prog_20_method_20_code
def yX5_ownerAt : MethodName := ⟨RX5, "ownerAt", "(III)I"⟩
def dkwX5_ownerAt_2 : List UInt8 := [54, 4, 132, 5, 1, 167, 255, 209, 21, 4, 172]
abbrev dktX5_ownerAt_2 : List UInt8 := dkwX5_ownerAt_2 ++ []
def dkwX5_ownerAt_1 : List UInt8 := [46, 3, 182, 0, 126, 29, 163, 0, 26, 42, 42, 180, 0, 35, 21, 5, 46, 27, 28, 21, 4, 182, 0, 136]
abbrev dktX5_ownerAt_1 : List UInt8 := dkwX5_ownerAt_1 ++ dktX5_ownerAt_2
def dkwX5_ownerAt_0 : List UInt8 := [3, 54, 4, 3, 54, 5, 21, 5, 42, 180, 0, 7, 7, 46, 162, 0, 42, 42, 42, 180, 0, 35, 21, 5]
abbrev dktX5_ownerAt_0 : List UInt8 := dkwX5_ownerAt_0 ++ dktX5_ownerAt_1
theorem dksX5_ownerAt_0 : cX5_ownerAt.data.toList.drop 0 = dktX5_ownerAt_0 := by decide +kernel
theorem dksX5_ownerAt_1 : cX5_ownerAt.data.toList.drop 24 = dktX5_ownerAt_1 := dk_seg dksX5_ownerAt_0 24 rfl rfl
theorem dksX5_ownerAt_2 : cX5_ownerAt.data.toList.drop 48 = dktX5_ownerAt_2 := dk_seg dksX5_ownerAt_1 24 rfl rfl
theorem dX5_ownerAt_0 : decode cX5_ownerAt 0 = .ok (.iconst 0, 1) := dk_3 (dk_at dksX5_ownerAt_0 0 rfl rfl)
theorem dX5_ownerAt_1 : decode cX5_ownerAt 1 = .ok (.istore 4, 2) := dk_54 4 (dk_at dksX5_ownerAt_0 1 rfl rfl)
theorem dX5_ownerAt_3 : decode cX5_ownerAt 3 = .ok (.iconst 0, 1) := dk_3 (dk_at dksX5_ownerAt_0 3 rfl rfl)
theorem dX5_ownerAt_4 : decode cX5_ownerAt 4 = .ok (.istore 5, 2) := dk_54 5 (dk_at dksX5_ownerAt_0 4 rfl rfl)
theorem dX5_ownerAt_6 : decode cX5_ownerAt 6 = .ok (.iload 5, 2) := dk_21 5 (dk_at dksX5_ownerAt_0 6 rfl rfl)
theorem dX5_ownerAt_8 : decode cX5_ownerAt 8 = .ok (.aload_n 0, 1) := dk_42 (dk_at dksX5_ownerAt_0 8 rfl rfl)
theorem dX5_ownerAt_9 : decode cX5_ownerAt 9 = .ok (.getfield 7, 3) := dk_180 0 7 (dk_at dksX5_ownerAt_0 9 rfl rfl)
theorem dX5_ownerAt_12 : decode cX5_ownerAt 12 = .ok (.iconst 4, 1) := dk_7 (dk_at dksX5_ownerAt_0 12 rfl rfl)
theorem dX5_ownerAt_13 : decode cX5_ownerAt 13 = .ok (.iaload, 1) := dk_46 (dk_at dksX5_ownerAt_0 13 rfl rfl)
theorem dX5_ownerAt_14 : decode cX5_ownerAt 14 = .ok (.if_icmp .ge 42, 3) := dk_162 0 42 (dk_at dksX5_ownerAt_0 14 rfl rfl)
theorem dX5_ownerAt_17 : decode cX5_ownerAt 17 = .ok (.aload_n 0, 1) := dk_42 (dk_at dksX5_ownerAt_0 17 rfl rfl)
theorem dX5_ownerAt_18 : decode cX5_ownerAt 18 = .ok (.aload_n 0, 1) := dk_42 (dk_at dksX5_ownerAt_0 18 rfl rfl)
theorem dX5_ownerAt_19 : decode cX5_ownerAt 19 = .ok (.getfield 35, 3) := dk_180 0 35 (dk_at dksX5_ownerAt_0 19 rfl rfl)
theorem dX5_ownerAt_22 : decode cX5_ownerAt 22 = .ok (.iload 5, 2) := dk_21 5 (dk_at dksX5_ownerAt_0 22 rfl rfl)
theorem dX5_ownerAt_24 : decode cX5_ownerAt 24 = .ok (.iaload, 1) := dk_46 (dk_at dksX5_ownerAt_1 0 rfl rfl)
theorem dX5_ownerAt_25 : decode cX5_ownerAt 25 = .ok (.iconst 0, 1) := dk_3 (dk_at dksX5_ownerAt_1 1 rfl rfl)
theorem dX5_ownerAt_26 : decode cX5_ownerAt 26 = .ok (.invokevirtual 126, 3) := dk_182 0 126 (dk_at dksX5_ownerAt_1 2 rfl rfl)
theorem dX5_ownerAt_29 : decode cX5_ownerAt 29 = .ok (.iload_n 3, 1) := dk_29 (dk_at dksX5_ownerAt_1 5 rfl rfl)
theorem dX5_ownerAt_30 : decode cX5_ownerAt 30 = .ok (.if_icmp .gt 26, 3) := dk_163 0 26 (dk_at dksX5_ownerAt_1 6 rfl rfl)
theorem dX5_ownerAt_33 : decode cX5_ownerAt 33 = .ok (.aload_n 0, 1) := dk_42 (dk_at dksX5_ownerAt_1 9 rfl rfl)
theorem dX5_ownerAt_34 : decode cX5_ownerAt 34 = .ok (.aload_n 0, 1) := dk_42 (dk_at dksX5_ownerAt_1 10 rfl rfl)
theorem dX5_ownerAt_35 : decode cX5_ownerAt 35 = .ok (.getfield 35, 3) := dk_180 0 35 (dk_at dksX5_ownerAt_1 11 rfl rfl)
theorem dX5_ownerAt_38 : decode cX5_ownerAt 38 = .ok (.iload 5, 2) := dk_21 5 (dk_at dksX5_ownerAt_1 14 rfl rfl)
theorem dX5_ownerAt_40 : decode cX5_ownerAt 40 = .ok (.iaload, 1) := dk_46 (dk_at dksX5_ownerAt_1 16 rfl rfl)
theorem dX5_ownerAt_41 : decode cX5_ownerAt 41 = .ok (.iload_n 1, 1) := dk_27 (dk_at dksX5_ownerAt_1 17 rfl rfl)
theorem dX5_ownerAt_42 : decode cX5_ownerAt 42 = .ok (.iload_n 2, 1) := dk_28 (dk_at dksX5_ownerAt_1 18 rfl rfl)
theorem dX5_ownerAt_43 : decode cX5_ownerAt 43 = .ok (.iload 4, 2) := dk_21 4 (dk_at dksX5_ownerAt_1 19 rfl rfl)
theorem dX5_ownerAt_45 : decode cX5_ownerAt 45 = .ok (.invokevirtual 136, 3) := dk_182 0 136 (dk_at dksX5_ownerAt_1 21 rfl rfl)
theorem dX5_ownerAt_48 : decode cX5_ownerAt 48 = .ok (.istore 4, 2) := dk_54 4 (dk_at dksX5_ownerAt_2 0 rfl rfl)
theorem dX5_ownerAt_50 : decode cX5_ownerAt 50 = .ok (.iinc 5 1, 3) := dk_132 5 1 (dk_at dksX5_ownerAt_2 2 rfl rfl)
theorem dX5_ownerAt_53 : decode cX5_ownerAt 53 = .ok (.goto (-47), 3) := dk_167 255 209 (dk_at dksX5_ownerAt_2 5 rfl rfl)
theorem dX5_ownerAt_56 : decode cX5_ownerAt 56 = .ok (.iload 4, 2) := dk_21 4 (dk_at dksX5_ownerAt_2 8 rfl rfl)
theorem dX5_ownerAt_58 : decode cX5_ownerAt 58 = .ok (.ireturn, 1) := dk_172 (dk_at dksX5_ownerAt_2 10 rfl rfl)
abbrev cX5_behind : ByteArray := prog_20_method_19_code
def yX5_behind : MethodName := ⟨RX5, "behind", "(IIII)I"⟩
def dkwX5_behind_2 : List UInt8 := [182, 0, 126, 167, 0, 5, 21, 4, 172]
abbrev dktX5_behind_2 : List UInt8 := dkwX5_behind_2 ++ []
def dkwX5_behind_1 : List UInt8 := [16, 7, 182, 0, 126, 160, 0, 7, 4, 167, 0, 4, 3, 54, 5, 21, 5, 153, 0, 13, 42, 27, 16, 6]
abbrev dktX5_behind_1 : List UInt8 := dkwX5_behind_1 ++ dktX5_behind_2
def dkwX5_behind_0 : List UInt8 := [42, 27, 4, 182, 0, 126, 154, 0, 13, 42, 27, 28, 29, 182, 0, 133, 167, 0, 20, 21, 4, 42, 27]
abbrev dktX5_behind_0 : List UInt8 := dkwX5_behind_0 ++ dktX5_behind_1
theorem dksX5_behind_0 : cX5_behind.data.toList.drop 0 = dktX5_behind_0 := by decide +kernel
theorem dksX5_behind_1 : cX5_behind.data.toList.drop 23 = dktX5_behind_1 := dk_seg dksX5_behind_0 23 rfl rfl
theorem dksX5_behind_2 : cX5_behind.data.toList.drop 47 = dktX5_behind_2 := dk_seg dksX5_behind_1 24 rfl rfl
theorem dX5_behind_0 : decode cX5_behind 0 = .ok (.aload_n 0, 1) := dk_42 (dk_at dksX5_behind_0 0 rfl rfl)
theorem dX5_behind_1 : decode cX5_behind 1 = .ok (.iload_n 1, 1) := dk_27 (dk_at dksX5_behind_0 1 rfl rfl)
theorem dX5_behind_2 : decode cX5_behind 2 = .ok (.iconst 1, 1) := dk_4 (dk_at dksX5_behind_0 2 rfl rfl)
theorem dX5_behind_3 : decode cX5_behind 3 = .ok (.invokevirtual 126, 3) := dk_182 0 126 (dk_at dksX5_behind_0 3 rfl rfl)
theorem dX5_behind_6 : decode cX5_behind 6 = .ok (.ifCond .ne 13, 3) := dk_154 0 13 (dk_at dksX5_behind_0 6 rfl rfl)
theorem dX5_behind_9 : decode cX5_behind 9 = .ok (.aload_n 0, 1) := dk_42 (dk_at dksX5_behind_0 9 rfl rfl)
theorem dX5_behind_10 : decode cX5_behind 10 = .ok (.iload_n 1, 1) := dk_27 (dk_at dksX5_behind_0 10 rfl rfl)
theorem dX5_behind_11 : decode cX5_behind 11 = .ok (.iload_n 2, 1) := dk_28 (dk_at dksX5_behind_0 11 rfl rfl)
theorem dX5_behind_12 : decode cX5_behind 12 = .ok (.iload_n 3, 1) := dk_29 (dk_at dksX5_behind_0 12 rfl rfl)
theorem dX5_behind_13 : decode cX5_behind 13 = .ok (.invokevirtual 133, 3) := dk_182 0 133 (dk_at dksX5_behind_0 13 rfl rfl)
theorem dX5_behind_16 : decode cX5_behind 16 = .ok (.goto 20, 3) := dk_167 0 20 (dk_at dksX5_behind_0 16 rfl rfl)
theorem dX5_behind_19 : decode cX5_behind 19 = .ok (.iload 4, 2) := dk_21 4 (dk_at dksX5_behind_0 19 rfl rfl)
theorem dX5_behind_21 : decode cX5_behind 21 = .ok (.aload_n 0, 1) := dk_42 (dk_at dksX5_behind_0 21 rfl rfl)
theorem dX5_behind_22 : decode cX5_behind 22 = .ok (.iload_n 1, 1) := dk_27 (dk_at dksX5_behind_0 22 rfl rfl)
theorem dX5_behind_23 : decode cX5_behind 23 = .ok (.bipush 7, 2) := dk_16 7 (dk_at dksX5_behind_1 0 rfl rfl)
theorem dX5_behind_25 : decode cX5_behind 25 = .ok (.invokevirtual 126, 3) := dk_182 0 126 (dk_at dksX5_behind_1 2 rfl rfl)
theorem dX5_behind_28 : decode cX5_behind 28 = .ok (.if_icmp .ne 7, 3) := dk_160 0 7 (dk_at dksX5_behind_1 5 rfl rfl)
theorem dX5_behind_31 : decode cX5_behind 31 = .ok (.iconst 1, 1) := dk_4 (dk_at dksX5_behind_1 8 rfl rfl)
theorem dX5_behind_32 : decode cX5_behind 32 = .ok (.goto 4, 3) := dk_167 0 4 (dk_at dksX5_behind_1 9 rfl rfl)
theorem dX5_behind_35 : decode cX5_behind 35 = .ok (.iconst 0, 1) := dk_3 (dk_at dksX5_behind_1 12 rfl rfl)
theorem dX5_behind_36 : decode cX5_behind 36 = .ok (.istore 5, 2) := dk_54 5 (dk_at dksX5_behind_1 13 rfl rfl)
theorem dX5_behind_38 : decode cX5_behind 38 = .ok (.iload 5, 2) := dk_21 5 (dk_at dksX5_behind_1 15 rfl rfl)
theorem dX5_behind_40 : decode cX5_behind 40 = .ok (.ifCond .eq 13, 3) := dk_153 0 13 (dk_at dksX5_behind_1 17 rfl rfl)
theorem dX5_behind_43 : decode cX5_behind 43 = .ok (.aload_n 0, 1) := dk_42 (dk_at dksX5_behind_1 20 rfl rfl)
theorem dX5_behind_44 : decode cX5_behind 44 = .ok (.iload_n 1, 1) := dk_27 (dk_at dksX5_behind_1 21 rfl rfl)
theorem dX5_behind_45 : decode cX5_behind 45 = .ok (.bipush 6, 2) := dk_16 6 (dk_at dksX5_behind_1 22 rfl rfl)
theorem dX5_behind_47 : decode cX5_behind 47 = .ok (.invokevirtual 126, 3) := dk_182 0 126 (dk_at dksX5_behind_2 0 rfl rfl)
theorem dX5_behind_50 : decode cX5_behind 50 = .ok (.goto 5, 3) := dk_167 0 5 (dk_at dksX5_behind_2 3 rfl rfl)
theorem dX5_behind_53 : decode cX5_behind 53 = .ok (.iload 4, 2) := dk_21 4 (dk_at dksX5_behind_2 6 rfl rfl)
theorem dX5_behind_55 : decode cX5_behind 55 = .ok (.ireturn, 1) := dk_172 (dk_at dksX5_behind_2 8 rfl rfl)
abbrev cX5_isWithin : ByteArray := prog_20_method_18_code
def yX5_isWithin : MethodName := ⟨RX5, "isWithin", "(III)Z"⟩
def dkwX5_isWithin_2 : List UInt8 := [167, 0, 4, 3, 172]
abbrev dktX5_isWithin_2 : List UInt8 := dkwX5_isWithin_2 ++ []
def dkwX5_isWithin_1 : List UInt8 := [42, 27, 6, 182, 0, 126, 100, 3, 42, 27, 8, 182, 0, 126, 4, 100, 184, 0, 103, 153, 0, 7, 4]
abbrev dktX5_isWithin_1 : List UInt8 := dkwX5_isWithin_1 ++ dktX5_isWithin_2
def dkwX5_isWithin_0 : List UInt8 := [28, 42, 27, 5, 182, 0, 126, 100, 3, 42, 27, 7, 182, 0, 126, 4, 100, 184, 0, 103, 153, 0, 30, 29]
abbrev dktX5_isWithin_0 : List UInt8 := dkwX5_isWithin_0 ++ dktX5_isWithin_1
theorem dksX5_isWithin_0 : cX5_isWithin.data.toList.drop 0 = dktX5_isWithin_0 := by decide +kernel
theorem dksX5_isWithin_1 : cX5_isWithin.data.toList.drop 24 = dktX5_isWithin_1 := dk_seg dksX5_isWithin_0 24 rfl rfl
theorem dksX5_isWithin_2 : cX5_isWithin.data.toList.drop 47 = dktX5_isWithin_2 := dk_seg dksX5_isWithin_1 23 rfl rfl
theorem dX5_isWithin_0 : decode cX5_isWithin 0 = .ok (.iload_n 2, 1) := dk_28 (dk_at dksX5_isWithin_0 0 rfl rfl)
theorem dX5_isWithin_1 : decode cX5_isWithin 1 = .ok (.aload_n 0, 1) := dk_42 (dk_at dksX5_isWithin_0 1 rfl rfl)
theorem dX5_isWithin_2 : decode cX5_isWithin 2 = .ok (.iload_n 1, 1) := dk_27 (dk_at dksX5_isWithin_0 2 rfl rfl)
theorem dX5_isWithin_3 : decode cX5_isWithin 3 = .ok (.iconst 2, 1) := dk_5 (dk_at dksX5_isWithin_0 3 rfl rfl)
theorem dX5_isWithin_4 : decode cX5_isWithin 4 = .ok (.invokevirtual 126, 3) := dk_182 0 126 (dk_at dksX5_isWithin_0 4 rfl rfl)
theorem dX5_isWithin_7 : decode cX5_isWithin 7 = .ok (.isub, 1) := dk_100 (dk_at dksX5_isWithin_0 7 rfl rfl)
theorem dX5_isWithin_8 : decode cX5_isWithin 8 = .ok (.iconst 0, 1) := dk_3 (dk_at dksX5_isWithin_0 8 rfl rfl)
theorem dX5_isWithin_9 : decode cX5_isWithin 9 = .ok (.aload_n 0, 1) := dk_42 (dk_at dksX5_isWithin_0 9 rfl rfl)
theorem dX5_isWithin_10 : decode cX5_isWithin 10 = .ok (.iload_n 1, 1) := dk_27 (dk_at dksX5_isWithin_0 10 rfl rfl)
theorem dX5_isWithin_11 : decode cX5_isWithin 11 = .ok (.iconst 4, 1) := dk_7 (dk_at dksX5_isWithin_0 11 rfl rfl)
theorem dX5_isWithin_12 : decode cX5_isWithin 12 = .ok (.invokevirtual 126, 3) := dk_182 0 126 (dk_at dksX5_isWithin_0 12 rfl rfl)
theorem dX5_isWithin_15 : decode cX5_isWithin 15 = .ok (.iconst 1, 1) := dk_4 (dk_at dksX5_isWithin_0 15 rfl rfl)
theorem dX5_isWithin_16 : decode cX5_isWithin 16 = .ok (.isub, 1) := dk_100 (dk_at dksX5_isWithin_0 16 rfl rfl)
theorem dX5_isWithin_17 : decode cX5_isWithin 17 = .ok (.invokestatic 103, 3) := dk_184 0 103 (dk_at dksX5_isWithin_0 17 rfl rfl)
theorem dX5_isWithin_20 : decode cX5_isWithin 20 = .ok (.ifCond .eq 30, 3) := dk_153 0 30 (dk_at dksX5_isWithin_0 20 rfl rfl)
theorem dX5_isWithin_23 : decode cX5_isWithin 23 = .ok (.iload_n 3, 1) := dk_29 (dk_at dksX5_isWithin_0 23 rfl rfl)
theorem dX5_isWithin_24 : decode cX5_isWithin 24 = .ok (.aload_n 0, 1) := dk_42 (dk_at dksX5_isWithin_1 0 rfl rfl)
theorem dX5_isWithin_25 : decode cX5_isWithin 25 = .ok (.iload_n 1, 1) := dk_27 (dk_at dksX5_isWithin_1 1 rfl rfl)
theorem dX5_isWithin_26 : decode cX5_isWithin 26 = .ok (.iconst 3, 1) := dk_6 (dk_at dksX5_isWithin_1 2 rfl rfl)
theorem dX5_isWithin_27 : decode cX5_isWithin 27 = .ok (.invokevirtual 126, 3) := dk_182 0 126 (dk_at dksX5_isWithin_1 3 rfl rfl)
theorem dX5_isWithin_30 : decode cX5_isWithin 30 = .ok (.isub, 1) := dk_100 (dk_at dksX5_isWithin_1 6 rfl rfl)
theorem dX5_isWithin_31 : decode cX5_isWithin 31 = .ok (.iconst 0, 1) := dk_3 (dk_at dksX5_isWithin_1 7 rfl rfl)
theorem dX5_isWithin_32 : decode cX5_isWithin 32 = .ok (.aload_n 0, 1) := dk_42 (dk_at dksX5_isWithin_1 8 rfl rfl)
theorem dX5_isWithin_33 : decode cX5_isWithin 33 = .ok (.iload_n 1, 1) := dk_27 (dk_at dksX5_isWithin_1 9 rfl rfl)
theorem dX5_isWithin_34 : decode cX5_isWithin 34 = .ok (.iconst 5, 1) := dk_8 (dk_at dksX5_isWithin_1 10 rfl rfl)
theorem dX5_isWithin_35 : decode cX5_isWithin 35 = .ok (.invokevirtual 126, 3) := dk_182 0 126 (dk_at dksX5_isWithin_1 11 rfl rfl)
theorem dX5_isWithin_38 : decode cX5_isWithin 38 = .ok (.iconst 1, 1) := dk_4 (dk_at dksX5_isWithin_1 14 rfl rfl)
theorem dX5_isWithin_39 : decode cX5_isWithin 39 = .ok (.isub, 1) := dk_100 (dk_at dksX5_isWithin_1 15 rfl rfl)
theorem dX5_isWithin_40 : decode cX5_isWithin 40 = .ok (.invokestatic 103, 3) := dk_184 0 103 (dk_at dksX5_isWithin_1 16 rfl rfl)
theorem dX5_isWithin_43 : decode cX5_isWithin 43 = .ok (.ifCond .eq 7, 3) := dk_153 0 7 (dk_at dksX5_isWithin_1 19 rfl rfl)
theorem dX5_isWithin_46 : decode cX5_isWithin 46 = .ok (.iconst 1, 1) := dk_4 (dk_at dksX5_isWithin_1 22 rfl rfl)
theorem dX5_isWithin_47 : decode cX5_isWithin 47 = .ok (.goto 4, 3) := dk_167 0 4 (dk_at dksX5_isWithin_2 0 rfl rfl)
theorem dX5_isWithin_50 : decode cX5_isWithin 50 = .ok (.iconst 0, 1) := dk_3 (dk_at dksX5_isWithin_2 3 rfl rfl)
theorem dX5_isWithin_51 : decode cX5_isWithin 51 = .ok (.ireturn, 1) := dk_172 (dk_at dksX5_isWithin_2 4 rfl rfl)
abbrev cX5_nameIn : ByteArray := prog_20_method_24_code
def yX5_nameIn : MethodName := ⟨RX5, "nameIn", "(II)J"⟩
def dkwX5_nameIn_3 : List UInt8 := [16, 32, 21, 6, 96, 47, 66, 132, 6, 1, 167, 255, 191, 33, 173]
abbrev dktX5_nameIn_3 : List UInt8 := dkwX5_nameIn_3 ++ []
def dkwX5_nameIn_2 : List UInt8 := [21, 7, 28, 163, 0, 28, 21, 7, 21, 5, 162, 0, 6, 167, 0, 18, 21, 7, 54, 5, 42, 180, 0, 22]
abbrev dktX5_nameIn_2 : List UInt8 := dkwX5_nameIn_2 ++ dktX5_nameIn_3
def dkwX5_nameIn_1 : List UInt8 := [162, 0, 60, 42, 21, 6, 4, 182, 0, 147, 54, 7, 42, 21, 6, 3, 182, 0, 147, 27, 160, 0, 34]
abbrev dktX5_nameIn_1 : List UInt8 := dkwX5_nameIn_1 ++ dktX5_nameIn_2
def dkwX5_nameIn_0 : List UInt8 := [42, 180, 0, 22, 16, 8, 27, 96, 47, 66, 2, 54, 5, 3, 54, 6, 21, 6, 42, 180, 0, 7, 8, 46]
abbrev dktX5_nameIn_0 : List UInt8 := dkwX5_nameIn_0 ++ dktX5_nameIn_1
theorem dksX5_nameIn_0 : cX5_nameIn.data.toList.drop 0 = dktX5_nameIn_0 := by decide +kernel
theorem dksX5_nameIn_1 : cX5_nameIn.data.toList.drop 24 = dktX5_nameIn_1 := dk_seg dksX5_nameIn_0 24 rfl rfl
theorem dksX5_nameIn_2 : cX5_nameIn.data.toList.drop 47 = dktX5_nameIn_2 := dk_seg dksX5_nameIn_1 23 rfl rfl
theorem dksX5_nameIn_3 : cX5_nameIn.data.toList.drop 71 = dktX5_nameIn_3 := dk_seg dksX5_nameIn_2 24 rfl rfl
theorem dX5_nameIn_0 : decode cX5_nameIn 0 = .ok (.aload_n 0, 1) := dk_42 (dk_at dksX5_nameIn_0 0 rfl rfl)
theorem dX5_nameIn_1 : decode cX5_nameIn 1 = .ok (.getfield 22, 3) := dk_180 0 22 (dk_at dksX5_nameIn_0 1 rfl rfl)
theorem dX5_nameIn_4 : decode cX5_nameIn 4 = .ok (.bipush 8, 2) := dk_16 8 (dk_at dksX5_nameIn_0 4 rfl rfl)
theorem dX5_nameIn_6 : decode cX5_nameIn 6 = .ok (.iload_n 1, 1) := dk_27 (dk_at dksX5_nameIn_0 6 rfl rfl)
theorem dX5_nameIn_7 : decode cX5_nameIn 7 = .ok (.iadd, 1) := dk_96 (dk_at dksX5_nameIn_0 7 rfl rfl)
theorem dX5_nameIn_8 : decode cX5_nameIn 8 = .ok (.laload, 1) := dk_47 (dk_at dksX5_nameIn_0 8 rfl rfl)
theorem dX5_nameIn_9 : decode cX5_nameIn 9 = .ok (.lstore_n 3, 1) := dk_66 (dk_at dksX5_nameIn_0 9 rfl rfl)
theorem dX5_nameIn_10 : decode cX5_nameIn 10 = .ok (.iconst (-1), 1) := dk_2 (dk_at dksX5_nameIn_0 10 rfl rfl)
theorem dX5_nameIn_11 : decode cX5_nameIn 11 = .ok (.istore 5, 2) := dk_54 5 (dk_at dksX5_nameIn_0 11 rfl rfl)
theorem dX5_nameIn_13 : decode cX5_nameIn 13 = .ok (.iconst 0, 1) := dk_3 (dk_at dksX5_nameIn_0 13 rfl rfl)
theorem dX5_nameIn_14 : decode cX5_nameIn 14 = .ok (.istore 6, 2) := dk_54 6 (dk_at dksX5_nameIn_0 14 rfl rfl)
theorem dX5_nameIn_16 : decode cX5_nameIn 16 = .ok (.iload 6, 2) := dk_21 6 (dk_at dksX5_nameIn_0 16 rfl rfl)
theorem dX5_nameIn_18 : decode cX5_nameIn 18 = .ok (.aload_n 0, 1) := dk_42 (dk_at dksX5_nameIn_0 18 rfl rfl)
theorem dX5_nameIn_19 : decode cX5_nameIn 19 = .ok (.getfield 7, 3) := dk_180 0 7 (dk_at dksX5_nameIn_0 19 rfl rfl)
theorem dX5_nameIn_22 : decode cX5_nameIn 22 = .ok (.iconst 5, 1) := dk_8 (dk_at dksX5_nameIn_0 22 rfl rfl)
theorem dX5_nameIn_23 : decode cX5_nameIn 23 = .ok (.iaload, 1) := dk_46 (dk_at dksX5_nameIn_0 23 rfl rfl)
theorem dX5_nameIn_24 : decode cX5_nameIn 24 = .ok (.if_icmp .ge 60, 3) := dk_162 0 60 (dk_at dksX5_nameIn_1 0 rfl rfl)
theorem dX5_nameIn_27 : decode cX5_nameIn 27 = .ok (.aload_n 0, 1) := dk_42 (dk_at dksX5_nameIn_1 3 rfl rfl)
theorem dX5_nameIn_28 : decode cX5_nameIn 28 = .ok (.iload 6, 2) := dk_21 6 (dk_at dksX5_nameIn_1 4 rfl rfl)
theorem dX5_nameIn_30 : decode cX5_nameIn 30 = .ok (.iconst 1, 1) := dk_4 (dk_at dksX5_nameIn_1 6 rfl rfl)
theorem dX5_nameIn_31 : decode cX5_nameIn 31 = .ok (.invokevirtual 147, 3) := dk_182 0 147 (dk_at dksX5_nameIn_1 7 rfl rfl)
theorem dX5_nameIn_34 : decode cX5_nameIn 34 = .ok (.istore 7, 2) := dk_54 7 (dk_at dksX5_nameIn_1 10 rfl rfl)
theorem dX5_nameIn_36 : decode cX5_nameIn 36 = .ok (.aload_n 0, 1) := dk_42 (dk_at dksX5_nameIn_1 12 rfl rfl)
theorem dX5_nameIn_37 : decode cX5_nameIn 37 = .ok (.iload 6, 2) := dk_21 6 (dk_at dksX5_nameIn_1 13 rfl rfl)
theorem dX5_nameIn_39 : decode cX5_nameIn 39 = .ok (.iconst 0, 1) := dk_3 (dk_at dksX5_nameIn_1 15 rfl rfl)
theorem dX5_nameIn_40 : decode cX5_nameIn 40 = .ok (.invokevirtual 147, 3) := dk_182 0 147 (dk_at dksX5_nameIn_1 16 rfl rfl)
theorem dX5_nameIn_43 : decode cX5_nameIn 43 = .ok (.iload_n 1, 1) := dk_27 (dk_at dksX5_nameIn_1 19 rfl rfl)
theorem dX5_nameIn_44 : decode cX5_nameIn 44 = .ok (.if_icmp .ne 34, 3) := dk_160 0 34 (dk_at dksX5_nameIn_1 20 rfl rfl)
theorem dX5_nameIn_47 : decode cX5_nameIn 47 = .ok (.iload 7, 2) := dk_21 7 (dk_at dksX5_nameIn_2 0 rfl rfl)
theorem dX5_nameIn_49 : decode cX5_nameIn 49 = .ok (.iload_n 2, 1) := dk_28 (dk_at dksX5_nameIn_2 2 rfl rfl)
theorem dX5_nameIn_50 : decode cX5_nameIn 50 = .ok (.if_icmp .gt 28, 3) := dk_163 0 28 (dk_at dksX5_nameIn_2 3 rfl rfl)
theorem dX5_nameIn_53 : decode cX5_nameIn 53 = .ok (.iload 7, 2) := dk_21 7 (dk_at dksX5_nameIn_2 6 rfl rfl)
theorem dX5_nameIn_55 : decode cX5_nameIn 55 = .ok (.iload 5, 2) := dk_21 5 (dk_at dksX5_nameIn_2 8 rfl rfl)
theorem dX5_nameIn_57 : decode cX5_nameIn 57 = .ok (.if_icmp .ge 6, 3) := dk_162 0 6 (dk_at dksX5_nameIn_2 10 rfl rfl)
theorem dX5_nameIn_60 : decode cX5_nameIn 60 = .ok (.goto 18, 3) := dk_167 0 18 (dk_at dksX5_nameIn_2 13 rfl rfl)
theorem dX5_nameIn_63 : decode cX5_nameIn 63 = .ok (.iload 7, 2) := dk_21 7 (dk_at dksX5_nameIn_2 16 rfl rfl)
theorem dX5_nameIn_65 : decode cX5_nameIn 65 = .ok (.istore 5, 2) := dk_54 5 (dk_at dksX5_nameIn_2 18 rfl rfl)
theorem dX5_nameIn_67 : decode cX5_nameIn 67 = .ok (.aload_n 0, 1) := dk_42 (dk_at dksX5_nameIn_2 20 rfl rfl)
theorem dX5_nameIn_68 : decode cX5_nameIn 68 = .ok (.getfield 22, 3) := dk_180 0 22 (dk_at dksX5_nameIn_2 21 rfl rfl)
theorem dX5_nameIn_71 : decode cX5_nameIn 71 = .ok (.bipush 32, 2) := dk_16 32 (dk_at dksX5_nameIn_3 0 rfl rfl)
theorem dX5_nameIn_73 : decode cX5_nameIn 73 = .ok (.iload 6, 2) := dk_21 6 (dk_at dksX5_nameIn_3 2 rfl rfl)
theorem dX5_nameIn_75 : decode cX5_nameIn 75 = .ok (.iadd, 1) := dk_96 (dk_at dksX5_nameIn_3 4 rfl rfl)
theorem dX5_nameIn_76 : decode cX5_nameIn 76 = .ok (.laload, 1) := dk_47 (dk_at dksX5_nameIn_3 5 rfl rfl)
theorem dX5_nameIn_77 : decode cX5_nameIn 77 = .ok (.lstore_n 3, 1) := dk_66 (dk_at dksX5_nameIn_3 6 rfl rfl)
theorem dX5_nameIn_78 : decode cX5_nameIn 78 = .ok (.iinc 6 1, 3) := dk_132 6 1 (dk_at dksX5_nameIn_3 7 rfl rfl)
theorem dX5_nameIn_81 : decode cX5_nameIn 81 = .ok (.goto (-65), 3) := dk_167 255 191 (dk_at dksX5_nameIn_3 10 rfl rfl)
theorem dX5_nameIn_84 : decode cX5_nameIn 84 = .ok (.lload_n 3, 1) := dk_33 (dk_at dksX5_nameIn_3 13 rfl rfl)
theorem dX5_nameIn_85 : decode cX5_nameIn 85 = .ok (.lreturn, 1) := dk_173 (dk_at dksX5_nameIn_3 14 rfl rfl)
abbrev cX5_ofRename : ByteArray := prog_20_method_12_code
def yX5_ofRename : MethodName := ⟨RX5, "ofRename", "(II)I"⟩
def dkwX5_ofRename_0 : List UInt8 := [42, 180, 0, 7, 17, 0, 234, 5, 27, 104, 96, 28, 96, 46, 172]
abbrev dktX5_ofRename_0 : List UInt8 := dkwX5_ofRename_0 ++ []
theorem dksX5_ofRename_0 : cX5_ofRename.data.toList.drop 0 = dktX5_ofRename_0 := by decide +kernel
theorem dX5_ofRename_0 : decode cX5_ofRename 0 = .ok (.aload_n 0, 1) := dk_42 (dk_at dksX5_ofRename_0 0 rfl rfl)
theorem dX5_ofRename_1 : decode cX5_ofRename 1 = .ok (.getfield 7, 3) := dk_180 0 7 (dk_at dksX5_ofRename_0 1 rfl rfl)
theorem dX5_ofRename_4 : decode cX5_ofRename 4 = .ok (.sipush 234, 3) := dk_17 0 234 (dk_at dksX5_ofRename_0 4 rfl rfl)
theorem dX5_ofRename_7 : decode cX5_ofRename 7 = .ok (.iconst 2, 1) := dk_5 (dk_at dksX5_ofRename_0 7 rfl rfl)
theorem dX5_ofRename_8 : decode cX5_ofRename 8 = .ok (.iload_n 1, 1) := dk_27 (dk_at dksX5_ofRename_0 8 rfl rfl)
theorem dX5_ofRename_9 : decode cX5_ofRename 9 = .ok (.imul, 1) := dk_104 (dk_at dksX5_ofRename_0 9 rfl rfl)
theorem dX5_ofRename_10 : decode cX5_ofRename 10 = .ok (.iadd, 1) := dk_96 (dk_at dksX5_ofRename_0 10 rfl rfl)
theorem dX5_ofRename_11 : decode cX5_ofRename 11 = .ok (.iload_n 2, 1) := dk_28 (dk_at dksX5_ofRename_0 11 rfl rfl)
theorem dX5_ofRename_12 : decode cX5_ofRename 12 = .ok (.iadd, 1) := dk_96 (dk_at dksX5_ofRename_0 12 rfl rfl)
theorem dX5_ofRename_13 : decode cX5_ofRename 13 = .ok (.iaload, 1) := dk_46 (dk_at dksX5_ofRename_0 13 rfl rfl)
theorem dX5_ofRename_14 : decode cX5_ofRename 14 = .ok (.ireturn, 1) := dk_172 (dk_at dksX5_ofRename_0 14 rfl rfl)
abbrev cX5_addsLine : ByteArray := prog_20_method_32_code
def yX5_addsLine : MethodName := ⟨RX5, "addsLine", "(IJII)V"⟩
def dkwX5_addsLine_6 : List UInt8 := [181, 0, 170, 177]
abbrev dktX5_addsLine_6 : List UInt8 := dkwX5_addsLine_6 ++ []
def dkwX5_addsLine_5 : List UInt8 := [180, 0, 44, 21, 6, 21, 4, 79, 42, 180, 0, 47, 21, 6, 21, 5, 79, 42, 89, 180, 0, 170, 4, 96]
abbrev dktX5_addsLine_5 : List UInt8 := dkwX5_addsLine_5 ++ dktX5_addsLine_6
def dkwX5_addsLine_4 : List UInt8 := [79, 132, 6, 255, 167, 255, 167, 42, 180, 0, 41, 21, 6, 27, 79, 42, 180, 0, 50, 21, 6, 32, 80, 42]
abbrev dktX5_addsLine_4 : List UInt8 := dkwX5_addsLine_4 ++ dktX5_addsLine_5
def dkwX5_addsLine_3 : List UInt8 := [180, 0, 44, 21, 6, 4, 100, 46, 79, 42, 180, 0, 47, 21, 6, 42, 180, 0, 47, 21, 6, 4, 100, 46]
abbrev dktX5_addsLine_3 : List UInt8 := dkwX5_addsLine_3 ++ dktX5_addsLine_4
def dkwX5_addsLine_2 : List UInt8 := [180, 0, 50, 21, 6, 42, 180, 0, 50, 21, 6, 4, 100, 47, 80, 42, 180, 0, 44, 21, 6, 42]
abbrev dktX5_addsLine_2 : List UInt8 := dkwX5_addsLine_2 ++ dktX5_addsLine_3
def dkwX5_addsLine_1 : List UInt8 := [182, 0, 173, 153, 0, 73, 42, 180, 0, 41, 21, 6, 42, 180, 0, 41, 21, 6, 4, 100, 46, 79, 42]
abbrev dktX5_addsLine_1 : List UInt8 := dkwX5_addsLine_1 ++ dktX5_addsLine_2
def dkwX5_addsLine_0 : List UInt8 := [42, 180, 0, 170, 54, 6, 21, 6, 158, 0, 90, 42, 27, 32, 21, 4, 21, 5, 21, 6, 4, 100]
abbrev dktX5_addsLine_0 : List UInt8 := dkwX5_addsLine_0 ++ dktX5_addsLine_1
theorem dksX5_addsLine_0 : cX5_addsLine.data.toList.drop 0 = dktX5_addsLine_0 := by decide +kernel
theorem dksX5_addsLine_1 : cX5_addsLine.data.toList.drop 22 = dktX5_addsLine_1 := dk_seg dksX5_addsLine_0 22 rfl rfl
theorem dksX5_addsLine_2 : cX5_addsLine.data.toList.drop 45 = dktX5_addsLine_2 := dk_seg dksX5_addsLine_1 23 rfl rfl
theorem dksX5_addsLine_3 : cX5_addsLine.data.toList.drop 67 = dktX5_addsLine_3 := dk_seg dksX5_addsLine_2 22 rfl rfl
theorem dksX5_addsLine_4 : cX5_addsLine.data.toList.drop 91 = dktX5_addsLine_4 := dk_seg dksX5_addsLine_3 24 rfl rfl
theorem dksX5_addsLine_5 : cX5_addsLine.data.toList.drop 115 = dktX5_addsLine_5 := dk_seg dksX5_addsLine_4 24 rfl rfl
theorem dksX5_addsLine_6 : cX5_addsLine.data.toList.drop 139 = dktX5_addsLine_6 := dk_seg dksX5_addsLine_5 24 rfl rfl
theorem dX5_addsLine_0 : decode cX5_addsLine 0 = .ok (.aload_n 0, 1) := dk_42 (dk_at dksX5_addsLine_0 0 rfl rfl)
theorem dX5_addsLine_1 : decode cX5_addsLine 1 = .ok (.getfield 170, 3) := dk_180 0 170 (dk_at dksX5_addsLine_0 1 rfl rfl)
theorem dX5_addsLine_4 : decode cX5_addsLine 4 = .ok (.istore 6, 2) := dk_54 6 (dk_at dksX5_addsLine_0 4 rfl rfl)
theorem dX5_addsLine_6 : decode cX5_addsLine 6 = .ok (.iload 6, 2) := dk_21 6 (dk_at dksX5_addsLine_0 6 rfl rfl)
theorem dX5_addsLine_8 : decode cX5_addsLine 8 = .ok (.ifCond .le 90, 3) := dk_158 0 90 (dk_at dksX5_addsLine_0 8 rfl rfl)
theorem dX5_addsLine_11 : decode cX5_addsLine 11 = .ok (.aload_n 0, 1) := dk_42 (dk_at dksX5_addsLine_0 11 rfl rfl)
theorem dX5_addsLine_12 : decode cX5_addsLine 12 = .ok (.iload_n 1, 1) := dk_27 (dk_at dksX5_addsLine_0 12 rfl rfl)
theorem dX5_addsLine_13 : decode cX5_addsLine 13 = .ok (.lload_n 2, 1) := dk_32 (dk_at dksX5_addsLine_0 13 rfl rfl)
theorem dX5_addsLine_14 : decode cX5_addsLine 14 = .ok (.iload 4, 2) := dk_21 4 (dk_at dksX5_addsLine_0 14 rfl rfl)
theorem dX5_addsLine_16 : decode cX5_addsLine 16 = .ok (.iload 5, 2) := dk_21 5 (dk_at dksX5_addsLine_0 16 rfl rfl)
theorem dX5_addsLine_18 : decode cX5_addsLine 18 = .ok (.iload 6, 2) := dk_21 6 (dk_at dksX5_addsLine_0 18 rfl rfl)
theorem dX5_addsLine_20 : decode cX5_addsLine 20 = .ok (.iconst 1, 1) := dk_4 (dk_at dksX5_addsLine_0 20 rfl rfl)
theorem dX5_addsLine_21 : decode cX5_addsLine 21 = .ok (.isub, 1) := dk_100 (dk_at dksX5_addsLine_0 21 rfl rfl)
theorem dX5_addsLine_22 : decode cX5_addsLine 22 = .ok (.invokevirtual 173, 3) := dk_182 0 173 (dk_at dksX5_addsLine_1 0 rfl rfl)
theorem dX5_addsLine_25 : decode cX5_addsLine 25 = .ok (.ifCond .eq 73, 3) := dk_153 0 73 (dk_at dksX5_addsLine_1 3 rfl rfl)
theorem dX5_addsLine_28 : decode cX5_addsLine 28 = .ok (.aload_n 0, 1) := dk_42 (dk_at dksX5_addsLine_1 6 rfl rfl)
theorem dX5_addsLine_29 : decode cX5_addsLine 29 = .ok (.getfield 41, 3) := dk_180 0 41 (dk_at dksX5_addsLine_1 7 rfl rfl)
theorem dX5_addsLine_32 : decode cX5_addsLine 32 = .ok (.iload 6, 2) := dk_21 6 (dk_at dksX5_addsLine_1 10 rfl rfl)
theorem dX5_addsLine_34 : decode cX5_addsLine 34 = .ok (.aload_n 0, 1) := dk_42 (dk_at dksX5_addsLine_1 12 rfl rfl)
theorem dX5_addsLine_35 : decode cX5_addsLine 35 = .ok (.getfield 41, 3) := dk_180 0 41 (dk_at dksX5_addsLine_1 13 rfl rfl)
theorem dX5_addsLine_38 : decode cX5_addsLine 38 = .ok (.iload 6, 2) := dk_21 6 (dk_at dksX5_addsLine_1 16 rfl rfl)
theorem dX5_addsLine_40 : decode cX5_addsLine 40 = .ok (.iconst 1, 1) := dk_4 (dk_at dksX5_addsLine_1 18 rfl rfl)
theorem dX5_addsLine_41 : decode cX5_addsLine 41 = .ok (.isub, 1) := dk_100 (dk_at dksX5_addsLine_1 19 rfl rfl)
theorem dX5_addsLine_42 : decode cX5_addsLine 42 = .ok (.iaload, 1) := dk_46 (dk_at dksX5_addsLine_1 20 rfl rfl)
theorem dX5_addsLine_43 : decode cX5_addsLine 43 = .ok (.iastore, 1) := dk_79 (dk_at dksX5_addsLine_1 21 rfl rfl)
theorem dX5_addsLine_44 : decode cX5_addsLine 44 = .ok (.aload_n 0, 1) := dk_42 (dk_at dksX5_addsLine_1 22 rfl rfl)
theorem dX5_addsLine_45 : decode cX5_addsLine 45 = .ok (.getfield 50, 3) := dk_180 0 50 (dk_at dksX5_addsLine_2 0 rfl rfl)
theorem dX5_addsLine_48 : decode cX5_addsLine 48 = .ok (.iload 6, 2) := dk_21 6 (dk_at dksX5_addsLine_2 3 rfl rfl)
theorem dX5_addsLine_50 : decode cX5_addsLine 50 = .ok (.aload_n 0, 1) := dk_42 (dk_at dksX5_addsLine_2 5 rfl rfl)
theorem dX5_addsLine_51 : decode cX5_addsLine 51 = .ok (.getfield 50, 3) := dk_180 0 50 (dk_at dksX5_addsLine_2 6 rfl rfl)
theorem dX5_addsLine_54 : decode cX5_addsLine 54 = .ok (.iload 6, 2) := dk_21 6 (dk_at dksX5_addsLine_2 9 rfl rfl)
theorem dX5_addsLine_56 : decode cX5_addsLine 56 = .ok (.iconst 1, 1) := dk_4 (dk_at dksX5_addsLine_2 11 rfl rfl)
theorem dX5_addsLine_57 : decode cX5_addsLine 57 = .ok (.isub, 1) := dk_100 (dk_at dksX5_addsLine_2 12 rfl rfl)
theorem dX5_addsLine_58 : decode cX5_addsLine 58 = .ok (.laload, 1) := dk_47 (dk_at dksX5_addsLine_2 13 rfl rfl)
theorem dX5_addsLine_59 : decode cX5_addsLine 59 = .ok (.lastore, 1) := dk_80 (dk_at dksX5_addsLine_2 14 rfl rfl)
theorem dX5_addsLine_60 : decode cX5_addsLine 60 = .ok (.aload_n 0, 1) := dk_42 (dk_at dksX5_addsLine_2 15 rfl rfl)
theorem dX5_addsLine_61 : decode cX5_addsLine 61 = .ok (.getfield 44, 3) := dk_180 0 44 (dk_at dksX5_addsLine_2 16 rfl rfl)
theorem dX5_addsLine_64 : decode cX5_addsLine 64 = .ok (.iload 6, 2) := dk_21 6 (dk_at dksX5_addsLine_2 19 rfl rfl)
theorem dX5_addsLine_66 : decode cX5_addsLine 66 = .ok (.aload_n 0, 1) := dk_42 (dk_at dksX5_addsLine_2 21 rfl rfl)
theorem dX5_addsLine_67 : decode cX5_addsLine 67 = .ok (.getfield 44, 3) := dk_180 0 44 (dk_at dksX5_addsLine_3 0 rfl rfl)
theorem dX5_addsLine_70 : decode cX5_addsLine 70 = .ok (.iload 6, 2) := dk_21 6 (dk_at dksX5_addsLine_3 3 rfl rfl)
theorem dX5_addsLine_72 : decode cX5_addsLine 72 = .ok (.iconst 1, 1) := dk_4 (dk_at dksX5_addsLine_3 5 rfl rfl)
theorem dX5_addsLine_73 : decode cX5_addsLine 73 = .ok (.isub, 1) := dk_100 (dk_at dksX5_addsLine_3 6 rfl rfl)
theorem dX5_addsLine_74 : decode cX5_addsLine 74 = .ok (.iaload, 1) := dk_46 (dk_at dksX5_addsLine_3 7 rfl rfl)
theorem dX5_addsLine_75 : decode cX5_addsLine 75 = .ok (.iastore, 1) := dk_79 (dk_at dksX5_addsLine_3 8 rfl rfl)
theorem dX5_addsLine_76 : decode cX5_addsLine 76 = .ok (.aload_n 0, 1) := dk_42 (dk_at dksX5_addsLine_3 9 rfl rfl)
theorem dX5_addsLine_77 : decode cX5_addsLine 77 = .ok (.getfield 47, 3) := dk_180 0 47 (dk_at dksX5_addsLine_3 10 rfl rfl)
theorem dX5_addsLine_80 : decode cX5_addsLine 80 = .ok (.iload 6, 2) := dk_21 6 (dk_at dksX5_addsLine_3 13 rfl rfl)
theorem dX5_addsLine_82 : decode cX5_addsLine 82 = .ok (.aload_n 0, 1) := dk_42 (dk_at dksX5_addsLine_3 15 rfl rfl)
theorem dX5_addsLine_83 : decode cX5_addsLine 83 = .ok (.getfield 47, 3) := dk_180 0 47 (dk_at dksX5_addsLine_3 16 rfl rfl)
theorem dX5_addsLine_86 : decode cX5_addsLine 86 = .ok (.iload 6, 2) := dk_21 6 (dk_at dksX5_addsLine_3 19 rfl rfl)
theorem dX5_addsLine_88 : decode cX5_addsLine 88 = .ok (.iconst 1, 1) := dk_4 (dk_at dksX5_addsLine_3 21 rfl rfl)
theorem dX5_addsLine_89 : decode cX5_addsLine 89 = .ok (.isub, 1) := dk_100 (dk_at dksX5_addsLine_3 22 rfl rfl)
theorem dX5_addsLine_90 : decode cX5_addsLine 90 = .ok (.iaload, 1) := dk_46 (dk_at dksX5_addsLine_3 23 rfl rfl)
theorem dX5_addsLine_91 : decode cX5_addsLine 91 = .ok (.iastore, 1) := dk_79 (dk_at dksX5_addsLine_4 0 rfl rfl)
theorem dX5_addsLine_92 : decode cX5_addsLine 92 = .ok (.iinc 6 (-1), 3) := dk_132 6 255 (dk_at dksX5_addsLine_4 1 rfl rfl)
theorem dX5_addsLine_95 : decode cX5_addsLine 95 = .ok (.goto (-89), 3) := dk_167 255 167 (dk_at dksX5_addsLine_4 4 rfl rfl)
theorem dX5_addsLine_98 : decode cX5_addsLine 98 = .ok (.aload_n 0, 1) := dk_42 (dk_at dksX5_addsLine_4 7 rfl rfl)
theorem dX5_addsLine_99 : decode cX5_addsLine 99 = .ok (.getfield 41, 3) := dk_180 0 41 (dk_at dksX5_addsLine_4 8 rfl rfl)
theorem dX5_addsLine_102 : decode cX5_addsLine 102 = .ok (.iload 6, 2) := dk_21 6 (dk_at dksX5_addsLine_4 11 rfl rfl)
theorem dX5_addsLine_104 : decode cX5_addsLine 104 = .ok (.iload_n 1, 1) := dk_27 (dk_at dksX5_addsLine_4 13 rfl rfl)
theorem dX5_addsLine_105 : decode cX5_addsLine 105 = .ok (.iastore, 1) := dk_79 (dk_at dksX5_addsLine_4 14 rfl rfl)
theorem dX5_addsLine_106 : decode cX5_addsLine 106 = .ok (.aload_n 0, 1) := dk_42 (dk_at dksX5_addsLine_4 15 rfl rfl)
theorem dX5_addsLine_107 : decode cX5_addsLine 107 = .ok (.getfield 50, 3) := dk_180 0 50 (dk_at dksX5_addsLine_4 16 rfl rfl)
theorem dX5_addsLine_110 : decode cX5_addsLine 110 = .ok (.iload 6, 2) := dk_21 6 (dk_at dksX5_addsLine_4 19 rfl rfl)
theorem dX5_addsLine_112 : decode cX5_addsLine 112 = .ok (.lload_n 2, 1) := dk_32 (dk_at dksX5_addsLine_4 21 rfl rfl)
theorem dX5_addsLine_113 : decode cX5_addsLine 113 = .ok (.lastore, 1) := dk_80 (dk_at dksX5_addsLine_4 22 rfl rfl)
theorem dX5_addsLine_114 : decode cX5_addsLine 114 = .ok (.aload_n 0, 1) := dk_42 (dk_at dksX5_addsLine_4 23 rfl rfl)
theorem dX5_addsLine_115 : decode cX5_addsLine 115 = .ok (.getfield 44, 3) := dk_180 0 44 (dk_at dksX5_addsLine_5 0 rfl rfl)
theorem dX5_addsLine_118 : decode cX5_addsLine 118 = .ok (.iload 6, 2) := dk_21 6 (dk_at dksX5_addsLine_5 3 rfl rfl)
theorem dX5_addsLine_120 : decode cX5_addsLine 120 = .ok (.iload 4, 2) := dk_21 4 (dk_at dksX5_addsLine_5 5 rfl rfl)
theorem dX5_addsLine_122 : decode cX5_addsLine 122 = .ok (.iastore, 1) := dk_79 (dk_at dksX5_addsLine_5 7 rfl rfl)
theorem dX5_addsLine_123 : decode cX5_addsLine 123 = .ok (.aload_n 0, 1) := dk_42 (dk_at dksX5_addsLine_5 8 rfl rfl)
theorem dX5_addsLine_124 : decode cX5_addsLine 124 = .ok (.getfield 47, 3) := dk_180 0 47 (dk_at dksX5_addsLine_5 9 rfl rfl)
theorem dX5_addsLine_127 : decode cX5_addsLine 127 = .ok (.iload 6, 2) := dk_21 6 (dk_at dksX5_addsLine_5 12 rfl rfl)
theorem dX5_addsLine_129 : decode cX5_addsLine 129 = .ok (.iload 5, 2) := dk_21 5 (dk_at dksX5_addsLine_5 14 rfl rfl)
theorem dX5_addsLine_131 : decode cX5_addsLine 131 = .ok (.iastore, 1) := dk_79 (dk_at dksX5_addsLine_5 16 rfl rfl)
theorem dX5_addsLine_132 : decode cX5_addsLine 132 = .ok (.aload_n 0, 1) := dk_42 (dk_at dksX5_addsLine_5 17 rfl rfl)
theorem dX5_addsLine_133 : decode cX5_addsLine 133 = .ok (.dup, 1) := dk_89 (dk_at dksX5_addsLine_5 18 rfl rfl)
theorem dX5_addsLine_134 : decode cX5_addsLine 134 = .ok (.getfield 170, 3) := dk_180 0 170 (dk_at dksX5_addsLine_5 19 rfl rfl)
theorem dX5_addsLine_137 : decode cX5_addsLine 137 = .ok (.iconst 1, 1) := dk_4 (dk_at dksX5_addsLine_5 22 rfl rfl)
theorem dX5_addsLine_138 : decode cX5_addsLine 138 = .ok (.iadd, 1) := dk_96 (dk_at dksX5_addsLine_5 23 rfl rfl)
theorem dX5_addsLine_139 : decode cX5_addsLine 139 = .ok (.putfield 170, 3) := dk_181 0 170 (dk_at dksX5_addsLine_6 0 rfl rfl)
theorem dX5_addsLine_142 : decode cX5_addsLine 142 = .ok (.return_, 1) := dk_177 (dk_at dksX5_addsLine_6 3 rfl rfl)
abbrev cX5_comesAhead : ByteArray := prog_20_method_31_code
def yX5_comesAhead : MethodName := ⟨RX5, "comesAhead", "(IJIII)Z"⟩
def dkwX5_comesAhead_5 : List UInt8 := [172]
abbrev dktX5_comesAhead_5 : List UInt8 := dkwX5_comesAhead_5 ++ []
def dkwX5_comesAhead_4 : List UInt8 := [167, 0, 24, 3, 167, 0, 20, 21, 5, 42, 180, 0, 47, 21, 6, 46, 162, 0, 7, 4, 167, 0, 4, 3]
abbrev dktX5_comesAhead_4 : List UInt8 := dkwX5_comesAhead_4 ++ dktX5_comesAhead_5
def dkwX5_comesAhead_3 : List UInt8 := [180, 0, 44, 21, 6, 46, 159, 0, 23, 21, 4, 42, 180, 0, 44, 21, 6, 46, 162, 0, 7, 4]
abbrev dktX5_comesAhead_3 : List UInt8 := dkwX5_comesAhead_3 ++ dktX5_comesAhead_4
def dkwX5_comesAhead_2 : List UInt8 := [153, 0, 21, 32, 42, 180, 0, 50, 21, 6, 47, 148, 156, 0, 7, 4, 167, 0, 4, 3, 172, 21, 4, 42]
abbrev dktX5_comesAhead_2 : List UInt8 := dkwX5_comesAhead_2 ++ dktX5_comesAhead_3
def dkwX5_comesAhead_1 : List UInt8 := [182, 0, 166, 148, 156, 0, 7, 4, 167, 0, 4, 3, 172, 32, 42, 180, 0, 50, 21, 6, 47, 148]
abbrev dktX5_comesAhead_1 : List UInt8 := dkwX5_comesAhead_1 ++ dktX5_comesAhead_2
def dkwX5_comesAhead_0 : List UInt8 := [27, 42, 180, 0, 41, 21, 6, 46, 159, 0, 29, 42, 27, 182, 0, 166, 42, 42, 180, 0, 41, 21, 6, 46]
abbrev dktX5_comesAhead_0 : List UInt8 := dkwX5_comesAhead_0 ++ dktX5_comesAhead_1
theorem dksX5_comesAhead_0 : cX5_comesAhead.data.toList.drop 0 = dktX5_comesAhead_0 := by decide +kernel
theorem dksX5_comesAhead_1 : cX5_comesAhead.data.toList.drop 24 = dktX5_comesAhead_1 := dk_seg dksX5_comesAhead_0 24 rfl rfl
theorem dksX5_comesAhead_2 : cX5_comesAhead.data.toList.drop 46 = dktX5_comesAhead_2 := dk_seg dksX5_comesAhead_1 22 rfl rfl
theorem dksX5_comesAhead_3 : cX5_comesAhead.data.toList.drop 70 = dktX5_comesAhead_3 := dk_seg dksX5_comesAhead_2 24 rfl rfl
theorem dksX5_comesAhead_4 : cX5_comesAhead.data.toList.drop 92 = dktX5_comesAhead_4 := dk_seg dksX5_comesAhead_3 22 rfl rfl
theorem dksX5_comesAhead_5 : cX5_comesAhead.data.toList.drop 116 = dktX5_comesAhead_5 := dk_seg dksX5_comesAhead_4 24 rfl rfl
theorem dX5_comesAhead_0 : decode cX5_comesAhead 0 = .ok (.iload_n 1, 1) := dk_27 (dk_at dksX5_comesAhead_0 0 rfl rfl)
theorem dX5_comesAhead_1 : decode cX5_comesAhead 1 = .ok (.aload_n 0, 1) := dk_42 (dk_at dksX5_comesAhead_0 1 rfl rfl)
theorem dX5_comesAhead_2 : decode cX5_comesAhead 2 = .ok (.getfield 41, 3) := dk_180 0 41 (dk_at dksX5_comesAhead_0 2 rfl rfl)
theorem dX5_comesAhead_5 : decode cX5_comesAhead 5 = .ok (.iload 6, 2) := dk_21 6 (dk_at dksX5_comesAhead_0 5 rfl rfl)
theorem dX5_comesAhead_7 : decode cX5_comesAhead 7 = .ok (.iaload, 1) := dk_46 (dk_at dksX5_comesAhead_0 7 rfl rfl)
theorem dX5_comesAhead_8 : decode cX5_comesAhead 8 = .ok (.if_icmp .eq 29, 3) := dk_159 0 29 (dk_at dksX5_comesAhead_0 8 rfl rfl)
theorem dX5_comesAhead_11 : decode cX5_comesAhead 11 = .ok (.aload_n 0, 1) := dk_42 (dk_at dksX5_comesAhead_0 11 rfl rfl)
theorem dX5_comesAhead_12 : decode cX5_comesAhead 12 = .ok (.iload_n 1, 1) := dk_27 (dk_at dksX5_comesAhead_0 12 rfl rfl)
theorem dX5_comesAhead_13 : decode cX5_comesAhead 13 = .ok (.invokevirtual 166, 3) := dk_182 0 166 (dk_at dksX5_comesAhead_0 13 rfl rfl)
theorem dX5_comesAhead_16 : decode cX5_comesAhead 16 = .ok (.aload_n 0, 1) := dk_42 (dk_at dksX5_comesAhead_0 16 rfl rfl)
theorem dX5_comesAhead_17 : decode cX5_comesAhead 17 = .ok (.aload_n 0, 1) := dk_42 (dk_at dksX5_comesAhead_0 17 rfl rfl)
theorem dX5_comesAhead_18 : decode cX5_comesAhead 18 = .ok (.getfield 41, 3) := dk_180 0 41 (dk_at dksX5_comesAhead_0 18 rfl rfl)
theorem dX5_comesAhead_21 : decode cX5_comesAhead 21 = .ok (.iload 6, 2) := dk_21 6 (dk_at dksX5_comesAhead_0 21 rfl rfl)
theorem dX5_comesAhead_23 : decode cX5_comesAhead 23 = .ok (.iaload, 1) := dk_46 (dk_at dksX5_comesAhead_0 23 rfl rfl)
theorem dX5_comesAhead_24 : decode cX5_comesAhead 24 = .ok (.invokevirtual 166, 3) := dk_182 0 166 (dk_at dksX5_comesAhead_1 0 rfl rfl)
theorem dX5_comesAhead_27 : decode cX5_comesAhead 27 = .ok (.lcmp, 1) := dk_148 (dk_at dksX5_comesAhead_1 3 rfl rfl)
theorem dX5_comesAhead_28 : decode cX5_comesAhead 28 = .ok (.ifCond .ge 7, 3) := dk_156 0 7 (dk_at dksX5_comesAhead_1 4 rfl rfl)
theorem dX5_comesAhead_31 : decode cX5_comesAhead 31 = .ok (.iconst 1, 1) := dk_4 (dk_at dksX5_comesAhead_1 7 rfl rfl)
theorem dX5_comesAhead_32 : decode cX5_comesAhead 32 = .ok (.goto 4, 3) := dk_167 0 4 (dk_at dksX5_comesAhead_1 8 rfl rfl)
theorem dX5_comesAhead_35 : decode cX5_comesAhead 35 = .ok (.iconst 0, 1) := dk_3 (dk_at dksX5_comesAhead_1 11 rfl rfl)
theorem dX5_comesAhead_36 : decode cX5_comesAhead 36 = .ok (.ireturn, 1) := dk_172 (dk_at dksX5_comesAhead_1 12 rfl rfl)
theorem dX5_comesAhead_37 : decode cX5_comesAhead 37 = .ok (.lload_n 2, 1) := dk_32 (dk_at dksX5_comesAhead_1 13 rfl rfl)
theorem dX5_comesAhead_38 : decode cX5_comesAhead 38 = .ok (.aload_n 0, 1) := dk_42 (dk_at dksX5_comesAhead_1 14 rfl rfl)
theorem dX5_comesAhead_39 : decode cX5_comesAhead 39 = .ok (.getfield 50, 3) := dk_180 0 50 (dk_at dksX5_comesAhead_1 15 rfl rfl)
theorem dX5_comesAhead_42 : decode cX5_comesAhead 42 = .ok (.iload 6, 2) := dk_21 6 (dk_at dksX5_comesAhead_1 18 rfl rfl)
theorem dX5_comesAhead_44 : decode cX5_comesAhead 44 = .ok (.laload, 1) := dk_47 (dk_at dksX5_comesAhead_1 20 rfl rfl)
theorem dX5_comesAhead_45 : decode cX5_comesAhead 45 = .ok (.lcmp, 1) := dk_148 (dk_at dksX5_comesAhead_1 21 rfl rfl)
theorem dX5_comesAhead_46 : decode cX5_comesAhead 46 = .ok (.ifCond .eq 21, 3) := dk_153 0 21 (dk_at dksX5_comesAhead_2 0 rfl rfl)
theorem dX5_comesAhead_49 : decode cX5_comesAhead 49 = .ok (.lload_n 2, 1) := dk_32 (dk_at dksX5_comesAhead_2 3 rfl rfl)
theorem dX5_comesAhead_50 : decode cX5_comesAhead 50 = .ok (.aload_n 0, 1) := dk_42 (dk_at dksX5_comesAhead_2 4 rfl rfl)
theorem dX5_comesAhead_51 : decode cX5_comesAhead 51 = .ok (.getfield 50, 3) := dk_180 0 50 (dk_at dksX5_comesAhead_2 5 rfl rfl)
theorem dX5_comesAhead_54 : decode cX5_comesAhead 54 = .ok (.iload 6, 2) := dk_21 6 (dk_at dksX5_comesAhead_2 8 rfl rfl)
theorem dX5_comesAhead_56 : decode cX5_comesAhead 56 = .ok (.laload, 1) := dk_47 (dk_at dksX5_comesAhead_2 10 rfl rfl)
theorem dX5_comesAhead_57 : decode cX5_comesAhead 57 = .ok (.lcmp, 1) := dk_148 (dk_at dksX5_comesAhead_2 11 rfl rfl)
theorem dX5_comesAhead_58 : decode cX5_comesAhead 58 = .ok (.ifCond .ge 7, 3) := dk_156 0 7 (dk_at dksX5_comesAhead_2 12 rfl rfl)
theorem dX5_comesAhead_61 : decode cX5_comesAhead 61 = .ok (.iconst 1, 1) := dk_4 (dk_at dksX5_comesAhead_2 15 rfl rfl)
theorem dX5_comesAhead_62 : decode cX5_comesAhead 62 = .ok (.goto 4, 3) := dk_167 0 4 (dk_at dksX5_comesAhead_2 16 rfl rfl)
theorem dX5_comesAhead_65 : decode cX5_comesAhead 65 = .ok (.iconst 0, 1) := dk_3 (dk_at dksX5_comesAhead_2 19 rfl rfl)
theorem dX5_comesAhead_66 : decode cX5_comesAhead 66 = .ok (.ireturn, 1) := dk_172 (dk_at dksX5_comesAhead_2 20 rfl rfl)
theorem dX5_comesAhead_67 : decode cX5_comesAhead 67 = .ok (.iload 4, 2) := dk_21 4 (dk_at dksX5_comesAhead_2 21 rfl rfl)
theorem dX5_comesAhead_69 : decode cX5_comesAhead 69 = .ok (.aload_n 0, 1) := dk_42 (dk_at dksX5_comesAhead_2 23 rfl rfl)
theorem dX5_comesAhead_70 : decode cX5_comesAhead 70 = .ok (.getfield 44, 3) := dk_180 0 44 (dk_at dksX5_comesAhead_3 0 rfl rfl)
theorem dX5_comesAhead_73 : decode cX5_comesAhead 73 = .ok (.iload 6, 2) := dk_21 6 (dk_at dksX5_comesAhead_3 3 rfl rfl)
theorem dX5_comesAhead_75 : decode cX5_comesAhead 75 = .ok (.iaload, 1) := dk_46 (dk_at dksX5_comesAhead_3 5 rfl rfl)
theorem dX5_comesAhead_76 : decode cX5_comesAhead 76 = .ok (.if_icmp .eq 23, 3) := dk_159 0 23 (dk_at dksX5_comesAhead_3 6 rfl rfl)
theorem dX5_comesAhead_79 : decode cX5_comesAhead 79 = .ok (.iload 4, 2) := dk_21 4 (dk_at dksX5_comesAhead_3 9 rfl rfl)
theorem dX5_comesAhead_81 : decode cX5_comesAhead 81 = .ok (.aload_n 0, 1) := dk_42 (dk_at dksX5_comesAhead_3 11 rfl rfl)
theorem dX5_comesAhead_82 : decode cX5_comesAhead 82 = .ok (.getfield 44, 3) := dk_180 0 44 (dk_at dksX5_comesAhead_3 12 rfl rfl)
theorem dX5_comesAhead_85 : decode cX5_comesAhead 85 = .ok (.iload 6, 2) := dk_21 6 (dk_at dksX5_comesAhead_3 15 rfl rfl)
theorem dX5_comesAhead_87 : decode cX5_comesAhead 87 = .ok (.iaload, 1) := dk_46 (dk_at dksX5_comesAhead_3 17 rfl rfl)
theorem dX5_comesAhead_88 : decode cX5_comesAhead 88 = .ok (.if_icmp .ge 7, 3) := dk_162 0 7 (dk_at dksX5_comesAhead_3 18 rfl rfl)
theorem dX5_comesAhead_91 : decode cX5_comesAhead 91 = .ok (.iconst 1, 1) := dk_4 (dk_at dksX5_comesAhead_3 21 rfl rfl)
theorem dX5_comesAhead_92 : decode cX5_comesAhead 92 = .ok (.goto 24, 3) := dk_167 0 24 (dk_at dksX5_comesAhead_4 0 rfl rfl)
theorem dX5_comesAhead_95 : decode cX5_comesAhead 95 = .ok (.iconst 0, 1) := dk_3 (dk_at dksX5_comesAhead_4 3 rfl rfl)
theorem dX5_comesAhead_96 : decode cX5_comesAhead 96 = .ok (.goto 20, 3) := dk_167 0 20 (dk_at dksX5_comesAhead_4 4 rfl rfl)
theorem dX5_comesAhead_99 : decode cX5_comesAhead 99 = .ok (.iload 5, 2) := dk_21 5 (dk_at dksX5_comesAhead_4 7 rfl rfl)
theorem dX5_comesAhead_101 : decode cX5_comesAhead 101 = .ok (.aload_n 0, 1) := dk_42 (dk_at dksX5_comesAhead_4 9 rfl rfl)
theorem dX5_comesAhead_102 : decode cX5_comesAhead 102 = .ok (.getfield 47, 3) := dk_180 0 47 (dk_at dksX5_comesAhead_4 10 rfl rfl)
theorem dX5_comesAhead_105 : decode cX5_comesAhead 105 = .ok (.iload 6, 2) := dk_21 6 (dk_at dksX5_comesAhead_4 13 rfl rfl)
theorem dX5_comesAhead_107 : decode cX5_comesAhead 107 = .ok (.iaload, 1) := dk_46 (dk_at dksX5_comesAhead_4 15 rfl rfl)
theorem dX5_comesAhead_108 : decode cX5_comesAhead 108 = .ok (.if_icmp .ge 7, 3) := dk_162 0 7 (dk_at dksX5_comesAhead_4 16 rfl rfl)
theorem dX5_comesAhead_111 : decode cX5_comesAhead 111 = .ok (.iconst 1, 1) := dk_4 (dk_at dksX5_comesAhead_4 19 rfl rfl)
theorem dX5_comesAhead_112 : decode cX5_comesAhead 112 = .ok (.goto 4, 3) := dk_167 0 4 (dk_at dksX5_comesAhead_4 20 rfl rfl)
theorem dX5_comesAhead_115 : decode cX5_comesAhead 115 = .ok (.iconst 0, 1) := dk_3 (dk_at dksX5_comesAhead_4 23 rfl rfl)
theorem dX5_comesAhead_116 : decode cX5_comesAhead 116 = .ok (.ireturn, 1) := dk_172 (dk_at dksX5_comesAhead_5 0 rfl rfl)
abbrev cX5_nameOfCounty : ByteArray := prog_20_method_30_code
def yX5_nameOfCounty : MethodName := ⟨RX5, "nameOfCounty", "(I)J"⟩
def dkwX5_nameOfCounty_0 : List UInt8 := [42, 180, 0, 22, 3, 27, 96, 47, 173]
abbrev dktX5_nameOfCounty_0 : List UInt8 := dkwX5_nameOfCounty_0 ++ []
theorem dksX5_nameOfCounty_0 : cX5_nameOfCounty.data.toList.drop 0 = dktX5_nameOfCounty_0 := by decide +kernel
theorem dX5_nameOfCounty_0 : decode cX5_nameOfCounty 0 = .ok (.aload_n 0, 1) := dk_42 (dk_at dksX5_nameOfCounty_0 0 rfl rfl)
theorem dX5_nameOfCounty_1 : decode cX5_nameOfCounty 1 = .ok (.getfield 22, 3) := dk_180 0 22 (dk_at dksX5_nameOfCounty_0 1 rfl rfl)
theorem dX5_nameOfCounty_4 : decode cX5_nameOfCounty 4 = .ok (.iconst 0, 1) := dk_3 (dk_at dksX5_nameOfCounty_0 4 rfl rfl)
theorem dX5_nameOfCounty_5 : decode cX5_nameOfCounty 5 = .ok (.iload_n 1, 1) := dk_27 (dk_at dksX5_nameOfCounty_0 5 rfl rfl)
theorem dX5_nameOfCounty_6 : decode cX5_nameOfCounty 6 = .ok (.iadd, 1) := dk_96 (dk_at dksX5_nameOfCounty_0 6 rfl rfl)
theorem dX5_nameOfCounty_7 : decode cX5_nameOfCounty 7 = .ok (.laload, 1) := dk_47 (dk_at dksX5_nameOfCounty_0 7 rfl rfl)
theorem dX5_nameOfCounty_8 : decode cX5_nameOfCounty 8 = .ok (.lreturn, 1) := dk_173 (dk_at dksX5_nameOfCounty_0 8 rfl rfl)
abbrev cX5_laysHad : ByteArray := prog_20_method_28_code
def yX5_laysHad : MethodName := ⟨RX5, "laysHad", "(II)V"⟩
def dkwX5_laysHad_3 : List UInt8 := [28, 163, 0, 14, 42, 42, 27, 21, 5, 182, 0, 155, 182, 0, 159, 132, 4, 1, 167, 255, 199, 177]
abbrev dktX5_laysHad_3 : List UInt8 := dkwX5_laysHad_3 ++ []
def dkwX5_laysHad_2 : List UInt8 := [182, 0, 147, 54, 5, 42, 21, 4, 3, 182, 0, 147, 27, 160, 0, 26, 21, 5, 29, 164, 0, 20, 21, 5]
abbrev dktX5_laysHad_2 : List UInt8 := dkwX5_laysHad_2 ++ dktX5_laysHad_3
def dkwX5_laysHad_1 : List UInt8 := [182, 0, 155, 182, 0, 159, 3, 54, 4, 21, 4, 42, 180, 0, 7, 8, 46, 162, 0, 52, 42, 21, 4, 4]
abbrev dktX5_laysHad_1 : List UInt8 := dkwX5_laysHad_1 ++ dktX5_laysHad_2
def dkwX5_laysHad_0 : List UInt8 := [42, 3, 181, 0, 152, 42, 27, 5, 182, 0, 140, 62, 28, 29, 162, 0, 4, 177, 42, 42, 27, 29]
abbrev dktX5_laysHad_0 : List UInt8 := dkwX5_laysHad_0 ++ dktX5_laysHad_1
theorem dksX5_laysHad_0 : cX5_laysHad.data.toList.drop 0 = dktX5_laysHad_0 := by decide +kernel
theorem dksX5_laysHad_1 : cX5_laysHad.data.toList.drop 22 = dktX5_laysHad_1 := dk_seg dksX5_laysHad_0 22 rfl rfl
theorem dksX5_laysHad_2 : cX5_laysHad.data.toList.drop 46 = dktX5_laysHad_2 := dk_seg dksX5_laysHad_1 24 rfl rfl
theorem dksX5_laysHad_3 : cX5_laysHad.data.toList.drop 70 = dktX5_laysHad_3 := dk_seg dksX5_laysHad_2 24 rfl rfl
theorem dX5_laysHad_0 : decode cX5_laysHad 0 = .ok (.aload_n 0, 1) := dk_42 (dk_at dksX5_laysHad_0 0 rfl rfl)
theorem dX5_laysHad_1 : decode cX5_laysHad 1 = .ok (.iconst 0, 1) := dk_3 (dk_at dksX5_laysHad_0 1 rfl rfl)
theorem dX5_laysHad_2 : decode cX5_laysHad 2 = .ok (.putfield 152, 3) := dk_181 0 152 (dk_at dksX5_laysHad_0 2 rfl rfl)
theorem dX5_laysHad_5 : decode cX5_laysHad 5 = .ok (.aload_n 0, 1) := dk_42 (dk_at dksX5_laysHad_0 5 rfl rfl)
theorem dX5_laysHad_6 : decode cX5_laysHad 6 = .ok (.iload_n 1, 1) := dk_27 (dk_at dksX5_laysHad_0 6 rfl rfl)
theorem dX5_laysHad_7 : decode cX5_laysHad 7 = .ok (.iconst 2, 1) := dk_5 (dk_at dksX5_laysHad_0 7 rfl rfl)
theorem dX5_laysHad_8 : decode cX5_laysHad 8 = .ok (.invokevirtual 140, 3) := dk_182 0 140 (dk_at dksX5_laysHad_0 8 rfl rfl)
theorem dX5_laysHad_11 : decode cX5_laysHad 11 = .ok (.istore_n 3, 1) := dk_62 (dk_at dksX5_laysHad_0 11 rfl rfl)
theorem dX5_laysHad_12 : decode cX5_laysHad 12 = .ok (.iload_n 2, 1) := dk_28 (dk_at dksX5_laysHad_0 12 rfl rfl)
theorem dX5_laysHad_13 : decode cX5_laysHad 13 = .ok (.iload_n 3, 1) := dk_29 (dk_at dksX5_laysHad_0 13 rfl rfl)
theorem dX5_laysHad_14 : decode cX5_laysHad 14 = .ok (.if_icmp .ge 4, 3) := dk_162 0 4 (dk_at dksX5_laysHad_0 14 rfl rfl)
theorem dX5_laysHad_17 : decode cX5_laysHad 17 = .ok (.return_, 1) := dk_177 (dk_at dksX5_laysHad_0 17 rfl rfl)
theorem dX5_laysHad_18 : decode cX5_laysHad 18 = .ok (.aload_n 0, 1) := dk_42 (dk_at dksX5_laysHad_0 18 rfl rfl)
theorem dX5_laysHad_19 : decode cX5_laysHad 19 = .ok (.aload_n 0, 1) := dk_42 (dk_at dksX5_laysHad_0 19 rfl rfl)
theorem dX5_laysHad_20 : decode cX5_laysHad 20 = .ok (.iload_n 1, 1) := dk_27 (dk_at dksX5_laysHad_0 20 rfl rfl)
theorem dX5_laysHad_21 : decode cX5_laysHad 21 = .ok (.iload_n 3, 1) := dk_29 (dk_at dksX5_laysHad_0 21 rfl rfl)
theorem dX5_laysHad_22 : decode cX5_laysHad 22 = .ok (.invokevirtual 155, 3) := dk_182 0 155 (dk_at dksX5_laysHad_1 0 rfl rfl)
theorem dX5_laysHad_25 : decode cX5_laysHad 25 = .ok (.invokevirtual 159, 3) := dk_182 0 159 (dk_at dksX5_laysHad_1 3 rfl rfl)
theorem dX5_laysHad_28 : decode cX5_laysHad 28 = .ok (.iconst 0, 1) := dk_3 (dk_at dksX5_laysHad_1 6 rfl rfl)
theorem dX5_laysHad_29 : decode cX5_laysHad 29 = .ok (.istore 4, 2) := dk_54 4 (dk_at dksX5_laysHad_1 7 rfl rfl)
theorem dX5_laysHad_31 : decode cX5_laysHad 31 = .ok (.iload 4, 2) := dk_21 4 (dk_at dksX5_laysHad_1 9 rfl rfl)
theorem dX5_laysHad_33 : decode cX5_laysHad 33 = .ok (.aload_n 0, 1) := dk_42 (dk_at dksX5_laysHad_1 11 rfl rfl)
theorem dX5_laysHad_34 : decode cX5_laysHad 34 = .ok (.getfield 7, 3) := dk_180 0 7 (dk_at dksX5_laysHad_1 12 rfl rfl)
theorem dX5_laysHad_37 : decode cX5_laysHad 37 = .ok (.iconst 5, 1) := dk_8 (dk_at dksX5_laysHad_1 15 rfl rfl)
theorem dX5_laysHad_38 : decode cX5_laysHad 38 = .ok (.iaload, 1) := dk_46 (dk_at dksX5_laysHad_1 16 rfl rfl)
theorem dX5_laysHad_39 : decode cX5_laysHad 39 = .ok (.if_icmp .ge 52, 3) := dk_162 0 52 (dk_at dksX5_laysHad_1 17 rfl rfl)
theorem dX5_laysHad_42 : decode cX5_laysHad 42 = .ok (.aload_n 0, 1) := dk_42 (dk_at dksX5_laysHad_1 20 rfl rfl)
theorem dX5_laysHad_43 : decode cX5_laysHad 43 = .ok (.iload 4, 2) := dk_21 4 (dk_at dksX5_laysHad_1 21 rfl rfl)
theorem dX5_laysHad_45 : decode cX5_laysHad 45 = .ok (.iconst 1, 1) := dk_4 (dk_at dksX5_laysHad_1 23 rfl rfl)
theorem dX5_laysHad_46 : decode cX5_laysHad 46 = .ok (.invokevirtual 147, 3) := dk_182 0 147 (dk_at dksX5_laysHad_2 0 rfl rfl)
theorem dX5_laysHad_49 : decode cX5_laysHad 49 = .ok (.istore 5, 2) := dk_54 5 (dk_at dksX5_laysHad_2 3 rfl rfl)
theorem dX5_laysHad_51 : decode cX5_laysHad 51 = .ok (.aload_n 0, 1) := dk_42 (dk_at dksX5_laysHad_2 5 rfl rfl)
theorem dX5_laysHad_52 : decode cX5_laysHad 52 = .ok (.iload 4, 2) := dk_21 4 (dk_at dksX5_laysHad_2 6 rfl rfl)
theorem dX5_laysHad_54 : decode cX5_laysHad 54 = .ok (.iconst 0, 1) := dk_3 (dk_at dksX5_laysHad_2 8 rfl rfl)
theorem dX5_laysHad_55 : decode cX5_laysHad 55 = .ok (.invokevirtual 147, 3) := dk_182 0 147 (dk_at dksX5_laysHad_2 9 rfl rfl)
theorem dX5_laysHad_58 : decode cX5_laysHad 58 = .ok (.iload_n 1, 1) := dk_27 (dk_at dksX5_laysHad_2 12 rfl rfl)
theorem dX5_laysHad_59 : decode cX5_laysHad 59 = .ok (.if_icmp .ne 26, 3) := dk_160 0 26 (dk_at dksX5_laysHad_2 13 rfl rfl)
theorem dX5_laysHad_62 : decode cX5_laysHad 62 = .ok (.iload 5, 2) := dk_21 5 (dk_at dksX5_laysHad_2 16 rfl rfl)
theorem dX5_laysHad_64 : decode cX5_laysHad 64 = .ok (.iload_n 3, 1) := dk_29 (dk_at dksX5_laysHad_2 18 rfl rfl)
theorem dX5_laysHad_65 : decode cX5_laysHad 65 = .ok (.if_icmp .le 20, 3) := dk_164 0 20 (dk_at dksX5_laysHad_2 19 rfl rfl)
theorem dX5_laysHad_68 : decode cX5_laysHad 68 = .ok (.iload 5, 2) := dk_21 5 (dk_at dksX5_laysHad_2 22 rfl rfl)
theorem dX5_laysHad_70 : decode cX5_laysHad 70 = .ok (.iload_n 2, 1) := dk_28 (dk_at dksX5_laysHad_3 0 rfl rfl)
theorem dX5_laysHad_71 : decode cX5_laysHad 71 = .ok (.if_icmp .gt 14, 3) := dk_163 0 14 (dk_at dksX5_laysHad_3 1 rfl rfl)
theorem dX5_laysHad_74 : decode cX5_laysHad 74 = .ok (.aload_n 0, 1) := dk_42 (dk_at dksX5_laysHad_3 4 rfl rfl)
theorem dX5_laysHad_75 : decode cX5_laysHad 75 = .ok (.aload_n 0, 1) := dk_42 (dk_at dksX5_laysHad_3 5 rfl rfl)
theorem dX5_laysHad_76 : decode cX5_laysHad 76 = .ok (.iload_n 1, 1) := dk_27 (dk_at dksX5_laysHad_3 6 rfl rfl)
theorem dX5_laysHad_77 : decode cX5_laysHad 77 = .ok (.iload 5, 2) := dk_21 5 (dk_at dksX5_laysHad_3 7 rfl rfl)
theorem dX5_laysHad_79 : decode cX5_laysHad 79 = .ok (.invokevirtual 155, 3) := dk_182 0 155 (dk_at dksX5_laysHad_3 9 rfl rfl)
theorem dX5_laysHad_82 : decode cX5_laysHad 82 = .ok (.invokevirtual 159, 3) := dk_182 0 159 (dk_at dksX5_laysHad_3 12 rfl rfl)
theorem dX5_laysHad_85 : decode cX5_laysHad 85 = .ok (.iinc 4 1, 3) := dk_132 4 1 (dk_at dksX5_laysHad_3 15 rfl rfl)
theorem dX5_laysHad_88 : decode cX5_laysHad 88 = .ok (.goto (-57), 3) := dk_167 255 199 (dk_at dksX5_laysHad_3 18 rfl rfl)
theorem dX5_laysHad_91 : decode cX5_laysHad 91 = .ok (.return_, 1) := dk_177 (dk_at dksX5_laysHad_3 21 rfl rfl)
abbrev cX5_addsHad : ByteArray := prog_20_method_27_code
def yX5_addsHad : MethodName := ⟨RX5, "addsHad", "(J)V"⟩
def dkwX5_addsHad_2 : List UInt8 := [181, 0, 152, 177]
abbrev dktX5_addsHad_2 : List UInt8 := dkwX5_addsHad_2 ++ []
def dkwX5_addsHad_1 : List UInt8 := [132, 3, 1, 167, 255, 233, 42, 180, 0, 38, 42, 180, 0, 152, 31, 80, 42, 89, 180, 0, 152, 4, 96]
abbrev dktX5_addsHad_1 : List UInt8 := dkwX5_addsHad_1 ++ dktX5_addsHad_2
def dkwX5_addsHad_0 : List UInt8 := [3, 62, 29, 42, 180, 0, 152, 162, 0, 21, 42, 180, 0, 38, 29, 47, 31, 148, 154, 0, 4, 177]
abbrev dktX5_addsHad_0 : List UInt8 := dkwX5_addsHad_0 ++ dktX5_addsHad_1
theorem dksX5_addsHad_0 : cX5_addsHad.data.toList.drop 0 = dktX5_addsHad_0 := by decide +kernel
theorem dksX5_addsHad_1 : cX5_addsHad.data.toList.drop 22 = dktX5_addsHad_1 := dk_seg dksX5_addsHad_0 22 rfl rfl
theorem dksX5_addsHad_2 : cX5_addsHad.data.toList.drop 45 = dktX5_addsHad_2 := dk_seg dksX5_addsHad_1 23 rfl rfl
theorem dX5_addsHad_0 : decode cX5_addsHad 0 = .ok (.iconst 0, 1) := dk_3 (dk_at dksX5_addsHad_0 0 rfl rfl)
theorem dX5_addsHad_1 : decode cX5_addsHad 1 = .ok (.istore_n 3, 1) := dk_62 (dk_at dksX5_addsHad_0 1 rfl rfl)
theorem dX5_addsHad_2 : decode cX5_addsHad 2 = .ok (.iload_n 3, 1) := dk_29 (dk_at dksX5_addsHad_0 2 rfl rfl)
theorem dX5_addsHad_3 : decode cX5_addsHad 3 = .ok (.aload_n 0, 1) := dk_42 (dk_at dksX5_addsHad_0 3 rfl rfl)
theorem dX5_addsHad_4 : decode cX5_addsHad 4 = .ok (.getfield 152, 3) := dk_180 0 152 (dk_at dksX5_addsHad_0 4 rfl rfl)
theorem dX5_addsHad_7 : decode cX5_addsHad 7 = .ok (.if_icmp .ge 21, 3) := dk_162 0 21 (dk_at dksX5_addsHad_0 7 rfl rfl)
theorem dX5_addsHad_10 : decode cX5_addsHad 10 = .ok (.aload_n 0, 1) := dk_42 (dk_at dksX5_addsHad_0 10 rfl rfl)
theorem dX5_addsHad_11 : decode cX5_addsHad 11 = .ok (.getfield 38, 3) := dk_180 0 38 (dk_at dksX5_addsHad_0 11 rfl rfl)
theorem dX5_addsHad_14 : decode cX5_addsHad 14 = .ok (.iload_n 3, 1) := dk_29 (dk_at dksX5_addsHad_0 14 rfl rfl)
theorem dX5_addsHad_15 : decode cX5_addsHad 15 = .ok (.laload, 1) := dk_47 (dk_at dksX5_addsHad_0 15 rfl rfl)
theorem dX5_addsHad_16 : decode cX5_addsHad 16 = .ok (.lload_n 1, 1) := dk_31 (dk_at dksX5_addsHad_0 16 rfl rfl)
theorem dX5_addsHad_17 : decode cX5_addsHad 17 = .ok (.lcmp, 1) := dk_148 (dk_at dksX5_addsHad_0 17 rfl rfl)
theorem dX5_addsHad_18 : decode cX5_addsHad 18 = .ok (.ifCond .ne 4, 3) := dk_154 0 4 (dk_at dksX5_addsHad_0 18 rfl rfl)
theorem dX5_addsHad_21 : decode cX5_addsHad 21 = .ok (.return_, 1) := dk_177 (dk_at dksX5_addsHad_0 21 rfl rfl)
theorem dX5_addsHad_22 : decode cX5_addsHad 22 = .ok (.iinc 3 1, 3) := dk_132 3 1 (dk_at dksX5_addsHad_1 0 rfl rfl)
theorem dX5_addsHad_25 : decode cX5_addsHad 25 = .ok (.goto (-23), 3) := dk_167 255 233 (dk_at dksX5_addsHad_1 3 rfl rfl)
theorem dX5_addsHad_28 : decode cX5_addsHad 28 = .ok (.aload_n 0, 1) := dk_42 (dk_at dksX5_addsHad_1 6 rfl rfl)
theorem dX5_addsHad_29 : decode cX5_addsHad 29 = .ok (.getfield 38, 3) := dk_180 0 38 (dk_at dksX5_addsHad_1 7 rfl rfl)
theorem dX5_addsHad_32 : decode cX5_addsHad 32 = .ok (.aload_n 0, 1) := dk_42 (dk_at dksX5_addsHad_1 10 rfl rfl)
theorem dX5_addsHad_33 : decode cX5_addsHad 33 = .ok (.getfield 152, 3) := dk_180 0 152 (dk_at dksX5_addsHad_1 11 rfl rfl)
theorem dX5_addsHad_36 : decode cX5_addsHad 36 = .ok (.lload_n 1, 1) := dk_31 (dk_at dksX5_addsHad_1 14 rfl rfl)
theorem dX5_addsHad_37 : decode cX5_addsHad 37 = .ok (.lastore, 1) := dk_80 (dk_at dksX5_addsHad_1 15 rfl rfl)
theorem dX5_addsHad_38 : decode cX5_addsHad 38 = .ok (.aload_n 0, 1) := dk_42 (dk_at dksX5_addsHad_1 16 rfl rfl)
theorem dX5_addsHad_39 : decode cX5_addsHad 39 = .ok (.dup, 1) := dk_89 (dk_at dksX5_addsHad_1 17 rfl rfl)
theorem dX5_addsHad_40 : decode cX5_addsHad 40 = .ok (.getfield 152, 3) := dk_180 0 152 (dk_at dksX5_addsHad_1 18 rfl rfl)
theorem dX5_addsHad_43 : decode cX5_addsHad 43 = .ok (.iconst 1, 1) := dk_4 (dk_at dksX5_addsHad_1 21 rfl rfl)
theorem dX5_addsHad_44 : decode cX5_addsHad 44 = .ok (.iadd, 1) := dk_96 (dk_at dksX5_addsHad_1 22 rfl rfl)
theorem dX5_addsHad_45 : decode cX5_addsHad 45 = .ok (.putfield 152, 3) := dk_181 0 152 (dk_at dksX5_addsHad_2 0 rfl rfl)
theorem dX5_addsHad_48 : decode cX5_addsHad 48 = .ok (.return_, 1) := dk_177 (dk_at dksX5_addsHad_2 3 rfl rfl)
abbrev cX5_isMoved : ByteArray := prog_20_method_33_code
def yX5_isMoved : MethodName := ⟨RX5, "isMoved", "(III)Z"⟩
def dkwX5_isMoved_1 : List UInt8 := [27, 28, 182, 0, 181, 42, 27, 29, 182, 0, 181, 159, 0, 7, 4, 167, 0, 4, 3, 172]
abbrev dktX5_isMoved_1 : List UInt8 := dkwX5_isMoved_1 ++ []
def dkwX5_isMoved_0 : List UInt8 := [28, 2, 159, 0, 40, 42, 27, 28, 182, 0, 177, 153, 0, 31, 42, 27, 29, 182, 0, 177, 153, 0, 22, 42]
abbrev dktX5_isMoved_0 : List UInt8 := dkwX5_isMoved_0 ++ dktX5_isMoved_1
theorem dksX5_isMoved_0 : cX5_isMoved.data.toList.drop 0 = dktX5_isMoved_0 := by decide +kernel
theorem dksX5_isMoved_1 : cX5_isMoved.data.toList.drop 24 = dktX5_isMoved_1 := dk_seg dksX5_isMoved_0 24 rfl rfl
theorem dX5_isMoved_0 : decode cX5_isMoved 0 = .ok (.iload_n 2, 1) := dk_28 (dk_at dksX5_isMoved_0 0 rfl rfl)
theorem dX5_isMoved_1 : decode cX5_isMoved 1 = .ok (.iconst (-1), 1) := dk_2 (dk_at dksX5_isMoved_0 1 rfl rfl)
theorem dX5_isMoved_2 : decode cX5_isMoved 2 = .ok (.if_icmp .eq 40, 3) := dk_159 0 40 (dk_at dksX5_isMoved_0 2 rfl rfl)
theorem dX5_isMoved_5 : decode cX5_isMoved 5 = .ok (.aload_n 0, 1) := dk_42 (dk_at dksX5_isMoved_0 5 rfl rfl)
theorem dX5_isMoved_6 : decode cX5_isMoved 6 = .ok (.iload_n 1, 1) := dk_27 (dk_at dksX5_isMoved_0 6 rfl rfl)
theorem dX5_isMoved_7 : decode cX5_isMoved 7 = .ok (.iload_n 2, 1) := dk_28 (dk_at dksX5_isMoved_0 7 rfl rfl)
theorem dX5_isMoved_8 : decode cX5_isMoved 8 = .ok (.invokevirtual 177, 3) := dk_182 0 177 (dk_at dksX5_isMoved_0 8 rfl rfl)
theorem dX5_isMoved_11 : decode cX5_isMoved 11 = .ok (.ifCond .eq 31, 3) := dk_153 0 31 (dk_at dksX5_isMoved_0 11 rfl rfl)
theorem dX5_isMoved_14 : decode cX5_isMoved 14 = .ok (.aload_n 0, 1) := dk_42 (dk_at dksX5_isMoved_0 14 rfl rfl)
theorem dX5_isMoved_15 : decode cX5_isMoved 15 = .ok (.iload_n 1, 1) := dk_27 (dk_at dksX5_isMoved_0 15 rfl rfl)
theorem dX5_isMoved_16 : decode cX5_isMoved 16 = .ok (.iload_n 3, 1) := dk_29 (dk_at dksX5_isMoved_0 16 rfl rfl)
theorem dX5_isMoved_17 : decode cX5_isMoved 17 = .ok (.invokevirtual 177, 3) := dk_182 0 177 (dk_at dksX5_isMoved_0 17 rfl rfl)
theorem dX5_isMoved_20 : decode cX5_isMoved 20 = .ok (.ifCond .eq 22, 3) := dk_153 0 22 (dk_at dksX5_isMoved_0 20 rfl rfl)
theorem dX5_isMoved_23 : decode cX5_isMoved 23 = .ok (.aload_n 0, 1) := dk_42 (dk_at dksX5_isMoved_0 23 rfl rfl)
theorem dX5_isMoved_24 : decode cX5_isMoved 24 = .ok (.iload_n 1, 1) := dk_27 (dk_at dksX5_isMoved_1 0 rfl rfl)
theorem dX5_isMoved_25 : decode cX5_isMoved 25 = .ok (.iload_n 2, 1) := dk_28 (dk_at dksX5_isMoved_1 1 rfl rfl)
theorem dX5_isMoved_26 : decode cX5_isMoved 26 = .ok (.invokevirtual 181, 3) := dk_182 0 181 (dk_at dksX5_isMoved_1 2 rfl rfl)
theorem dX5_isMoved_29 : decode cX5_isMoved 29 = .ok (.aload_n 0, 1) := dk_42 (dk_at dksX5_isMoved_1 5 rfl rfl)
theorem dX5_isMoved_30 : decode cX5_isMoved 30 = .ok (.iload_n 1, 1) := dk_27 (dk_at dksX5_isMoved_1 6 rfl rfl)
theorem dX5_isMoved_31 : decode cX5_isMoved 31 = .ok (.iload_n 3, 1) := dk_29 (dk_at dksX5_isMoved_1 7 rfl rfl)
theorem dX5_isMoved_32 : decode cX5_isMoved 32 = .ok (.invokevirtual 181, 3) := dk_182 0 181 (dk_at dksX5_isMoved_1 8 rfl rfl)
theorem dX5_isMoved_35 : decode cX5_isMoved 35 = .ok (.if_icmp .eq 7, 3) := dk_159 0 7 (dk_at dksX5_isMoved_1 11 rfl rfl)
theorem dX5_isMoved_38 : decode cX5_isMoved 38 = .ok (.iconst 1, 1) := dk_4 (dk_at dksX5_isMoved_1 14 rfl rfl)
theorem dX5_isMoved_39 : decode cX5_isMoved 39 = .ok (.goto 4, 3) := dk_167 0 4 (dk_at dksX5_isMoved_1 15 rfl rfl)
theorem dX5_isMoved_42 : decode cX5_isMoved 42 = .ok (.iconst 0, 1) := dk_3 (dk_at dksX5_isMoved_1 18 rfl rfl)
theorem dX5_isMoved_43 : decode cX5_isMoved 43 = .ok (.ireturn, 1) := dk_172 (dk_at dksX5_isMoved_1 19 rfl rfl)
abbrev cX5_laysPages : ByteArray := prog_20_method_43_code
def yX5_laysPages : MethodName := ⟨RX5, "laysPages", "(I)V"⟩
def dkwX5_laysPages_5 : List UInt8 := [180, 0, 44, 28, 46, 29, 28, 182, 0, 204, 132, 2, 1, 167, 255, 133, 177]
abbrev dktX5_laysPages_5 : List UInt8 := dkwX5_laysPages_5 ++ []
def dkwX5_laysPages_4 : List UInt8 := [4, 100, 79, 42, 180, 0, 65, 28, 42, 180, 0, 68, 42, 180, 0, 194, 4, 100, 46, 79, 42, 27, 42]
abbrev dktX5_laysPages_4 : List UInt8 := dkwX5_laysPages_4 ++ dktX5_laysPages_5
def dkwX5_laysPages_3 : List UInt8 := [154, 0, 15, 42, 182, 0, 201, 42, 27, 7, 29, 2, 182, 0, 204, 42, 180, 0, 62, 28, 42, 180, 0, 194]
abbrev dktX5_laysPages_3 : List UInt8 := dkwX5_laysPages_3 ++ dktX5_laysPages_4
def dkwX5_laysPages_2 : List UInt8 := [160, 0, 7, 42, 182, 0, 201, 42, 27, 6, 29, 2, 182, 0, 204, 167, 0, 23, 42, 27, 182, 0, 197]
abbrev dktX5_laysPages_2 : List UInt8 := dkwX5_laysPages_2 ++ dktX5_laysPages_3
def dkwX5_laysPages_1 : List UInt8 := [182, 0, 191, 153, 0, 38, 42, 27, 182, 0, 197, 5, 161, 0, 14, 42, 180, 0, 7, 16, 9, 46, 4]
abbrev dktX5_laysPages_1 : List UInt8 := dkwX5_laysPages_1 ++ dktX5_laysPages_2
def dkwX5_laysPages_0 : List UInt8 := [42, 3, 181, 0, 194, 3, 61, 28, 42, 180, 0, 170, 162, 0, 121, 42, 180, 0, 41, 28, 46, 62, 42, 28]
abbrev dktX5_laysPages_0 : List UInt8 := dkwX5_laysPages_0 ++ dktX5_laysPages_1
theorem dksX5_laysPages_0 : cX5_laysPages.data.toList.drop 0 = dktX5_laysPages_0 := by decide +kernel
theorem dksX5_laysPages_1 : cX5_laysPages.data.toList.drop 24 = dktX5_laysPages_1 := dk_seg dksX5_laysPages_0 24 rfl rfl
theorem dksX5_laysPages_2 : cX5_laysPages.data.toList.drop 47 = dktX5_laysPages_2 := dk_seg dksX5_laysPages_1 23 rfl rfl
theorem dksX5_laysPages_3 : cX5_laysPages.data.toList.drop 70 = dktX5_laysPages_3 := dk_seg dksX5_laysPages_2 23 rfl rfl
theorem dksX5_laysPages_4 : cX5_laysPages.data.toList.drop 94 = dktX5_laysPages_4 := dk_seg dksX5_laysPages_3 24 rfl rfl
theorem dksX5_laysPages_5 : cX5_laysPages.data.toList.drop 117 = dktX5_laysPages_5 := dk_seg dksX5_laysPages_4 23 rfl rfl
theorem dX5_laysPages_0 : decode cX5_laysPages 0 = .ok (.aload_n 0, 1) := dk_42 (dk_at dksX5_laysPages_0 0 rfl rfl)
theorem dX5_laysPages_1 : decode cX5_laysPages 1 = .ok (.iconst 0, 1) := dk_3 (dk_at dksX5_laysPages_0 1 rfl rfl)
theorem dX5_laysPages_2 : decode cX5_laysPages 2 = .ok (.putfield 194, 3) := dk_181 0 194 (dk_at dksX5_laysPages_0 2 rfl rfl)
theorem dX5_laysPages_5 : decode cX5_laysPages 5 = .ok (.iconst 0, 1) := dk_3 (dk_at dksX5_laysPages_0 5 rfl rfl)
theorem dX5_laysPages_6 : decode cX5_laysPages 6 = .ok (.istore_n 2, 1) := dk_61 (dk_at dksX5_laysPages_0 6 rfl rfl)
theorem dX5_laysPages_7 : decode cX5_laysPages 7 = .ok (.iload_n 2, 1) := dk_28 (dk_at dksX5_laysPages_0 7 rfl rfl)
theorem dX5_laysPages_8 : decode cX5_laysPages 8 = .ok (.aload_n 0, 1) := dk_42 (dk_at dksX5_laysPages_0 8 rfl rfl)
theorem dX5_laysPages_9 : decode cX5_laysPages 9 = .ok (.getfield 170, 3) := dk_180 0 170 (dk_at dksX5_laysPages_0 9 rfl rfl)
theorem dX5_laysPages_12 : decode cX5_laysPages 12 = .ok (.if_icmp .ge 121, 3) := dk_162 0 121 (dk_at dksX5_laysPages_0 12 rfl rfl)
theorem dX5_laysPages_15 : decode cX5_laysPages 15 = .ok (.aload_n 0, 1) := dk_42 (dk_at dksX5_laysPages_0 15 rfl rfl)
theorem dX5_laysPages_16 : decode cX5_laysPages 16 = .ok (.getfield 41, 3) := dk_180 0 41 (dk_at dksX5_laysPages_0 16 rfl rfl)
theorem dX5_laysPages_19 : decode cX5_laysPages 19 = .ok (.iload_n 2, 1) := dk_28 (dk_at dksX5_laysPages_0 19 rfl rfl)
theorem dX5_laysPages_20 : decode cX5_laysPages 20 = .ok (.iaload, 1) := dk_46 (dk_at dksX5_laysPages_0 20 rfl rfl)
theorem dX5_laysPages_21 : decode cX5_laysPages 21 = .ok (.istore_n 3, 1) := dk_62 (dk_at dksX5_laysPages_0 21 rfl rfl)
theorem dX5_laysPages_22 : decode cX5_laysPages 22 = .ok (.aload_n 0, 1) := dk_42 (dk_at dksX5_laysPages_0 22 rfl rfl)
theorem dX5_laysPages_23 : decode cX5_laysPages 23 = .ok (.iload_n 2, 1) := dk_28 (dk_at dksX5_laysPages_0 23 rfl rfl)
theorem dX5_laysPages_24 : decode cX5_laysPages 24 = .ok (.invokevirtual 191, 3) := dk_182 0 191 (dk_at dksX5_laysPages_1 0 rfl rfl)
theorem dX5_laysPages_27 : decode cX5_laysPages 27 = .ok (.ifCond .eq 38, 3) := dk_153 0 38 (dk_at dksX5_laysPages_1 3 rfl rfl)
theorem dX5_laysPages_30 : decode cX5_laysPages 30 = .ok (.aload_n 0, 1) := dk_42 (dk_at dksX5_laysPages_1 6 rfl rfl)
theorem dX5_laysPages_31 : decode cX5_laysPages 31 = .ok (.iload_n 1, 1) := dk_27 (dk_at dksX5_laysPages_1 7 rfl rfl)
theorem dX5_laysPages_32 : decode cX5_laysPages 32 = .ok (.invokevirtual 197, 3) := dk_182 0 197 (dk_at dksX5_laysPages_1 8 rfl rfl)
theorem dX5_laysPages_35 : decode cX5_laysPages 35 = .ok (.iconst 2, 1) := dk_5 (dk_at dksX5_laysPages_1 11 rfl rfl)
theorem dX5_laysPages_36 : decode cX5_laysPages 36 = .ok (.if_icmp .lt 14, 3) := dk_161 0 14 (dk_at dksX5_laysPages_1 12 rfl rfl)
theorem dX5_laysPages_39 : decode cX5_laysPages 39 = .ok (.aload_n 0, 1) := dk_42 (dk_at dksX5_laysPages_1 15 rfl rfl)
theorem dX5_laysPages_40 : decode cX5_laysPages 40 = .ok (.getfield 7, 3) := dk_180 0 7 (dk_at dksX5_laysPages_1 16 rfl rfl)
theorem dX5_laysPages_43 : decode cX5_laysPages 43 = .ok (.bipush 9, 2) := dk_16 9 (dk_at dksX5_laysPages_1 19 rfl rfl)
theorem dX5_laysPages_45 : decode cX5_laysPages 45 = .ok (.iaload, 1) := dk_46 (dk_at dksX5_laysPages_1 21 rfl rfl)
theorem dX5_laysPages_46 : decode cX5_laysPages 46 = .ok (.iconst 1, 1) := dk_4 (dk_at dksX5_laysPages_1 22 rfl rfl)
theorem dX5_laysPages_47 : decode cX5_laysPages 47 = .ok (.if_icmp .ne 7, 3) := dk_160 0 7 (dk_at dksX5_laysPages_2 0 rfl rfl)
theorem dX5_laysPages_50 : decode cX5_laysPages 50 = .ok (.aload_n 0, 1) := dk_42 (dk_at dksX5_laysPages_2 3 rfl rfl)
theorem dX5_laysPages_51 : decode cX5_laysPages 51 = .ok (.invokevirtual 201, 3) := dk_182 0 201 (dk_at dksX5_laysPages_2 4 rfl rfl)
theorem dX5_laysPages_54 : decode cX5_laysPages 54 = .ok (.aload_n 0, 1) := dk_42 (dk_at dksX5_laysPages_2 7 rfl rfl)
theorem dX5_laysPages_55 : decode cX5_laysPages 55 = .ok (.iload_n 1, 1) := dk_27 (dk_at dksX5_laysPages_2 8 rfl rfl)
theorem dX5_laysPages_56 : decode cX5_laysPages 56 = .ok (.iconst 3, 1) := dk_6 (dk_at dksX5_laysPages_2 9 rfl rfl)
theorem dX5_laysPages_57 : decode cX5_laysPages 57 = .ok (.iload_n 3, 1) := dk_29 (dk_at dksX5_laysPages_2 10 rfl rfl)
theorem dX5_laysPages_58 : decode cX5_laysPages 58 = .ok (.iconst (-1), 1) := dk_2 (dk_at dksX5_laysPages_2 11 rfl rfl)
theorem dX5_laysPages_59 : decode cX5_laysPages 59 = .ok (.invokevirtual 204, 3) := dk_182 0 204 (dk_at dksX5_laysPages_2 12 rfl rfl)
theorem dX5_laysPages_62 : decode cX5_laysPages 62 = .ok (.goto 23, 3) := dk_167 0 23 (dk_at dksX5_laysPages_2 15 rfl rfl)
theorem dX5_laysPages_65 : decode cX5_laysPages 65 = .ok (.aload_n 0, 1) := dk_42 (dk_at dksX5_laysPages_2 18 rfl rfl)
theorem dX5_laysPages_66 : decode cX5_laysPages 66 = .ok (.iload_n 1, 1) := dk_27 (dk_at dksX5_laysPages_2 19 rfl rfl)
theorem dX5_laysPages_67 : decode cX5_laysPages 67 = .ok (.invokevirtual 197, 3) := dk_182 0 197 (dk_at dksX5_laysPages_2 20 rfl rfl)
theorem dX5_laysPages_70 : decode cX5_laysPages 70 = .ok (.ifCond .ne 15, 3) := dk_154 0 15 (dk_at dksX5_laysPages_3 0 rfl rfl)
theorem dX5_laysPages_73 : decode cX5_laysPages 73 = .ok (.aload_n 0, 1) := dk_42 (dk_at dksX5_laysPages_3 3 rfl rfl)
theorem dX5_laysPages_74 : decode cX5_laysPages 74 = .ok (.invokevirtual 201, 3) := dk_182 0 201 (dk_at dksX5_laysPages_3 4 rfl rfl)
theorem dX5_laysPages_77 : decode cX5_laysPages 77 = .ok (.aload_n 0, 1) := dk_42 (dk_at dksX5_laysPages_3 7 rfl rfl)
theorem dX5_laysPages_78 : decode cX5_laysPages 78 = .ok (.iload_n 1, 1) := dk_27 (dk_at dksX5_laysPages_3 8 rfl rfl)
theorem dX5_laysPages_79 : decode cX5_laysPages 79 = .ok (.iconst 4, 1) := dk_7 (dk_at dksX5_laysPages_3 9 rfl rfl)
theorem dX5_laysPages_80 : decode cX5_laysPages 80 = .ok (.iload_n 3, 1) := dk_29 (dk_at dksX5_laysPages_3 10 rfl rfl)
theorem dX5_laysPages_81 : decode cX5_laysPages 81 = .ok (.iconst (-1), 1) := dk_2 (dk_at dksX5_laysPages_3 11 rfl rfl)
theorem dX5_laysPages_82 : decode cX5_laysPages 82 = .ok (.invokevirtual 204, 3) := dk_182 0 204 (dk_at dksX5_laysPages_3 12 rfl rfl)
theorem dX5_laysPages_85 : decode cX5_laysPages 85 = .ok (.aload_n 0, 1) := dk_42 (dk_at dksX5_laysPages_3 15 rfl rfl)
theorem dX5_laysPages_86 : decode cX5_laysPages 86 = .ok (.getfield 62, 3) := dk_180 0 62 (dk_at dksX5_laysPages_3 16 rfl rfl)
theorem dX5_laysPages_89 : decode cX5_laysPages 89 = .ok (.iload_n 2, 1) := dk_28 (dk_at dksX5_laysPages_3 19 rfl rfl)
theorem dX5_laysPages_90 : decode cX5_laysPages 90 = .ok (.aload_n 0, 1) := dk_42 (dk_at dksX5_laysPages_3 20 rfl rfl)
theorem dX5_laysPages_91 : decode cX5_laysPages 91 = .ok (.getfield 194, 3) := dk_180 0 194 (dk_at dksX5_laysPages_3 21 rfl rfl)
theorem dX5_laysPages_94 : decode cX5_laysPages 94 = .ok (.iconst 1, 1) := dk_4 (dk_at dksX5_laysPages_4 0 rfl rfl)
theorem dX5_laysPages_95 : decode cX5_laysPages 95 = .ok (.isub, 1) := dk_100 (dk_at dksX5_laysPages_4 1 rfl rfl)
theorem dX5_laysPages_96 : decode cX5_laysPages 96 = .ok (.iastore, 1) := dk_79 (dk_at dksX5_laysPages_4 2 rfl rfl)
theorem dX5_laysPages_97 : decode cX5_laysPages 97 = .ok (.aload_n 0, 1) := dk_42 (dk_at dksX5_laysPages_4 3 rfl rfl)
theorem dX5_laysPages_98 : decode cX5_laysPages 98 = .ok (.getfield 65, 3) := dk_180 0 65 (dk_at dksX5_laysPages_4 4 rfl rfl)
theorem dX5_laysPages_101 : decode cX5_laysPages 101 = .ok (.iload_n 2, 1) := dk_28 (dk_at dksX5_laysPages_4 7 rfl rfl)
theorem dX5_laysPages_102 : decode cX5_laysPages 102 = .ok (.aload_n 0, 1) := dk_42 (dk_at dksX5_laysPages_4 8 rfl rfl)
theorem dX5_laysPages_103 : decode cX5_laysPages 103 = .ok (.getfield 68, 3) := dk_180 0 68 (dk_at dksX5_laysPages_4 9 rfl rfl)
theorem dX5_laysPages_106 : decode cX5_laysPages 106 = .ok (.aload_n 0, 1) := dk_42 (dk_at dksX5_laysPages_4 12 rfl rfl)
theorem dX5_laysPages_107 : decode cX5_laysPages 107 = .ok (.getfield 194, 3) := dk_180 0 194 (dk_at dksX5_laysPages_4 13 rfl rfl)
theorem dX5_laysPages_110 : decode cX5_laysPages 110 = .ok (.iconst 1, 1) := dk_4 (dk_at dksX5_laysPages_4 16 rfl rfl)
theorem dX5_laysPages_111 : decode cX5_laysPages 111 = .ok (.isub, 1) := dk_100 (dk_at dksX5_laysPages_4 17 rfl rfl)
theorem dX5_laysPages_112 : decode cX5_laysPages 112 = .ok (.iaload, 1) := dk_46 (dk_at dksX5_laysPages_4 18 rfl rfl)
theorem dX5_laysPages_113 : decode cX5_laysPages 113 = .ok (.iastore, 1) := dk_79 (dk_at dksX5_laysPages_4 19 rfl rfl)
theorem dX5_laysPages_114 : decode cX5_laysPages 114 = .ok (.aload_n 0, 1) := dk_42 (dk_at dksX5_laysPages_4 20 rfl rfl)
theorem dX5_laysPages_115 : decode cX5_laysPages 115 = .ok (.iload_n 1, 1) := dk_27 (dk_at dksX5_laysPages_4 21 rfl rfl)
theorem dX5_laysPages_116 : decode cX5_laysPages 116 = .ok (.aload_n 0, 1) := dk_42 (dk_at dksX5_laysPages_4 22 rfl rfl)
theorem dX5_laysPages_117 : decode cX5_laysPages 117 = .ok (.getfield 44, 3) := dk_180 0 44 (dk_at dksX5_laysPages_5 0 rfl rfl)
theorem dX5_laysPages_120 : decode cX5_laysPages 120 = .ok (.iload_n 2, 1) := dk_28 (dk_at dksX5_laysPages_5 3 rfl rfl)
theorem dX5_laysPages_121 : decode cX5_laysPages 121 = .ok (.iaload, 1) := dk_46 (dk_at dksX5_laysPages_5 4 rfl rfl)
theorem dX5_laysPages_122 : decode cX5_laysPages 122 = .ok (.iload_n 3, 1) := dk_29 (dk_at dksX5_laysPages_5 5 rfl rfl)
theorem dX5_laysPages_123 : decode cX5_laysPages 123 = .ok (.iload_n 2, 1) := dk_28 (dk_at dksX5_laysPages_5 6 rfl rfl)
theorem dX5_laysPages_124 : decode cX5_laysPages 124 = .ok (.invokevirtual 204, 3) := dk_182 0 204 (dk_at dksX5_laysPages_5 7 rfl rfl)
theorem dX5_laysPages_127 : decode cX5_laysPages 127 = .ok (.iinc 2 1, 3) := dk_132 2 1 (dk_at dksX5_laysPages_5 10 rfl rfl)
theorem dX5_laysPages_130 : decode cX5_laysPages 130 = .ok (.goto (-123), 3) := dk_167 255 133 (dk_at dksX5_laysPages_5 13 rfl rfl)
theorem dX5_laysPages_133 : decode cX5_laysPages 133 = .ok (.return_, 1) := dk_177 (dk_at dksX5_laysPages_5 16 rfl rfl)
abbrev cX5_isFirst : ByteArray := prog_20_method_36_code
def yX5_isFirst : MethodName := ⟨RX5, "isFirst", "(I)Z"⟩
def dkwX5_isFirst_1 : List UInt8 := [167, 0, 4, 3, 172]
abbrev dktX5_isFirst_1 : List UInt8 := dkwX5_isFirst_1 ++ []
def dkwX5_isFirst_0 : List UInt8 := [27, 153, 0, 20, 42, 180, 0, 41, 27, 46, 42, 180, 0, 41, 27, 4, 100, 46, 159, 0, 7, 4]
abbrev dktX5_isFirst_0 : List UInt8 := dkwX5_isFirst_0 ++ dktX5_isFirst_1
theorem dksX5_isFirst_0 : cX5_isFirst.data.toList.drop 0 = dktX5_isFirst_0 := by decide +kernel
theorem dksX5_isFirst_1 : cX5_isFirst.data.toList.drop 22 = dktX5_isFirst_1 := dk_seg dksX5_isFirst_0 22 rfl rfl
theorem dX5_isFirst_0 : decode cX5_isFirst 0 = .ok (.iload_n 1, 1) := dk_27 (dk_at dksX5_isFirst_0 0 rfl rfl)
theorem dX5_isFirst_1 : decode cX5_isFirst 1 = .ok (.ifCond .eq 20, 3) := dk_153 0 20 (dk_at dksX5_isFirst_0 1 rfl rfl)
theorem dX5_isFirst_4 : decode cX5_isFirst 4 = .ok (.aload_n 0, 1) := dk_42 (dk_at dksX5_isFirst_0 4 rfl rfl)
theorem dX5_isFirst_5 : decode cX5_isFirst 5 = .ok (.getfield 41, 3) := dk_180 0 41 (dk_at dksX5_isFirst_0 5 rfl rfl)
theorem dX5_isFirst_8 : decode cX5_isFirst 8 = .ok (.iload_n 1, 1) := dk_27 (dk_at dksX5_isFirst_0 8 rfl rfl)
theorem dX5_isFirst_9 : decode cX5_isFirst 9 = .ok (.iaload, 1) := dk_46 (dk_at dksX5_isFirst_0 9 rfl rfl)
theorem dX5_isFirst_10 : decode cX5_isFirst 10 = .ok (.aload_n 0, 1) := dk_42 (dk_at dksX5_isFirst_0 10 rfl rfl)
theorem dX5_isFirst_11 : decode cX5_isFirst 11 = .ok (.getfield 41, 3) := dk_180 0 41 (dk_at dksX5_isFirst_0 11 rfl rfl)
theorem dX5_isFirst_14 : decode cX5_isFirst 14 = .ok (.iload_n 1, 1) := dk_27 (dk_at dksX5_isFirst_0 14 rfl rfl)
theorem dX5_isFirst_15 : decode cX5_isFirst 15 = .ok (.iconst 1, 1) := dk_4 (dk_at dksX5_isFirst_0 15 rfl rfl)
theorem dX5_isFirst_16 : decode cX5_isFirst 16 = .ok (.isub, 1) := dk_100 (dk_at dksX5_isFirst_0 16 rfl rfl)
theorem dX5_isFirst_17 : decode cX5_isFirst 17 = .ok (.iaload, 1) := dk_46 (dk_at dksX5_isFirst_0 17 rfl rfl)
theorem dX5_isFirst_18 : decode cX5_isFirst 18 = .ok (.if_icmp .eq 7, 3) := dk_159 0 7 (dk_at dksX5_isFirst_0 18 rfl rfl)
theorem dX5_isFirst_21 : decode cX5_isFirst 21 = .ok (.iconst 1, 1) := dk_4 (dk_at dksX5_isFirst_0 21 rfl rfl)
theorem dX5_isFirst_22 : decode cX5_isFirst 22 = .ok (.goto 4, 3) := dk_167 0 4 (dk_at dksX5_isFirst_1 0 rfl rfl)
theorem dX5_isFirst_25 : decode cX5_isFirst 25 = .ok (.iconst 0, 1) := dk_3 (dk_at dksX5_isFirst_1 3 rfl rfl)
theorem dX5_isFirst_26 : decode cX5_isFirst 26 = .ok (.ireturn, 1) := dk_172 (dk_at dksX5_isFirst_1 4 rfl rfl)
abbrev cX5_left : ByteArray := prog_20_method_41_code
def yX5_left : MethodName := ⟨RX5, "left", "(I)I"⟩
def dkwX5_left_1 : List UInt8 := [172]
abbrev dktX5_left_1 : List UInt8 := dkwX5_left_1 ++ []
def dkwX5_left_0 : List UInt8 := [42, 180, 0, 194, 154, 0, 7, 3, 167, 0, 16, 27, 42, 180, 0, 68, 42, 180, 0, 194, 4, 100, 46, 100]
abbrev dktX5_left_0 : List UInt8 := dkwX5_left_0 ++ dktX5_left_1
theorem dksX5_left_0 : cX5_left.data.toList.drop 0 = dktX5_left_0 := by decide +kernel
theorem dksX5_left_1 : cX5_left.data.toList.drop 24 = dktX5_left_1 := dk_seg dksX5_left_0 24 rfl rfl
theorem dX5_left_0 : decode cX5_left 0 = .ok (.aload_n 0, 1) := dk_42 (dk_at dksX5_left_0 0 rfl rfl)
theorem dX5_left_1 : decode cX5_left 1 = .ok (.getfield 194, 3) := dk_180 0 194 (dk_at dksX5_left_0 1 rfl rfl)
theorem dX5_left_4 : decode cX5_left 4 = .ok (.ifCond .ne 7, 3) := dk_154 0 7 (dk_at dksX5_left_0 4 rfl rfl)
theorem dX5_left_7 : decode cX5_left 7 = .ok (.iconst 0, 1) := dk_3 (dk_at dksX5_left_0 7 rfl rfl)
theorem dX5_left_8 : decode cX5_left 8 = .ok (.goto 16, 3) := dk_167 0 16 (dk_at dksX5_left_0 8 rfl rfl)
theorem dX5_left_11 : decode cX5_left 11 = .ok (.iload_n 1, 1) := dk_27 (dk_at dksX5_left_0 11 rfl rfl)
theorem dX5_left_12 : decode cX5_left 12 = .ok (.aload_n 0, 1) := dk_42 (dk_at dksX5_left_0 12 rfl rfl)
theorem dX5_left_13 : decode cX5_left 13 = .ok (.getfield 68, 3) := dk_180 0 68 (dk_at dksX5_left_0 13 rfl rfl)
theorem dX5_left_16 : decode cX5_left 16 = .ok (.aload_n 0, 1) := dk_42 (dk_at dksX5_left_0 16 rfl rfl)
theorem dX5_left_17 : decode cX5_left 17 = .ok (.getfield 194, 3) := dk_180 0 194 (dk_at dksX5_left_0 17 rfl rfl)
theorem dX5_left_20 : decode cX5_left 20 = .ok (.iconst 1, 1) := dk_4 (dk_at dksX5_left_0 20 rfl rfl)
theorem dX5_left_21 : decode cX5_left 21 = .ok (.isub, 1) := dk_100 (dk_at dksX5_left_0 21 rfl rfl)
theorem dX5_left_22 : decode cX5_left 22 = .ok (.iaload, 1) := dk_46 (dk_at dksX5_left_0 22 rfl rfl)
theorem dX5_left_23 : decode cX5_left 23 = .ok (.isub, 1) := dk_100 (dk_at dksX5_left_0 23 rfl rfl)
theorem dX5_left_24 : decode cX5_left 24 = .ok (.ireturn, 1) := dk_172 (dk_at dksX5_left_1 0 rfl rfl)
abbrev cX5_turns : ByteArray := prog_20_method_40_code
def yX5_turns : MethodName := ⟨RX5, "turns", "()V"⟩
def dkwX5_turns_0 : List UInt8 := [42, 180, 0, 68, 42, 180, 0, 194, 3, 79, 42, 89, 180, 0, 194, 4, 96, 181, 0, 194, 177]
abbrev dktX5_turns_0 : List UInt8 := dkwX5_turns_0 ++ []
theorem dksX5_turns_0 : cX5_turns.data.toList.drop 0 = dktX5_turns_0 := by decide +kernel
theorem dX5_turns_0 : decode cX5_turns 0 = .ok (.aload_n 0, 1) := dk_42 (dk_at dksX5_turns_0 0 rfl rfl)
theorem dX5_turns_1 : decode cX5_turns 1 = .ok (.getfield 68, 3) := dk_180 0 68 (dk_at dksX5_turns_0 1 rfl rfl)
theorem dX5_turns_4 : decode cX5_turns 4 = .ok (.aload_n 0, 1) := dk_42 (dk_at dksX5_turns_0 4 rfl rfl)
theorem dX5_turns_5 : decode cX5_turns 5 = .ok (.getfield 194, 3) := dk_180 0 194 (dk_at dksX5_turns_0 5 rfl rfl)
theorem dX5_turns_8 : decode cX5_turns 8 = .ok (.iconst 0, 1) := dk_3 (dk_at dksX5_turns_0 8 rfl rfl)
theorem dX5_turns_9 : decode cX5_turns 9 = .ok (.iastore, 1) := dk_79 (dk_at dksX5_turns_0 9 rfl rfl)
theorem dX5_turns_10 : decode cX5_turns 10 = .ok (.aload_n 0, 1) := dk_42 (dk_at dksX5_turns_0 10 rfl rfl)
theorem dX5_turns_11 : decode cX5_turns 11 = .ok (.dup, 1) := dk_89 (dk_at dksX5_turns_0 11 rfl rfl)
theorem dX5_turns_12 : decode cX5_turns 12 = .ok (.getfield 194, 3) := dk_180 0 194 (dk_at dksX5_turns_0 12 rfl rfl)
theorem dX5_turns_15 : decode cX5_turns 15 = .ok (.iconst 1, 1) := dk_4 (dk_at dksX5_turns_0 15 rfl rfl)
theorem dX5_turns_16 : decode cX5_turns 16 = .ok (.iadd, 1) := dk_96 (dk_at dksX5_turns_0 16 rfl rfl)
theorem dX5_turns_17 : decode cX5_turns 17 = .ok (.putfield 194, 3) := dk_181 0 194 (dk_at dksX5_turns_0 17 rfl rfl)
theorem dX5_turns_20 : decode cX5_turns 20 = .ok (.return_, 1) := dk_177 (dk_at dksX5_turns_0 20 rfl rfl)
abbrev cX5_takes : ByteArray := prog_20_method_42_code
def yX5_takes : MethodName := ⟨RX5, "takes", "(IIII)V"⟩
def dkwX5_takes_2 : List UInt8 := [42, 180, 0, 68, 42, 180, 0, 194, 4, 100, 92, 46, 4, 96, 79, 177]
abbrev dktX5_takes_2 : List UInt8 := dkwX5_takes_2 ++ []
def dkwX5_takes_1 : List UInt8 := [180, 0, 53, 21, 5, 28, 79, 42, 180, 0, 56, 21, 5, 29, 79, 42, 180, 0, 59, 21, 5, 21, 4, 79]
abbrev dktX5_takes_1 : List UInt8 := dkwX5_takes_1 ++ dktX5_takes_2
def dkwX5_takes_0 : List UInt8 := [27, 42, 180, 0, 194, 4, 100, 104, 42, 180, 0, 68, 42, 180, 0, 194, 4, 100, 46, 96, 54, 5, 42]
abbrev dktX5_takes_0 : List UInt8 := dkwX5_takes_0 ++ dktX5_takes_1
theorem dksX5_takes_0 : cX5_takes.data.toList.drop 0 = dktX5_takes_0 := by decide +kernel
theorem dksX5_takes_1 : cX5_takes.data.toList.drop 23 = dktX5_takes_1 := dk_seg dksX5_takes_0 23 rfl rfl
theorem dksX5_takes_2 : cX5_takes.data.toList.drop 47 = dktX5_takes_2 := dk_seg dksX5_takes_1 24 rfl rfl
theorem dX5_takes_0 : decode cX5_takes 0 = .ok (.iload_n 1, 1) := dk_27 (dk_at dksX5_takes_0 0 rfl rfl)
theorem dX5_takes_1 : decode cX5_takes 1 = .ok (.aload_n 0, 1) := dk_42 (dk_at dksX5_takes_0 1 rfl rfl)
theorem dX5_takes_2 : decode cX5_takes 2 = .ok (.getfield 194, 3) := dk_180 0 194 (dk_at dksX5_takes_0 2 rfl rfl)
theorem dX5_takes_5 : decode cX5_takes 5 = .ok (.iconst 1, 1) := dk_4 (dk_at dksX5_takes_0 5 rfl rfl)
theorem dX5_takes_6 : decode cX5_takes 6 = .ok (.isub, 1) := dk_100 (dk_at dksX5_takes_0 6 rfl rfl)
theorem dX5_takes_7 : decode cX5_takes 7 = .ok (.imul, 1) := dk_104 (dk_at dksX5_takes_0 7 rfl rfl)
theorem dX5_takes_8 : decode cX5_takes 8 = .ok (.aload_n 0, 1) := dk_42 (dk_at dksX5_takes_0 8 rfl rfl)
theorem dX5_takes_9 : decode cX5_takes 9 = .ok (.getfield 68, 3) := dk_180 0 68 (dk_at dksX5_takes_0 9 rfl rfl)
theorem dX5_takes_12 : decode cX5_takes 12 = .ok (.aload_n 0, 1) := dk_42 (dk_at dksX5_takes_0 12 rfl rfl)
theorem dX5_takes_13 : decode cX5_takes 13 = .ok (.getfield 194, 3) := dk_180 0 194 (dk_at dksX5_takes_0 13 rfl rfl)
theorem dX5_takes_16 : decode cX5_takes 16 = .ok (.iconst 1, 1) := dk_4 (dk_at dksX5_takes_0 16 rfl rfl)
theorem dX5_takes_17 : decode cX5_takes 17 = .ok (.isub, 1) := dk_100 (dk_at dksX5_takes_0 17 rfl rfl)
theorem dX5_takes_18 : decode cX5_takes 18 = .ok (.iaload, 1) := dk_46 (dk_at dksX5_takes_0 18 rfl rfl)
theorem dX5_takes_19 : decode cX5_takes 19 = .ok (.iadd, 1) := dk_96 (dk_at dksX5_takes_0 19 rfl rfl)
theorem dX5_takes_20 : decode cX5_takes 20 = .ok (.istore 5, 2) := dk_54 5 (dk_at dksX5_takes_0 20 rfl rfl)
theorem dX5_takes_22 : decode cX5_takes 22 = .ok (.aload_n 0, 1) := dk_42 (dk_at dksX5_takes_0 22 rfl rfl)
theorem dX5_takes_23 : decode cX5_takes 23 = .ok (.getfield 53, 3) := dk_180 0 53 (dk_at dksX5_takes_1 0 rfl rfl)
theorem dX5_takes_26 : decode cX5_takes 26 = .ok (.iload 5, 2) := dk_21 5 (dk_at dksX5_takes_1 3 rfl rfl)
theorem dX5_takes_28 : decode cX5_takes 28 = .ok (.iload_n 2, 1) := dk_28 (dk_at dksX5_takes_1 5 rfl rfl)
theorem dX5_takes_29 : decode cX5_takes 29 = .ok (.iastore, 1) := dk_79 (dk_at dksX5_takes_1 6 rfl rfl)
theorem dX5_takes_30 : decode cX5_takes 30 = .ok (.aload_n 0, 1) := dk_42 (dk_at dksX5_takes_1 7 rfl rfl)
theorem dX5_takes_31 : decode cX5_takes 31 = .ok (.getfield 56, 3) := dk_180 0 56 (dk_at dksX5_takes_1 8 rfl rfl)
theorem dX5_takes_34 : decode cX5_takes 34 = .ok (.iload 5, 2) := dk_21 5 (dk_at dksX5_takes_1 11 rfl rfl)
theorem dX5_takes_36 : decode cX5_takes 36 = .ok (.iload_n 3, 1) := dk_29 (dk_at dksX5_takes_1 13 rfl rfl)
theorem dX5_takes_37 : decode cX5_takes 37 = .ok (.iastore, 1) := dk_79 (dk_at dksX5_takes_1 14 rfl rfl)
theorem dX5_takes_38 : decode cX5_takes 38 = .ok (.aload_n 0, 1) := dk_42 (dk_at dksX5_takes_1 15 rfl rfl)
theorem dX5_takes_39 : decode cX5_takes 39 = .ok (.getfield 59, 3) := dk_180 0 59 (dk_at dksX5_takes_1 16 rfl rfl)
theorem dX5_takes_42 : decode cX5_takes 42 = .ok (.iload 5, 2) := dk_21 5 (dk_at dksX5_takes_1 19 rfl rfl)
theorem dX5_takes_44 : decode cX5_takes 44 = .ok (.iload 4, 2) := dk_21 4 (dk_at dksX5_takes_1 21 rfl rfl)
theorem dX5_takes_46 : decode cX5_takes 46 = .ok (.iastore, 1) := dk_79 (dk_at dksX5_takes_1 23 rfl rfl)
theorem dX5_takes_47 : decode cX5_takes 47 = .ok (.aload_n 0, 1) := dk_42 (dk_at dksX5_takes_2 0 rfl rfl)
theorem dX5_takes_48 : decode cX5_takes 48 = .ok (.getfield 68, 3) := dk_180 0 68 (dk_at dksX5_takes_2 1 rfl rfl)
theorem dX5_takes_51 : decode cX5_takes 51 = .ok (.aload_n 0, 1) := dk_42 (dk_at dksX5_takes_2 4 rfl rfl)
theorem dX5_takes_52 : decode cX5_takes 52 = .ok (.getfield 194, 3) := dk_180 0 194 (dk_at dksX5_takes_2 5 rfl rfl)
theorem dX5_takes_55 : decode cX5_takes 55 = .ok (.iconst 1, 1) := dk_4 (dk_at dksX5_takes_2 8 rfl rfl)
theorem dX5_takes_56 : decode cX5_takes 56 = .ok (.isub, 1) := dk_100 (dk_at dksX5_takes_2 9 rfl rfl)
theorem dX5_takes_57 : decode cX5_takes 57 = .ok (.dup2, 1) := dk_92 (dk_at dksX5_takes_2 10 rfl rfl)
theorem dX5_takes_58 : decode cX5_takes 58 = .ok (.iaload, 1) := dk_46 (dk_at dksX5_takes_2 11 rfl rfl)
theorem dX5_takes_59 : decode cX5_takes 59 = .ok (.iconst 1, 1) := dk_4 (dk_at dksX5_takes_2 12 rfl rfl)
theorem dX5_takes_60 : decode cX5_takes 60 = .ok (.iadd, 1) := dk_96 (dk_at dksX5_takes_2 13 rfl rfl)
theorem dX5_takes_61 : decode cX5_takes 61 = .ok (.iastore, 1) := dk_79 (dk_at dksX5_takes_2 14 rfl rfl)
theorem dX5_takes_62 : decode cX5_takes 62 = .ok (.return_, 1) := dk_177 (dk_at dksX5_takes_2 15 rfl rfl)
abbrev cX5_blocks : ByteArray := prog_20_method_39_code
def yX5_blocks : MethodName := ⟨RX5, "blocks", "()I"⟩
def dkwX5_blocks_1 : List UInt8 := [167, 0, 4, 3, 96, 60, 132, 2, 1, 167, 255, 229, 27, 172]
abbrev dktX5_blocks_1 : List UInt8 := dkwX5_blocks_1 ++ []
def dkwX5_blocks_0 : List UInt8 := [3, 60, 3, 61, 28, 42, 180, 0, 170, 162, 0, 25, 27, 42, 28, 182, 0, 191, 153, 0, 7, 4]
abbrev dktX5_blocks_0 : List UInt8 := dkwX5_blocks_0 ++ dktX5_blocks_1
theorem dksX5_blocks_0 : cX5_blocks.data.toList.drop 0 = dktX5_blocks_0 := by decide +kernel
theorem dksX5_blocks_1 : cX5_blocks.data.toList.drop 22 = dktX5_blocks_1 := dk_seg dksX5_blocks_0 22 rfl rfl
theorem dX5_blocks_0 : decode cX5_blocks 0 = .ok (.iconst 0, 1) := dk_3 (dk_at dksX5_blocks_0 0 rfl rfl)
theorem dX5_blocks_1 : decode cX5_blocks 1 = .ok (.istore_n 1, 1) := dk_60 (dk_at dksX5_blocks_0 1 rfl rfl)
theorem dX5_blocks_2 : decode cX5_blocks 2 = .ok (.iconst 0, 1) := dk_3 (dk_at dksX5_blocks_0 2 rfl rfl)
theorem dX5_blocks_3 : decode cX5_blocks 3 = .ok (.istore_n 2, 1) := dk_61 (dk_at dksX5_blocks_0 3 rfl rfl)
theorem dX5_blocks_4 : decode cX5_blocks 4 = .ok (.iload_n 2, 1) := dk_28 (dk_at dksX5_blocks_0 4 rfl rfl)
theorem dX5_blocks_5 : decode cX5_blocks 5 = .ok (.aload_n 0, 1) := dk_42 (dk_at dksX5_blocks_0 5 rfl rfl)
theorem dX5_blocks_6 : decode cX5_blocks 6 = .ok (.getfield 170, 3) := dk_180 0 170 (dk_at dksX5_blocks_0 6 rfl rfl)
theorem dX5_blocks_9 : decode cX5_blocks 9 = .ok (.if_icmp .ge 25, 3) := dk_162 0 25 (dk_at dksX5_blocks_0 9 rfl rfl)
theorem dX5_blocks_12 : decode cX5_blocks 12 = .ok (.iload_n 1, 1) := dk_27 (dk_at dksX5_blocks_0 12 rfl rfl)
theorem dX5_blocks_13 : decode cX5_blocks 13 = .ok (.aload_n 0, 1) := dk_42 (dk_at dksX5_blocks_0 13 rfl rfl)
theorem dX5_blocks_14 : decode cX5_blocks 14 = .ok (.iload_n 2, 1) := dk_28 (dk_at dksX5_blocks_0 14 rfl rfl)
theorem dX5_blocks_15 : decode cX5_blocks 15 = .ok (.invokevirtual 191, 3) := dk_182 0 191 (dk_at dksX5_blocks_0 15 rfl rfl)
theorem dX5_blocks_18 : decode cX5_blocks 18 = .ok (.ifCond .eq 7, 3) := dk_153 0 7 (dk_at dksX5_blocks_0 18 rfl rfl)
theorem dX5_blocks_21 : decode cX5_blocks 21 = .ok (.iconst 1, 1) := dk_4 (dk_at dksX5_blocks_0 21 rfl rfl)
theorem dX5_blocks_22 : decode cX5_blocks 22 = .ok (.goto 4, 3) := dk_167 0 4 (dk_at dksX5_blocks_1 0 rfl rfl)
theorem dX5_blocks_25 : decode cX5_blocks 25 = .ok (.iconst 0, 1) := dk_3 (dk_at dksX5_blocks_1 3 rfl rfl)
theorem dX5_blocks_26 : decode cX5_blocks 26 = .ok (.iadd, 1) := dk_96 (dk_at dksX5_blocks_1 4 rfl rfl)
theorem dX5_blocks_27 : decode cX5_blocks 27 = .ok (.istore_n 1, 1) := dk_60 (dk_at dksX5_blocks_1 5 rfl rfl)
theorem dX5_blocks_28 : decode cX5_blocks 28 = .ok (.iinc 2 1, 3) := dk_132 2 1 (dk_at dksX5_blocks_1 6 rfl rfl)
theorem dX5_blocks_31 : decode cX5_blocks 31 = .ok (.goto (-27), 3) := dk_167 255 229 (dk_at dksX5_blocks_1 9 rfl rfl)
theorem dX5_blocks_34 : decode cX5_blocks 34 = .ok (.iload_n 1, 1) := dk_27 (dk_at dksX5_blocks_1 12 rfl rfl)
theorem dX5_blocks_35 : decode cX5_blocks 35 = .ok (.ireturn, 1) := dk_172 (dk_at dksX5_blocks_1 13 rfl rfl)
abbrev cX5_linesOf : ByteArray := prog_20_method_35_code
def yX5_linesOf : MethodName := ⟨RX5, "linesOf", "(I)I"⟩
def dkwX5_linesOf_1 : List UInt8 := [167, 0, 4, 3, 96, 61, 132, 3, 1, 167, 255, 227, 28, 172]
abbrev dktX5_linesOf_1 : List UInt8 := dkwX5_linesOf_1 ++ []
def dkwX5_linesOf_0 : List UInt8 := [3, 61, 3, 62, 29, 42, 180, 0, 170, 162, 0, 27, 28, 42, 180, 0, 44, 29, 46, 27, 160, 0, 7, 4]
abbrev dktX5_linesOf_0 : List UInt8 := dkwX5_linesOf_0 ++ dktX5_linesOf_1
theorem dksX5_linesOf_0 : cX5_linesOf.data.toList.drop 0 = dktX5_linesOf_0 := by decide +kernel
theorem dksX5_linesOf_1 : cX5_linesOf.data.toList.drop 24 = dktX5_linesOf_1 := dk_seg dksX5_linesOf_0 24 rfl rfl
theorem dX5_linesOf_0 : decode cX5_linesOf 0 = .ok (.iconst 0, 1) := dk_3 (dk_at dksX5_linesOf_0 0 rfl rfl)
theorem dX5_linesOf_1 : decode cX5_linesOf 1 = .ok (.istore_n 2, 1) := dk_61 (dk_at dksX5_linesOf_0 1 rfl rfl)
theorem dX5_linesOf_2 : decode cX5_linesOf 2 = .ok (.iconst 0, 1) := dk_3 (dk_at dksX5_linesOf_0 2 rfl rfl)
theorem dX5_linesOf_3 : decode cX5_linesOf 3 = .ok (.istore_n 3, 1) := dk_62 (dk_at dksX5_linesOf_0 3 rfl rfl)
theorem dX5_linesOf_4 : decode cX5_linesOf 4 = .ok (.iload_n 3, 1) := dk_29 (dk_at dksX5_linesOf_0 4 rfl rfl)
theorem dX5_linesOf_5 : decode cX5_linesOf 5 = .ok (.aload_n 0, 1) := dk_42 (dk_at dksX5_linesOf_0 5 rfl rfl)
theorem dX5_linesOf_6 : decode cX5_linesOf 6 = .ok (.getfield 170, 3) := dk_180 0 170 (dk_at dksX5_linesOf_0 6 rfl rfl)
theorem dX5_linesOf_9 : decode cX5_linesOf 9 = .ok (.if_icmp .ge 27, 3) := dk_162 0 27 (dk_at dksX5_linesOf_0 9 rfl rfl)
theorem dX5_linesOf_12 : decode cX5_linesOf 12 = .ok (.iload_n 2, 1) := dk_28 (dk_at dksX5_linesOf_0 12 rfl rfl)
theorem dX5_linesOf_13 : decode cX5_linesOf 13 = .ok (.aload_n 0, 1) := dk_42 (dk_at dksX5_linesOf_0 13 rfl rfl)
theorem dX5_linesOf_14 : decode cX5_linesOf 14 = .ok (.getfield 44, 3) := dk_180 0 44 (dk_at dksX5_linesOf_0 14 rfl rfl)
theorem dX5_linesOf_17 : decode cX5_linesOf 17 = .ok (.iload_n 3, 1) := dk_29 (dk_at dksX5_linesOf_0 17 rfl rfl)
theorem dX5_linesOf_18 : decode cX5_linesOf 18 = .ok (.iaload, 1) := dk_46 (dk_at dksX5_linesOf_0 18 rfl rfl)
theorem dX5_linesOf_19 : decode cX5_linesOf 19 = .ok (.iload_n 1, 1) := dk_27 (dk_at dksX5_linesOf_0 19 rfl rfl)
theorem dX5_linesOf_20 : decode cX5_linesOf 20 = .ok (.if_icmp .ne 7, 3) := dk_160 0 7 (dk_at dksX5_linesOf_0 20 rfl rfl)
theorem dX5_linesOf_23 : decode cX5_linesOf 23 = .ok (.iconst 1, 1) := dk_4 (dk_at dksX5_linesOf_0 23 rfl rfl)
theorem dX5_linesOf_24 : decode cX5_linesOf 24 = .ok (.goto 4, 3) := dk_167 0 4 (dk_at dksX5_linesOf_1 0 rfl rfl)
theorem dX5_linesOf_27 : decode cX5_linesOf 27 = .ok (.iconst 0, 1) := dk_3 (dk_at dksX5_linesOf_1 3 rfl rfl)
theorem dX5_linesOf_28 : decode cX5_linesOf 28 = .ok (.iadd, 1) := dk_96 (dk_at dksX5_linesOf_1 4 rfl rfl)
theorem dX5_linesOf_29 : decode cX5_linesOf 29 = .ok (.istore_n 2, 1) := dk_61 (dk_at dksX5_linesOf_1 5 rfl rfl)
theorem dX5_linesOf_30 : decode cX5_linesOf 30 = .ok (.iinc 3 1, 3) := dk_132 3 1 (dk_at dksX5_linesOf_1 6 rfl rfl)
theorem dX5_linesOf_33 : decode cX5_linesOf 33 = .ok (.goto (-29), 3) := dk_167 255 227 (dk_at dksX5_linesOf_1 9 rfl rfl)
theorem dX5_linesOf_36 : decode cX5_linesOf 36 = .ok (.iload_n 2, 1) := dk_28 (dk_at dksX5_linesOf_1 12 rfl rfl)
theorem dX5_linesOf_37 : decode cX5_linesOf 37 = .ok (.ireturn, 1) := dk_172 (dk_at dksX5_linesOf_1 13 rfl rfl)
abbrev cX5_village : ByteArray := prog_20_method_89_code
def yX5_village : MethodName := ⟨RX5, "village", "(II)I"⟩
def dkwX5_village_5 : List UInt8 := [3, 172]
abbrev dktX5_village_5 : List UInt8 := dkwX5_village_5 ++ []
def dkwX5_village_4 : List UInt8 := [42, 27, 42, 180, 0, 7, 16, 6, 46, 182, 1, 174, 172, 42, 27, 182, 1, 177, 172, 42, 5, 181, 0, 100]
abbrev dktX5_village_4 : List UInt8 := dkwX5_village_4 ++ dktX5_village_5
def dkwX5_village_3 : List UInt8 := [180, 0, 7, 16, 6, 46, 182, 0, 177, 153, 0, 7, 4, 167, 0, 4, 3, 172, 42, 27, 182, 1, 171, 172]
abbrev dktX5_village_3 : List UInt8 := dkwX5_village_3 ++ dktX5_village_4
def dkwX5_village_2 : List UInt8 := [42, 27, 28, 182, 0, 140, 172, 42, 27, 42, 180, 0, 7, 16, 6, 46, 182, 0, 181, 172, 42, 27, 42]
abbrev dktX5_village_2 : List UInt8 := dkwX5_village_2 ++ dktX5_village_3
def dkwX5_village_1 : List UInt8 := [170, 0, 0, 0, 115, 0, 0, 0, 0, 0, 0, 0, 8, 0, 0, 0, 49, 0, 0, 0, 49, 0, 0, 0, 49, 0, 0, 0, 49, 0, 0, 0, 56, 0, 0, 0, 69, 0, 0, 0, 90, 0, 0, 0, 96, 0, 0, 0, 109]
abbrev dktX5_village_1 : List UInt8 := dkwX5_village_1 ++ dktX5_village_2
def dkwX5_village_0 : List UInt8 := [42, 182, 0, 208, 42, 27, 182, 1, 168, 153, 0, 5, 3, 172, 28]
abbrev dktX5_village_0 : List UInt8 := dkwX5_village_0 ++ dktX5_village_1
theorem dksX5_village_0 : cX5_village.data.toList.drop 0 = dktX5_village_0 := by decide +kernel
theorem dksX5_village_1 : cX5_village.data.toList.drop 15 = dktX5_village_1 := dk_seg dksX5_village_0 15 rfl rfl
theorem dksX5_village_2 : cX5_village.data.toList.drop 64 = dktX5_village_2 := dk_seg dksX5_village_1 49 rfl rfl
theorem dksX5_village_3 : cX5_village.data.toList.drop 87 = dktX5_village_3 := dk_seg dksX5_village_2 23 rfl rfl
theorem dksX5_village_4 : cX5_village.data.toList.drop 111 = dktX5_village_4 := dk_seg dksX5_village_3 24 rfl rfl
theorem dksX5_village_5 : cX5_village.data.toList.drop 135 = dktX5_village_5 := dk_seg dksX5_village_4 24 rfl rfl
theorem dX5_village_0 : decode cX5_village 0 = .ok (.aload_n 0, 1) := dk_42 (dk_at dksX5_village_0 0 rfl rfl)
theorem dX5_village_1 : decode cX5_village 1 = .ok (.invokevirtual 208, 3) := dk_182 0 208 (dk_at dksX5_village_0 1 rfl rfl)
theorem dX5_village_4 : decode cX5_village 4 = .ok (.aload_n 0, 1) := dk_42 (dk_at dksX5_village_0 4 rfl rfl)
theorem dX5_village_5 : decode cX5_village 5 = .ok (.iload_n 1, 1) := dk_27 (dk_at dksX5_village_0 5 rfl rfl)
theorem dX5_village_6 : decode cX5_village 6 = .ok (.invokevirtual 424, 3) := dk_182 1 168 (dk_at dksX5_village_0 6 rfl rfl)
theorem dX5_village_9 : decode cX5_village 9 = .ok (.ifCond .eq 5, 3) := dk_153 0 5 (dk_at dksX5_village_0 9 rfl rfl)
theorem dX5_village_12 : decode cX5_village 12 = .ok (.iconst 0, 1) := dk_3 (dk_at dksX5_village_0 12 rfl rfl)
theorem dX5_village_13 : decode cX5_village 13 = .ok (.ireturn, 1) := dk_172 (dk_at dksX5_village_0 13 rfl rfl)
theorem dX5_village_14 : decode cX5_village 14 = .ok (.iload_n 2, 1) := dk_28 (dk_at dksX5_village_0 14 rfl rfl)
theorem dX5_village_15 : decode cX5_village 15 = .ok (.tableswitch 115 0 8 #[49, 49, 49, 49, 56, 69, 90, 96, 109], 49) := by decide +kernel
theorem dX5_village_64 : decode cX5_village 64 = .ok (.aload_n 0, 1) := dk_42 (dk_at dksX5_village_2 0 rfl rfl)
theorem dX5_village_65 : decode cX5_village 65 = .ok (.iload_n 1, 1) := dk_27 (dk_at dksX5_village_2 1 rfl rfl)
theorem dX5_village_66 : decode cX5_village 66 = .ok (.iload_n 2, 1) := dk_28 (dk_at dksX5_village_2 2 rfl rfl)
theorem dX5_village_67 : decode cX5_village 67 = .ok (.invokevirtual 140, 3) := dk_182 0 140 (dk_at dksX5_village_2 3 rfl rfl)
theorem dX5_village_70 : decode cX5_village 70 = .ok (.ireturn, 1) := dk_172 (dk_at dksX5_village_2 6 rfl rfl)
theorem dX5_village_71 : decode cX5_village 71 = .ok (.aload_n 0, 1) := dk_42 (dk_at dksX5_village_2 7 rfl rfl)
theorem dX5_village_72 : decode cX5_village 72 = .ok (.iload_n 1, 1) := dk_27 (dk_at dksX5_village_2 8 rfl rfl)
theorem dX5_village_73 : decode cX5_village 73 = .ok (.aload_n 0, 1) := dk_42 (dk_at dksX5_village_2 9 rfl rfl)
theorem dX5_village_74 : decode cX5_village 74 = .ok (.getfield 7, 3) := dk_180 0 7 (dk_at dksX5_village_2 10 rfl rfl)
theorem dX5_village_77 : decode cX5_village 77 = .ok (.bipush 6, 2) := dk_16 6 (dk_at dksX5_village_2 13 rfl rfl)
theorem dX5_village_79 : decode cX5_village 79 = .ok (.iaload, 1) := dk_46 (dk_at dksX5_village_2 15 rfl rfl)
theorem dX5_village_80 : decode cX5_village 80 = .ok (.invokevirtual 181, 3) := dk_182 0 181 (dk_at dksX5_village_2 16 rfl rfl)
theorem dX5_village_83 : decode cX5_village 83 = .ok (.ireturn, 1) := dk_172 (dk_at dksX5_village_2 19 rfl rfl)
theorem dX5_village_84 : decode cX5_village 84 = .ok (.aload_n 0, 1) := dk_42 (dk_at dksX5_village_2 20 rfl rfl)
theorem dX5_village_85 : decode cX5_village 85 = .ok (.iload_n 1, 1) := dk_27 (dk_at dksX5_village_2 21 rfl rfl)
theorem dX5_village_86 : decode cX5_village 86 = .ok (.aload_n 0, 1) := dk_42 (dk_at dksX5_village_2 22 rfl rfl)
theorem dX5_village_87 : decode cX5_village 87 = .ok (.getfield 7, 3) := dk_180 0 7 (dk_at dksX5_village_3 0 rfl rfl)
theorem dX5_village_90 : decode cX5_village 90 = .ok (.bipush 6, 2) := dk_16 6 (dk_at dksX5_village_3 3 rfl rfl)
theorem dX5_village_92 : decode cX5_village 92 = .ok (.iaload, 1) := dk_46 (dk_at dksX5_village_3 5 rfl rfl)
theorem dX5_village_93 : decode cX5_village 93 = .ok (.invokevirtual 177, 3) := dk_182 0 177 (dk_at dksX5_village_3 6 rfl rfl)
theorem dX5_village_96 : decode cX5_village 96 = .ok (.ifCond .eq 7, 3) := dk_153 0 7 (dk_at dksX5_village_3 9 rfl rfl)
theorem dX5_village_99 : decode cX5_village 99 = .ok (.iconst 1, 1) := dk_4 (dk_at dksX5_village_3 12 rfl rfl)
theorem dX5_village_100 : decode cX5_village 100 = .ok (.goto 4, 3) := dk_167 0 4 (dk_at dksX5_village_3 13 rfl rfl)
theorem dX5_village_103 : decode cX5_village 103 = .ok (.iconst 0, 1) := dk_3 (dk_at dksX5_village_3 16 rfl rfl)
theorem dX5_village_104 : decode cX5_village 104 = .ok (.ireturn, 1) := dk_172 (dk_at dksX5_village_3 17 rfl rfl)
theorem dX5_village_105 : decode cX5_village 105 = .ok (.aload_n 0, 1) := dk_42 (dk_at dksX5_village_3 18 rfl rfl)
theorem dX5_village_106 : decode cX5_village 106 = .ok (.iload_n 1, 1) := dk_27 (dk_at dksX5_village_3 19 rfl rfl)
theorem dX5_village_107 : decode cX5_village 107 = .ok (.invokevirtual 427, 3) := dk_182 1 171 (dk_at dksX5_village_3 20 rfl rfl)
theorem dX5_village_110 : decode cX5_village 110 = .ok (.ireturn, 1) := dk_172 (dk_at dksX5_village_3 23 rfl rfl)
theorem dX5_village_111 : decode cX5_village 111 = .ok (.aload_n 0, 1) := dk_42 (dk_at dksX5_village_4 0 rfl rfl)
theorem dX5_village_112 : decode cX5_village 112 = .ok (.iload_n 1, 1) := dk_27 (dk_at dksX5_village_4 1 rfl rfl)
theorem dX5_village_113 : decode cX5_village 113 = .ok (.aload_n 0, 1) := dk_42 (dk_at dksX5_village_4 2 rfl rfl)
theorem dX5_village_114 : decode cX5_village 114 = .ok (.getfield 7, 3) := dk_180 0 7 (dk_at dksX5_village_4 3 rfl rfl)
theorem dX5_village_117 : decode cX5_village 117 = .ok (.bipush 6, 2) := dk_16 6 (dk_at dksX5_village_4 6 rfl rfl)
theorem dX5_village_119 : decode cX5_village 119 = .ok (.iaload, 1) := dk_46 (dk_at dksX5_village_4 8 rfl rfl)
theorem dX5_village_120 : decode cX5_village 120 = .ok (.invokevirtual 430, 3) := dk_182 1 174 (dk_at dksX5_village_4 9 rfl rfl)
theorem dX5_village_123 : decode cX5_village 123 = .ok (.ireturn, 1) := dk_172 (dk_at dksX5_village_4 12 rfl rfl)
theorem dX5_village_124 : decode cX5_village 124 = .ok (.aload_n 0, 1) := dk_42 (dk_at dksX5_village_4 13 rfl rfl)
theorem dX5_village_125 : decode cX5_village 125 = .ok (.iload_n 1, 1) := dk_27 (dk_at dksX5_village_4 14 rfl rfl)
theorem dX5_village_126 : decode cX5_village 126 = .ok (.invokevirtual 433, 3) := dk_182 1 177 (dk_at dksX5_village_4 15 rfl rfl)
theorem dX5_village_129 : decode cX5_village 129 = .ok (.ireturn, 1) := dk_172 (dk_at dksX5_village_4 18 rfl rfl)
theorem dX5_village_130 : decode cX5_village 130 = .ok (.aload_n 0, 1) := dk_42 (dk_at dksX5_village_4 19 rfl rfl)
theorem dX5_village_131 : decode cX5_village 131 = .ok (.iconst 2, 1) := dk_5 (dk_at dksX5_village_4 20 rfl rfl)
theorem dX5_village_132 : decode cX5_village 132 = .ok (.putfield 100, 3) := dk_181 0 100 (dk_at dksX5_village_4 21 rfl rfl)
theorem dX5_village_135 : decode cX5_village 135 = .ok (.iconst 0, 1) := dk_3 (dk_at dksX5_village_5 0 rfl rfl)
theorem dX5_village_136 : decode cX5_village 136 = .ok (.ireturn, 1) := dk_172 (dk_at dksX5_village_5 1 rfl rfl)
abbrev cX5_noVillage : ByteArray := prog_20_method_13_code
def yX5_noVillage : MethodName := ⟨RX5, "noVillage", "(I)Z"⟩
def dkwX5_noVillage_1 : List UInt8 := [182, 0, 118, 172]
abbrev dktX5_noVillage_1 : List UInt8 := dkwX5_noVillage_1 ++ []
def dkwX5_noVillage_0 : List UInt8 := [42, 27, 3, 42, 180, 0, 7, 6, 46, 4, 100, 184, 0, 103, 154, 0, 7, 4, 167, 0, 4, 3, 4]
abbrev dktX5_noVillage_0 : List UInt8 := dkwX5_noVillage_0 ++ dktX5_noVillage_1
theorem dksX5_noVillage_0 : cX5_noVillage.data.toList.drop 0 = dktX5_noVillage_0 := by decide +kernel
theorem dksX5_noVillage_1 : cX5_noVillage.data.toList.drop 23 = dktX5_noVillage_1 := dk_seg dksX5_noVillage_0 23 rfl rfl
theorem dX5_noVillage_0 : decode cX5_noVillage 0 = .ok (.aload_n 0, 1) := dk_42 (dk_at dksX5_noVillage_0 0 rfl rfl)
theorem dX5_noVillage_1 : decode cX5_noVillage 1 = .ok (.iload_n 1, 1) := dk_27 (dk_at dksX5_noVillage_0 1 rfl rfl)
theorem dX5_noVillage_2 : decode cX5_noVillage 2 = .ok (.iconst 0, 1) := dk_3 (dk_at dksX5_noVillage_0 2 rfl rfl)
theorem dX5_noVillage_3 : decode cX5_noVillage 3 = .ok (.aload_n 0, 1) := dk_42 (dk_at dksX5_noVillage_0 3 rfl rfl)
theorem dX5_noVillage_4 : decode cX5_noVillage 4 = .ok (.getfield 7, 3) := dk_180 0 7 (dk_at dksX5_noVillage_0 4 rfl rfl)
theorem dX5_noVillage_7 : decode cX5_noVillage 7 = .ok (.iconst 3, 1) := dk_6 (dk_at dksX5_noVillage_0 7 rfl rfl)
theorem dX5_noVillage_8 : decode cX5_noVillage 8 = .ok (.iaload, 1) := dk_46 (dk_at dksX5_noVillage_0 8 rfl rfl)
theorem dX5_noVillage_9 : decode cX5_noVillage 9 = .ok (.iconst 1, 1) := dk_4 (dk_at dksX5_noVillage_0 9 rfl rfl)
theorem dX5_noVillage_10 : decode cX5_noVillage 10 = .ok (.isub, 1) := dk_100 (dk_at dksX5_noVillage_0 10 rfl rfl)
theorem dX5_noVillage_11 : decode cX5_noVillage 11 = .ok (.invokestatic 103, 3) := dk_184 0 103 (dk_at dksX5_noVillage_0 11 rfl rfl)
theorem dX5_noVillage_14 : decode cX5_noVillage 14 = .ok (.ifCond .ne 7, 3) := dk_154 0 7 (dk_at dksX5_noVillage_0 14 rfl rfl)
theorem dX5_noVillage_17 : decode cX5_noVillage 17 = .ok (.iconst 1, 1) := dk_4 (dk_at dksX5_noVillage_0 17 rfl rfl)
theorem dX5_noVillage_18 : decode cX5_noVillage 18 = .ok (.goto 4, 3) := dk_167 0 4 (dk_at dksX5_noVillage_0 18 rfl rfl)
theorem dX5_noVillage_21 : decode cX5_noVillage 21 = .ok (.iconst 0, 1) := dk_3 (dk_at dksX5_noVillage_0 21 rfl rfl)
theorem dX5_noVillage_22 : decode cX5_noVillage 22 = .ok (.iconst 1, 1) := dk_4 (dk_at dksX5_noVillage_0 22 rfl rfl)
theorem dX5_noVillage_23 : decode cX5_noVillage 23 = .ok (.invokevirtual 118, 3) := dk_182 0 118 (dk_at dksX5_noVillage_1 0 rfl rfl)
theorem dX5_noVillage_26 : decode cX5_noVillage 26 = .ok (.ireturn, 1) := dk_172 (dk_at dksX5_noVillage_1 3 rfl rfl)
abbrev cX5_fails : ByteArray := prog_20_method_5_code
def yX5_fails : MethodName := ⟨RX5, "fails", "(ZI)Z"⟩
def dkwX5_fails_0 : List UInt8 := [27, 153, 0, 8, 42, 28, 181, 0, 100, 27, 172]
abbrev dktX5_fails_0 : List UInt8 := dkwX5_fails_0 ++ []
theorem dksX5_fails_0 : cX5_fails.data.toList.drop 0 = dktX5_fails_0 := by decide +kernel
theorem dX5_fails_0 : decode cX5_fails 0 = .ok (.iload_n 1, 1) := dk_27 (dk_at dksX5_fails_0 0 rfl rfl)
theorem dX5_fails_1 : decode cX5_fails 1 = .ok (.ifCond .eq 8, 3) := dk_153 0 8 (dk_at dksX5_fails_0 1 rfl rfl)
theorem dX5_fails_4 : decode cX5_fails 4 = .ok (.aload_n 0, 1) := dk_42 (dk_at dksX5_fails_0 4 rfl rfl)
theorem dX5_fails_5 : decode cX5_fails 5 = .ok (.iload_n 2, 1) := dk_28 (dk_at dksX5_fails_0 5 rfl rfl)
theorem dX5_fails_6 : decode cX5_fails 6 = .ok (.putfield 100, 3) := dk_181 0 100 (dk_at dksX5_fails_0 6 rfl rfl)
theorem dX5_fails_9 : decode cX5_fails 9 = .ok (.iload_n 1, 1) := dk_27 (dk_at dksX5_fails_0 9 rfl rfl)
theorem dX5_fails_10 : decode cX5_fails 10 = .ok (.ireturn, 1) := dk_172 (dk_at dksX5_fails_0 10 rfl rfl)
abbrev cX5_renamesOf : ByteArray := prog_20_method_87_code
def yX5_renamesOf : MethodName := ⟨RX5, "renamesOf", "(I)I"⟩
def dkwX5_renamesOf_1 : List UInt8 := [160, 0, 7, 4, 167, 0, 4, 3, 96, 61, 132, 3, 1, 167, 255, 225, 28, 172]
abbrev dktX5_renamesOf_1 : List UInt8 := dkwX5_renamesOf_1 ++ []
def dkwX5_renamesOf_0 : List UInt8 := [3, 61, 3, 62, 29, 42, 180, 0, 7, 8, 46, 162, 0, 27, 28, 42, 29, 3, 182, 0, 147, 27]
abbrev dktX5_renamesOf_0 : List UInt8 := dkwX5_renamesOf_0 ++ dktX5_renamesOf_1
theorem dksX5_renamesOf_0 : cX5_renamesOf.data.toList.drop 0 = dktX5_renamesOf_0 := by decide +kernel
theorem dksX5_renamesOf_1 : cX5_renamesOf.data.toList.drop 22 = dktX5_renamesOf_1 := dk_seg dksX5_renamesOf_0 22 rfl rfl
theorem dX5_renamesOf_0 : decode cX5_renamesOf 0 = .ok (.iconst 0, 1) := dk_3 (dk_at dksX5_renamesOf_0 0 rfl rfl)
theorem dX5_renamesOf_1 : decode cX5_renamesOf 1 = .ok (.istore_n 2, 1) := dk_61 (dk_at dksX5_renamesOf_0 1 rfl rfl)
theorem dX5_renamesOf_2 : decode cX5_renamesOf 2 = .ok (.iconst 0, 1) := dk_3 (dk_at dksX5_renamesOf_0 2 rfl rfl)
theorem dX5_renamesOf_3 : decode cX5_renamesOf 3 = .ok (.istore_n 3, 1) := dk_62 (dk_at dksX5_renamesOf_0 3 rfl rfl)
theorem dX5_renamesOf_4 : decode cX5_renamesOf 4 = .ok (.iload_n 3, 1) := dk_29 (dk_at dksX5_renamesOf_0 4 rfl rfl)
theorem dX5_renamesOf_5 : decode cX5_renamesOf 5 = .ok (.aload_n 0, 1) := dk_42 (dk_at dksX5_renamesOf_0 5 rfl rfl)
theorem dX5_renamesOf_6 : decode cX5_renamesOf 6 = .ok (.getfield 7, 3) := dk_180 0 7 (dk_at dksX5_renamesOf_0 6 rfl rfl)
theorem dX5_renamesOf_9 : decode cX5_renamesOf 9 = .ok (.iconst 5, 1) := dk_8 (dk_at dksX5_renamesOf_0 9 rfl rfl)
theorem dX5_renamesOf_10 : decode cX5_renamesOf 10 = .ok (.iaload, 1) := dk_46 (dk_at dksX5_renamesOf_0 10 rfl rfl)
theorem dX5_renamesOf_11 : decode cX5_renamesOf 11 = .ok (.if_icmp .ge 27, 3) := dk_162 0 27 (dk_at dksX5_renamesOf_0 11 rfl rfl)
theorem dX5_renamesOf_14 : decode cX5_renamesOf 14 = .ok (.iload_n 2, 1) := dk_28 (dk_at dksX5_renamesOf_0 14 rfl rfl)
theorem dX5_renamesOf_15 : decode cX5_renamesOf 15 = .ok (.aload_n 0, 1) := dk_42 (dk_at dksX5_renamesOf_0 15 rfl rfl)
theorem dX5_renamesOf_16 : decode cX5_renamesOf 16 = .ok (.iload_n 3, 1) := dk_29 (dk_at dksX5_renamesOf_0 16 rfl rfl)
theorem dX5_renamesOf_17 : decode cX5_renamesOf 17 = .ok (.iconst 0, 1) := dk_3 (dk_at dksX5_renamesOf_0 17 rfl rfl)
theorem dX5_renamesOf_18 : decode cX5_renamesOf 18 = .ok (.invokevirtual 147, 3) := dk_182 0 147 (dk_at dksX5_renamesOf_0 18 rfl rfl)
theorem dX5_renamesOf_21 : decode cX5_renamesOf 21 = .ok (.iload_n 1, 1) := dk_27 (dk_at dksX5_renamesOf_0 21 rfl rfl)
theorem dX5_renamesOf_22 : decode cX5_renamesOf 22 = .ok (.if_icmp .ne 7, 3) := dk_160 0 7 (dk_at dksX5_renamesOf_1 0 rfl rfl)
theorem dX5_renamesOf_25 : decode cX5_renamesOf 25 = .ok (.iconst 1, 1) := dk_4 (dk_at dksX5_renamesOf_1 3 rfl rfl)
theorem dX5_renamesOf_26 : decode cX5_renamesOf 26 = .ok (.goto 4, 3) := dk_167 0 4 (dk_at dksX5_renamesOf_1 4 rfl rfl)
theorem dX5_renamesOf_29 : decode cX5_renamesOf 29 = .ok (.iconst 0, 1) := dk_3 (dk_at dksX5_renamesOf_1 7 rfl rfl)
theorem dX5_renamesOf_30 : decode cX5_renamesOf 30 = .ok (.iadd, 1) := dk_96 (dk_at dksX5_renamesOf_1 8 rfl rfl)
theorem dX5_renamesOf_31 : decode cX5_renamesOf 31 = .ok (.istore_n 2, 1) := dk_61 (dk_at dksX5_renamesOf_1 9 rfl rfl)
theorem dX5_renamesOf_32 : decode cX5_renamesOf 32 = .ok (.iinc 3 1, 3) := dk_132 3 1 (dk_at dksX5_renamesOf_1 10 rfl rfl)
theorem dX5_renamesOf_35 : decode cX5_renamesOf 35 = .ok (.goto (-31), 3) := dk_167 255 225 (dk_at dksX5_renamesOf_1 13 rfl rfl)
theorem dX5_renamesOf_38 : decode cX5_renamesOf 38 = .ok (.iload_n 2, 1) := dk_28 (dk_at dksX5_renamesOf_1 16 rfl rfl)
theorem dX5_renamesOf_39 : decode cX5_renamesOf 39 = .ok (.ireturn, 1) := dk_172 (dk_at dksX5_renamesOf_1 17 rfl rfl)
abbrev cX5_oldNames : ByteArray := prog_20_method_29_code
def yX5_oldNames : MethodName := ⟨RX5, "oldNames", "(II)I"⟩
def dkwX5_oldNames_2 : List UInt8 := [132, 4, 1, 167, 255, 219, 29, 172]
abbrev dktX5_oldNames_2 : List UInt8 := dkwX5_oldNames_2 ++ []
def dkwX5_oldNames_1 : List UInt8 := [180, 0, 38, 21, 4, 47, 42, 27, 28, 182, 0, 155, 148, 153, 0, 7, 4, 167, 0, 4, 3, 96, 62]
abbrev dktX5_oldNames_1 : List UInt8 := dkwX5_oldNames_1 ++ dktX5_oldNames_2
def dkwX5_oldNames_0 : List UInt8 := [42, 27, 28, 182, 0, 163, 3, 62, 3, 54, 4, 21, 4, 42, 180, 0, 152, 162, 0, 34, 29, 42]
abbrev dktX5_oldNames_0 : List UInt8 := dkwX5_oldNames_0 ++ dktX5_oldNames_1
theorem dksX5_oldNames_0 : cX5_oldNames.data.toList.drop 0 = dktX5_oldNames_0 := by decide +kernel
theorem dksX5_oldNames_1 : cX5_oldNames.data.toList.drop 22 = dktX5_oldNames_1 := dk_seg dksX5_oldNames_0 22 rfl rfl
theorem dksX5_oldNames_2 : cX5_oldNames.data.toList.drop 45 = dktX5_oldNames_2 := dk_seg dksX5_oldNames_1 23 rfl rfl
theorem dX5_oldNames_0 : decode cX5_oldNames 0 = .ok (.aload_n 0, 1) := dk_42 (dk_at dksX5_oldNames_0 0 rfl rfl)
theorem dX5_oldNames_1 : decode cX5_oldNames 1 = .ok (.iload_n 1, 1) := dk_27 (dk_at dksX5_oldNames_0 1 rfl rfl)
theorem dX5_oldNames_2 : decode cX5_oldNames 2 = .ok (.iload_n 2, 1) := dk_28 (dk_at dksX5_oldNames_0 2 rfl rfl)
theorem dX5_oldNames_3 : decode cX5_oldNames 3 = .ok (.invokevirtual 163, 3) := dk_182 0 163 (dk_at dksX5_oldNames_0 3 rfl rfl)
theorem dX5_oldNames_6 : decode cX5_oldNames 6 = .ok (.iconst 0, 1) := dk_3 (dk_at dksX5_oldNames_0 6 rfl rfl)
theorem dX5_oldNames_7 : decode cX5_oldNames 7 = .ok (.istore_n 3, 1) := dk_62 (dk_at dksX5_oldNames_0 7 rfl rfl)
theorem dX5_oldNames_8 : decode cX5_oldNames 8 = .ok (.iconst 0, 1) := dk_3 (dk_at dksX5_oldNames_0 8 rfl rfl)
theorem dX5_oldNames_9 : decode cX5_oldNames 9 = .ok (.istore 4, 2) := dk_54 4 (dk_at dksX5_oldNames_0 9 rfl rfl)
theorem dX5_oldNames_11 : decode cX5_oldNames 11 = .ok (.iload 4, 2) := dk_21 4 (dk_at dksX5_oldNames_0 11 rfl rfl)
theorem dX5_oldNames_13 : decode cX5_oldNames 13 = .ok (.aload_n 0, 1) := dk_42 (dk_at dksX5_oldNames_0 13 rfl rfl)
theorem dX5_oldNames_14 : decode cX5_oldNames 14 = .ok (.getfield 152, 3) := dk_180 0 152 (dk_at dksX5_oldNames_0 14 rfl rfl)
theorem dX5_oldNames_17 : decode cX5_oldNames 17 = .ok (.if_icmp .ge 34, 3) := dk_162 0 34 (dk_at dksX5_oldNames_0 17 rfl rfl)
theorem dX5_oldNames_20 : decode cX5_oldNames 20 = .ok (.iload_n 3, 1) := dk_29 (dk_at dksX5_oldNames_0 20 rfl rfl)
theorem dX5_oldNames_21 : decode cX5_oldNames 21 = .ok (.aload_n 0, 1) := dk_42 (dk_at dksX5_oldNames_0 21 rfl rfl)
theorem dX5_oldNames_22 : decode cX5_oldNames 22 = .ok (.getfield 38, 3) := dk_180 0 38 (dk_at dksX5_oldNames_1 0 rfl rfl)
theorem dX5_oldNames_25 : decode cX5_oldNames 25 = .ok (.iload 4, 2) := dk_21 4 (dk_at dksX5_oldNames_1 3 rfl rfl)
theorem dX5_oldNames_27 : decode cX5_oldNames 27 = .ok (.laload, 1) := dk_47 (dk_at dksX5_oldNames_1 5 rfl rfl)
theorem dX5_oldNames_28 : decode cX5_oldNames 28 = .ok (.aload_n 0, 1) := dk_42 (dk_at dksX5_oldNames_1 6 rfl rfl)
theorem dX5_oldNames_29 : decode cX5_oldNames 29 = .ok (.iload_n 1, 1) := dk_27 (dk_at dksX5_oldNames_1 7 rfl rfl)
theorem dX5_oldNames_30 : decode cX5_oldNames 30 = .ok (.iload_n 2, 1) := dk_28 (dk_at dksX5_oldNames_1 8 rfl rfl)
theorem dX5_oldNames_31 : decode cX5_oldNames 31 = .ok (.invokevirtual 155, 3) := dk_182 0 155 (dk_at dksX5_oldNames_1 9 rfl rfl)
theorem dX5_oldNames_34 : decode cX5_oldNames 34 = .ok (.lcmp, 1) := dk_148 (dk_at dksX5_oldNames_1 12 rfl rfl)
theorem dX5_oldNames_35 : decode cX5_oldNames 35 = .ok (.ifCond .eq 7, 3) := dk_153 0 7 (dk_at dksX5_oldNames_1 13 rfl rfl)
theorem dX5_oldNames_38 : decode cX5_oldNames 38 = .ok (.iconst 1, 1) := dk_4 (dk_at dksX5_oldNames_1 16 rfl rfl)
theorem dX5_oldNames_39 : decode cX5_oldNames 39 = .ok (.goto 4, 3) := dk_167 0 4 (dk_at dksX5_oldNames_1 17 rfl rfl)
theorem dX5_oldNames_42 : decode cX5_oldNames 42 = .ok (.iconst 0, 1) := dk_3 (dk_at dksX5_oldNames_1 20 rfl rfl)
theorem dX5_oldNames_43 : decode cX5_oldNames 43 = .ok (.iadd, 1) := dk_96 (dk_at dksX5_oldNames_1 21 rfl rfl)
theorem dX5_oldNames_44 : decode cX5_oldNames 44 = .ok (.istore_n 3, 1) := dk_62 (dk_at dksX5_oldNames_1 22 rfl rfl)
theorem dX5_oldNames_45 : decode cX5_oldNames 45 = .ok (.iinc 4 1, 3) := dk_132 4 1 (dk_at dksX5_oldNames_2 0 rfl rfl)
theorem dX5_oldNames_48 : decode cX5_oldNames 48 = .ok (.goto (-37), 3) := dk_167 255 219 (dk_at dksX5_oldNames_2 3 rfl rfl)
theorem dX5_oldNames_51 : decode cX5_oldNames 51 = .ok (.iload_n 3, 1) := dk_29 (dk_at dksX5_oldNames_2 6 rfl rfl)
theorem dX5_oldNames_52 : decode cX5_oldNames 52 = .ok (.ireturn, 1) := dk_172 (dk_at dksX5_oldNames_2 7 rfl rfl)
abbrev cX5_pageOfName : ByteArray := prog_20_method_88_code
def yX5_pageOfName : MethodName := ⟨RX5, "pageOfName", "(I)I"⟩
def dkwX5_pageOfName_1 : List UInt8 := [42, 180, 0, 44, 28, 46, 154, 0, 10, 42, 180, 0, 62, 28, 46, 172, 132, 2, 1, 167, 255, 219, 2, 172]
abbrev dktX5_pageOfName_1 : List UInt8 := dkwX5_pageOfName_1 ++ []
def dkwX5_pageOfName_0 : List UInt8 := [42, 182, 1, 153, 3, 61, 28, 42, 180, 0, 170, 162, 0, 35, 42, 180, 0, 47, 28, 46, 27, 160, 0, 19]
abbrev dktX5_pageOfName_0 : List UInt8 := dkwX5_pageOfName_0 ++ dktX5_pageOfName_1
theorem dksX5_pageOfName_0 : cX5_pageOfName.data.toList.drop 0 = dktX5_pageOfName_0 := by decide +kernel
theorem dksX5_pageOfName_1 : cX5_pageOfName.data.toList.drop 24 = dktX5_pageOfName_1 := dk_seg dksX5_pageOfName_0 24 rfl rfl
theorem dX5_pageOfName_0 : decode cX5_pageOfName 0 = .ok (.aload_n 0, 1) := dk_42 (dk_at dksX5_pageOfName_0 0 rfl rfl)
theorem dX5_pageOfName_1 : decode cX5_pageOfName 1 = .ok (.invokevirtual 409, 3) := dk_182 1 153 (dk_at dksX5_pageOfName_0 1 rfl rfl)
theorem dX5_pageOfName_4 : decode cX5_pageOfName 4 = .ok (.iconst 0, 1) := dk_3 (dk_at dksX5_pageOfName_0 4 rfl rfl)
theorem dX5_pageOfName_5 : decode cX5_pageOfName 5 = .ok (.istore_n 2, 1) := dk_61 (dk_at dksX5_pageOfName_0 5 rfl rfl)
theorem dX5_pageOfName_6 : decode cX5_pageOfName 6 = .ok (.iload_n 2, 1) := dk_28 (dk_at dksX5_pageOfName_0 6 rfl rfl)
theorem dX5_pageOfName_7 : decode cX5_pageOfName 7 = .ok (.aload_n 0, 1) := dk_42 (dk_at dksX5_pageOfName_0 7 rfl rfl)
theorem dX5_pageOfName_8 : decode cX5_pageOfName 8 = .ok (.getfield 170, 3) := dk_180 0 170 (dk_at dksX5_pageOfName_0 8 rfl rfl)
theorem dX5_pageOfName_11 : decode cX5_pageOfName 11 = .ok (.if_icmp .ge 35, 3) := dk_162 0 35 (dk_at dksX5_pageOfName_0 11 rfl rfl)
theorem dX5_pageOfName_14 : decode cX5_pageOfName 14 = .ok (.aload_n 0, 1) := dk_42 (dk_at dksX5_pageOfName_0 14 rfl rfl)
theorem dX5_pageOfName_15 : decode cX5_pageOfName 15 = .ok (.getfield 47, 3) := dk_180 0 47 (dk_at dksX5_pageOfName_0 15 rfl rfl)
theorem dX5_pageOfName_18 : decode cX5_pageOfName 18 = .ok (.iload_n 2, 1) := dk_28 (dk_at dksX5_pageOfName_0 18 rfl rfl)
theorem dX5_pageOfName_19 : decode cX5_pageOfName 19 = .ok (.iaload, 1) := dk_46 (dk_at dksX5_pageOfName_0 19 rfl rfl)
theorem dX5_pageOfName_20 : decode cX5_pageOfName 20 = .ok (.iload_n 1, 1) := dk_27 (dk_at dksX5_pageOfName_0 20 rfl rfl)
theorem dX5_pageOfName_21 : decode cX5_pageOfName 21 = .ok (.if_icmp .ne 19, 3) := dk_160 0 19 (dk_at dksX5_pageOfName_0 21 rfl rfl)
theorem dX5_pageOfName_24 : decode cX5_pageOfName 24 = .ok (.aload_n 0, 1) := dk_42 (dk_at dksX5_pageOfName_1 0 rfl rfl)
theorem dX5_pageOfName_25 : decode cX5_pageOfName 25 = .ok (.getfield 44, 3) := dk_180 0 44 (dk_at dksX5_pageOfName_1 1 rfl rfl)
theorem dX5_pageOfName_28 : decode cX5_pageOfName 28 = .ok (.iload_n 2, 1) := dk_28 (dk_at dksX5_pageOfName_1 4 rfl rfl)
theorem dX5_pageOfName_29 : decode cX5_pageOfName 29 = .ok (.iaload, 1) := dk_46 (dk_at dksX5_pageOfName_1 5 rfl rfl)
theorem dX5_pageOfName_30 : decode cX5_pageOfName 30 = .ok (.ifCond .ne 10, 3) := dk_154 0 10 (dk_at dksX5_pageOfName_1 6 rfl rfl)
theorem dX5_pageOfName_33 : decode cX5_pageOfName 33 = .ok (.aload_n 0, 1) := dk_42 (dk_at dksX5_pageOfName_1 9 rfl rfl)
theorem dX5_pageOfName_34 : decode cX5_pageOfName 34 = .ok (.getfield 62, 3) := dk_180 0 62 (dk_at dksX5_pageOfName_1 10 rfl rfl)
theorem dX5_pageOfName_37 : decode cX5_pageOfName 37 = .ok (.iload_n 2, 1) := dk_28 (dk_at dksX5_pageOfName_1 13 rfl rfl)
theorem dX5_pageOfName_38 : decode cX5_pageOfName 38 = .ok (.iaload, 1) := dk_46 (dk_at dksX5_pageOfName_1 14 rfl rfl)
theorem dX5_pageOfName_39 : decode cX5_pageOfName 39 = .ok (.ireturn, 1) := dk_172 (dk_at dksX5_pageOfName_1 15 rfl rfl)
theorem dX5_pageOfName_40 : decode cX5_pageOfName 40 = .ok (.iinc 2 1, 3) := dk_132 2 1 (dk_at dksX5_pageOfName_1 16 rfl rfl)
theorem dX5_pageOfName_43 : decode cX5_pageOfName 43 = .ok (.goto (-37), 3) := dk_167 255 219 (dk_at dksX5_pageOfName_1 19 rfl rfl)
theorem dX5_pageOfName_46 : decode cX5_pageOfName 46 = .ok (.iconst (-1), 1) := dk_2 (dk_at dksX5_pageOfName_1 22 rfl rfl)
theorem dX5_pageOfName_47 : decode cX5_pageOfName 47 = .ok (.ireturn, 1) := dk_172 (dk_at dksX5_pageOfName_1 23 rfl rfl)
abbrev cX5_county : ByteArray := prog_20_method_98_code
def yX5_county : MethodName := ⟨RX5, "county", "(II)I"⟩
def dkwX5_county_6 : List UInt8 := [182, 1, 201, 172, 42, 27, 182, 1, 204, 172, 42, 27, 182, 1, 207, 172]
abbrev dktX5_county_6 : List UInt8 := dkwX5_county_6 ++ []
def dkwX5_county_5 : List UInt8 := [182, 0, 221, 172, 29, 2, 160, 0, 7, 2, 167, 0, 9, 42, 180, 0, 62, 29, 46, 172, 42, 27]
abbrev dktX5_county_5 : List UInt8 := dkwX5_county_5 ++ dktX5_county_6
def dkwX5_county_4 : List UInt8 := [42, 27, 182, 1, 195, 172, 42, 27, 42, 180, 0, 7, 16, 6, 46, 182, 1, 198, 184, 0, 232, 172, 42, 27]
abbrev dktX5_county_4 : List UInt8 := dkwX5_county_4 ++ dktX5_county_5
def dkwX5_county_3 : List UInt8 := [170, 0, 0, 0, 0, 0, 0, 96, 0, 0, 0, 0, 0, 0, 0, 5, 0, 0, 0, 40, 0, 0, 0, 46, 0, 0, 0, 62, 0, 0, 0, 68, 0, 0, 0, 84, 0, 0, 0, 90]
abbrev dktX5_county_3 : List UInt8 := dkwX5_county_3 ++ dktX5_county_4
def dkwX5_county_2 : List UInt8 := [16, 6, 46, 182, 1, 189, 42, 27, 182, 1, 192, 62, 28]
abbrev dktX5_county_2 : List UInt8 := dkwX5_county_2 ++ dktX5_county_3
def dkwX5_county_1 : List UInt8 := [4, 167, 0, 4, 3, 5, 182, 0, 118, 153, 0, 5, 3, 172, 42, 182, 1, 153, 42, 42, 180, 0, 7]
abbrev dktX5_county_1 : List UInt8 := dkwX5_county_1 ++ dktX5_county_2
def dkwX5_county_0 : List UInt8 := [42, 3, 181, 0, 100, 42, 27, 182, 1, 186, 154, 0, 26, 42, 28, 3, 16, 6, 184, 0, 103, 154, 0, 7]
abbrev dktX5_county_0 : List UInt8 := dkwX5_county_0 ++ dktX5_county_1
theorem dksX5_county_0 : cX5_county.data.toList.drop 0 = dktX5_county_0 := by decide +kernel
theorem dksX5_county_1 : cX5_county.data.toList.drop 24 = dktX5_county_1 := dk_seg dksX5_county_0 24 rfl rfl
theorem dksX5_county_2 : cX5_county.data.toList.drop 47 = dktX5_county_2 := dk_seg dksX5_county_1 23 rfl rfl
theorem dksX5_county_3 : cX5_county.data.toList.drop 60 = dktX5_county_3 := dk_seg dksX5_county_2 13 rfl rfl
theorem dksX5_county_4 : cX5_county.data.toList.drop 100 = dktX5_county_4 := dk_seg dksX5_county_3 40 rfl rfl
theorem dksX5_county_5 : cX5_county.data.toList.drop 124 = dktX5_county_5 := dk_seg dksX5_county_4 24 rfl rfl
theorem dksX5_county_6 : cX5_county.data.toList.drop 146 = dktX5_county_6 := dk_seg dksX5_county_5 22 rfl rfl
theorem dX5_county_0 : decode cX5_county 0 = .ok (.aload_n 0, 1) := dk_42 (dk_at dksX5_county_0 0 rfl rfl)
theorem dX5_county_1 : decode cX5_county 1 = .ok (.iconst 0, 1) := dk_3 (dk_at dksX5_county_0 1 rfl rfl)
theorem dX5_county_2 : decode cX5_county 2 = .ok (.putfield 100, 3) := dk_181 0 100 (dk_at dksX5_county_0 2 rfl rfl)
theorem dX5_county_5 : decode cX5_county 5 = .ok (.aload_n 0, 1) := dk_42 (dk_at dksX5_county_0 5 rfl rfl)
theorem dX5_county_6 : decode cX5_county 6 = .ok (.iload_n 1, 1) := dk_27 (dk_at dksX5_county_0 6 rfl rfl)
theorem dX5_county_7 : decode cX5_county 7 = .ok (.invokevirtual 442, 3) := dk_182 1 186 (dk_at dksX5_county_0 7 rfl rfl)
theorem dX5_county_10 : decode cX5_county 10 = .ok (.ifCond .ne 26, 3) := dk_154 0 26 (dk_at dksX5_county_0 10 rfl rfl)
theorem dX5_county_13 : decode cX5_county 13 = .ok (.aload_n 0, 1) := dk_42 (dk_at dksX5_county_0 13 rfl rfl)
theorem dX5_county_14 : decode cX5_county 14 = .ok (.iload_n 2, 1) := dk_28 (dk_at dksX5_county_0 14 rfl rfl)
theorem dX5_county_15 : decode cX5_county 15 = .ok (.iconst 0, 1) := dk_3 (dk_at dksX5_county_0 15 rfl rfl)
theorem dX5_county_16 : decode cX5_county 16 = .ok (.bipush 6, 2) := dk_16 6 (dk_at dksX5_county_0 16 rfl rfl)
theorem dX5_county_18 : decode cX5_county 18 = .ok (.invokestatic 103, 3) := dk_184 0 103 (dk_at dksX5_county_0 18 rfl rfl)
theorem dX5_county_21 : decode cX5_county 21 = .ok (.ifCond .ne 7, 3) := dk_154 0 7 (dk_at dksX5_county_0 21 rfl rfl)
theorem dX5_county_24 : decode cX5_county 24 = .ok (.iconst 1, 1) := dk_4 (dk_at dksX5_county_1 0 rfl rfl)
theorem dX5_county_25 : decode cX5_county 25 = .ok (.goto 4, 3) := dk_167 0 4 (dk_at dksX5_county_1 1 rfl rfl)
theorem dX5_county_28 : decode cX5_county 28 = .ok (.iconst 0, 1) := dk_3 (dk_at dksX5_county_1 4 rfl rfl)
theorem dX5_county_29 : decode cX5_county 29 = .ok (.iconst 2, 1) := dk_5 (dk_at dksX5_county_1 5 rfl rfl)
theorem dX5_county_30 : decode cX5_county 30 = .ok (.invokevirtual 118, 3) := dk_182 0 118 (dk_at dksX5_county_1 6 rfl rfl)
theorem dX5_county_33 : decode cX5_county 33 = .ok (.ifCond .eq 5, 3) := dk_153 0 5 (dk_at dksX5_county_1 9 rfl rfl)
theorem dX5_county_36 : decode cX5_county 36 = .ok (.iconst 0, 1) := dk_3 (dk_at dksX5_county_1 12 rfl rfl)
theorem dX5_county_37 : decode cX5_county 37 = .ok (.ireturn, 1) := dk_172 (dk_at dksX5_county_1 13 rfl rfl)
theorem dX5_county_38 : decode cX5_county 38 = .ok (.aload_n 0, 1) := dk_42 (dk_at dksX5_county_1 14 rfl rfl)
theorem dX5_county_39 : decode cX5_county 39 = .ok (.invokevirtual 409, 3) := dk_182 1 153 (dk_at dksX5_county_1 15 rfl rfl)
theorem dX5_county_42 : decode cX5_county 42 = .ok (.aload_n 0, 1) := dk_42 (dk_at dksX5_county_1 18 rfl rfl)
theorem dX5_county_43 : decode cX5_county 43 = .ok (.aload_n 0, 1) := dk_42 (dk_at dksX5_county_1 19 rfl rfl)
theorem dX5_county_44 : decode cX5_county 44 = .ok (.getfield 7, 3) := dk_180 0 7 (dk_at dksX5_county_1 20 rfl rfl)
theorem dX5_county_47 : decode cX5_county 47 = .ok (.bipush 6, 2) := dk_16 6 (dk_at dksX5_county_2 0 rfl rfl)
theorem dX5_county_49 : decode cX5_county 49 = .ok (.iaload, 1) := dk_46 (dk_at dksX5_county_2 2 rfl rfl)
theorem dX5_county_50 : decode cX5_county 50 = .ok (.invokevirtual 445, 3) := dk_182 1 189 (dk_at dksX5_county_2 3 rfl rfl)
theorem dX5_county_53 : decode cX5_county 53 = .ok (.aload_n 0, 1) := dk_42 (dk_at dksX5_county_2 6 rfl rfl)
theorem dX5_county_54 : decode cX5_county 54 = .ok (.iload_n 1, 1) := dk_27 (dk_at dksX5_county_2 7 rfl rfl)
theorem dX5_county_55 : decode cX5_county 55 = .ok (.invokevirtual 448, 3) := dk_182 1 192 (dk_at dksX5_county_2 8 rfl rfl)
theorem dX5_county_58 : decode cX5_county 58 = .ok (.istore_n 3, 1) := dk_62 (dk_at dksX5_county_2 11 rfl rfl)
theorem dX5_county_59 : decode cX5_county 59 = .ok (.iload_n 2, 1) := dk_28 (dk_at dksX5_county_2 12 rfl rfl)
theorem dX5_county_60 : decode cX5_county 60 = .ok (.tableswitch 96 0 5 #[40, 46, 62, 68, 84, 90], 40) := by decide +kernel
theorem dX5_county_100 : decode cX5_county 100 = .ok (.aload_n 0, 1) := dk_42 (dk_at dksX5_county_4 0 rfl rfl)
theorem dX5_county_101 : decode cX5_county 101 = .ok (.iload_n 1, 1) := dk_27 (dk_at dksX5_county_4 1 rfl rfl)
theorem dX5_county_102 : decode cX5_county 102 = .ok (.invokevirtual 451, 3) := dk_182 1 195 (dk_at dksX5_county_4 2 rfl rfl)
theorem dX5_county_105 : decode cX5_county 105 = .ok (.ireturn, 1) := dk_172 (dk_at dksX5_county_4 5 rfl rfl)
theorem dX5_county_106 : decode cX5_county 106 = .ok (.aload_n 0, 1) := dk_42 (dk_at dksX5_county_4 6 rfl rfl)
theorem dX5_county_107 : decode cX5_county 107 = .ok (.iload_n 1, 1) := dk_27 (dk_at dksX5_county_4 7 rfl rfl)
theorem dX5_county_108 : decode cX5_county 108 = .ok (.aload_n 0, 1) := dk_42 (dk_at dksX5_county_4 8 rfl rfl)
theorem dX5_county_109 : decode cX5_county 109 = .ok (.getfield 7, 3) := dk_180 0 7 (dk_at dksX5_county_4 9 rfl rfl)
theorem dX5_county_112 : decode cX5_county 112 = .ok (.bipush 6, 2) := dk_16 6 (dk_at dksX5_county_4 12 rfl rfl)
theorem dX5_county_114 : decode cX5_county 114 = .ok (.iaload, 1) := dk_46 (dk_at dksX5_county_4 14 rfl rfl)
theorem dX5_county_115 : decode cX5_county 115 = .ok (.invokevirtual 454, 3) := dk_182 1 198 (dk_at dksX5_county_4 15 rfl rfl)
theorem dX5_county_118 : decode cX5_county 118 = .ok (.invokestatic 232, 3) := dk_184 0 232 (dk_at dksX5_county_4 18 rfl rfl)
theorem dX5_county_121 : decode cX5_county 121 = .ok (.ireturn, 1) := dk_172 (dk_at dksX5_county_4 21 rfl rfl)
theorem dX5_county_122 : decode cX5_county 122 = .ok (.aload_n 0, 1) := dk_42 (dk_at dksX5_county_4 22 rfl rfl)
theorem dX5_county_123 : decode cX5_county 123 = .ok (.iload_n 1, 1) := dk_27 (dk_at dksX5_county_4 23 rfl rfl)
theorem dX5_county_124 : decode cX5_county 124 = .ok (.invokevirtual 221, 3) := dk_182 0 221 (dk_at dksX5_county_5 0 rfl rfl)
theorem dX5_county_127 : decode cX5_county 127 = .ok (.ireturn, 1) := dk_172 (dk_at dksX5_county_5 3 rfl rfl)
theorem dX5_county_128 : decode cX5_county 128 = .ok (.iload_n 3, 1) := dk_29 (dk_at dksX5_county_5 4 rfl rfl)
theorem dX5_county_129 : decode cX5_county 129 = .ok (.iconst (-1), 1) := dk_2 (dk_at dksX5_county_5 5 rfl rfl)
theorem dX5_county_130 : decode cX5_county 130 = .ok (.if_icmp .ne 7, 3) := dk_160 0 7 (dk_at dksX5_county_5 6 rfl rfl)
theorem dX5_county_133 : decode cX5_county 133 = .ok (.iconst (-1), 1) := dk_2 (dk_at dksX5_county_5 9 rfl rfl)
theorem dX5_county_134 : decode cX5_county 134 = .ok (.goto 9, 3) := dk_167 0 9 (dk_at dksX5_county_5 10 rfl rfl)
theorem dX5_county_137 : decode cX5_county 137 = .ok (.aload_n 0, 1) := dk_42 (dk_at dksX5_county_5 13 rfl rfl)
theorem dX5_county_138 : decode cX5_county 138 = .ok (.getfield 62, 3) := dk_180 0 62 (dk_at dksX5_county_5 14 rfl rfl)
theorem dX5_county_141 : decode cX5_county 141 = .ok (.iload_n 3, 1) := dk_29 (dk_at dksX5_county_5 17 rfl rfl)
theorem dX5_county_142 : decode cX5_county 142 = .ok (.iaload, 1) := dk_46 (dk_at dksX5_county_5 18 rfl rfl)
theorem dX5_county_143 : decode cX5_county 143 = .ok (.ireturn, 1) := dk_172 (dk_at dksX5_county_5 19 rfl rfl)
theorem dX5_county_144 : decode cX5_county 144 = .ok (.aload_n 0, 1) := dk_42 (dk_at dksX5_county_5 20 rfl rfl)
theorem dX5_county_145 : decode cX5_county 145 = .ok (.iload_n 1, 1) := dk_27 (dk_at dksX5_county_5 21 rfl rfl)
theorem dX5_county_146 : decode cX5_county 146 = .ok (.invokevirtual 457, 3) := dk_182 1 201 (dk_at dksX5_county_6 0 rfl rfl)
theorem dX5_county_149 : decode cX5_county 149 = .ok (.ireturn, 1) := dk_172 (dk_at dksX5_county_6 3 rfl rfl)
theorem dX5_county_150 : decode cX5_county 150 = .ok (.aload_n 0, 1) := dk_42 (dk_at dksX5_county_6 4 rfl rfl)
theorem dX5_county_151 : decode cX5_county 151 = .ok (.iload_n 1, 1) := dk_27 (dk_at dksX5_county_6 5 rfl rfl)
theorem dX5_county_152 : decode cX5_county 152 = .ok (.invokevirtual 460, 3) := dk_182 1 204 (dk_at dksX5_county_6 6 rfl rfl)
theorem dX5_county_155 : decode cX5_county 155 = .ok (.ireturn, 1) := dk_172 (dk_at dksX5_county_6 9 rfl rfl)
theorem dX5_county_156 : decode cX5_county 156 = .ok (.aload_n 0, 1) := dk_42 (dk_at dksX5_county_6 10 rfl rfl)
theorem dX5_county_157 : decode cX5_county 157 = .ok (.iload_n 1, 1) := dk_27 (dk_at dksX5_county_6 11 rfl rfl)
theorem dX5_county_158 : decode cX5_county 158 = .ok (.invokevirtual 463, 3) := dk_182 1 207 (dk_at dksX5_county_6 12 rfl rfl)
theorem dX5_county_161 : decode cX5_county 161 = .ok (.ireturn, 1) := dk_172 (dk_at dksX5_county_6 15 rfl rfl)
abbrev cX5_noCounty : ByteArray := prog_20_method_14_code
def yX5_noCounty : MethodName := ⟨RX5, "noCounty", "(I)Z"⟩
def dkwX5_noCounty_1 : List UInt8 := [182, 0, 118, 172]
abbrev dktX5_noCounty_1 : List UInt8 := dkwX5_noCounty_1 ++ []
def dkwX5_noCounty_0 : List UInt8 := [42, 27, 3, 42, 180, 0, 7, 5, 46, 4, 100, 184, 0, 103, 154, 0, 7, 4, 167, 0, 4, 3, 4]
abbrev dktX5_noCounty_0 : List UInt8 := dkwX5_noCounty_0 ++ dktX5_noCounty_1
theorem dksX5_noCounty_0 : cX5_noCounty.data.toList.drop 0 = dktX5_noCounty_0 := by decide +kernel
theorem dksX5_noCounty_1 : cX5_noCounty.data.toList.drop 23 = dktX5_noCounty_1 := dk_seg dksX5_noCounty_0 23 rfl rfl
theorem dX5_noCounty_0 : decode cX5_noCounty 0 = .ok (.aload_n 0, 1) := dk_42 (dk_at dksX5_noCounty_0 0 rfl rfl)
theorem dX5_noCounty_1 : decode cX5_noCounty 1 = .ok (.iload_n 1, 1) := dk_27 (dk_at dksX5_noCounty_0 1 rfl rfl)
theorem dX5_noCounty_2 : decode cX5_noCounty 2 = .ok (.iconst 0, 1) := dk_3 (dk_at dksX5_noCounty_0 2 rfl rfl)
theorem dX5_noCounty_3 : decode cX5_noCounty 3 = .ok (.aload_n 0, 1) := dk_42 (dk_at dksX5_noCounty_0 3 rfl rfl)
theorem dX5_noCounty_4 : decode cX5_noCounty 4 = .ok (.getfield 7, 3) := dk_180 0 7 (dk_at dksX5_noCounty_0 4 rfl rfl)
theorem dX5_noCounty_7 : decode cX5_noCounty 7 = .ok (.iconst 2, 1) := dk_5 (dk_at dksX5_noCounty_0 7 rfl rfl)
theorem dX5_noCounty_8 : decode cX5_noCounty 8 = .ok (.iaload, 1) := dk_46 (dk_at dksX5_noCounty_0 8 rfl rfl)
theorem dX5_noCounty_9 : decode cX5_noCounty 9 = .ok (.iconst 1, 1) := dk_4 (dk_at dksX5_noCounty_0 9 rfl rfl)
theorem dX5_noCounty_10 : decode cX5_noCounty 10 = .ok (.isub, 1) := dk_100 (dk_at dksX5_noCounty_0 10 rfl rfl)
theorem dX5_noCounty_11 : decode cX5_noCounty 11 = .ok (.invokestatic 103, 3) := dk_184 0 103 (dk_at dksX5_noCounty_0 11 rfl rfl)
theorem dX5_noCounty_14 : decode cX5_noCounty 14 = .ok (.ifCond .ne 7, 3) := dk_154 0 7 (dk_at dksX5_noCounty_0 14 rfl rfl)
theorem dX5_noCounty_17 : decode cX5_noCounty 17 = .ok (.iconst 1, 1) := dk_4 (dk_at dksX5_noCounty_0 17 rfl rfl)
theorem dX5_noCounty_18 : decode cX5_noCounty 18 = .ok (.goto 4, 3) := dk_167 0 4 (dk_at dksX5_noCounty_0 18 rfl rfl)
theorem dX5_noCounty_21 : decode cX5_noCounty 21 = .ok (.iconst 0, 1) := dk_3 (dk_at dksX5_noCounty_0 21 rfl rfl)
theorem dX5_noCounty_22 : decode cX5_noCounty 22 = .ok (.iconst 1, 1) := dk_4 (dk_at dksX5_noCounty_0 22 rfl rfl)
theorem dX5_noCounty_23 : decode cX5_noCounty 23 = .ok (.invokevirtual 118, 3) := dk_182 0 118 (dk_at dksX5_noCounty_1 0 rfl rfl)
theorem dX5_noCounty_26 : decode cX5_noCounty 26 = .ok (.ireturn, 1) := dk_172 (dk_at dksX5_noCounty_1 3 rfl rfl)
abbrev cX5_laysOwners : ByteArray := prog_20_method_90_code
def yX5_laysOwners : MethodName := ⟨RX5, "laysOwners", "(I)V"⟩
def dkwX5_laysOwners_2 : List UInt8 := [132, 2, 1, 167, 255, 209, 177]
abbrev dktX5_laysOwners_2 : List UInt8 := dkwX5_laysOwners_2 ++ []
def dkwX5_laysOwners_1 : List UInt8 := [42, 28, 42, 180, 0, 7, 3, 46, 112, 28, 42, 180, 0, 7, 3, 46, 108, 27, 182, 0, 143, 79]
abbrev dktX5_laysOwners_1 : List UInt8 := dkwX5_laysOwners_1 ++ dktX5_laysOwners_2
def dkwX5_laysOwners_0 : List UInt8 := [3, 61, 28, 42, 180, 0, 7, 3, 46, 42, 180, 0, 7, 4, 46, 104, 162, 0, 36, 42, 180, 0, 81, 28]
abbrev dktX5_laysOwners_0 : List UInt8 := dkwX5_laysOwners_0 ++ dktX5_laysOwners_1
theorem dksX5_laysOwners_0 : cX5_laysOwners.data.toList.drop 0 = dktX5_laysOwners_0 := by decide +kernel
theorem dksX5_laysOwners_1 : cX5_laysOwners.data.toList.drop 24 = dktX5_laysOwners_1 := dk_seg dksX5_laysOwners_0 24 rfl rfl
theorem dksX5_laysOwners_2 : cX5_laysOwners.data.toList.drop 46 = dktX5_laysOwners_2 := dk_seg dksX5_laysOwners_1 22 rfl rfl
theorem dX5_laysOwners_0 : decode cX5_laysOwners 0 = .ok (.iconst 0, 1) := dk_3 (dk_at dksX5_laysOwners_0 0 rfl rfl)
theorem dX5_laysOwners_1 : decode cX5_laysOwners 1 = .ok (.istore_n 2, 1) := dk_61 (dk_at dksX5_laysOwners_0 1 rfl rfl)
theorem dX5_laysOwners_2 : decode cX5_laysOwners 2 = .ok (.iload_n 2, 1) := dk_28 (dk_at dksX5_laysOwners_0 2 rfl rfl)
theorem dX5_laysOwners_3 : decode cX5_laysOwners 3 = .ok (.aload_n 0, 1) := dk_42 (dk_at dksX5_laysOwners_0 3 rfl rfl)
theorem dX5_laysOwners_4 : decode cX5_laysOwners 4 = .ok (.getfield 7, 3) := dk_180 0 7 (dk_at dksX5_laysOwners_0 4 rfl rfl)
theorem dX5_laysOwners_7 : decode cX5_laysOwners 7 = .ok (.iconst 0, 1) := dk_3 (dk_at dksX5_laysOwners_0 7 rfl rfl)
theorem dX5_laysOwners_8 : decode cX5_laysOwners 8 = .ok (.iaload, 1) := dk_46 (dk_at dksX5_laysOwners_0 8 rfl rfl)
theorem dX5_laysOwners_9 : decode cX5_laysOwners 9 = .ok (.aload_n 0, 1) := dk_42 (dk_at dksX5_laysOwners_0 9 rfl rfl)
theorem dX5_laysOwners_10 : decode cX5_laysOwners 10 = .ok (.getfield 7, 3) := dk_180 0 7 (dk_at dksX5_laysOwners_0 10 rfl rfl)
theorem dX5_laysOwners_13 : decode cX5_laysOwners 13 = .ok (.iconst 1, 1) := dk_4 (dk_at dksX5_laysOwners_0 13 rfl rfl)
theorem dX5_laysOwners_14 : decode cX5_laysOwners 14 = .ok (.iaload, 1) := dk_46 (dk_at dksX5_laysOwners_0 14 rfl rfl)
theorem dX5_laysOwners_15 : decode cX5_laysOwners 15 = .ok (.imul, 1) := dk_104 (dk_at dksX5_laysOwners_0 15 rfl rfl)
theorem dX5_laysOwners_16 : decode cX5_laysOwners 16 = .ok (.if_icmp .ge 36, 3) := dk_162 0 36 (dk_at dksX5_laysOwners_0 16 rfl rfl)
theorem dX5_laysOwners_19 : decode cX5_laysOwners 19 = .ok (.aload_n 0, 1) := dk_42 (dk_at dksX5_laysOwners_0 19 rfl rfl)
theorem dX5_laysOwners_20 : decode cX5_laysOwners 20 = .ok (.getfield 81, 3) := dk_180 0 81 (dk_at dksX5_laysOwners_0 20 rfl rfl)
theorem dX5_laysOwners_23 : decode cX5_laysOwners 23 = .ok (.iload_n 2, 1) := dk_28 (dk_at dksX5_laysOwners_0 23 rfl rfl)
theorem dX5_laysOwners_24 : decode cX5_laysOwners 24 = .ok (.aload_n 0, 1) := dk_42 (dk_at dksX5_laysOwners_1 0 rfl rfl)
theorem dX5_laysOwners_25 : decode cX5_laysOwners 25 = .ok (.iload_n 2, 1) := dk_28 (dk_at dksX5_laysOwners_1 1 rfl rfl)
theorem dX5_laysOwners_26 : decode cX5_laysOwners 26 = .ok (.aload_n 0, 1) := dk_42 (dk_at dksX5_laysOwners_1 2 rfl rfl)
theorem dX5_laysOwners_27 : decode cX5_laysOwners 27 = .ok (.getfield 7, 3) := dk_180 0 7 (dk_at dksX5_laysOwners_1 3 rfl rfl)
theorem dX5_laysOwners_30 : decode cX5_laysOwners 30 = .ok (.iconst 0, 1) := dk_3 (dk_at dksX5_laysOwners_1 6 rfl rfl)
theorem dX5_laysOwners_31 : decode cX5_laysOwners 31 = .ok (.iaload, 1) := dk_46 (dk_at dksX5_laysOwners_1 7 rfl rfl)
theorem dX5_laysOwners_32 : decode cX5_laysOwners 32 = .ok (.irem, 1) := dk_112 (dk_at dksX5_laysOwners_1 8 rfl rfl)
theorem dX5_laysOwners_33 : decode cX5_laysOwners 33 = .ok (.iload_n 2, 1) := dk_28 (dk_at dksX5_laysOwners_1 9 rfl rfl)
theorem dX5_laysOwners_34 : decode cX5_laysOwners 34 = .ok (.aload_n 0, 1) := dk_42 (dk_at dksX5_laysOwners_1 10 rfl rfl)
theorem dX5_laysOwners_35 : decode cX5_laysOwners 35 = .ok (.getfield 7, 3) := dk_180 0 7 (dk_at dksX5_laysOwners_1 11 rfl rfl)
theorem dX5_laysOwners_38 : decode cX5_laysOwners 38 = .ok (.iconst 0, 1) := dk_3 (dk_at dksX5_laysOwners_1 14 rfl rfl)
theorem dX5_laysOwners_39 : decode cX5_laysOwners 39 = .ok (.iaload, 1) := dk_46 (dk_at dksX5_laysOwners_1 15 rfl rfl)
theorem dX5_laysOwners_40 : decode cX5_laysOwners 40 = .ok (.idiv, 1) := dk_108 (dk_at dksX5_laysOwners_1 16 rfl rfl)
theorem dX5_laysOwners_41 : decode cX5_laysOwners 41 = .ok (.iload_n 1, 1) := dk_27 (dk_at dksX5_laysOwners_1 17 rfl rfl)
theorem dX5_laysOwners_42 : decode cX5_laysOwners 42 = .ok (.invokevirtual 143, 3) := dk_182 0 143 (dk_at dksX5_laysOwners_1 18 rfl rfl)
theorem dX5_laysOwners_45 : decode cX5_laysOwners 45 = .ok (.iastore, 1) := dk_79 (dk_at dksX5_laysOwners_1 21 rfl rfl)
theorem dX5_laysOwners_46 : decode cX5_laysOwners 46 = .ok (.iinc 2 1, 3) := dk_132 2 1 (dk_at dksX5_laysOwners_2 0 rfl rfl)
theorem dX5_laysOwners_49 : decode cX5_laysOwners 49 = .ok (.goto (-47), 3) := dk_167 255 209 (dk_at dksX5_laysOwners_2 3 rfl rfl)
theorem dX5_laysOwners_52 : decode cX5_laysOwners 52 = .ok (.return_, 1) := dk_177 (dk_at dksX5_laysOwners_2 6 rfl rfl)
abbrev cX5_firstIn : ByteArray := prog_20_method_38_code
def yX5_firstIn : MethodName := ⟨RX5, "firstIn", "(I)I"⟩
def dkwX5_firstIn_1 : List UInt8 := [132, 2, 1, 167, 255, 233, 2, 172]
abbrev dktX5_firstIn_1 : List UInt8 := dkwX5_firstIn_1 ++ []
def dkwX5_firstIn_0 : List UInt8 := [3, 61, 28, 42, 180, 0, 170, 162, 0, 21, 42, 180, 0, 41, 28, 46, 27, 160, 0, 5, 28, 172]
abbrev dktX5_firstIn_0 : List UInt8 := dkwX5_firstIn_0 ++ dktX5_firstIn_1
theorem dksX5_firstIn_0 : cX5_firstIn.data.toList.drop 0 = dktX5_firstIn_0 := by decide +kernel
theorem dksX5_firstIn_1 : cX5_firstIn.data.toList.drop 22 = dktX5_firstIn_1 := dk_seg dksX5_firstIn_0 22 rfl rfl
theorem dX5_firstIn_0 : decode cX5_firstIn 0 = .ok (.iconst 0, 1) := dk_3 (dk_at dksX5_firstIn_0 0 rfl rfl)
theorem dX5_firstIn_1 : decode cX5_firstIn 1 = .ok (.istore_n 2, 1) := dk_61 (dk_at dksX5_firstIn_0 1 rfl rfl)
theorem dX5_firstIn_2 : decode cX5_firstIn 2 = .ok (.iload_n 2, 1) := dk_28 (dk_at dksX5_firstIn_0 2 rfl rfl)
theorem dX5_firstIn_3 : decode cX5_firstIn 3 = .ok (.aload_n 0, 1) := dk_42 (dk_at dksX5_firstIn_0 3 rfl rfl)
theorem dX5_firstIn_4 : decode cX5_firstIn 4 = .ok (.getfield 170, 3) := dk_180 0 170 (dk_at dksX5_firstIn_0 4 rfl rfl)
theorem dX5_firstIn_7 : decode cX5_firstIn 7 = .ok (.if_icmp .ge 21, 3) := dk_162 0 21 (dk_at dksX5_firstIn_0 7 rfl rfl)
theorem dX5_firstIn_10 : decode cX5_firstIn 10 = .ok (.aload_n 0, 1) := dk_42 (dk_at dksX5_firstIn_0 10 rfl rfl)
theorem dX5_firstIn_11 : decode cX5_firstIn 11 = .ok (.getfield 41, 3) := dk_180 0 41 (dk_at dksX5_firstIn_0 11 rfl rfl)
theorem dX5_firstIn_14 : decode cX5_firstIn 14 = .ok (.iload_n 2, 1) := dk_28 (dk_at dksX5_firstIn_0 14 rfl rfl)
theorem dX5_firstIn_15 : decode cX5_firstIn 15 = .ok (.iaload, 1) := dk_46 (dk_at dksX5_firstIn_0 15 rfl rfl)
theorem dX5_firstIn_16 : decode cX5_firstIn 16 = .ok (.iload_n 1, 1) := dk_27 (dk_at dksX5_firstIn_0 16 rfl rfl)
theorem dX5_firstIn_17 : decode cX5_firstIn 17 = .ok (.if_icmp .ne 5, 3) := dk_160 0 5 (dk_at dksX5_firstIn_0 17 rfl rfl)
theorem dX5_firstIn_20 : decode cX5_firstIn 20 = .ok (.iload_n 2, 1) := dk_28 (dk_at dksX5_firstIn_0 20 rfl rfl)
theorem dX5_firstIn_21 : decode cX5_firstIn 21 = .ok (.ireturn, 1) := dk_172 (dk_at dksX5_firstIn_0 21 rfl rfl)
theorem dX5_firstIn_22 : decode cX5_firstIn 22 = .ok (.iinc 2 1, 3) := dk_132 2 1 (dk_at dksX5_firstIn_1 0 rfl rfl)
theorem dX5_firstIn_25 : decode cX5_firstIn 25 = .ok (.goto (-23), 3) := dk_167 255 233 (dk_at dksX5_firstIn_1 3 rfl rfl)
theorem dX5_firstIn_28 : decode cX5_firstIn 28 = .ok (.iconst (-1), 1) := dk_2 (dk_at dksX5_firstIn_1 6 rfl rfl)
theorem dX5_firstIn_29 : decode cX5_firstIn 29 = .ok (.ireturn, 1) := dk_172 (dk_at dksX5_firstIn_1 7 rfl rfl)
abbrev cX5_cellsOf : ByteArray := prog_20_method_91_code
def yX5_cellsOf : MethodName := ⟨RX5, "cellsOf", "(I)I"⟩
def dkwX5_cellsOf_1 : List UInt8 := [180, 0, 81, 29, 46, 27, 160, 0, 7, 4, 167, 0, 4, 3, 96, 61, 132, 3, 1, 167, 255, 218, 28, 172]
abbrev dktX5_cellsOf_1 : List UInt8 := dkwX5_cellsOf_1 ++ []
def dkwX5_cellsOf_0 : List UInt8 := [3, 61, 3, 62, 29, 42, 180, 0, 7, 3, 46, 42, 180, 0, 7, 4, 46, 104, 162, 0, 27, 28, 42]
abbrev dktX5_cellsOf_0 : List UInt8 := dkwX5_cellsOf_0 ++ dktX5_cellsOf_1
theorem dksX5_cellsOf_0 : cX5_cellsOf.data.toList.drop 0 = dktX5_cellsOf_0 := by decide +kernel
theorem dksX5_cellsOf_1 : cX5_cellsOf.data.toList.drop 23 = dktX5_cellsOf_1 := dk_seg dksX5_cellsOf_0 23 rfl rfl
theorem dX5_cellsOf_0 : decode cX5_cellsOf 0 = .ok (.iconst 0, 1) := dk_3 (dk_at dksX5_cellsOf_0 0 rfl rfl)
theorem dX5_cellsOf_1 : decode cX5_cellsOf 1 = .ok (.istore_n 2, 1) := dk_61 (dk_at dksX5_cellsOf_0 1 rfl rfl)
theorem dX5_cellsOf_2 : decode cX5_cellsOf 2 = .ok (.iconst 0, 1) := dk_3 (dk_at dksX5_cellsOf_0 2 rfl rfl)
theorem dX5_cellsOf_3 : decode cX5_cellsOf 3 = .ok (.istore_n 3, 1) := dk_62 (dk_at dksX5_cellsOf_0 3 rfl rfl)
theorem dX5_cellsOf_4 : decode cX5_cellsOf 4 = .ok (.iload_n 3, 1) := dk_29 (dk_at dksX5_cellsOf_0 4 rfl rfl)
theorem dX5_cellsOf_5 : decode cX5_cellsOf 5 = .ok (.aload_n 0, 1) := dk_42 (dk_at dksX5_cellsOf_0 5 rfl rfl)
theorem dX5_cellsOf_6 : decode cX5_cellsOf 6 = .ok (.getfield 7, 3) := dk_180 0 7 (dk_at dksX5_cellsOf_0 6 rfl rfl)
theorem dX5_cellsOf_9 : decode cX5_cellsOf 9 = .ok (.iconst 0, 1) := dk_3 (dk_at dksX5_cellsOf_0 9 rfl rfl)
theorem dX5_cellsOf_10 : decode cX5_cellsOf 10 = .ok (.iaload, 1) := dk_46 (dk_at dksX5_cellsOf_0 10 rfl rfl)
theorem dX5_cellsOf_11 : decode cX5_cellsOf 11 = .ok (.aload_n 0, 1) := dk_42 (dk_at dksX5_cellsOf_0 11 rfl rfl)
theorem dX5_cellsOf_12 : decode cX5_cellsOf 12 = .ok (.getfield 7, 3) := dk_180 0 7 (dk_at dksX5_cellsOf_0 12 rfl rfl)
theorem dX5_cellsOf_15 : decode cX5_cellsOf 15 = .ok (.iconst 1, 1) := dk_4 (dk_at dksX5_cellsOf_0 15 rfl rfl)
theorem dX5_cellsOf_16 : decode cX5_cellsOf 16 = .ok (.iaload, 1) := dk_46 (dk_at dksX5_cellsOf_0 16 rfl rfl)
theorem dX5_cellsOf_17 : decode cX5_cellsOf 17 = .ok (.imul, 1) := dk_104 (dk_at dksX5_cellsOf_0 17 rfl rfl)
theorem dX5_cellsOf_18 : decode cX5_cellsOf 18 = .ok (.if_icmp .ge 27, 3) := dk_162 0 27 (dk_at dksX5_cellsOf_0 18 rfl rfl)
theorem dX5_cellsOf_21 : decode cX5_cellsOf 21 = .ok (.iload_n 2, 1) := dk_28 (dk_at dksX5_cellsOf_0 21 rfl rfl)
theorem dX5_cellsOf_22 : decode cX5_cellsOf 22 = .ok (.aload_n 0, 1) := dk_42 (dk_at dksX5_cellsOf_0 22 rfl rfl)
theorem dX5_cellsOf_23 : decode cX5_cellsOf 23 = .ok (.getfield 81, 3) := dk_180 0 81 (dk_at dksX5_cellsOf_1 0 rfl rfl)
theorem dX5_cellsOf_26 : decode cX5_cellsOf 26 = .ok (.iload_n 3, 1) := dk_29 (dk_at dksX5_cellsOf_1 3 rfl rfl)
theorem dX5_cellsOf_27 : decode cX5_cellsOf 27 = .ok (.iaload, 1) := dk_46 (dk_at dksX5_cellsOf_1 4 rfl rfl)
theorem dX5_cellsOf_28 : decode cX5_cellsOf 28 = .ok (.iload_n 1, 1) := dk_27 (dk_at dksX5_cellsOf_1 5 rfl rfl)
theorem dX5_cellsOf_29 : decode cX5_cellsOf 29 = .ok (.if_icmp .ne 7, 3) := dk_160 0 7 (dk_at dksX5_cellsOf_1 6 rfl rfl)
theorem dX5_cellsOf_32 : decode cX5_cellsOf 32 = .ok (.iconst 1, 1) := dk_4 (dk_at dksX5_cellsOf_1 9 rfl rfl)
theorem dX5_cellsOf_33 : decode cX5_cellsOf 33 = .ok (.goto 4, 3) := dk_167 0 4 (dk_at dksX5_cellsOf_1 10 rfl rfl)
theorem dX5_cellsOf_36 : decode cX5_cellsOf 36 = .ok (.iconst 0, 1) := dk_3 (dk_at dksX5_cellsOf_1 13 rfl rfl)
theorem dX5_cellsOf_37 : decode cX5_cellsOf 37 = .ok (.iadd, 1) := dk_96 (dk_at dksX5_cellsOf_1 14 rfl rfl)
theorem dX5_cellsOf_38 : decode cX5_cellsOf 38 = .ok (.istore_n 2, 1) := dk_61 (dk_at dksX5_cellsOf_1 15 rfl rfl)
theorem dX5_cellsOf_39 : decode cX5_cellsOf 39 = .ok (.iinc 3 1, 3) := dk_132 3 1 (dk_at dksX5_cellsOf_1 16 rfl rfl)
theorem dX5_cellsOf_42 : decode cX5_cellsOf 42 = .ok (.goto (-38), 3) := dk_167 255 218 (dk_at dksX5_cellsOf_1 19 rfl rfl)
theorem dX5_cellsOf_45 : decode cX5_cellsOf 45 = .ok (.iload_n 2, 1) := dk_28 (dk_at dksX5_cellsOf_1 22 rfl rfl)
theorem dX5_cellsOf_46 : decode cX5_cellsOf 46 = .ok (.ireturn, 1) := dk_172 (dk_at dksX5_cellsOf_1 23 rfl rfl)
abbrev cX5_setIn : ByteArray := prog_20_method_97_code
def yX5_setIn : MethodName := ⟨RX5, "setIn", "(II)I"⟩
def dkwX5_setIn_2 : List UInt8 := [132, 4, 1, 167, 255, 210, 29, 172]
abbrev dktX5_setIn_2 : List UInt8 := dkwX5_setIn_2 ++ []
def dkwX5_setIn_1 : List UInt8 := [153, 0, 21, 42, 21, 4, 28, 182, 0, 181, 27, 160, 0, 10, 4, 21, 4, 120, 167, 0, 4, 3, 128, 62]
abbrev dktX5_setIn_1 : List UInt8 := dkwX5_setIn_1 ++ dktX5_setIn_2
def dkwX5_setIn_0 : List UInt8 := [3, 62, 3, 54, 4, 21, 4, 42, 180, 0, 7, 6, 46, 162, 0, 41, 29, 42, 21, 4, 28, 182, 0, 177]
abbrev dktX5_setIn_0 : List UInt8 := dkwX5_setIn_0 ++ dktX5_setIn_1
theorem dksX5_setIn_0 : cX5_setIn.data.toList.drop 0 = dktX5_setIn_0 := by decide +kernel
theorem dksX5_setIn_1 : cX5_setIn.data.toList.drop 24 = dktX5_setIn_1 := dk_seg dksX5_setIn_0 24 rfl rfl
theorem dksX5_setIn_2 : cX5_setIn.data.toList.drop 48 = dktX5_setIn_2 := dk_seg dksX5_setIn_1 24 rfl rfl
theorem dX5_setIn_0 : decode cX5_setIn 0 = .ok (.iconst 0, 1) := dk_3 (dk_at dksX5_setIn_0 0 rfl rfl)
theorem dX5_setIn_1 : decode cX5_setIn 1 = .ok (.istore_n 3, 1) := dk_62 (dk_at dksX5_setIn_0 1 rfl rfl)
theorem dX5_setIn_2 : decode cX5_setIn 2 = .ok (.iconst 0, 1) := dk_3 (dk_at dksX5_setIn_0 2 rfl rfl)
theorem dX5_setIn_3 : decode cX5_setIn 3 = .ok (.istore 4, 2) := dk_54 4 (dk_at dksX5_setIn_0 3 rfl rfl)
theorem dX5_setIn_5 : decode cX5_setIn 5 = .ok (.iload 4, 2) := dk_21 4 (dk_at dksX5_setIn_0 5 rfl rfl)
theorem dX5_setIn_7 : decode cX5_setIn 7 = .ok (.aload_n 0, 1) := dk_42 (dk_at dksX5_setIn_0 7 rfl rfl)
theorem dX5_setIn_8 : decode cX5_setIn 8 = .ok (.getfield 7, 3) := dk_180 0 7 (dk_at dksX5_setIn_0 8 rfl rfl)
theorem dX5_setIn_11 : decode cX5_setIn 11 = .ok (.iconst 3, 1) := dk_6 (dk_at dksX5_setIn_0 11 rfl rfl)
theorem dX5_setIn_12 : decode cX5_setIn 12 = .ok (.iaload, 1) := dk_46 (dk_at dksX5_setIn_0 12 rfl rfl)
theorem dX5_setIn_13 : decode cX5_setIn 13 = .ok (.if_icmp .ge 41, 3) := dk_162 0 41 (dk_at dksX5_setIn_0 13 rfl rfl)
theorem dX5_setIn_16 : decode cX5_setIn 16 = .ok (.iload_n 3, 1) := dk_29 (dk_at dksX5_setIn_0 16 rfl rfl)
theorem dX5_setIn_17 : decode cX5_setIn 17 = .ok (.aload_n 0, 1) := dk_42 (dk_at dksX5_setIn_0 17 rfl rfl)
theorem dX5_setIn_18 : decode cX5_setIn 18 = .ok (.iload 4, 2) := dk_21 4 (dk_at dksX5_setIn_0 18 rfl rfl)
theorem dX5_setIn_20 : decode cX5_setIn 20 = .ok (.iload_n 2, 1) := dk_28 (dk_at dksX5_setIn_0 20 rfl rfl)
theorem dX5_setIn_21 : decode cX5_setIn 21 = .ok (.invokevirtual 177, 3) := dk_182 0 177 (dk_at dksX5_setIn_0 21 rfl rfl)
theorem dX5_setIn_24 : decode cX5_setIn 24 = .ok (.ifCond .eq 21, 3) := dk_153 0 21 (dk_at dksX5_setIn_1 0 rfl rfl)
theorem dX5_setIn_27 : decode cX5_setIn 27 = .ok (.aload_n 0, 1) := dk_42 (dk_at dksX5_setIn_1 3 rfl rfl)
theorem dX5_setIn_28 : decode cX5_setIn 28 = .ok (.iload 4, 2) := dk_21 4 (dk_at dksX5_setIn_1 4 rfl rfl)
theorem dX5_setIn_30 : decode cX5_setIn 30 = .ok (.iload_n 2, 1) := dk_28 (dk_at dksX5_setIn_1 6 rfl rfl)
theorem dX5_setIn_31 : decode cX5_setIn 31 = .ok (.invokevirtual 181, 3) := dk_182 0 181 (dk_at dksX5_setIn_1 7 rfl rfl)
theorem dX5_setIn_34 : decode cX5_setIn 34 = .ok (.iload_n 1, 1) := dk_27 (dk_at dksX5_setIn_1 10 rfl rfl)
theorem dX5_setIn_35 : decode cX5_setIn 35 = .ok (.if_icmp .ne 10, 3) := dk_160 0 10 (dk_at dksX5_setIn_1 11 rfl rfl)
theorem dX5_setIn_38 : decode cX5_setIn 38 = .ok (.iconst 1, 1) := dk_4 (dk_at dksX5_setIn_1 14 rfl rfl)
theorem dX5_setIn_39 : decode cX5_setIn 39 = .ok (.iload 4, 2) := dk_21 4 (dk_at dksX5_setIn_1 15 rfl rfl)
theorem dX5_setIn_41 : decode cX5_setIn 41 = .ok (.ishl, 1) := dk_120 (dk_at dksX5_setIn_1 17 rfl rfl)
theorem dX5_setIn_42 : decode cX5_setIn 42 = .ok (.goto 4, 3) := dk_167 0 4 (dk_at dksX5_setIn_1 18 rfl rfl)
theorem dX5_setIn_45 : decode cX5_setIn 45 = .ok (.iconst 0, 1) := dk_3 (dk_at dksX5_setIn_1 21 rfl rfl)
theorem dX5_setIn_46 : decode cX5_setIn 46 = .ok (.ior, 1) := dk_128 (dk_at dksX5_setIn_1 22 rfl rfl)
theorem dX5_setIn_47 : decode cX5_setIn 47 = .ok (.istore_n 3, 1) := dk_62 (dk_at dksX5_setIn_1 23 rfl rfl)
theorem dX5_setIn_48 : decode cX5_setIn 48 = .ok (.iinc 4 1, 3) := dk_132 4 1 (dk_at dksX5_setIn_2 0 rfl rfl)
theorem dX5_setIn_51 : decode cX5_setIn 51 = .ok (.goto (-46), 3) := dk_167 255 210 (dk_at dksX5_setIn_2 3 rfl rfl)
theorem dX5_setIn_54 : decode cX5_setIn 54 = .ok (.iload_n 3, 1) := dk_29 (dk_at dksX5_setIn_2 6 rfl rfl)
theorem dX5_setIn_55 : decode cX5_setIn 55 = .ok (.ireturn, 1) := dk_172 (dk_at dksX5_setIn_2 7 rfl rfl)
abbrev cX5_linesIn : ByteArray := prog_20_method_37_code
def yX5_linesIn : MethodName := ⟨RX5, "linesIn", "(I)I"⟩
def dkwX5_linesIn_1 : List UInt8 := [167, 0, 4, 3, 96, 61, 132, 3, 1, 167, 255, 227, 28, 172]
abbrev dktX5_linesIn_1 : List UInt8 := dkwX5_linesIn_1 ++ []
def dkwX5_linesIn_0 : List UInt8 := [3, 61, 3, 62, 29, 42, 180, 0, 170, 162, 0, 27, 28, 42, 180, 0, 41, 29, 46, 27, 160, 0, 7, 4]
abbrev dktX5_linesIn_0 : List UInt8 := dkwX5_linesIn_0 ++ dktX5_linesIn_1
theorem dksX5_linesIn_0 : cX5_linesIn.data.toList.drop 0 = dktX5_linesIn_0 := by decide +kernel
theorem dksX5_linesIn_1 : cX5_linesIn.data.toList.drop 24 = dktX5_linesIn_1 := dk_seg dksX5_linesIn_0 24 rfl rfl
theorem dX5_linesIn_0 : decode cX5_linesIn 0 = .ok (.iconst 0, 1) := dk_3 (dk_at dksX5_linesIn_0 0 rfl rfl)
theorem dX5_linesIn_1 : decode cX5_linesIn 1 = .ok (.istore_n 2, 1) := dk_61 (dk_at dksX5_linesIn_0 1 rfl rfl)
theorem dX5_linesIn_2 : decode cX5_linesIn 2 = .ok (.iconst 0, 1) := dk_3 (dk_at dksX5_linesIn_0 2 rfl rfl)
theorem dX5_linesIn_3 : decode cX5_linesIn 3 = .ok (.istore_n 3, 1) := dk_62 (dk_at dksX5_linesIn_0 3 rfl rfl)
theorem dX5_linesIn_4 : decode cX5_linesIn 4 = .ok (.iload_n 3, 1) := dk_29 (dk_at dksX5_linesIn_0 4 rfl rfl)
theorem dX5_linesIn_5 : decode cX5_linesIn 5 = .ok (.aload_n 0, 1) := dk_42 (dk_at dksX5_linesIn_0 5 rfl rfl)
theorem dX5_linesIn_6 : decode cX5_linesIn 6 = .ok (.getfield 170, 3) := dk_180 0 170 (dk_at dksX5_linesIn_0 6 rfl rfl)
theorem dX5_linesIn_9 : decode cX5_linesIn 9 = .ok (.if_icmp .ge 27, 3) := dk_162 0 27 (dk_at dksX5_linesIn_0 9 rfl rfl)
theorem dX5_linesIn_12 : decode cX5_linesIn 12 = .ok (.iload_n 2, 1) := dk_28 (dk_at dksX5_linesIn_0 12 rfl rfl)
theorem dX5_linesIn_13 : decode cX5_linesIn 13 = .ok (.aload_n 0, 1) := dk_42 (dk_at dksX5_linesIn_0 13 rfl rfl)
theorem dX5_linesIn_14 : decode cX5_linesIn 14 = .ok (.getfield 41, 3) := dk_180 0 41 (dk_at dksX5_linesIn_0 14 rfl rfl)
theorem dX5_linesIn_17 : decode cX5_linesIn 17 = .ok (.iload_n 3, 1) := dk_29 (dk_at dksX5_linesIn_0 17 rfl rfl)
theorem dX5_linesIn_18 : decode cX5_linesIn 18 = .ok (.iaload, 1) := dk_46 (dk_at dksX5_linesIn_0 18 rfl rfl)
theorem dX5_linesIn_19 : decode cX5_linesIn 19 = .ok (.iload_n 1, 1) := dk_27 (dk_at dksX5_linesIn_0 19 rfl rfl)
theorem dX5_linesIn_20 : decode cX5_linesIn 20 = .ok (.if_icmp .ne 7, 3) := dk_160 0 7 (dk_at dksX5_linesIn_0 20 rfl rfl)
theorem dX5_linesIn_23 : decode cX5_linesIn 23 = .ok (.iconst 1, 1) := dk_4 (dk_at dksX5_linesIn_0 23 rfl rfl)
theorem dX5_linesIn_24 : decode cX5_linesIn 24 = .ok (.goto 4, 3) := dk_167 0 4 (dk_at dksX5_linesIn_1 0 rfl rfl)
theorem dX5_linesIn_27 : decode cX5_linesIn 27 = .ok (.iconst 0, 1) := dk_3 (dk_at dksX5_linesIn_1 3 rfl rfl)
theorem dX5_linesIn_28 : decode cX5_linesIn 28 = .ok (.iadd, 1) := dk_96 (dk_at dksX5_linesIn_1 4 rfl rfl)
theorem dX5_linesIn_29 : decode cX5_linesIn 29 = .ok (.istore_n 2, 1) := dk_61 (dk_at dksX5_linesIn_1 5 rfl rfl)
theorem dX5_linesIn_30 : decode cX5_linesIn 30 = .ok (.iinc 3 1, 3) := dk_132 3 1 (dk_at dksX5_linesIn_1 6 rfl rfl)
theorem dX5_linesIn_33 : decode cX5_linesIn 33 = .ok (.goto (-29), 3) := dk_167 255 227 (dk_at dksX5_linesIn_1 9 rfl rfl)
theorem dX5_linesIn_36 : decode cX5_linesIn 36 = .ok (.iload_n 2, 1) := dk_28 (dk_at dksX5_linesIn_1 12 rfl rfl)
theorem dX5_linesIn_37 : decode cX5_linesIn 37 = .ok (.ireturn, 1) := dk_172 (dk_at dksX5_linesIn_1 13 rfl rfl)
abbrev cX5_pagesOf : ByteArray := prog_20_method_96_code
def yX5_pagesOf : MethodName := ⟨RX5, "pagesOf", "(I)I"⟩
def dkwX5_pagesOf_2 : List UInt8 := [62, 132, 2, 1, 132, 4, 1, 167, 255, 208, 28, 172]
abbrev dktX5_pagesOf_2 : List UInt8 := dkwX5_pagesOf_2 ++ []
def dkwX5_pagesOf_1 : List UInt8 := [160, 0, 28, 42, 180, 0, 62, 21, 4, 46, 29, 160, 0, 6, 167, 0, 14, 42, 180, 0, 62, 21, 4, 46]
abbrev dktX5_pagesOf_1 : List UInt8 := dkwX5_pagesOf_1 ++ dktX5_pagesOf_2
def dkwX5_pagesOf_0 : List UInt8 := [3, 61, 2, 62, 3, 54, 4, 21, 4, 42, 180, 0, 170, 162, 0, 45, 42, 180, 0, 41, 21, 4, 46, 27]
abbrev dktX5_pagesOf_0 : List UInt8 := dkwX5_pagesOf_0 ++ dktX5_pagesOf_1
theorem dksX5_pagesOf_0 : cX5_pagesOf.data.toList.drop 0 = dktX5_pagesOf_0 := by decide +kernel
theorem dksX5_pagesOf_1 : cX5_pagesOf.data.toList.drop 24 = dktX5_pagesOf_1 := dk_seg dksX5_pagesOf_0 24 rfl rfl
theorem dksX5_pagesOf_2 : cX5_pagesOf.data.toList.drop 48 = dktX5_pagesOf_2 := dk_seg dksX5_pagesOf_1 24 rfl rfl
theorem dX5_pagesOf_0 : decode cX5_pagesOf 0 = .ok (.iconst 0, 1) := dk_3 (dk_at dksX5_pagesOf_0 0 rfl rfl)
theorem dX5_pagesOf_1 : decode cX5_pagesOf 1 = .ok (.istore_n 2, 1) := dk_61 (dk_at dksX5_pagesOf_0 1 rfl rfl)
theorem dX5_pagesOf_2 : decode cX5_pagesOf 2 = .ok (.iconst (-1), 1) := dk_2 (dk_at dksX5_pagesOf_0 2 rfl rfl)
theorem dX5_pagesOf_3 : decode cX5_pagesOf 3 = .ok (.istore_n 3, 1) := dk_62 (dk_at dksX5_pagesOf_0 3 rfl rfl)
theorem dX5_pagesOf_4 : decode cX5_pagesOf 4 = .ok (.iconst 0, 1) := dk_3 (dk_at dksX5_pagesOf_0 4 rfl rfl)
theorem dX5_pagesOf_5 : decode cX5_pagesOf 5 = .ok (.istore 4, 2) := dk_54 4 (dk_at dksX5_pagesOf_0 5 rfl rfl)
theorem dX5_pagesOf_7 : decode cX5_pagesOf 7 = .ok (.iload 4, 2) := dk_21 4 (dk_at dksX5_pagesOf_0 7 rfl rfl)
theorem dX5_pagesOf_9 : decode cX5_pagesOf 9 = .ok (.aload_n 0, 1) := dk_42 (dk_at dksX5_pagesOf_0 9 rfl rfl)
theorem dX5_pagesOf_10 : decode cX5_pagesOf 10 = .ok (.getfield 170, 3) := dk_180 0 170 (dk_at dksX5_pagesOf_0 10 rfl rfl)
theorem dX5_pagesOf_13 : decode cX5_pagesOf 13 = .ok (.if_icmp .ge 45, 3) := dk_162 0 45 (dk_at dksX5_pagesOf_0 13 rfl rfl)
theorem dX5_pagesOf_16 : decode cX5_pagesOf 16 = .ok (.aload_n 0, 1) := dk_42 (dk_at dksX5_pagesOf_0 16 rfl rfl)
theorem dX5_pagesOf_17 : decode cX5_pagesOf 17 = .ok (.getfield 41, 3) := dk_180 0 41 (dk_at dksX5_pagesOf_0 17 rfl rfl)
theorem dX5_pagesOf_20 : decode cX5_pagesOf 20 = .ok (.iload 4, 2) := dk_21 4 (dk_at dksX5_pagesOf_0 20 rfl rfl)
theorem dX5_pagesOf_22 : decode cX5_pagesOf 22 = .ok (.iaload, 1) := dk_46 (dk_at dksX5_pagesOf_0 22 rfl rfl)
theorem dX5_pagesOf_23 : decode cX5_pagesOf 23 = .ok (.iload_n 1, 1) := dk_27 (dk_at dksX5_pagesOf_0 23 rfl rfl)
theorem dX5_pagesOf_24 : decode cX5_pagesOf 24 = .ok (.if_icmp .ne 28, 3) := dk_160 0 28 (dk_at dksX5_pagesOf_1 0 rfl rfl)
theorem dX5_pagesOf_27 : decode cX5_pagesOf 27 = .ok (.aload_n 0, 1) := dk_42 (dk_at dksX5_pagesOf_1 3 rfl rfl)
theorem dX5_pagesOf_28 : decode cX5_pagesOf 28 = .ok (.getfield 62, 3) := dk_180 0 62 (dk_at dksX5_pagesOf_1 4 rfl rfl)
theorem dX5_pagesOf_31 : decode cX5_pagesOf 31 = .ok (.iload 4, 2) := dk_21 4 (dk_at dksX5_pagesOf_1 7 rfl rfl)
theorem dX5_pagesOf_33 : decode cX5_pagesOf 33 = .ok (.iaload, 1) := dk_46 (dk_at dksX5_pagesOf_1 9 rfl rfl)
theorem dX5_pagesOf_34 : decode cX5_pagesOf 34 = .ok (.iload_n 3, 1) := dk_29 (dk_at dksX5_pagesOf_1 10 rfl rfl)
theorem dX5_pagesOf_35 : decode cX5_pagesOf 35 = .ok (.if_icmp .ne 6, 3) := dk_160 0 6 (dk_at dksX5_pagesOf_1 11 rfl rfl)
theorem dX5_pagesOf_38 : decode cX5_pagesOf 38 = .ok (.goto 14, 3) := dk_167 0 14 (dk_at dksX5_pagesOf_1 14 rfl rfl)
theorem dX5_pagesOf_41 : decode cX5_pagesOf 41 = .ok (.aload_n 0, 1) := dk_42 (dk_at dksX5_pagesOf_1 17 rfl rfl)
theorem dX5_pagesOf_42 : decode cX5_pagesOf 42 = .ok (.getfield 62, 3) := dk_180 0 62 (dk_at dksX5_pagesOf_1 18 rfl rfl)
theorem dX5_pagesOf_45 : decode cX5_pagesOf 45 = .ok (.iload 4, 2) := dk_21 4 (dk_at dksX5_pagesOf_1 21 rfl rfl)
theorem dX5_pagesOf_47 : decode cX5_pagesOf 47 = .ok (.iaload, 1) := dk_46 (dk_at dksX5_pagesOf_1 23 rfl rfl)
theorem dX5_pagesOf_48 : decode cX5_pagesOf 48 = .ok (.istore_n 3, 1) := dk_62 (dk_at dksX5_pagesOf_2 0 rfl rfl)
theorem dX5_pagesOf_49 : decode cX5_pagesOf 49 = .ok (.iinc 2 1, 3) := dk_132 2 1 (dk_at dksX5_pagesOf_2 1 rfl rfl)
theorem dX5_pagesOf_52 : decode cX5_pagesOf 52 = .ok (.iinc 4 1, 3) := dk_132 4 1 (dk_at dksX5_pagesOf_2 4 rfl rfl)
theorem dX5_pagesOf_55 : decode cX5_pagesOf 55 = .ok (.goto (-48), 3) := dk_167 255 208 (dk_at dksX5_pagesOf_2 7 rfl rfl)
theorem dX5_pagesOf_58 : decode cX5_pagesOf 58 = .ok (.iload_n 2, 1) := dk_28 (dk_at dksX5_pagesOf_2 10 rfl rfl)
theorem dX5_pagesOf_59 : decode cX5_pagesOf 59 = .ok (.ireturn, 1) := dk_172 (dk_at dksX5_pagesOf_2 11 rfl rfl)
abbrev cX5_partsOf : ByteArray := prog_20_method_94_code
def yX5_partsOf : MethodName := ⟨RX5, "partsOf", "(I)I"⟩
def dkwX5_partsOf_3 : List UInt8 := [132, 2, 1, 132, 3, 1, 167, 255, 206, 28, 172]
abbrev dktX5_partsOf_3 : List UInt8 := dkwX5_partsOf_3 ++ []
def dkwX5_partsOf_2 : List UInt8 := [46, 27, 160, 0, 23, 42, 180, 0, 84, 29, 51, 153, 0, 6, 167, 0, 11, 42, 29, 182, 1, 183]
abbrev dktX5_partsOf_2 : List UInt8 := dkwX5_partsOf_2 ++ dktX5_partsOf_3
def dkwX5_partsOf_1 : List UInt8 := [3, 62, 29, 42, 180, 0, 7, 3, 46, 42, 180, 0, 7, 4, 46, 104, 162, 0, 39, 42, 180, 0, 81, 29]
abbrev dktX5_partsOf_1 : List UInt8 := dkwX5_partsOf_1 ++ dktX5_partsOf_2
def dkwX5_partsOf_0 : List UInt8 := [3, 61, 28, 17, 0, 144, 162, 0, 16, 42, 180, 0, 84, 28, 3, 84, 132, 2, 1, 167, 255, 239, 3, 61]
abbrev dktX5_partsOf_0 : List UInt8 := dkwX5_partsOf_0 ++ dktX5_partsOf_1
theorem dksX5_partsOf_0 : cX5_partsOf.data.toList.drop 0 = dktX5_partsOf_0 := by decide +kernel
theorem dksX5_partsOf_1 : cX5_partsOf.data.toList.drop 24 = dktX5_partsOf_1 := dk_seg dksX5_partsOf_0 24 rfl rfl
theorem dksX5_partsOf_2 : cX5_partsOf.data.toList.drop 48 = dktX5_partsOf_2 := dk_seg dksX5_partsOf_1 24 rfl rfl
theorem dksX5_partsOf_3 : cX5_partsOf.data.toList.drop 70 = dktX5_partsOf_3 := dk_seg dksX5_partsOf_2 22 rfl rfl
theorem dX5_partsOf_0 : decode cX5_partsOf 0 = .ok (.iconst 0, 1) := dk_3 (dk_at dksX5_partsOf_0 0 rfl rfl)
theorem dX5_partsOf_1 : decode cX5_partsOf 1 = .ok (.istore_n 2, 1) := dk_61 (dk_at dksX5_partsOf_0 1 rfl rfl)
theorem dX5_partsOf_2 : decode cX5_partsOf 2 = .ok (.iload_n 2, 1) := dk_28 (dk_at dksX5_partsOf_0 2 rfl rfl)
theorem dX5_partsOf_3 : decode cX5_partsOf 3 = .ok (.sipush 144, 3) := dk_17 0 144 (dk_at dksX5_partsOf_0 3 rfl rfl)
theorem dX5_partsOf_6 : decode cX5_partsOf 6 = .ok (.if_icmp .ge 16, 3) := dk_162 0 16 (dk_at dksX5_partsOf_0 6 rfl rfl)
theorem dX5_partsOf_9 : decode cX5_partsOf 9 = .ok (.aload_n 0, 1) := dk_42 (dk_at dksX5_partsOf_0 9 rfl rfl)
theorem dX5_partsOf_10 : decode cX5_partsOf 10 = .ok (.getfield 84, 3) := dk_180 0 84 (dk_at dksX5_partsOf_0 10 rfl rfl)
theorem dX5_partsOf_13 : decode cX5_partsOf 13 = .ok (.iload_n 2, 1) := dk_28 (dk_at dksX5_partsOf_0 13 rfl rfl)
theorem dX5_partsOf_14 : decode cX5_partsOf 14 = .ok (.iconst 0, 1) := dk_3 (dk_at dksX5_partsOf_0 14 rfl rfl)
theorem dX5_partsOf_15 : decode cX5_partsOf 15 = .ok (.bastore, 1) := dk_84 (dk_at dksX5_partsOf_0 15 rfl rfl)
theorem dX5_partsOf_16 : decode cX5_partsOf 16 = .ok (.iinc 2 1, 3) := dk_132 2 1 (dk_at dksX5_partsOf_0 16 rfl rfl)
theorem dX5_partsOf_19 : decode cX5_partsOf 19 = .ok (.goto (-17), 3) := dk_167 255 239 (dk_at dksX5_partsOf_0 19 rfl rfl)
theorem dX5_partsOf_22 : decode cX5_partsOf 22 = .ok (.iconst 0, 1) := dk_3 (dk_at dksX5_partsOf_0 22 rfl rfl)
theorem dX5_partsOf_23 : decode cX5_partsOf 23 = .ok (.istore_n 2, 1) := dk_61 (dk_at dksX5_partsOf_0 23 rfl rfl)
theorem dX5_partsOf_24 : decode cX5_partsOf 24 = .ok (.iconst 0, 1) := dk_3 (dk_at dksX5_partsOf_1 0 rfl rfl)
theorem dX5_partsOf_25 : decode cX5_partsOf 25 = .ok (.istore_n 3, 1) := dk_62 (dk_at dksX5_partsOf_1 1 rfl rfl)
theorem dX5_partsOf_26 : decode cX5_partsOf 26 = .ok (.iload_n 3, 1) := dk_29 (dk_at dksX5_partsOf_1 2 rfl rfl)
theorem dX5_partsOf_27 : decode cX5_partsOf 27 = .ok (.aload_n 0, 1) := dk_42 (dk_at dksX5_partsOf_1 3 rfl rfl)
theorem dX5_partsOf_28 : decode cX5_partsOf 28 = .ok (.getfield 7, 3) := dk_180 0 7 (dk_at dksX5_partsOf_1 4 rfl rfl)
theorem dX5_partsOf_31 : decode cX5_partsOf 31 = .ok (.iconst 0, 1) := dk_3 (dk_at dksX5_partsOf_1 7 rfl rfl)
theorem dX5_partsOf_32 : decode cX5_partsOf 32 = .ok (.iaload, 1) := dk_46 (dk_at dksX5_partsOf_1 8 rfl rfl)
theorem dX5_partsOf_33 : decode cX5_partsOf 33 = .ok (.aload_n 0, 1) := dk_42 (dk_at dksX5_partsOf_1 9 rfl rfl)
theorem dX5_partsOf_34 : decode cX5_partsOf 34 = .ok (.getfield 7, 3) := dk_180 0 7 (dk_at dksX5_partsOf_1 10 rfl rfl)
theorem dX5_partsOf_37 : decode cX5_partsOf 37 = .ok (.iconst 1, 1) := dk_4 (dk_at dksX5_partsOf_1 13 rfl rfl)
theorem dX5_partsOf_38 : decode cX5_partsOf 38 = .ok (.iaload, 1) := dk_46 (dk_at dksX5_partsOf_1 14 rfl rfl)
theorem dX5_partsOf_39 : decode cX5_partsOf 39 = .ok (.imul, 1) := dk_104 (dk_at dksX5_partsOf_1 15 rfl rfl)
theorem dX5_partsOf_40 : decode cX5_partsOf 40 = .ok (.if_icmp .ge 39, 3) := dk_162 0 39 (dk_at dksX5_partsOf_1 16 rfl rfl)
theorem dX5_partsOf_43 : decode cX5_partsOf 43 = .ok (.aload_n 0, 1) := dk_42 (dk_at dksX5_partsOf_1 19 rfl rfl)
theorem dX5_partsOf_44 : decode cX5_partsOf 44 = .ok (.getfield 81, 3) := dk_180 0 81 (dk_at dksX5_partsOf_1 20 rfl rfl)
theorem dX5_partsOf_47 : decode cX5_partsOf 47 = .ok (.iload_n 3, 1) := dk_29 (dk_at dksX5_partsOf_1 23 rfl rfl)
theorem dX5_partsOf_48 : decode cX5_partsOf 48 = .ok (.iaload, 1) := dk_46 (dk_at dksX5_partsOf_2 0 rfl rfl)
theorem dX5_partsOf_49 : decode cX5_partsOf 49 = .ok (.iload_n 1, 1) := dk_27 (dk_at dksX5_partsOf_2 1 rfl rfl)
theorem dX5_partsOf_50 : decode cX5_partsOf 50 = .ok (.if_icmp .ne 23, 3) := dk_160 0 23 (dk_at dksX5_partsOf_2 2 rfl rfl)
theorem dX5_partsOf_53 : decode cX5_partsOf 53 = .ok (.aload_n 0, 1) := dk_42 (dk_at dksX5_partsOf_2 5 rfl rfl)
theorem dX5_partsOf_54 : decode cX5_partsOf 54 = .ok (.getfield 84, 3) := dk_180 0 84 (dk_at dksX5_partsOf_2 6 rfl rfl)
theorem dX5_partsOf_57 : decode cX5_partsOf 57 = .ok (.iload_n 3, 1) := dk_29 (dk_at dksX5_partsOf_2 9 rfl rfl)
theorem dX5_partsOf_58 : decode cX5_partsOf 58 = .ok (.baload, 1) := dk_51 (dk_at dksX5_partsOf_2 10 rfl rfl)
theorem dX5_partsOf_59 : decode cX5_partsOf 59 = .ok (.ifCond .eq 6, 3) := dk_153 0 6 (dk_at dksX5_partsOf_2 11 rfl rfl)
theorem dX5_partsOf_62 : decode cX5_partsOf 62 = .ok (.goto 11, 3) := dk_167 0 11 (dk_at dksX5_partsOf_2 14 rfl rfl)
theorem dX5_partsOf_65 : decode cX5_partsOf 65 = .ok (.aload_n 0, 1) := dk_42 (dk_at dksX5_partsOf_2 17 rfl rfl)
theorem dX5_partsOf_66 : decode cX5_partsOf 66 = .ok (.iload_n 3, 1) := dk_29 (dk_at dksX5_partsOf_2 18 rfl rfl)
theorem dX5_partsOf_67 : decode cX5_partsOf 67 = .ok (.invokevirtual 439, 3) := dk_182 1 183 (dk_at dksX5_partsOf_2 19 rfl rfl)
theorem dX5_partsOf_70 : decode cX5_partsOf 70 = .ok (.iinc 2 1, 3) := dk_132 2 1 (dk_at dksX5_partsOf_3 0 rfl rfl)
theorem dX5_partsOf_73 : decode cX5_partsOf 73 = .ok (.iinc 3 1, 3) := dk_132 3 1 (dk_at dksX5_partsOf_3 3 rfl rfl)
theorem dX5_partsOf_76 : decode cX5_partsOf 76 = .ok (.goto (-50), 3) := dk_167 255 206 (dk_at dksX5_partsOf_3 6 rfl rfl)
theorem dX5_partsOf_79 : decode cX5_partsOf 79 = .ok (.iload_n 2, 1) := dk_28 (dk_at dksX5_partsOf_3 9 rfl rfl)
theorem dX5_partsOf_80 : decode cX5_partsOf 80 = .ok (.ireturn, 1) := dk_172 (dk_at dksX5_partsOf_3 10 rfl rfl)
abbrev cX5_meets : ByteArray := prog_20_method_93_code
def yX5_meets : MethodName := ⟨RX5, "meets", "(I)V"⟩
def dkwX5_meets_4 : List UInt8 := [21, 5, 79, 132, 2, 1, 132, 4, 1, 167, 255, 184, 167, 255, 164, 177]
abbrev dktX5_meets_4 : List UInt8 := dkwX5_meets_4 ++ []
def dkwX5_meets_3 : List UInt8 := [180, 0, 81, 29, 46, 159, 0, 6, 167, 0, 22, 42, 180, 0, 84, 21, 5, 4, 84, 42, 180, 0, 88, 28]
abbrev dktX5_meets_3 : List UInt8 := dkwX5_meets_3 ++ dktX5_meets_4
def dkwX5_meets_2 : List UInt8 := [21, 5, 2, 159, 0, 51, 42, 180, 0, 84, 21, 5, 51, 154, 0, 41, 42, 180, 0, 81, 21, 5, 46, 42]
abbrev dktX5_meets_2 : List UInt8 := dkwX5_meets_2 ++ dktX5_meets_3
def dkwX5_meets_1 : List UInt8 := [180, 0, 88, 28, 46, 62, 3, 54, 4, 21, 4, 7, 162, 0, 72, 42, 29, 21, 4, 182, 1, 180, 54, 5]
abbrev dktX5_meets_1 : List UInt8 := dkwX5_meets_1 ++ dktX5_meets_2
def dkwX5_meets_0 : List UInt8 := [4, 61, 42, 180, 0, 88, 3, 27, 79, 42, 180, 0, 84, 27, 4, 84, 28, 158, 0, 94, 132, 2, 255, 42]
abbrev dktX5_meets_0 : List UInt8 := dkwX5_meets_0 ++ dktX5_meets_1
theorem dksX5_meets_0 : cX5_meets.data.toList.drop 0 = dktX5_meets_0 := by decide +kernel
theorem dksX5_meets_1 : cX5_meets.data.toList.drop 24 = dktX5_meets_1 := dk_seg dksX5_meets_0 24 rfl rfl
theorem dksX5_meets_2 : cX5_meets.data.toList.drop 48 = dktX5_meets_2 := dk_seg dksX5_meets_1 24 rfl rfl
theorem dksX5_meets_3 : cX5_meets.data.toList.drop 72 = dktX5_meets_3 := dk_seg dksX5_meets_2 24 rfl rfl
theorem dksX5_meets_4 : cX5_meets.data.toList.drop 96 = dktX5_meets_4 := dk_seg dksX5_meets_3 24 rfl rfl
theorem dX5_meets_0 : decode cX5_meets 0 = .ok (.iconst 1, 1) := dk_4 (dk_at dksX5_meets_0 0 rfl rfl)
theorem dX5_meets_1 : decode cX5_meets 1 = .ok (.istore_n 2, 1) := dk_61 (dk_at dksX5_meets_0 1 rfl rfl)
theorem dX5_meets_2 : decode cX5_meets 2 = .ok (.aload_n 0, 1) := dk_42 (dk_at dksX5_meets_0 2 rfl rfl)
theorem dX5_meets_3 : decode cX5_meets 3 = .ok (.getfield 88, 3) := dk_180 0 88 (dk_at dksX5_meets_0 3 rfl rfl)
theorem dX5_meets_6 : decode cX5_meets 6 = .ok (.iconst 0, 1) := dk_3 (dk_at dksX5_meets_0 6 rfl rfl)
theorem dX5_meets_7 : decode cX5_meets 7 = .ok (.iload_n 1, 1) := dk_27 (dk_at dksX5_meets_0 7 rfl rfl)
theorem dX5_meets_8 : decode cX5_meets 8 = .ok (.iastore, 1) := dk_79 (dk_at dksX5_meets_0 8 rfl rfl)
theorem dX5_meets_9 : decode cX5_meets 9 = .ok (.aload_n 0, 1) := dk_42 (dk_at dksX5_meets_0 9 rfl rfl)
theorem dX5_meets_10 : decode cX5_meets 10 = .ok (.getfield 84, 3) := dk_180 0 84 (dk_at dksX5_meets_0 10 rfl rfl)
theorem dX5_meets_13 : decode cX5_meets 13 = .ok (.iload_n 1, 1) := dk_27 (dk_at dksX5_meets_0 13 rfl rfl)
theorem dX5_meets_14 : decode cX5_meets 14 = .ok (.iconst 1, 1) := dk_4 (dk_at dksX5_meets_0 14 rfl rfl)
theorem dX5_meets_15 : decode cX5_meets 15 = .ok (.bastore, 1) := dk_84 (dk_at dksX5_meets_0 15 rfl rfl)
theorem dX5_meets_16 : decode cX5_meets 16 = .ok (.iload_n 2, 1) := dk_28 (dk_at dksX5_meets_0 16 rfl rfl)
theorem dX5_meets_17 : decode cX5_meets 17 = .ok (.ifCond .le 94, 3) := dk_158 0 94 (dk_at dksX5_meets_0 17 rfl rfl)
theorem dX5_meets_20 : decode cX5_meets 20 = .ok (.iinc 2 (-1), 3) := dk_132 2 255 (dk_at dksX5_meets_0 20 rfl rfl)
theorem dX5_meets_23 : decode cX5_meets 23 = .ok (.aload_n 0, 1) := dk_42 (dk_at dksX5_meets_0 23 rfl rfl)
theorem dX5_meets_24 : decode cX5_meets 24 = .ok (.getfield 88, 3) := dk_180 0 88 (dk_at dksX5_meets_1 0 rfl rfl)
theorem dX5_meets_27 : decode cX5_meets 27 = .ok (.iload_n 2, 1) := dk_28 (dk_at dksX5_meets_1 3 rfl rfl)
theorem dX5_meets_28 : decode cX5_meets 28 = .ok (.iaload, 1) := dk_46 (dk_at dksX5_meets_1 4 rfl rfl)
theorem dX5_meets_29 : decode cX5_meets 29 = .ok (.istore_n 3, 1) := dk_62 (dk_at dksX5_meets_1 5 rfl rfl)
theorem dX5_meets_30 : decode cX5_meets 30 = .ok (.iconst 0, 1) := dk_3 (dk_at dksX5_meets_1 6 rfl rfl)
theorem dX5_meets_31 : decode cX5_meets 31 = .ok (.istore 4, 2) := dk_54 4 (dk_at dksX5_meets_1 7 rfl rfl)
theorem dX5_meets_33 : decode cX5_meets 33 = .ok (.iload 4, 2) := dk_21 4 (dk_at dksX5_meets_1 9 rfl rfl)
theorem dX5_meets_35 : decode cX5_meets 35 = .ok (.iconst 4, 1) := dk_7 (dk_at dksX5_meets_1 11 rfl rfl)
theorem dX5_meets_36 : decode cX5_meets 36 = .ok (.if_icmp .ge 72, 3) := dk_162 0 72 (dk_at dksX5_meets_1 12 rfl rfl)
theorem dX5_meets_39 : decode cX5_meets 39 = .ok (.aload_n 0, 1) := dk_42 (dk_at dksX5_meets_1 15 rfl rfl)
theorem dX5_meets_40 : decode cX5_meets 40 = .ok (.iload_n 3, 1) := dk_29 (dk_at dksX5_meets_1 16 rfl rfl)
theorem dX5_meets_41 : decode cX5_meets 41 = .ok (.iload 4, 2) := dk_21 4 (dk_at dksX5_meets_1 17 rfl rfl)
theorem dX5_meets_43 : decode cX5_meets 43 = .ok (.invokevirtual 436, 3) := dk_182 1 180 (dk_at dksX5_meets_1 19 rfl rfl)
theorem dX5_meets_46 : decode cX5_meets 46 = .ok (.istore 5, 2) := dk_54 5 (dk_at dksX5_meets_1 22 rfl rfl)
theorem dX5_meets_48 : decode cX5_meets 48 = .ok (.iload 5, 2) := dk_21 5 (dk_at dksX5_meets_2 0 rfl rfl)
theorem dX5_meets_50 : decode cX5_meets 50 = .ok (.iconst (-1), 1) := dk_2 (dk_at dksX5_meets_2 2 rfl rfl)
theorem dX5_meets_51 : decode cX5_meets 51 = .ok (.if_icmp .eq 51, 3) := dk_159 0 51 (dk_at dksX5_meets_2 3 rfl rfl)
theorem dX5_meets_54 : decode cX5_meets 54 = .ok (.aload_n 0, 1) := dk_42 (dk_at dksX5_meets_2 6 rfl rfl)
theorem dX5_meets_55 : decode cX5_meets 55 = .ok (.getfield 84, 3) := dk_180 0 84 (dk_at dksX5_meets_2 7 rfl rfl)
theorem dX5_meets_58 : decode cX5_meets 58 = .ok (.iload 5, 2) := dk_21 5 (dk_at dksX5_meets_2 10 rfl rfl)
theorem dX5_meets_60 : decode cX5_meets 60 = .ok (.baload, 1) := dk_51 (dk_at dksX5_meets_2 12 rfl rfl)
theorem dX5_meets_61 : decode cX5_meets 61 = .ok (.ifCond .ne 41, 3) := dk_154 0 41 (dk_at dksX5_meets_2 13 rfl rfl)
theorem dX5_meets_64 : decode cX5_meets 64 = .ok (.aload_n 0, 1) := dk_42 (dk_at dksX5_meets_2 16 rfl rfl)
theorem dX5_meets_65 : decode cX5_meets 65 = .ok (.getfield 81, 3) := dk_180 0 81 (dk_at dksX5_meets_2 17 rfl rfl)
theorem dX5_meets_68 : decode cX5_meets 68 = .ok (.iload 5, 2) := dk_21 5 (dk_at dksX5_meets_2 20 rfl rfl)
theorem dX5_meets_70 : decode cX5_meets 70 = .ok (.iaload, 1) := dk_46 (dk_at dksX5_meets_2 22 rfl rfl)
theorem dX5_meets_71 : decode cX5_meets 71 = .ok (.aload_n 0, 1) := dk_42 (dk_at dksX5_meets_2 23 rfl rfl)
theorem dX5_meets_72 : decode cX5_meets 72 = .ok (.getfield 81, 3) := dk_180 0 81 (dk_at dksX5_meets_3 0 rfl rfl)
theorem dX5_meets_75 : decode cX5_meets 75 = .ok (.iload_n 3, 1) := dk_29 (dk_at dksX5_meets_3 3 rfl rfl)
theorem dX5_meets_76 : decode cX5_meets 76 = .ok (.iaload, 1) := dk_46 (dk_at dksX5_meets_3 4 rfl rfl)
theorem dX5_meets_77 : decode cX5_meets 77 = .ok (.if_icmp .eq 6, 3) := dk_159 0 6 (dk_at dksX5_meets_3 5 rfl rfl)
theorem dX5_meets_80 : decode cX5_meets 80 = .ok (.goto 22, 3) := dk_167 0 22 (dk_at dksX5_meets_3 8 rfl rfl)
theorem dX5_meets_83 : decode cX5_meets 83 = .ok (.aload_n 0, 1) := dk_42 (dk_at dksX5_meets_3 11 rfl rfl)
theorem dX5_meets_84 : decode cX5_meets 84 = .ok (.getfield 84, 3) := dk_180 0 84 (dk_at dksX5_meets_3 12 rfl rfl)
theorem dX5_meets_87 : decode cX5_meets 87 = .ok (.iload 5, 2) := dk_21 5 (dk_at dksX5_meets_3 15 rfl rfl)
theorem dX5_meets_89 : decode cX5_meets 89 = .ok (.iconst 1, 1) := dk_4 (dk_at dksX5_meets_3 17 rfl rfl)
theorem dX5_meets_90 : decode cX5_meets 90 = .ok (.bastore, 1) := dk_84 (dk_at dksX5_meets_3 18 rfl rfl)
theorem dX5_meets_91 : decode cX5_meets 91 = .ok (.aload_n 0, 1) := dk_42 (dk_at dksX5_meets_3 19 rfl rfl)
theorem dX5_meets_92 : decode cX5_meets 92 = .ok (.getfield 88, 3) := dk_180 0 88 (dk_at dksX5_meets_3 20 rfl rfl)
theorem dX5_meets_95 : decode cX5_meets 95 = .ok (.iload_n 2, 1) := dk_28 (dk_at dksX5_meets_3 23 rfl rfl)
theorem dX5_meets_96 : decode cX5_meets 96 = .ok (.iload 5, 2) := dk_21 5 (dk_at dksX5_meets_4 0 rfl rfl)
theorem dX5_meets_98 : decode cX5_meets 98 = .ok (.iastore, 1) := dk_79 (dk_at dksX5_meets_4 2 rfl rfl)
theorem dX5_meets_99 : decode cX5_meets 99 = .ok (.iinc 2 1, 3) := dk_132 2 1 (dk_at dksX5_meets_4 3 rfl rfl)
theorem dX5_meets_102 : decode cX5_meets 102 = .ok (.iinc 4 1, 3) := dk_132 4 1 (dk_at dksX5_meets_4 6 rfl rfl)
theorem dX5_meets_105 : decode cX5_meets 105 = .ok (.goto (-72), 3) := dk_167 255 184 (dk_at dksX5_meets_4 9 rfl rfl)
theorem dX5_meets_108 : decode cX5_meets 108 = .ok (.goto (-92), 3) := dk_167 255 164 (dk_at dksX5_meets_4 12 rfl rfl)
theorem dX5_meets_111 : decode cX5_meets 111 = .ok (.return_, 1) := dk_177 (dk_at dksX5_meets_4 15 rfl rfl)
abbrev cX5_beside : ByteArray := prog_20_method_92_code
def yX5_beside : MethodName := ⟨RX5, "beside", "(II)I"⟩
def dkwX5_beside_4 : List UInt8 := [42, 180, 0, 7, 3, 46, 21, 4, 104, 96, 167, 0, 4, 2, 172]
abbrev dktX5_beside_4 : List UInt8 := dkwX5_beside_4 ++ []
def dkwX5_beside_3 : List UInt8 := [184, 0, 103, 153, 0, 34, 21, 4, 3, 42, 180, 0, 7, 4, 46, 4, 100, 184, 0, 103, 153, 0, 17, 29]
abbrev dktX5_beside_3 : List UInt8 := dkwX5_beside_3 ++ dktX5_beside_4
def dkwX5_beside_2 : List UInt8 := [6, 160, 0, 7, 2, 167, 0, 4, 3, 96, 54, 4, 29, 3, 42, 180, 0, 7, 3, 46, 4, 100]
abbrev dktX5_beside_2 : List UInt8 := dkwX5_beside_2 ++ dktX5_beside_3
def dkwX5_beside_1 : List UInt8 := [167, 0, 4, 3, 96, 62, 27, 42, 180, 0, 7, 3, 46, 108, 28, 5, 160, 0, 7, 4, 167, 0, 13, 28]
abbrev dktX5_beside_1 : List UInt8 := dkwX5_beside_1 ++ dktX5_beside_2
def dkwX5_beside_0 : List UInt8 := [27, 42, 180, 0, 7, 3, 46, 112, 28, 154, 0, 7, 4, 167, 0, 13, 28, 4, 160, 0, 7, 2]
abbrev dktX5_beside_0 : List UInt8 := dkwX5_beside_0 ++ dktX5_beside_1
theorem dksX5_beside_0 : cX5_beside.data.toList.drop 0 = dktX5_beside_0 := by decide +kernel
theorem dksX5_beside_1 : cX5_beside.data.toList.drop 22 = dktX5_beside_1 := dk_seg dksX5_beside_0 22 rfl rfl
theorem dksX5_beside_2 : cX5_beside.data.toList.drop 46 = dktX5_beside_2 := dk_seg dksX5_beside_1 24 rfl rfl
theorem dksX5_beside_3 : cX5_beside.data.toList.drop 68 = dktX5_beside_3 := dk_seg dksX5_beside_2 22 rfl rfl
theorem dksX5_beside_4 : cX5_beside.data.toList.drop 92 = dktX5_beside_4 := dk_seg dksX5_beside_3 24 rfl rfl
theorem dX5_beside_0 : decode cX5_beside 0 = .ok (.iload_n 1, 1) := dk_27 (dk_at dksX5_beside_0 0 rfl rfl)
theorem dX5_beside_1 : decode cX5_beside 1 = .ok (.aload_n 0, 1) := dk_42 (dk_at dksX5_beside_0 1 rfl rfl)
theorem dX5_beside_2 : decode cX5_beside 2 = .ok (.getfield 7, 3) := dk_180 0 7 (dk_at dksX5_beside_0 2 rfl rfl)
theorem dX5_beside_5 : decode cX5_beside 5 = .ok (.iconst 0, 1) := dk_3 (dk_at dksX5_beside_0 5 rfl rfl)
theorem dX5_beside_6 : decode cX5_beside 6 = .ok (.iaload, 1) := dk_46 (dk_at dksX5_beside_0 6 rfl rfl)
theorem dX5_beside_7 : decode cX5_beside 7 = .ok (.irem, 1) := dk_112 (dk_at dksX5_beside_0 7 rfl rfl)
theorem dX5_beside_8 : decode cX5_beside 8 = .ok (.iload_n 2, 1) := dk_28 (dk_at dksX5_beside_0 8 rfl rfl)
theorem dX5_beside_9 : decode cX5_beside 9 = .ok (.ifCond .ne 7, 3) := dk_154 0 7 (dk_at dksX5_beside_0 9 rfl rfl)
theorem dX5_beside_12 : decode cX5_beside 12 = .ok (.iconst 1, 1) := dk_4 (dk_at dksX5_beside_0 12 rfl rfl)
theorem dX5_beside_13 : decode cX5_beside 13 = .ok (.goto 13, 3) := dk_167 0 13 (dk_at dksX5_beside_0 13 rfl rfl)
theorem dX5_beside_16 : decode cX5_beside 16 = .ok (.iload_n 2, 1) := dk_28 (dk_at dksX5_beside_0 16 rfl rfl)
theorem dX5_beside_17 : decode cX5_beside 17 = .ok (.iconst 1, 1) := dk_4 (dk_at dksX5_beside_0 17 rfl rfl)
theorem dX5_beside_18 : decode cX5_beside 18 = .ok (.if_icmp .ne 7, 3) := dk_160 0 7 (dk_at dksX5_beside_0 18 rfl rfl)
theorem dX5_beside_21 : decode cX5_beside 21 = .ok (.iconst (-1), 1) := dk_2 (dk_at dksX5_beside_0 21 rfl rfl)
theorem dX5_beside_22 : decode cX5_beside 22 = .ok (.goto 4, 3) := dk_167 0 4 (dk_at dksX5_beside_1 0 rfl rfl)
theorem dX5_beside_25 : decode cX5_beside 25 = .ok (.iconst 0, 1) := dk_3 (dk_at dksX5_beside_1 3 rfl rfl)
theorem dX5_beside_26 : decode cX5_beside 26 = .ok (.iadd, 1) := dk_96 (dk_at dksX5_beside_1 4 rfl rfl)
theorem dX5_beside_27 : decode cX5_beside 27 = .ok (.istore_n 3, 1) := dk_62 (dk_at dksX5_beside_1 5 rfl rfl)
theorem dX5_beside_28 : decode cX5_beside 28 = .ok (.iload_n 1, 1) := dk_27 (dk_at dksX5_beside_1 6 rfl rfl)
theorem dX5_beside_29 : decode cX5_beside 29 = .ok (.aload_n 0, 1) := dk_42 (dk_at dksX5_beside_1 7 rfl rfl)
theorem dX5_beside_30 : decode cX5_beside 30 = .ok (.getfield 7, 3) := dk_180 0 7 (dk_at dksX5_beside_1 8 rfl rfl)
theorem dX5_beside_33 : decode cX5_beside 33 = .ok (.iconst 0, 1) := dk_3 (dk_at dksX5_beside_1 11 rfl rfl)
theorem dX5_beside_34 : decode cX5_beside 34 = .ok (.iaload, 1) := dk_46 (dk_at dksX5_beside_1 12 rfl rfl)
theorem dX5_beside_35 : decode cX5_beside 35 = .ok (.idiv, 1) := dk_108 (dk_at dksX5_beside_1 13 rfl rfl)
theorem dX5_beside_36 : decode cX5_beside 36 = .ok (.iload_n 2, 1) := dk_28 (dk_at dksX5_beside_1 14 rfl rfl)
theorem dX5_beside_37 : decode cX5_beside 37 = .ok (.iconst 2, 1) := dk_5 (dk_at dksX5_beside_1 15 rfl rfl)
theorem dX5_beside_38 : decode cX5_beside 38 = .ok (.if_icmp .ne 7, 3) := dk_160 0 7 (dk_at dksX5_beside_1 16 rfl rfl)
theorem dX5_beside_41 : decode cX5_beside 41 = .ok (.iconst 1, 1) := dk_4 (dk_at dksX5_beside_1 19 rfl rfl)
theorem dX5_beside_42 : decode cX5_beside 42 = .ok (.goto 13, 3) := dk_167 0 13 (dk_at dksX5_beside_1 20 rfl rfl)
theorem dX5_beside_45 : decode cX5_beside 45 = .ok (.iload_n 2, 1) := dk_28 (dk_at dksX5_beside_1 23 rfl rfl)
theorem dX5_beside_46 : decode cX5_beside 46 = .ok (.iconst 3, 1) := dk_6 (dk_at dksX5_beside_2 0 rfl rfl)
theorem dX5_beside_47 : decode cX5_beside 47 = .ok (.if_icmp .ne 7, 3) := dk_160 0 7 (dk_at dksX5_beside_2 1 rfl rfl)
theorem dX5_beside_50 : decode cX5_beside 50 = .ok (.iconst (-1), 1) := dk_2 (dk_at dksX5_beside_2 4 rfl rfl)
theorem dX5_beside_51 : decode cX5_beside 51 = .ok (.goto 4, 3) := dk_167 0 4 (dk_at dksX5_beside_2 5 rfl rfl)
theorem dX5_beside_54 : decode cX5_beside 54 = .ok (.iconst 0, 1) := dk_3 (dk_at dksX5_beside_2 8 rfl rfl)
theorem dX5_beside_55 : decode cX5_beside 55 = .ok (.iadd, 1) := dk_96 (dk_at dksX5_beside_2 9 rfl rfl)
theorem dX5_beside_56 : decode cX5_beside 56 = .ok (.istore 4, 2) := dk_54 4 (dk_at dksX5_beside_2 10 rfl rfl)
theorem dX5_beside_58 : decode cX5_beside 58 = .ok (.iload_n 3, 1) := dk_29 (dk_at dksX5_beside_2 12 rfl rfl)
theorem dX5_beside_59 : decode cX5_beside 59 = .ok (.iconst 0, 1) := dk_3 (dk_at dksX5_beside_2 13 rfl rfl)
theorem dX5_beside_60 : decode cX5_beside 60 = .ok (.aload_n 0, 1) := dk_42 (dk_at dksX5_beside_2 14 rfl rfl)
theorem dX5_beside_61 : decode cX5_beside 61 = .ok (.getfield 7, 3) := dk_180 0 7 (dk_at dksX5_beside_2 15 rfl rfl)
theorem dX5_beside_64 : decode cX5_beside 64 = .ok (.iconst 0, 1) := dk_3 (dk_at dksX5_beside_2 18 rfl rfl)
theorem dX5_beside_65 : decode cX5_beside 65 = .ok (.iaload, 1) := dk_46 (dk_at dksX5_beside_2 19 rfl rfl)
theorem dX5_beside_66 : decode cX5_beside 66 = .ok (.iconst 1, 1) := dk_4 (dk_at dksX5_beside_2 20 rfl rfl)
theorem dX5_beside_67 : decode cX5_beside 67 = .ok (.isub, 1) := dk_100 (dk_at dksX5_beside_2 21 rfl rfl)
theorem dX5_beside_68 : decode cX5_beside 68 = .ok (.invokestatic 103, 3) := dk_184 0 103 (dk_at dksX5_beside_3 0 rfl rfl)
theorem dX5_beside_71 : decode cX5_beside 71 = .ok (.ifCond .eq 34, 3) := dk_153 0 34 (dk_at dksX5_beside_3 3 rfl rfl)
theorem dX5_beside_74 : decode cX5_beside 74 = .ok (.iload 4, 2) := dk_21 4 (dk_at dksX5_beside_3 6 rfl rfl)
theorem dX5_beside_76 : decode cX5_beside 76 = .ok (.iconst 0, 1) := dk_3 (dk_at dksX5_beside_3 8 rfl rfl)
theorem dX5_beside_77 : decode cX5_beside 77 = .ok (.aload_n 0, 1) := dk_42 (dk_at dksX5_beside_3 9 rfl rfl)
theorem dX5_beside_78 : decode cX5_beside 78 = .ok (.getfield 7, 3) := dk_180 0 7 (dk_at dksX5_beside_3 10 rfl rfl)
theorem dX5_beside_81 : decode cX5_beside 81 = .ok (.iconst 1, 1) := dk_4 (dk_at dksX5_beside_3 13 rfl rfl)
theorem dX5_beside_82 : decode cX5_beside 82 = .ok (.iaload, 1) := dk_46 (dk_at dksX5_beside_3 14 rfl rfl)
theorem dX5_beside_83 : decode cX5_beside 83 = .ok (.iconst 1, 1) := dk_4 (dk_at dksX5_beside_3 15 rfl rfl)
theorem dX5_beside_84 : decode cX5_beside 84 = .ok (.isub, 1) := dk_100 (dk_at dksX5_beside_3 16 rfl rfl)
theorem dX5_beside_85 : decode cX5_beside 85 = .ok (.invokestatic 103, 3) := dk_184 0 103 (dk_at dksX5_beside_3 17 rfl rfl)
theorem dX5_beside_88 : decode cX5_beside 88 = .ok (.ifCond .eq 17, 3) := dk_153 0 17 (dk_at dksX5_beside_3 20 rfl rfl)
theorem dX5_beside_91 : decode cX5_beside 91 = .ok (.iload_n 3, 1) := dk_29 (dk_at dksX5_beside_3 23 rfl rfl)
theorem dX5_beside_92 : decode cX5_beside 92 = .ok (.aload_n 0, 1) := dk_42 (dk_at dksX5_beside_4 0 rfl rfl)
theorem dX5_beside_93 : decode cX5_beside 93 = .ok (.getfield 7, 3) := dk_180 0 7 (dk_at dksX5_beside_4 1 rfl rfl)
theorem dX5_beside_96 : decode cX5_beside 96 = .ok (.iconst 0, 1) := dk_3 (dk_at dksX5_beside_4 4 rfl rfl)
theorem dX5_beside_97 : decode cX5_beside 97 = .ok (.iaload, 1) := dk_46 (dk_at dksX5_beside_4 5 rfl rfl)
theorem dX5_beside_98 : decode cX5_beside 98 = .ok (.iload 4, 2) := dk_21 4 (dk_at dksX5_beside_4 6 rfl rfl)
theorem dX5_beside_100 : decode cX5_beside 100 = .ok (.imul, 1) := dk_104 (dk_at dksX5_beside_4 8 rfl rfl)
theorem dX5_beside_101 : decode cX5_beside 101 = .ok (.iadd, 1) := dk_96 (dk_at dksX5_beside_4 9 rfl rfl)
theorem dX5_beside_102 : decode cX5_beside 102 = .ok (.goto 4, 3) := dk_167 0 4 (dk_at dksX5_beside_4 10 rfl rfl)
theorem dX5_beside_105 : decode cX5_beside 105 = .ok (.iconst (-1), 1) := dk_2 (dk_at dksX5_beside_4 13 rfl rfl)
theorem dX5_beside_106 : decode cX5_beside 106 = .ok (.ireturn, 1) := dk_172 (dk_at dksX5_beside_4 14 rfl rfl)
abbrev cX5_neighboursOf : ByteArray := prog_20_method_95_code
def yX5_neighboursOf : MethodName := ⟨RX5, "neighboursOf", "(I)I"⟩
def dkwX5_neighboursOf_4 : List UInt8 := [184, 0, 232, 172]
abbrev dktX5_neighboursOf_4 : List UInt8 := dkwX5_neighboursOf_4 ++ []
def dkwX5_neighboursOf_3 : List UInt8 := [180, 0, 81, 21, 5, 46, 120, 128, 61, 132, 4, 1, 167, 255, 199, 132, 3, 1, 167, 255, 173, 28]
abbrev dktX5_neighboursOf_3 : List UInt8 := dkwX5_neighboursOf_3 ++ dktX5_neighboursOf_4
def dkwX5_neighboursOf_2 : List UInt8 := [54, 5, 21, 5, 2, 159, 0, 26, 42, 180, 0, 81, 21, 5, 46, 27, 159, 0, 15, 28, 4, 42]
abbrev dktX5_neighboursOf_2 : List UInt8 := dkwX5_neighboursOf_2 ++ dktX5_neighboursOf_3
def dkwX5_neighboursOf_1 : List UInt8 := [21, 4, 7, 162, 0, 57, 42, 180, 0, 81, 29, 46, 27, 160, 0, 47, 42, 29, 21, 4, 182, 1, 180]
abbrev dktX5_neighboursOf_1 : List UInt8 := dkwX5_neighboursOf_1 ++ dktX5_neighboursOf_2
def dkwX5_neighboursOf_0 : List UInt8 := [3, 61, 3, 62, 29, 42, 180, 0, 7, 3, 46, 42, 180, 0, 7, 4, 46, 104, 162, 0, 72, 3, 54, 4]
abbrev dktX5_neighboursOf_0 : List UInt8 := dkwX5_neighboursOf_0 ++ dktX5_neighboursOf_1
theorem dksX5_neighboursOf_0 : cX5_neighboursOf.data.toList.drop 0 = dktX5_neighboursOf_0 := by decide +kernel
theorem dksX5_neighboursOf_1 : cX5_neighboursOf.data.toList.drop 24 = dktX5_neighboursOf_1 := dk_seg dksX5_neighboursOf_0 24 rfl rfl
theorem dksX5_neighboursOf_2 : cX5_neighboursOf.data.toList.drop 47 = dktX5_neighboursOf_2 := dk_seg dksX5_neighboursOf_1 23 rfl rfl
theorem dksX5_neighboursOf_3 : cX5_neighboursOf.data.toList.drop 69 = dktX5_neighboursOf_3 := dk_seg dksX5_neighboursOf_2 22 rfl rfl
theorem dksX5_neighboursOf_4 : cX5_neighboursOf.data.toList.drop 91 = dktX5_neighboursOf_4 := dk_seg dksX5_neighboursOf_3 22 rfl rfl
theorem dX5_neighboursOf_0 : decode cX5_neighboursOf 0 = .ok (.iconst 0, 1) := dk_3 (dk_at dksX5_neighboursOf_0 0 rfl rfl)
theorem dX5_neighboursOf_1 : decode cX5_neighboursOf 1 = .ok (.istore_n 2, 1) := dk_61 (dk_at dksX5_neighboursOf_0 1 rfl rfl)
theorem dX5_neighboursOf_2 : decode cX5_neighboursOf 2 = .ok (.iconst 0, 1) := dk_3 (dk_at dksX5_neighboursOf_0 2 rfl rfl)
theorem dX5_neighboursOf_3 : decode cX5_neighboursOf 3 = .ok (.istore_n 3, 1) := dk_62 (dk_at dksX5_neighboursOf_0 3 rfl rfl)
theorem dX5_neighboursOf_4 : decode cX5_neighboursOf 4 = .ok (.iload_n 3, 1) := dk_29 (dk_at dksX5_neighboursOf_0 4 rfl rfl)
theorem dX5_neighboursOf_5 : decode cX5_neighboursOf 5 = .ok (.aload_n 0, 1) := dk_42 (dk_at dksX5_neighboursOf_0 5 rfl rfl)
theorem dX5_neighboursOf_6 : decode cX5_neighboursOf 6 = .ok (.getfield 7, 3) := dk_180 0 7 (dk_at dksX5_neighboursOf_0 6 rfl rfl)
theorem dX5_neighboursOf_9 : decode cX5_neighboursOf 9 = .ok (.iconst 0, 1) := dk_3 (dk_at dksX5_neighboursOf_0 9 rfl rfl)
theorem dX5_neighboursOf_10 : decode cX5_neighboursOf 10 = .ok (.iaload, 1) := dk_46 (dk_at dksX5_neighboursOf_0 10 rfl rfl)
theorem dX5_neighboursOf_11 : decode cX5_neighboursOf 11 = .ok (.aload_n 0, 1) := dk_42 (dk_at dksX5_neighboursOf_0 11 rfl rfl)
theorem dX5_neighboursOf_12 : decode cX5_neighboursOf 12 = .ok (.getfield 7, 3) := dk_180 0 7 (dk_at dksX5_neighboursOf_0 12 rfl rfl)
theorem dX5_neighboursOf_15 : decode cX5_neighboursOf 15 = .ok (.iconst 1, 1) := dk_4 (dk_at dksX5_neighboursOf_0 15 rfl rfl)
theorem dX5_neighboursOf_16 : decode cX5_neighboursOf 16 = .ok (.iaload, 1) := dk_46 (dk_at dksX5_neighboursOf_0 16 rfl rfl)
theorem dX5_neighboursOf_17 : decode cX5_neighboursOf 17 = .ok (.imul, 1) := dk_104 (dk_at dksX5_neighboursOf_0 17 rfl rfl)
theorem dX5_neighboursOf_18 : decode cX5_neighboursOf 18 = .ok (.if_icmp .ge 72, 3) := dk_162 0 72 (dk_at dksX5_neighboursOf_0 18 rfl rfl)
theorem dX5_neighboursOf_21 : decode cX5_neighboursOf 21 = .ok (.iconst 0, 1) := dk_3 (dk_at dksX5_neighboursOf_0 21 rfl rfl)
theorem dX5_neighboursOf_22 : decode cX5_neighboursOf 22 = .ok (.istore 4, 2) := dk_54 4 (dk_at dksX5_neighboursOf_0 22 rfl rfl)
theorem dX5_neighboursOf_24 : decode cX5_neighboursOf 24 = .ok (.iload 4, 2) := dk_21 4 (dk_at dksX5_neighboursOf_1 0 rfl rfl)
theorem dX5_neighboursOf_26 : decode cX5_neighboursOf 26 = .ok (.iconst 4, 1) := dk_7 (dk_at dksX5_neighboursOf_1 2 rfl rfl)
theorem dX5_neighboursOf_27 : decode cX5_neighboursOf 27 = .ok (.if_icmp .ge 57, 3) := dk_162 0 57 (dk_at dksX5_neighboursOf_1 3 rfl rfl)
theorem dX5_neighboursOf_30 : decode cX5_neighboursOf 30 = .ok (.aload_n 0, 1) := dk_42 (dk_at dksX5_neighboursOf_1 6 rfl rfl)
theorem dX5_neighboursOf_31 : decode cX5_neighboursOf 31 = .ok (.getfield 81, 3) := dk_180 0 81 (dk_at dksX5_neighboursOf_1 7 rfl rfl)
theorem dX5_neighboursOf_34 : decode cX5_neighboursOf 34 = .ok (.iload_n 3, 1) := dk_29 (dk_at dksX5_neighboursOf_1 10 rfl rfl)
theorem dX5_neighboursOf_35 : decode cX5_neighboursOf 35 = .ok (.iaload, 1) := dk_46 (dk_at dksX5_neighboursOf_1 11 rfl rfl)
theorem dX5_neighboursOf_36 : decode cX5_neighboursOf 36 = .ok (.iload_n 1, 1) := dk_27 (dk_at dksX5_neighboursOf_1 12 rfl rfl)
theorem dX5_neighboursOf_37 : decode cX5_neighboursOf 37 = .ok (.if_icmp .ne 47, 3) := dk_160 0 47 (dk_at dksX5_neighboursOf_1 13 rfl rfl)
theorem dX5_neighboursOf_40 : decode cX5_neighboursOf 40 = .ok (.aload_n 0, 1) := dk_42 (dk_at dksX5_neighboursOf_1 16 rfl rfl)
theorem dX5_neighboursOf_41 : decode cX5_neighboursOf 41 = .ok (.iload_n 3, 1) := dk_29 (dk_at dksX5_neighboursOf_1 17 rfl rfl)
theorem dX5_neighboursOf_42 : decode cX5_neighboursOf 42 = .ok (.iload 4, 2) := dk_21 4 (dk_at dksX5_neighboursOf_1 18 rfl rfl)
theorem dX5_neighboursOf_44 : decode cX5_neighboursOf 44 = .ok (.invokevirtual 436, 3) := dk_182 1 180 (dk_at dksX5_neighboursOf_1 20 rfl rfl)
theorem dX5_neighboursOf_47 : decode cX5_neighboursOf 47 = .ok (.istore 5, 2) := dk_54 5 (dk_at dksX5_neighboursOf_2 0 rfl rfl)
theorem dX5_neighboursOf_49 : decode cX5_neighboursOf 49 = .ok (.iload 5, 2) := dk_21 5 (dk_at dksX5_neighboursOf_2 2 rfl rfl)
theorem dX5_neighboursOf_51 : decode cX5_neighboursOf 51 = .ok (.iconst (-1), 1) := dk_2 (dk_at dksX5_neighboursOf_2 4 rfl rfl)
theorem dX5_neighboursOf_52 : decode cX5_neighboursOf 52 = .ok (.if_icmp .eq 26, 3) := dk_159 0 26 (dk_at dksX5_neighboursOf_2 5 rfl rfl)
theorem dX5_neighboursOf_55 : decode cX5_neighboursOf 55 = .ok (.aload_n 0, 1) := dk_42 (dk_at dksX5_neighboursOf_2 8 rfl rfl)
theorem dX5_neighboursOf_56 : decode cX5_neighboursOf 56 = .ok (.getfield 81, 3) := dk_180 0 81 (dk_at dksX5_neighboursOf_2 9 rfl rfl)
theorem dX5_neighboursOf_59 : decode cX5_neighboursOf 59 = .ok (.iload 5, 2) := dk_21 5 (dk_at dksX5_neighboursOf_2 12 rfl rfl)
theorem dX5_neighboursOf_61 : decode cX5_neighboursOf 61 = .ok (.iaload, 1) := dk_46 (dk_at dksX5_neighboursOf_2 14 rfl rfl)
theorem dX5_neighboursOf_62 : decode cX5_neighboursOf 62 = .ok (.iload_n 1, 1) := dk_27 (dk_at dksX5_neighboursOf_2 15 rfl rfl)
theorem dX5_neighboursOf_63 : decode cX5_neighboursOf 63 = .ok (.if_icmp .eq 15, 3) := dk_159 0 15 (dk_at dksX5_neighboursOf_2 16 rfl rfl)
theorem dX5_neighboursOf_66 : decode cX5_neighboursOf 66 = .ok (.iload_n 2, 1) := dk_28 (dk_at dksX5_neighboursOf_2 19 rfl rfl)
theorem dX5_neighboursOf_67 : decode cX5_neighboursOf 67 = .ok (.iconst 1, 1) := dk_4 (dk_at dksX5_neighboursOf_2 20 rfl rfl)
theorem dX5_neighboursOf_68 : decode cX5_neighboursOf 68 = .ok (.aload_n 0, 1) := dk_42 (dk_at dksX5_neighboursOf_2 21 rfl rfl)
theorem dX5_neighboursOf_69 : decode cX5_neighboursOf 69 = .ok (.getfield 81, 3) := dk_180 0 81 (dk_at dksX5_neighboursOf_3 0 rfl rfl)
theorem dX5_neighboursOf_72 : decode cX5_neighboursOf 72 = .ok (.iload 5, 2) := dk_21 5 (dk_at dksX5_neighboursOf_3 3 rfl rfl)
theorem dX5_neighboursOf_74 : decode cX5_neighboursOf 74 = .ok (.iaload, 1) := dk_46 (dk_at dksX5_neighboursOf_3 5 rfl rfl)
theorem dX5_neighboursOf_75 : decode cX5_neighboursOf 75 = .ok (.ishl, 1) := dk_120 (dk_at dksX5_neighboursOf_3 6 rfl rfl)
theorem dX5_neighboursOf_76 : decode cX5_neighboursOf 76 = .ok (.ior, 1) := dk_128 (dk_at dksX5_neighboursOf_3 7 rfl rfl)
theorem dX5_neighboursOf_77 : decode cX5_neighboursOf 77 = .ok (.istore_n 2, 1) := dk_61 (dk_at dksX5_neighboursOf_3 8 rfl rfl)
theorem dX5_neighboursOf_78 : decode cX5_neighboursOf 78 = .ok (.iinc 4 1, 3) := dk_132 4 1 (dk_at dksX5_neighboursOf_3 9 rfl rfl)
theorem dX5_neighboursOf_81 : decode cX5_neighboursOf 81 = .ok (.goto (-57), 3) := dk_167 255 199 (dk_at dksX5_neighboursOf_3 12 rfl rfl)
theorem dX5_neighboursOf_84 : decode cX5_neighboursOf 84 = .ok (.iinc 3 1, 3) := dk_132 3 1 (dk_at dksX5_neighboursOf_3 15 rfl rfl)
theorem dX5_neighboursOf_87 : decode cX5_neighboursOf 87 = .ok (.goto (-83), 3) := dk_167 255 173 (dk_at dksX5_neighboursOf_3 18 rfl rfl)
theorem dX5_neighboursOf_90 : decode cX5_neighboursOf 90 = .ok (.iload_n 2, 1) := dk_28 (dk_at dksX5_neighboursOf_3 21 rfl rfl)
theorem dX5_neighboursOf_91 : decode cX5_neighboursOf 91 = .ok (.invokestatic 232, 3) := dk_184 0 232 (dk_at dksX5_neighboursOf_4 0 rfl rfl)
theorem dX5_neighboursOf_94 : decode cX5_neighboursOf 94 = .ok (.ireturn, 1) := dk_172 (dk_at dksX5_neighboursOf_4 3 rfl rfl)
abbrev cX5_reform : ByteArray := prog_20_method_100_code
def yX5_reform : MethodName := ⟨RX5, "reform", "(II)I"⟩
def dkwX5_reform_3 : List UInt8 := [16, 7, 182, 0, 126, 172, 42, 27, 182, 1, 213, 172, 42, 5, 181, 0, 100, 3, 172]
abbrev dktX5_reform_3 : List UInt8 := dkwX5_reform_3 ++ []
def dkwX5_reform_2 : List UInt8 := [42, 27, 3, 182, 0, 126, 172, 42, 27, 4, 182, 0, 126, 172, 42, 27, 16, 6, 182, 0, 126, 172, 42, 27]
abbrev dktX5_reform_2 : List UInt8 := dkwX5_reform_2 ++ dktX5_reform_3
def dkwX5_reform_1 : List UInt8 := [170, 0, 0, 0, 69, 0, 0, 0, 0, 0, 0, 0, 4, 0, 0, 0, 33, 0, 0, 0, 40, 0, 0, 0, 47, 0, 0, 0, 55, 0, 0, 0, 63]
abbrev dktX5_reform_1 : List UInt8 := dkwX5_reform_1 ++ dktX5_reform_2
def dkwX5_reform_0 : List UInt8 := [42, 182, 0, 208, 42, 27, 182, 1, 210, 153, 0, 5, 3, 172, 28]
abbrev dktX5_reform_0 : List UInt8 := dkwX5_reform_0 ++ dktX5_reform_1
theorem dksX5_reform_0 : cX5_reform.data.toList.drop 0 = dktX5_reform_0 := by decide +kernel
theorem dksX5_reform_1 : cX5_reform.data.toList.drop 15 = dktX5_reform_1 := dk_seg dksX5_reform_0 15 rfl rfl
theorem dksX5_reform_2 : cX5_reform.data.toList.drop 48 = dktX5_reform_2 := dk_seg dksX5_reform_1 33 rfl rfl
theorem dksX5_reform_3 : cX5_reform.data.toList.drop 72 = dktX5_reform_3 := dk_seg dksX5_reform_2 24 rfl rfl
theorem dX5_reform_0 : decode cX5_reform 0 = .ok (.aload_n 0, 1) := dk_42 (dk_at dksX5_reform_0 0 rfl rfl)
theorem dX5_reform_1 : decode cX5_reform 1 = .ok (.invokevirtual 208, 3) := dk_182 0 208 (dk_at dksX5_reform_0 1 rfl rfl)
theorem dX5_reform_4 : decode cX5_reform 4 = .ok (.aload_n 0, 1) := dk_42 (dk_at dksX5_reform_0 4 rfl rfl)
theorem dX5_reform_5 : decode cX5_reform 5 = .ok (.iload_n 1, 1) := dk_27 (dk_at dksX5_reform_0 5 rfl rfl)
theorem dX5_reform_6 : decode cX5_reform 6 = .ok (.invokevirtual 466, 3) := dk_182 1 210 (dk_at dksX5_reform_0 6 rfl rfl)
theorem dX5_reform_9 : decode cX5_reform 9 = .ok (.ifCond .eq 5, 3) := dk_153 0 5 (dk_at dksX5_reform_0 9 rfl rfl)
theorem dX5_reform_12 : decode cX5_reform 12 = .ok (.iconst 0, 1) := dk_3 (dk_at dksX5_reform_0 12 rfl rfl)
theorem dX5_reform_13 : decode cX5_reform 13 = .ok (.ireturn, 1) := dk_172 (dk_at dksX5_reform_0 13 rfl rfl)
theorem dX5_reform_14 : decode cX5_reform 14 = .ok (.iload_n 2, 1) := dk_28 (dk_at dksX5_reform_0 14 rfl rfl)
theorem dX5_reform_15 : decode cX5_reform 15 = .ok (.tableswitch 69 0 4 #[33, 40, 47, 55, 63], 33) := by decide +kernel
theorem dX5_reform_48 : decode cX5_reform 48 = .ok (.aload_n 0, 1) := dk_42 (dk_at dksX5_reform_2 0 rfl rfl)
theorem dX5_reform_49 : decode cX5_reform 49 = .ok (.iload_n 1, 1) := dk_27 (dk_at dksX5_reform_2 1 rfl rfl)
theorem dX5_reform_50 : decode cX5_reform 50 = .ok (.iconst 0, 1) := dk_3 (dk_at dksX5_reform_2 2 rfl rfl)
theorem dX5_reform_51 : decode cX5_reform 51 = .ok (.invokevirtual 126, 3) := dk_182 0 126 (dk_at dksX5_reform_2 3 rfl rfl)
theorem dX5_reform_54 : decode cX5_reform 54 = .ok (.ireturn, 1) := dk_172 (dk_at dksX5_reform_2 6 rfl rfl)
theorem dX5_reform_55 : decode cX5_reform 55 = .ok (.aload_n 0, 1) := dk_42 (dk_at dksX5_reform_2 7 rfl rfl)
theorem dX5_reform_56 : decode cX5_reform 56 = .ok (.iload_n 1, 1) := dk_27 (dk_at dksX5_reform_2 8 rfl rfl)
theorem dX5_reform_57 : decode cX5_reform 57 = .ok (.iconst 1, 1) := dk_4 (dk_at dksX5_reform_2 9 rfl rfl)
theorem dX5_reform_58 : decode cX5_reform 58 = .ok (.invokevirtual 126, 3) := dk_182 0 126 (dk_at dksX5_reform_2 10 rfl rfl)
theorem dX5_reform_61 : decode cX5_reform 61 = .ok (.ireturn, 1) := dk_172 (dk_at dksX5_reform_2 13 rfl rfl)
theorem dX5_reform_62 : decode cX5_reform 62 = .ok (.aload_n 0, 1) := dk_42 (dk_at dksX5_reform_2 14 rfl rfl)
theorem dX5_reform_63 : decode cX5_reform 63 = .ok (.iload_n 1, 1) := dk_27 (dk_at dksX5_reform_2 15 rfl rfl)
theorem dX5_reform_64 : decode cX5_reform 64 = .ok (.bipush 6, 2) := dk_16 6 (dk_at dksX5_reform_2 16 rfl rfl)
theorem dX5_reform_66 : decode cX5_reform 66 = .ok (.invokevirtual 126, 3) := dk_182 0 126 (dk_at dksX5_reform_2 18 rfl rfl)
theorem dX5_reform_69 : decode cX5_reform 69 = .ok (.ireturn, 1) := dk_172 (dk_at dksX5_reform_2 21 rfl rfl)
theorem dX5_reform_70 : decode cX5_reform 70 = .ok (.aload_n 0, 1) := dk_42 (dk_at dksX5_reform_2 22 rfl rfl)
theorem dX5_reform_71 : decode cX5_reform 71 = .ok (.iload_n 1, 1) := dk_27 (dk_at dksX5_reform_2 23 rfl rfl)
theorem dX5_reform_72 : decode cX5_reform 72 = .ok (.bipush 7, 2) := dk_16 7 (dk_at dksX5_reform_3 0 rfl rfl)
theorem dX5_reform_74 : decode cX5_reform 74 = .ok (.invokevirtual 126, 3) := dk_182 0 126 (dk_at dksX5_reform_3 2 rfl rfl)
theorem dX5_reform_77 : decode cX5_reform 77 = .ok (.ireturn, 1) := dk_172 (dk_at dksX5_reform_3 5 rfl rfl)
theorem dX5_reform_78 : decode cX5_reform 78 = .ok (.aload_n 0, 1) := dk_42 (dk_at dksX5_reform_3 6 rfl rfl)
theorem dX5_reform_79 : decode cX5_reform 79 = .ok (.iload_n 1, 1) := dk_27 (dk_at dksX5_reform_3 7 rfl rfl)
theorem dX5_reform_80 : decode cX5_reform 80 = .ok (.invokevirtual 469, 3) := dk_182 1 213 (dk_at dksX5_reform_3 8 rfl rfl)
theorem dX5_reform_83 : decode cX5_reform 83 = .ok (.ireturn, 1) := dk_172 (dk_at dksX5_reform_3 11 rfl rfl)
theorem dX5_reform_84 : decode cX5_reform 84 = .ok (.aload_n 0, 1) := dk_42 (dk_at dksX5_reform_3 12 rfl rfl)
theorem dX5_reform_85 : decode cX5_reform 85 = .ok (.iconst 2, 1) := dk_5 (dk_at dksX5_reform_3 13 rfl rfl)
theorem dX5_reform_86 : decode cX5_reform 86 = .ok (.putfield 100, 3) := dk_181 0 100 (dk_at dksX5_reform_3 14 rfl rfl)
theorem dX5_reform_89 : decode cX5_reform 89 = .ok (.iconst 0, 1) := dk_3 (dk_at dksX5_reform_3 17 rfl rfl)
theorem dX5_reform_90 : decode cX5_reform 90 = .ok (.ireturn, 1) := dk_172 (dk_at dksX5_reform_3 18 rfl rfl)
abbrev cX5_noReform : ByteArray := prog_20_method_99_code
def yX5_noReform : MethodName := ⟨RX5, "noReform", "(I)Z"⟩
def dkwX5_noReform_1 : List UInt8 := [182, 0, 118, 172]
abbrev dktX5_noReform_1 : List UInt8 := dkwX5_noReform_1 ++ []
def dkwX5_noReform_0 : List UInt8 := [42, 27, 3, 42, 180, 0, 7, 7, 46, 4, 100, 184, 0, 103, 154, 0, 7, 4, 167, 0, 4, 3, 4]
abbrev dktX5_noReform_0 : List UInt8 := dkwX5_noReform_0 ++ dktX5_noReform_1
theorem dksX5_noReform_0 : cX5_noReform.data.toList.drop 0 = dktX5_noReform_0 := by decide +kernel
theorem dksX5_noReform_1 : cX5_noReform.data.toList.drop 23 = dktX5_noReform_1 := dk_seg dksX5_noReform_0 23 rfl rfl
theorem dX5_noReform_0 : decode cX5_noReform 0 = .ok (.aload_n 0, 1) := dk_42 (dk_at dksX5_noReform_0 0 rfl rfl)
theorem dX5_noReform_1 : decode cX5_noReform 1 = .ok (.iload_n 1, 1) := dk_27 (dk_at dksX5_noReform_0 1 rfl rfl)
theorem dX5_noReform_2 : decode cX5_noReform 2 = .ok (.iconst 0, 1) := dk_3 (dk_at dksX5_noReform_0 2 rfl rfl)
theorem dX5_noReform_3 : decode cX5_noReform 3 = .ok (.aload_n 0, 1) := dk_42 (dk_at dksX5_noReform_0 3 rfl rfl)
theorem dX5_noReform_4 : decode cX5_noReform 4 = .ok (.getfield 7, 3) := dk_180 0 7 (dk_at dksX5_noReform_0 4 rfl rfl)
theorem dX5_noReform_7 : decode cX5_noReform 7 = .ok (.iconst 4, 1) := dk_7 (dk_at dksX5_noReform_0 7 rfl rfl)
theorem dX5_noReform_8 : decode cX5_noReform 8 = .ok (.iaload, 1) := dk_46 (dk_at dksX5_noReform_0 8 rfl rfl)
theorem dX5_noReform_9 : decode cX5_noReform 9 = .ok (.iconst 1, 1) := dk_4 (dk_at dksX5_noReform_0 9 rfl rfl)
theorem dX5_noReform_10 : decode cX5_noReform 10 = .ok (.isub, 1) := dk_100 (dk_at dksX5_noReform_0 10 rfl rfl)
theorem dX5_noReform_11 : decode cX5_noReform 11 = .ok (.invokestatic 103, 3) := dk_184 0 103 (dk_at dksX5_noReform_0 11 rfl rfl)
theorem dX5_noReform_14 : decode cX5_noReform 14 = .ok (.ifCond .ne 7, 3) := dk_154 0 7 (dk_at dksX5_noReform_0 14 rfl rfl)
theorem dX5_noReform_17 : decode cX5_noReform 17 = .ok (.iconst 1, 1) := dk_4 (dk_at dksX5_noReform_0 17 rfl rfl)
theorem dX5_noReform_18 : decode cX5_noReform 18 = .ok (.goto 4, 3) := dk_167 0 4 (dk_at dksX5_noReform_0 18 rfl rfl)
theorem dX5_noReform_21 : decode cX5_noReform 21 = .ok (.iconst 0, 1) := dk_3 (dk_at dksX5_noReform_0 21 rfl rfl)
theorem dX5_noReform_22 : decode cX5_noReform 22 = .ok (.iconst 1, 1) := dk_4 (dk_at dksX5_noReform_0 22 rfl rfl)
theorem dX5_noReform_23 : decode cX5_noReform 23 = .ok (.invokevirtual 118, 3) := dk_182 0 118 (dk_at dksX5_noReform_1 0 rfl rfl)
theorem dX5_noReform_26 : decode cX5_noReform 26 = .ok (.ireturn, 1) := dk_172 (dk_at dksX5_noReform_1 3 rfl rfl)
abbrev cX5_changedBy : ByteArray := prog_20_method_23_code
def yX5_changedBy : MethodName := ⟨RX5, "changedBy", "(I)I"⟩
def dkwX5_changedBy_4 : List UInt8 := [167, 255, 178, 132, 3, 1, 167, 255, 159, 28, 172]
abbrev dktX5_changedBy_4 : List UInt8 := dkwX5_changedBy_4 ++ []
def dkwX5_changedBy_3 : List UInt8 := [27, 21, 4, 29, 21, 5, 182, 0, 136, 21, 5, 159, 0, 7, 4, 167, 0, 4, 3, 96, 61, 132, 4, 1]
abbrev dktX5_changedBy_3 : List UInt8 := dkwX5_changedBy_3 ++ dktX5_changedBy_4
def dkwX5_changedBy_2 : List UInt8 := [180, 0, 35, 21, 6, 46, 21, 4, 29, 21, 5, 182, 0, 136, 54, 5, 132, 6, 1, 167, 255, 224, 28, 42]
abbrev dktX5_changedBy_2 : List UInt8 := dkwX5_changedBy_2 ++ dktX5_changedBy_3
def dkwX5_changedBy_1 : List UInt8 := [46, 162, 0, 73, 3, 54, 5, 3, 54, 6, 42, 180, 0, 35, 21, 6, 46, 27, 159, 0, 27, 42, 42]
abbrev dktX5_changedBy_1 : List UInt8 := dkwX5_changedBy_1 ++ dktX5_changedBy_2
def dkwX5_changedBy_0 : List UInt8 := [3, 61, 3, 62, 29, 42, 180, 0, 7, 4, 46, 162, 0, 93, 3, 54, 4, 21, 4, 42, 180, 0, 7, 3]
abbrev dktX5_changedBy_0 : List UInt8 := dkwX5_changedBy_0 ++ dktX5_changedBy_1
theorem dksX5_changedBy_0 : cX5_changedBy.data.toList.drop 0 = dktX5_changedBy_0 := by decide +kernel
theorem dksX5_changedBy_1 : cX5_changedBy.data.toList.drop 24 = dktX5_changedBy_1 := dk_seg dksX5_changedBy_0 24 rfl rfl
theorem dksX5_changedBy_2 : cX5_changedBy.data.toList.drop 47 = dktX5_changedBy_2 := dk_seg dksX5_changedBy_1 23 rfl rfl
theorem dksX5_changedBy_3 : cX5_changedBy.data.toList.drop 71 = dktX5_changedBy_3 := dk_seg dksX5_changedBy_2 24 rfl rfl
theorem dksX5_changedBy_4 : cX5_changedBy.data.toList.drop 95 = dktX5_changedBy_4 := dk_seg dksX5_changedBy_3 24 rfl rfl
theorem dX5_changedBy_0 : decode cX5_changedBy 0 = .ok (.iconst 0, 1) := dk_3 (dk_at dksX5_changedBy_0 0 rfl rfl)
theorem dX5_changedBy_1 : decode cX5_changedBy 1 = .ok (.istore_n 2, 1) := dk_61 (dk_at dksX5_changedBy_0 1 rfl rfl)
theorem dX5_changedBy_2 : decode cX5_changedBy 2 = .ok (.iconst 0, 1) := dk_3 (dk_at dksX5_changedBy_0 2 rfl rfl)
theorem dX5_changedBy_3 : decode cX5_changedBy 3 = .ok (.istore_n 3, 1) := dk_62 (dk_at dksX5_changedBy_0 3 rfl rfl)
theorem dX5_changedBy_4 : decode cX5_changedBy 4 = .ok (.iload_n 3, 1) := dk_29 (dk_at dksX5_changedBy_0 4 rfl rfl)
theorem dX5_changedBy_5 : decode cX5_changedBy 5 = .ok (.aload_n 0, 1) := dk_42 (dk_at dksX5_changedBy_0 5 rfl rfl)
theorem dX5_changedBy_6 : decode cX5_changedBy 6 = .ok (.getfield 7, 3) := dk_180 0 7 (dk_at dksX5_changedBy_0 6 rfl rfl)
theorem dX5_changedBy_9 : decode cX5_changedBy 9 = .ok (.iconst 1, 1) := dk_4 (dk_at dksX5_changedBy_0 9 rfl rfl)
theorem dX5_changedBy_10 : decode cX5_changedBy 10 = .ok (.iaload, 1) := dk_46 (dk_at dksX5_changedBy_0 10 rfl rfl)
theorem dX5_changedBy_11 : decode cX5_changedBy 11 = .ok (.if_icmp .ge 93, 3) := dk_162 0 93 (dk_at dksX5_changedBy_0 11 rfl rfl)
theorem dX5_changedBy_14 : decode cX5_changedBy 14 = .ok (.iconst 0, 1) := dk_3 (dk_at dksX5_changedBy_0 14 rfl rfl)
theorem dX5_changedBy_15 : decode cX5_changedBy 15 = .ok (.istore 4, 2) := dk_54 4 (dk_at dksX5_changedBy_0 15 rfl rfl)
theorem dX5_changedBy_17 : decode cX5_changedBy 17 = .ok (.iload 4, 2) := dk_21 4 (dk_at dksX5_changedBy_0 17 rfl rfl)
theorem dX5_changedBy_19 : decode cX5_changedBy 19 = .ok (.aload_n 0, 1) := dk_42 (dk_at dksX5_changedBy_0 19 rfl rfl)
theorem dX5_changedBy_20 : decode cX5_changedBy 20 = .ok (.getfield 7, 3) := dk_180 0 7 (dk_at dksX5_changedBy_0 20 rfl rfl)
theorem dX5_changedBy_23 : decode cX5_changedBy 23 = .ok (.iconst 0, 1) := dk_3 (dk_at dksX5_changedBy_0 23 rfl rfl)
theorem dX5_changedBy_24 : decode cX5_changedBy 24 = .ok (.iaload, 1) := dk_46 (dk_at dksX5_changedBy_1 0 rfl rfl)
theorem dX5_changedBy_25 : decode cX5_changedBy 25 = .ok (.if_icmp .ge 73, 3) := dk_162 0 73 (dk_at dksX5_changedBy_1 1 rfl rfl)
theorem dX5_changedBy_28 : decode cX5_changedBy 28 = .ok (.iconst 0, 1) := dk_3 (dk_at dksX5_changedBy_1 4 rfl rfl)
theorem dX5_changedBy_29 : decode cX5_changedBy 29 = .ok (.istore 5, 2) := dk_54 5 (dk_at dksX5_changedBy_1 5 rfl rfl)
theorem dX5_changedBy_31 : decode cX5_changedBy 31 = .ok (.iconst 0, 1) := dk_3 (dk_at dksX5_changedBy_1 7 rfl rfl)
theorem dX5_changedBy_32 : decode cX5_changedBy 32 = .ok (.istore 6, 2) := dk_54 6 (dk_at dksX5_changedBy_1 8 rfl rfl)
theorem dX5_changedBy_34 : decode cX5_changedBy 34 = .ok (.aload_n 0, 1) := dk_42 (dk_at dksX5_changedBy_1 10 rfl rfl)
theorem dX5_changedBy_35 : decode cX5_changedBy 35 = .ok (.getfield 35, 3) := dk_180 0 35 (dk_at dksX5_changedBy_1 11 rfl rfl)
theorem dX5_changedBy_38 : decode cX5_changedBy 38 = .ok (.iload 6, 2) := dk_21 6 (dk_at dksX5_changedBy_1 14 rfl rfl)
theorem dX5_changedBy_40 : decode cX5_changedBy 40 = .ok (.iaload, 1) := dk_46 (dk_at dksX5_changedBy_1 16 rfl rfl)
theorem dX5_changedBy_41 : decode cX5_changedBy 41 = .ok (.iload_n 1, 1) := dk_27 (dk_at dksX5_changedBy_1 17 rfl rfl)
theorem dX5_changedBy_42 : decode cX5_changedBy 42 = .ok (.if_icmp .eq 27, 3) := dk_159 0 27 (dk_at dksX5_changedBy_1 18 rfl rfl)
theorem dX5_changedBy_45 : decode cX5_changedBy 45 = .ok (.aload_n 0, 1) := dk_42 (dk_at dksX5_changedBy_1 21 rfl rfl)
theorem dX5_changedBy_46 : decode cX5_changedBy 46 = .ok (.aload_n 0, 1) := dk_42 (dk_at dksX5_changedBy_1 22 rfl rfl)
theorem dX5_changedBy_47 : decode cX5_changedBy 47 = .ok (.getfield 35, 3) := dk_180 0 35 (dk_at dksX5_changedBy_2 0 rfl rfl)
theorem dX5_changedBy_50 : decode cX5_changedBy 50 = .ok (.iload 6, 2) := dk_21 6 (dk_at dksX5_changedBy_2 3 rfl rfl)
theorem dX5_changedBy_52 : decode cX5_changedBy 52 = .ok (.iaload, 1) := dk_46 (dk_at dksX5_changedBy_2 5 rfl rfl)
theorem dX5_changedBy_53 : decode cX5_changedBy 53 = .ok (.iload 4, 2) := dk_21 4 (dk_at dksX5_changedBy_2 6 rfl rfl)
theorem dX5_changedBy_55 : decode cX5_changedBy 55 = .ok (.iload_n 3, 1) := dk_29 (dk_at dksX5_changedBy_2 8 rfl rfl)
theorem dX5_changedBy_56 : decode cX5_changedBy 56 = .ok (.iload 5, 2) := dk_21 5 (dk_at dksX5_changedBy_2 9 rfl rfl)
theorem dX5_changedBy_58 : decode cX5_changedBy 58 = .ok (.invokevirtual 136, 3) := dk_182 0 136 (dk_at dksX5_changedBy_2 11 rfl rfl)
theorem dX5_changedBy_61 : decode cX5_changedBy 61 = .ok (.istore 5, 2) := dk_54 5 (dk_at dksX5_changedBy_2 14 rfl rfl)
theorem dX5_changedBy_63 : decode cX5_changedBy 63 = .ok (.iinc 6 1, 3) := dk_132 6 1 (dk_at dksX5_changedBy_2 16 rfl rfl)
theorem dX5_changedBy_66 : decode cX5_changedBy 66 = .ok (.goto (-32), 3) := dk_167 255 224 (dk_at dksX5_changedBy_2 19 rfl rfl)
theorem dX5_changedBy_69 : decode cX5_changedBy 69 = .ok (.iload_n 2, 1) := dk_28 (dk_at dksX5_changedBy_2 22 rfl rfl)
theorem dX5_changedBy_70 : decode cX5_changedBy 70 = .ok (.aload_n 0, 1) := dk_42 (dk_at dksX5_changedBy_2 23 rfl rfl)
theorem dX5_changedBy_71 : decode cX5_changedBy 71 = .ok (.iload_n 1, 1) := dk_27 (dk_at dksX5_changedBy_3 0 rfl rfl)
theorem dX5_changedBy_72 : decode cX5_changedBy 72 = .ok (.iload 4, 2) := dk_21 4 (dk_at dksX5_changedBy_3 1 rfl rfl)
theorem dX5_changedBy_74 : decode cX5_changedBy 74 = .ok (.iload_n 3, 1) := dk_29 (dk_at dksX5_changedBy_3 3 rfl rfl)
theorem dX5_changedBy_75 : decode cX5_changedBy 75 = .ok (.iload 5, 2) := dk_21 5 (dk_at dksX5_changedBy_3 4 rfl rfl)
theorem dX5_changedBy_77 : decode cX5_changedBy 77 = .ok (.invokevirtual 136, 3) := dk_182 0 136 (dk_at dksX5_changedBy_3 6 rfl rfl)
theorem dX5_changedBy_80 : decode cX5_changedBy 80 = .ok (.iload 5, 2) := dk_21 5 (dk_at dksX5_changedBy_3 9 rfl rfl)
theorem dX5_changedBy_82 : decode cX5_changedBy 82 = .ok (.if_icmp .eq 7, 3) := dk_159 0 7 (dk_at dksX5_changedBy_3 11 rfl rfl)
theorem dX5_changedBy_85 : decode cX5_changedBy 85 = .ok (.iconst 1, 1) := dk_4 (dk_at dksX5_changedBy_3 14 rfl rfl)
theorem dX5_changedBy_86 : decode cX5_changedBy 86 = .ok (.goto 4, 3) := dk_167 0 4 (dk_at dksX5_changedBy_3 15 rfl rfl)
theorem dX5_changedBy_89 : decode cX5_changedBy 89 = .ok (.iconst 0, 1) := dk_3 (dk_at dksX5_changedBy_3 18 rfl rfl)
theorem dX5_changedBy_90 : decode cX5_changedBy 90 = .ok (.iadd, 1) := dk_96 (dk_at dksX5_changedBy_3 19 rfl rfl)
theorem dX5_changedBy_91 : decode cX5_changedBy 91 = .ok (.istore_n 2, 1) := dk_61 (dk_at dksX5_changedBy_3 20 rfl rfl)
theorem dX5_changedBy_92 : decode cX5_changedBy 92 = .ok (.iinc 4 1, 3) := dk_132 4 1 (dk_at dksX5_changedBy_3 21 rfl rfl)
theorem dX5_changedBy_95 : decode cX5_changedBy 95 = .ok (.goto (-78), 3) := dk_167 255 178 (dk_at dksX5_changedBy_4 0 rfl rfl)
theorem dX5_changedBy_98 : decode cX5_changedBy 98 = .ok (.iinc 3 1, 3) := dk_132 3 1 (dk_at dksX5_changedBy_4 3 rfl rfl)
theorem dX5_changedBy_101 : decode cX5_changedBy 101 = .ok (.goto (-97), 3) := dk_167 255 159 (dk_at dksX5_changedBy_4 6 rfl rfl)
theorem dX5_changedBy_104 : decode cX5_changedBy 104 = .ok (.iload_n 2, 1) := dk_28 (dk_at dksX5_changedBy_4 9 rfl rfl)
theorem dX5_changedBy_105 : decode cX5_changedBy 105 = .ok (.ireturn, 1) := dk_172 (dk_at dksX5_changedBy_4 10 rfl rfl)
abbrev cX5_ownerOf : ByteArray := prog_20_method_101_code
def yX5_ownerOf : MethodName := ⟨RX5, "ownerOf", "(III)I"⟩
def dkwX5_ownerOf_3 : List UInt8 := [167, 0, 10, 42, 27, 28, 29, 182, 0, 143, 172]
abbrev dktX5_ownerOf_3 : List UInt8 := dkwX5_ownerOf_3 ++ []
def dkwX5_ownerOf_2 : List UInt8 := [3, 54, 4, 42, 21, 4, 154, 0, 7, 4, 167, 0, 4, 3, 4, 182, 0, 118, 153, 0, 7, 3]
abbrev dktX5_ownerOf_2 : List UInt8 := dkwX5_ownerOf_2 ++ dktX5_ownerOf_3
def dkwX5_ownerOf_1 : List UInt8 := [180, 0, 7, 4, 46, 4, 100, 184, 0, 103, 153, 0, 14, 29, 184, 0, 122, 153, 0, 7, 4, 167, 0, 4]
abbrev dktX5_ownerOf_1 : List UInt8 := dkwX5_ownerOf_1 ++ dktX5_ownerOf_2
def dkwX5_ownerOf_0 : List UInt8 := [42, 182, 0, 208, 27, 3, 42, 180, 0, 7, 3, 46, 4, 100, 184, 0, 103, 153, 0, 30, 28, 3, 42]
abbrev dktX5_ownerOf_0 : List UInt8 := dkwX5_ownerOf_0 ++ dktX5_ownerOf_1
theorem dksX5_ownerOf_0 : cX5_ownerOf.data.toList.drop 0 = dktX5_ownerOf_0 := by decide +kernel
theorem dksX5_ownerOf_1 : cX5_ownerOf.data.toList.drop 23 = dktX5_ownerOf_1 := dk_seg dksX5_ownerOf_0 23 rfl rfl
theorem dksX5_ownerOf_2 : cX5_ownerOf.data.toList.drop 47 = dktX5_ownerOf_2 := dk_seg dksX5_ownerOf_1 24 rfl rfl
theorem dksX5_ownerOf_3 : cX5_ownerOf.data.toList.drop 69 = dktX5_ownerOf_3 := dk_seg dksX5_ownerOf_2 22 rfl rfl
theorem dX5_ownerOf_0 : decode cX5_ownerOf 0 = .ok (.aload_n 0, 1) := dk_42 (dk_at dksX5_ownerOf_0 0 rfl rfl)
theorem dX5_ownerOf_1 : decode cX5_ownerOf 1 = .ok (.invokevirtual 208, 3) := dk_182 0 208 (dk_at dksX5_ownerOf_0 1 rfl rfl)
theorem dX5_ownerOf_4 : decode cX5_ownerOf 4 = .ok (.iload_n 1, 1) := dk_27 (dk_at dksX5_ownerOf_0 4 rfl rfl)
theorem dX5_ownerOf_5 : decode cX5_ownerOf 5 = .ok (.iconst 0, 1) := dk_3 (dk_at dksX5_ownerOf_0 5 rfl rfl)
theorem dX5_ownerOf_6 : decode cX5_ownerOf 6 = .ok (.aload_n 0, 1) := dk_42 (dk_at dksX5_ownerOf_0 6 rfl rfl)
theorem dX5_ownerOf_7 : decode cX5_ownerOf 7 = .ok (.getfield 7, 3) := dk_180 0 7 (dk_at dksX5_ownerOf_0 7 rfl rfl)
theorem dX5_ownerOf_10 : decode cX5_ownerOf 10 = .ok (.iconst 0, 1) := dk_3 (dk_at dksX5_ownerOf_0 10 rfl rfl)
theorem dX5_ownerOf_11 : decode cX5_ownerOf 11 = .ok (.iaload, 1) := dk_46 (dk_at dksX5_ownerOf_0 11 rfl rfl)
theorem dX5_ownerOf_12 : decode cX5_ownerOf 12 = .ok (.iconst 1, 1) := dk_4 (dk_at dksX5_ownerOf_0 12 rfl rfl)
theorem dX5_ownerOf_13 : decode cX5_ownerOf 13 = .ok (.isub, 1) := dk_100 (dk_at dksX5_ownerOf_0 13 rfl rfl)
theorem dX5_ownerOf_14 : decode cX5_ownerOf 14 = .ok (.invokestatic 103, 3) := dk_184 0 103 (dk_at dksX5_ownerOf_0 14 rfl rfl)
theorem dX5_ownerOf_17 : decode cX5_ownerOf 17 = .ok (.ifCond .eq 30, 3) := dk_153 0 30 (dk_at dksX5_ownerOf_0 17 rfl rfl)
theorem dX5_ownerOf_20 : decode cX5_ownerOf 20 = .ok (.iload_n 2, 1) := dk_28 (dk_at dksX5_ownerOf_0 20 rfl rfl)
theorem dX5_ownerOf_21 : decode cX5_ownerOf 21 = .ok (.iconst 0, 1) := dk_3 (dk_at dksX5_ownerOf_0 21 rfl rfl)
theorem dX5_ownerOf_22 : decode cX5_ownerOf 22 = .ok (.aload_n 0, 1) := dk_42 (dk_at dksX5_ownerOf_0 22 rfl rfl)
theorem dX5_ownerOf_23 : decode cX5_ownerOf 23 = .ok (.getfield 7, 3) := dk_180 0 7 (dk_at dksX5_ownerOf_1 0 rfl rfl)
theorem dX5_ownerOf_26 : decode cX5_ownerOf 26 = .ok (.iconst 1, 1) := dk_4 (dk_at dksX5_ownerOf_1 3 rfl rfl)
theorem dX5_ownerOf_27 : decode cX5_ownerOf 27 = .ok (.iaload, 1) := dk_46 (dk_at dksX5_ownerOf_1 4 rfl rfl)
theorem dX5_ownerOf_28 : decode cX5_ownerOf 28 = .ok (.iconst 1, 1) := dk_4 (dk_at dksX5_ownerOf_1 5 rfl rfl)
theorem dX5_ownerOf_29 : decode cX5_ownerOf 29 = .ok (.isub, 1) := dk_100 (dk_at dksX5_ownerOf_1 6 rfl rfl)
theorem dX5_ownerOf_30 : decode cX5_ownerOf 30 = .ok (.invokestatic 103, 3) := dk_184 0 103 (dk_at dksX5_ownerOf_1 7 rfl rfl)
theorem dX5_ownerOf_33 : decode cX5_ownerOf 33 = .ok (.ifCond .eq 14, 3) := dk_153 0 14 (dk_at dksX5_ownerOf_1 10 rfl rfl)
theorem dX5_ownerOf_36 : decode cX5_ownerOf 36 = .ok (.iload_n 3, 1) := dk_29 (dk_at dksX5_ownerOf_1 13 rfl rfl)
theorem dX5_ownerOf_37 : decode cX5_ownerOf 37 = .ok (.invokestatic 122, 3) := dk_184 0 122 (dk_at dksX5_ownerOf_1 14 rfl rfl)
theorem dX5_ownerOf_40 : decode cX5_ownerOf 40 = .ok (.ifCond .eq 7, 3) := dk_153 0 7 (dk_at dksX5_ownerOf_1 17 rfl rfl)
theorem dX5_ownerOf_43 : decode cX5_ownerOf 43 = .ok (.iconst 1, 1) := dk_4 (dk_at dksX5_ownerOf_1 20 rfl rfl)
theorem dX5_ownerOf_44 : decode cX5_ownerOf 44 = .ok (.goto 4, 3) := dk_167 0 4 (dk_at dksX5_ownerOf_1 21 rfl rfl)
theorem dX5_ownerOf_47 : decode cX5_ownerOf 47 = .ok (.iconst 0, 1) := dk_3 (dk_at dksX5_ownerOf_2 0 rfl rfl)
theorem dX5_ownerOf_48 : decode cX5_ownerOf 48 = .ok (.istore 4, 2) := dk_54 4 (dk_at dksX5_ownerOf_2 1 rfl rfl)
theorem dX5_ownerOf_50 : decode cX5_ownerOf 50 = .ok (.aload_n 0, 1) := dk_42 (dk_at dksX5_ownerOf_2 3 rfl rfl)
theorem dX5_ownerOf_51 : decode cX5_ownerOf 51 = .ok (.iload 4, 2) := dk_21 4 (dk_at dksX5_ownerOf_2 4 rfl rfl)
theorem dX5_ownerOf_53 : decode cX5_ownerOf 53 = .ok (.ifCond .ne 7, 3) := dk_154 0 7 (dk_at dksX5_ownerOf_2 6 rfl rfl)
theorem dX5_ownerOf_56 : decode cX5_ownerOf 56 = .ok (.iconst 1, 1) := dk_4 (dk_at dksX5_ownerOf_2 9 rfl rfl)
theorem dX5_ownerOf_57 : decode cX5_ownerOf 57 = .ok (.goto 4, 3) := dk_167 0 4 (dk_at dksX5_ownerOf_2 10 rfl rfl)
theorem dX5_ownerOf_60 : decode cX5_ownerOf 60 = .ok (.iconst 0, 1) := dk_3 (dk_at dksX5_ownerOf_2 13 rfl rfl)
theorem dX5_ownerOf_61 : decode cX5_ownerOf 61 = .ok (.iconst 1, 1) := dk_4 (dk_at dksX5_ownerOf_2 14 rfl rfl)
theorem dX5_ownerOf_62 : decode cX5_ownerOf 62 = .ok (.invokevirtual 118, 3) := dk_182 0 118 (dk_at dksX5_ownerOf_2 15 rfl rfl)
theorem dX5_ownerOf_65 : decode cX5_ownerOf 65 = .ok (.ifCond .eq 7, 3) := dk_153 0 7 (dk_at dksX5_ownerOf_2 18 rfl rfl)
theorem dX5_ownerOf_68 : decode cX5_ownerOf 68 = .ok (.iconst 0, 1) := dk_3 (dk_at dksX5_ownerOf_2 21 rfl rfl)
theorem dX5_ownerOf_69 : decode cX5_ownerOf 69 = .ok (.goto 10, 3) := dk_167 0 10 (dk_at dksX5_ownerOf_3 0 rfl rfl)
theorem dX5_ownerOf_72 : decode cX5_ownerOf 72 = .ok (.aload_n 0, 1) := dk_42 (dk_at dksX5_ownerOf_3 3 rfl rfl)
theorem dX5_ownerOf_73 : decode cX5_ownerOf 73 = .ok (.iload_n 1, 1) := dk_27 (dk_at dksX5_ownerOf_3 4 rfl rfl)
theorem dX5_ownerOf_74 : decode cX5_ownerOf 74 = .ok (.iload_n 2, 1) := dk_28 (dk_at dksX5_ownerOf_3 5 rfl rfl)
theorem dX5_ownerOf_75 : decode cX5_ownerOf 75 = .ok (.iload_n 3, 1) := dk_29 (dk_at dksX5_ownerOf_3 6 rfl rfl)
theorem dX5_ownerOf_76 : decode cX5_ownerOf 76 = .ok (.invokevirtual 143, 3) := dk_182 0 143 (dk_at dksX5_ownerOf_3 7 rfl rfl)
theorem dX5_ownerOf_79 : decode cX5_ownerOf 79 = .ok (.ireturn, 1) := dk_172 (dk_at dksX5_ownerOf_3 10 rfl rfl)
abbrev cX5_isYear : ByteArray := prog_20_method_4_code
def yX5_isYear : MethodName := ⟨RX5, "isYear", "(I)Z"⟩
def dkwX5_isYear_0 : List UInt8 := [26, 3, 17, 3, 231, 184, 0, 103, 172]
abbrev dktX5_isYear_0 : List UInt8 := dkwX5_isYear_0 ++ []
theorem dksX5_isYear_0 : cX5_isYear.data.toList.drop 0 = dktX5_isYear_0 := by decide +kernel
theorem dX5_isYear_0 : decode cX5_isYear 0 = .ok (.iload_n 0, 1) := dk_26 (dk_at dksX5_isYear_0 0 rfl rfl)
theorem dX5_isYear_1 : decode cX5_isYear 1 = .ok (.iconst 0, 1) := dk_3 (dk_at dksX5_isYear_0 1 rfl rfl)
theorem dX5_isYear_2 : decode cX5_isYear 2 = .ok (.sipush 999, 3) := dk_17 3 231 (dk_at dksX5_isYear_0 2 rfl rfl)
theorem dX5_isYear_5 : decode cX5_isYear 5 = .ok (.invokestatic 103, 3) := dk_184 0 103 (dk_at dksX5_isYear_0 5 rfl rfl)
theorem dX5_isYear_8 : decode cX5_isYear 8 = .ok (.ireturn, 1) := dk_172 (dk_at dksX5_isYear_0 8 rfl rfl)
abbrev cX5_countyIn : ByteArray := prog_20_method_102_code
def yX5_countyIn : MethodName := ⟨RX5, "countyIn", "(II)I"⟩
def dkwX5_countyIn_1 : List UInt8 := [167, 0, 9, 42, 27, 28, 182, 0, 181, 172]
abbrev dktX5_countyIn_1 : List UInt8 := dkwX5_countyIn_1 ++ []
def dkwX5_countyIn_0 : List UInt8 := [42, 182, 0, 208, 42, 27, 182, 1, 168, 154, 0, 12, 42, 28, 5, 182, 1, 216, 153, 0, 7, 3]
abbrev dktX5_countyIn_0 : List UInt8 := dkwX5_countyIn_0 ++ dktX5_countyIn_1
theorem dksX5_countyIn_0 : cX5_countyIn.data.toList.drop 0 = dktX5_countyIn_0 := by decide +kernel
theorem dksX5_countyIn_1 : cX5_countyIn.data.toList.drop 22 = dktX5_countyIn_1 := dk_seg dksX5_countyIn_0 22 rfl rfl
theorem dX5_countyIn_0 : decode cX5_countyIn 0 = .ok (.aload_n 0, 1) := dk_42 (dk_at dksX5_countyIn_0 0 rfl rfl)
theorem dX5_countyIn_1 : decode cX5_countyIn 1 = .ok (.invokevirtual 208, 3) := dk_182 0 208 (dk_at dksX5_countyIn_0 1 rfl rfl)
theorem dX5_countyIn_4 : decode cX5_countyIn 4 = .ok (.aload_n 0, 1) := dk_42 (dk_at dksX5_countyIn_0 4 rfl rfl)
theorem dX5_countyIn_5 : decode cX5_countyIn 5 = .ok (.iload_n 1, 1) := dk_27 (dk_at dksX5_countyIn_0 5 rfl rfl)
theorem dX5_countyIn_6 : decode cX5_countyIn 6 = .ok (.invokevirtual 424, 3) := dk_182 1 168 (dk_at dksX5_countyIn_0 6 rfl rfl)
theorem dX5_countyIn_9 : decode cX5_countyIn 9 = .ok (.ifCond .ne 12, 3) := dk_154 0 12 (dk_at dksX5_countyIn_0 9 rfl rfl)
theorem dX5_countyIn_12 : decode cX5_countyIn 12 = .ok (.aload_n 0, 1) := dk_42 (dk_at dksX5_countyIn_0 12 rfl rfl)
theorem dX5_countyIn_13 : decode cX5_countyIn 13 = .ok (.iload_n 2, 1) := dk_28 (dk_at dksX5_countyIn_0 13 rfl rfl)
theorem dX5_countyIn_14 : decode cX5_countyIn 14 = .ok (.iconst 2, 1) := dk_5 (dk_at dksX5_countyIn_0 14 rfl rfl)
theorem dX5_countyIn_15 : decode cX5_countyIn 15 = .ok (.invokevirtual 472, 3) := dk_182 1 216 (dk_at dksX5_countyIn_0 15 rfl rfl)
theorem dX5_countyIn_18 : decode cX5_countyIn 18 = .ok (.ifCond .eq 7, 3) := dk_153 0 7 (dk_at dksX5_countyIn_0 18 rfl rfl)
theorem dX5_countyIn_21 : decode cX5_countyIn 21 = .ok (.iconst 0, 1) := dk_3 (dk_at dksX5_countyIn_0 21 rfl rfl)
theorem dX5_countyIn_22 : decode cX5_countyIn 22 = .ok (.goto 9, 3) := dk_167 0 9 (dk_at dksX5_countyIn_1 0 rfl rfl)
theorem dX5_countyIn_25 : decode cX5_countyIn 25 = .ok (.aload_n 0, 1) := dk_42 (dk_at dksX5_countyIn_1 3 rfl rfl)
theorem dX5_countyIn_26 : decode cX5_countyIn 26 = .ok (.iload_n 1, 1) := dk_27 (dk_at dksX5_countyIn_1 4 rfl rfl)
theorem dX5_countyIn_27 : decode cX5_countyIn 27 = .ok (.iload_n 2, 1) := dk_28 (dk_at dksX5_countyIn_1 5 rfl rfl)
theorem dX5_countyIn_28 : decode cX5_countyIn 28 = .ok (.invokevirtual 181, 3) := dk_182 0 181 (dk_at dksX5_countyIn_1 6 rfl rfl)
theorem dX5_countyIn_31 : decode cX5_countyIn 31 = .ok (.ireturn, 1) := dk_172 (dk_at dksX5_countyIn_1 9 rfl rfl)
abbrev cX5_noYear : ByteArray := prog_20_method_15_code
def yX5_noYear : MethodName := ⟨RX5, "noYear", "(II)Z"⟩
def dkwX5_noYear_0 : List UInt8 := [42, 27, 184, 0, 122, 154, 0, 7, 4, 167, 0, 4, 3, 28, 182, 0, 118, 172]
abbrev dktX5_noYear_0 : List UInt8 := dkwX5_noYear_0 ++ []
theorem dksX5_noYear_0 : cX5_noYear.data.toList.drop 0 = dktX5_noYear_0 := by decide +kernel
theorem dX5_noYear_0 : decode cX5_noYear 0 = .ok (.aload_n 0, 1) := dk_42 (dk_at dksX5_noYear_0 0 rfl rfl)
theorem dX5_noYear_1 : decode cX5_noYear 1 = .ok (.iload_n 1, 1) := dk_27 (dk_at dksX5_noYear_0 1 rfl rfl)
theorem dX5_noYear_2 : decode cX5_noYear 2 = .ok (.invokestatic 122, 3) := dk_184 0 122 (dk_at dksX5_noYear_0 2 rfl rfl)
theorem dX5_noYear_5 : decode cX5_noYear 5 = .ok (.ifCond .ne 7, 3) := dk_154 0 7 (dk_at dksX5_noYear_0 5 rfl rfl)
theorem dX5_noYear_8 : decode cX5_noYear 8 = .ok (.iconst 1, 1) := dk_4 (dk_at dksX5_noYear_0 8 rfl rfl)
theorem dX5_noYear_9 : decode cX5_noYear 9 = .ok (.goto 4, 3) := dk_167 0 4 (dk_at dksX5_noYear_0 9 rfl rfl)
theorem dX5_noYear_12 : decode cX5_noYear 12 = .ok (.iconst 0, 1) := dk_3 (dk_at dksX5_noYear_0 12 rfl rfl)
theorem dX5_noYear_13 : decode cX5_noYear 13 = .ok (.iload_n 2, 1) := dk_28 (dk_at dksX5_noYear_0 13 rfl rfl)
theorem dX5_noYear_14 : decode cX5_noYear 14 = .ok (.invokevirtual 118, 3) := dk_182 0 118 (dk_at dksX5_noYear_0 14 rfl rfl)
theorem dX5_noYear_17 : decode cX5_noYear 17 = .ok (.ireturn, 1) := dk_172 (dk_at dksX5_noYear_0 17 rfl rfl)
abbrev cX5_nameLength : ByteArray := prog_20_method_103_code
def yX5_nameLength : MethodName := ⟨RX5, "nameLength", "(II)I"⟩
def dkwX5_nameLength_1 : List UInt8 := [167, 0, 12, 42, 27, 28, 182, 0, 155, 184, 1, 219, 172]
abbrev dktX5_nameLength_1 : List UInt8 := dkwX5_nameLength_1 ++ []
def dkwX5_nameLength_0 : List UInt8 := [42, 3, 181, 0, 100, 42, 27, 182, 1, 168, 154, 0, 12, 42, 28, 5, 182, 1, 216, 153, 0, 7, 3]
abbrev dktX5_nameLength_0 : List UInt8 := dkwX5_nameLength_0 ++ dktX5_nameLength_1
theorem dksX5_nameLength_0 : cX5_nameLength.data.toList.drop 0 = dktX5_nameLength_0 := by decide +kernel
theorem dksX5_nameLength_1 : cX5_nameLength.data.toList.drop 23 = dktX5_nameLength_1 := dk_seg dksX5_nameLength_0 23 rfl rfl
theorem dX5_nameLength_0 : decode cX5_nameLength 0 = .ok (.aload_n 0, 1) := dk_42 (dk_at dksX5_nameLength_0 0 rfl rfl)
theorem dX5_nameLength_1 : decode cX5_nameLength 1 = .ok (.iconst 0, 1) := dk_3 (dk_at dksX5_nameLength_0 1 rfl rfl)
theorem dX5_nameLength_2 : decode cX5_nameLength 2 = .ok (.putfield 100, 3) := dk_181 0 100 (dk_at dksX5_nameLength_0 2 rfl rfl)
theorem dX5_nameLength_5 : decode cX5_nameLength 5 = .ok (.aload_n 0, 1) := dk_42 (dk_at dksX5_nameLength_0 5 rfl rfl)
theorem dX5_nameLength_6 : decode cX5_nameLength 6 = .ok (.iload_n 1, 1) := dk_27 (dk_at dksX5_nameLength_0 6 rfl rfl)
theorem dX5_nameLength_7 : decode cX5_nameLength 7 = .ok (.invokevirtual 424, 3) := dk_182 1 168 (dk_at dksX5_nameLength_0 7 rfl rfl)
theorem dX5_nameLength_10 : decode cX5_nameLength 10 = .ok (.ifCond .ne 12, 3) := dk_154 0 12 (dk_at dksX5_nameLength_0 10 rfl rfl)
theorem dX5_nameLength_13 : decode cX5_nameLength 13 = .ok (.aload_n 0, 1) := dk_42 (dk_at dksX5_nameLength_0 13 rfl rfl)
theorem dX5_nameLength_14 : decode cX5_nameLength 14 = .ok (.iload_n 2, 1) := dk_28 (dk_at dksX5_nameLength_0 14 rfl rfl)
theorem dX5_nameLength_15 : decode cX5_nameLength 15 = .ok (.iconst 2, 1) := dk_5 (dk_at dksX5_nameLength_0 15 rfl rfl)
theorem dX5_nameLength_16 : decode cX5_nameLength 16 = .ok (.invokevirtual 472, 3) := dk_182 1 216 (dk_at dksX5_nameLength_0 16 rfl rfl)
theorem dX5_nameLength_19 : decode cX5_nameLength 19 = .ok (.ifCond .eq 7, 3) := dk_153 0 7 (dk_at dksX5_nameLength_0 19 rfl rfl)
theorem dX5_nameLength_22 : decode cX5_nameLength 22 = .ok (.iconst 0, 1) := dk_3 (dk_at dksX5_nameLength_0 22 rfl rfl)
theorem dX5_nameLength_23 : decode cX5_nameLength 23 = .ok (.goto 12, 3) := dk_167 0 12 (dk_at dksX5_nameLength_1 0 rfl rfl)
theorem dX5_nameLength_26 : decode cX5_nameLength 26 = .ok (.aload_n 0, 1) := dk_42 (dk_at dksX5_nameLength_1 3 rfl rfl)
theorem dX5_nameLength_27 : decode cX5_nameLength 27 = .ok (.iload_n 1, 1) := dk_27 (dk_at dksX5_nameLength_1 4 rfl rfl)
theorem dX5_nameLength_28 : decode cX5_nameLength 28 = .ok (.iload_n 2, 1) := dk_28 (dk_at dksX5_nameLength_1 5 rfl rfl)
theorem dX5_nameLength_29 : decode cX5_nameLength 29 = .ok (.invokevirtual 155, 3) := dk_182 0 155 (dk_at dksX5_nameLength_1 6 rfl rfl)
theorem dX5_nameLength_32 : decode cX5_nameLength 32 = .ok (.invokestatic 475, 3) := dk_184 1 219 (dk_at dksX5_nameLength_1 9 rfl rfl)
theorem dX5_nameLength_35 : decode cX5_nameLength 35 = .ok (.ireturn, 1) := dk_172 (dk_at dksX5_nameLength_1 12 rfl rfl)
abbrev cX5_lettersOf : ByteArray := prog_20_method_25_code
def yX5_lettersOf : MethodName := ⟨RX5, "lettersOf", "(J)I"⟩
def dkwX5_lettersOf_1 : List UInt8 := [167, 255, 237, 28, 172]
abbrev dktX5_lettersOf_1 : List UInt8 := dkwX5_lettersOf_1 ++ []
def dkwX5_lettersOf_0 : List UInt8 := [3, 61, 30, 66, 33, 9, 148, 153, 0, 19, 132, 2, 1, 33, 20, 0, 98, 113, 20, 0, 150, 105, 66]
abbrev dktX5_lettersOf_0 : List UInt8 := dkwX5_lettersOf_0 ++ dktX5_lettersOf_1
theorem dksX5_lettersOf_0 : cX5_lettersOf.data.toList.drop 0 = dktX5_lettersOf_0 := by decide +kernel
theorem dksX5_lettersOf_1 : cX5_lettersOf.data.toList.drop 23 = dktX5_lettersOf_1 := dk_seg dksX5_lettersOf_0 23 rfl rfl
theorem dX5_lettersOf_0 : decode cX5_lettersOf 0 = .ok (.iconst 0, 1) := dk_3 (dk_at dksX5_lettersOf_0 0 rfl rfl)
theorem dX5_lettersOf_1 : decode cX5_lettersOf 1 = .ok (.istore_n 2, 1) := dk_61 (dk_at dksX5_lettersOf_0 1 rfl rfl)
theorem dX5_lettersOf_2 : decode cX5_lettersOf 2 = .ok (.lload_n 0, 1) := dk_30 (dk_at dksX5_lettersOf_0 2 rfl rfl)
theorem dX5_lettersOf_3 : decode cX5_lettersOf 3 = .ok (.lstore_n 3, 1) := dk_66 (dk_at dksX5_lettersOf_0 3 rfl rfl)
theorem dX5_lettersOf_4 : decode cX5_lettersOf 4 = .ok (.lload_n 3, 1) := dk_33 (dk_at dksX5_lettersOf_0 4 rfl rfl)
theorem dX5_lettersOf_5 : decode cX5_lettersOf 5 = .ok (.lconst 0, 1) := dk_9 (dk_at dksX5_lettersOf_0 5 rfl rfl)
theorem dX5_lettersOf_6 : decode cX5_lettersOf 6 = .ok (.lcmp, 1) := dk_148 (dk_at dksX5_lettersOf_0 6 rfl rfl)
theorem dX5_lettersOf_7 : decode cX5_lettersOf 7 = .ok (.ifCond .eq 19, 3) := dk_153 0 19 (dk_at dksX5_lettersOf_0 7 rfl rfl)
theorem dX5_lettersOf_10 : decode cX5_lettersOf 10 = .ok (.iinc 2 1, 3) := dk_132 2 1 (dk_at dksX5_lettersOf_0 10 rfl rfl)
theorem dX5_lettersOf_13 : decode cX5_lettersOf 13 = .ok (.lload_n 3, 1) := dk_33 (dk_at dksX5_lettersOf_0 13 rfl rfl)
theorem dX5_lettersOf_14 : decode cX5_lettersOf 14 = .ok (.ldc2_w 98, 3) := dk_20 0 98 (dk_at dksX5_lettersOf_0 14 rfl rfl)
theorem dX5_lettersOf_17 : decode cX5_lettersOf 17 = .ok (.lrem, 1) := dk_113 (dk_at dksX5_lettersOf_0 17 rfl rfl)
theorem dX5_lettersOf_18 : decode cX5_lettersOf 18 = .ok (.ldc2_w 150, 3) := dk_20 0 150 (dk_at dksX5_lettersOf_0 18 rfl rfl)
theorem dX5_lettersOf_21 : decode cX5_lettersOf 21 = .ok (.lmul, 1) := dk_105 (dk_at dksX5_lettersOf_0 21 rfl rfl)
theorem dX5_lettersOf_22 : decode cX5_lettersOf 22 = .ok (.lstore_n 3, 1) := dk_66 (dk_at dksX5_lettersOf_0 22 rfl rfl)
theorem dX5_lettersOf_23 : decode cX5_lettersOf 23 = .ok (.goto (-19), 3) := dk_167 255 237 (dk_at dksX5_lettersOf_1 0 rfl rfl)
theorem dX5_lettersOf_26 : decode cX5_lettersOf 26 = .ok (.iload_n 2, 1) := dk_28 (dk_at dksX5_lettersOf_1 3 rfl rfl)
theorem dX5_lettersOf_27 : decode cX5_lettersOf 27 = .ok (.ireturn, 1) := dk_172 (dk_at dksX5_lettersOf_1 4 rfl rfl)
abbrev cX5_nameLetter : ByteArray := prog_20_method_104_code
def yX5_nameLetter : MethodName := ⟨RX5, "nameLetter", "(III)I"⟩
def dkwX5_nameLetter_1 : List UInt8 := [167, 0, 13, 42, 27, 28, 182, 0, 155, 29, 184, 1, 223, 172]
abbrev dktX5_nameLetter_1 : List UInt8 := dkwX5_nameLetter_1 ++ []
def dkwX5_nameLetter_0 : List UInt8 := [42, 3, 181, 0, 100, 42, 27, 182, 1, 168, 154, 0, 12, 42, 28, 5, 182, 1, 216, 153, 0, 7, 3]
abbrev dktX5_nameLetter_0 : List UInt8 := dkwX5_nameLetter_0 ++ dktX5_nameLetter_1
theorem dksX5_nameLetter_0 : cX5_nameLetter.data.toList.drop 0 = dktX5_nameLetter_0 := by decide +kernel
theorem dksX5_nameLetter_1 : cX5_nameLetter.data.toList.drop 23 = dktX5_nameLetter_1 := dk_seg dksX5_nameLetter_0 23 rfl rfl
theorem dX5_nameLetter_0 : decode cX5_nameLetter 0 = .ok (.aload_n 0, 1) := dk_42 (dk_at dksX5_nameLetter_0 0 rfl rfl)
theorem dX5_nameLetter_1 : decode cX5_nameLetter 1 = .ok (.iconst 0, 1) := dk_3 (dk_at dksX5_nameLetter_0 1 rfl rfl)
theorem dX5_nameLetter_2 : decode cX5_nameLetter 2 = .ok (.putfield 100, 3) := dk_181 0 100 (dk_at dksX5_nameLetter_0 2 rfl rfl)
theorem dX5_nameLetter_5 : decode cX5_nameLetter 5 = .ok (.aload_n 0, 1) := dk_42 (dk_at dksX5_nameLetter_0 5 rfl rfl)
theorem dX5_nameLetter_6 : decode cX5_nameLetter 6 = .ok (.iload_n 1, 1) := dk_27 (dk_at dksX5_nameLetter_0 6 rfl rfl)
theorem dX5_nameLetter_7 : decode cX5_nameLetter 7 = .ok (.invokevirtual 424, 3) := dk_182 1 168 (dk_at dksX5_nameLetter_0 7 rfl rfl)
theorem dX5_nameLetter_10 : decode cX5_nameLetter 10 = .ok (.ifCond .ne 12, 3) := dk_154 0 12 (dk_at dksX5_nameLetter_0 10 rfl rfl)
theorem dX5_nameLetter_13 : decode cX5_nameLetter 13 = .ok (.aload_n 0, 1) := dk_42 (dk_at dksX5_nameLetter_0 13 rfl rfl)
theorem dX5_nameLetter_14 : decode cX5_nameLetter 14 = .ok (.iload_n 2, 1) := dk_28 (dk_at dksX5_nameLetter_0 14 rfl rfl)
theorem dX5_nameLetter_15 : decode cX5_nameLetter 15 = .ok (.iconst 2, 1) := dk_5 (dk_at dksX5_nameLetter_0 15 rfl rfl)
theorem dX5_nameLetter_16 : decode cX5_nameLetter 16 = .ok (.invokevirtual 472, 3) := dk_182 1 216 (dk_at dksX5_nameLetter_0 16 rfl rfl)
theorem dX5_nameLetter_19 : decode cX5_nameLetter 19 = .ok (.ifCond .eq 7, 3) := dk_153 0 7 (dk_at dksX5_nameLetter_0 19 rfl rfl)
theorem dX5_nameLetter_22 : decode cX5_nameLetter 22 = .ok (.iconst 0, 1) := dk_3 (dk_at dksX5_nameLetter_0 22 rfl rfl)
theorem dX5_nameLetter_23 : decode cX5_nameLetter 23 = .ok (.goto 13, 3) := dk_167 0 13 (dk_at dksX5_nameLetter_1 0 rfl rfl)
theorem dX5_nameLetter_26 : decode cX5_nameLetter 26 = .ok (.aload_n 0, 1) := dk_42 (dk_at dksX5_nameLetter_1 3 rfl rfl)
theorem dX5_nameLetter_27 : decode cX5_nameLetter 27 = .ok (.iload_n 1, 1) := dk_27 (dk_at dksX5_nameLetter_1 4 rfl rfl)
theorem dX5_nameLetter_28 : decode cX5_nameLetter 28 = .ok (.iload_n 2, 1) := dk_28 (dk_at dksX5_nameLetter_1 5 rfl rfl)
theorem dX5_nameLetter_29 : decode cX5_nameLetter 29 = .ok (.invokevirtual 155, 3) := dk_182 0 155 (dk_at dksX5_nameLetter_1 6 rfl rfl)
theorem dX5_nameLetter_32 : decode cX5_nameLetter 32 = .ok (.iload_n 3, 1) := dk_29 (dk_at dksX5_nameLetter_1 9 rfl rfl)
theorem dX5_nameLetter_33 : decode cX5_nameLetter 33 = .ok (.invokestatic 479, 3) := dk_184 1 223 (dk_at dksX5_nameLetter_1 10 rfl rfl)
theorem dX5_nameLetter_36 : decode cX5_nameLetter 36 = .ok (.ireturn, 1) := dk_172 (dk_at dksX5_nameLetter_1 13 rfl rfl)
abbrev cX5_letterOf : ByteArray := prog_20_method_26_code
def yX5_letterOf : MethodName := ⟨RX5, "letterOf", "(JI)I"⟩
def dkwX5_letterOf_2 : List UInt8 := [167, 0, 12, 33, 20, 0, 98, 109, 136, 16, 96, 96, 172]
abbrev dktX5_letterOf_2 : List UInt8 := dkwX5_letterOf_2 ++ []
def dkwX5_letterOf_1 : List UInt8 := [20, 0, 98, 113, 20, 0, 150, 105, 66, 132, 5, 1, 167, 255, 237, 33, 20, 0, 98, 148, 156, 0, 7, 3]
abbrev dktX5_letterOf_1 : List UInt8 := dkwX5_letterOf_1 ++ dktX5_letterOf_2
def dkwX5_letterOf_0 : List UInt8 := [28, 3, 16, 6, 184, 0, 103, 154, 0, 5, 3, 172, 30, 66, 3, 54, 5, 21, 5, 28, 162, 0, 19, 33]
abbrev dktX5_letterOf_0 : List UInt8 := dkwX5_letterOf_0 ++ dktX5_letterOf_1
theorem dksX5_letterOf_0 : cX5_letterOf.data.toList.drop 0 = dktX5_letterOf_0 := by decide +kernel
theorem dksX5_letterOf_1 : cX5_letterOf.data.toList.drop 24 = dktX5_letterOf_1 := dk_seg dksX5_letterOf_0 24 rfl rfl
theorem dksX5_letterOf_2 : cX5_letterOf.data.toList.drop 48 = dktX5_letterOf_2 := dk_seg dksX5_letterOf_1 24 rfl rfl
theorem dX5_letterOf_0 : decode cX5_letterOf 0 = .ok (.iload_n 2, 1) := dk_28 (dk_at dksX5_letterOf_0 0 rfl rfl)
theorem dX5_letterOf_1 : decode cX5_letterOf 1 = .ok (.iconst 0, 1) := dk_3 (dk_at dksX5_letterOf_0 1 rfl rfl)
theorem dX5_letterOf_2 : decode cX5_letterOf 2 = .ok (.bipush 6, 2) := dk_16 6 (dk_at dksX5_letterOf_0 2 rfl rfl)
theorem dX5_letterOf_4 : decode cX5_letterOf 4 = .ok (.invokestatic 103, 3) := dk_184 0 103 (dk_at dksX5_letterOf_0 4 rfl rfl)
theorem dX5_letterOf_7 : decode cX5_letterOf 7 = .ok (.ifCond .ne 5, 3) := dk_154 0 5 (dk_at dksX5_letterOf_0 7 rfl rfl)
theorem dX5_letterOf_10 : decode cX5_letterOf 10 = .ok (.iconst 0, 1) := dk_3 (dk_at dksX5_letterOf_0 10 rfl rfl)
theorem dX5_letterOf_11 : decode cX5_letterOf 11 = .ok (.ireturn, 1) := dk_172 (dk_at dksX5_letterOf_0 11 rfl rfl)
theorem dX5_letterOf_12 : decode cX5_letterOf 12 = .ok (.lload_n 0, 1) := dk_30 (dk_at dksX5_letterOf_0 12 rfl rfl)
theorem dX5_letterOf_13 : decode cX5_letterOf 13 = .ok (.lstore_n 3, 1) := dk_66 (dk_at dksX5_letterOf_0 13 rfl rfl)
theorem dX5_letterOf_14 : decode cX5_letterOf 14 = .ok (.iconst 0, 1) := dk_3 (dk_at dksX5_letterOf_0 14 rfl rfl)
theorem dX5_letterOf_15 : decode cX5_letterOf 15 = .ok (.istore 5, 2) := dk_54 5 (dk_at dksX5_letterOf_0 15 rfl rfl)
theorem dX5_letterOf_17 : decode cX5_letterOf 17 = .ok (.iload 5, 2) := dk_21 5 (dk_at dksX5_letterOf_0 17 rfl rfl)
theorem dX5_letterOf_19 : decode cX5_letterOf 19 = .ok (.iload_n 2, 1) := dk_28 (dk_at dksX5_letterOf_0 19 rfl rfl)
theorem dX5_letterOf_20 : decode cX5_letterOf 20 = .ok (.if_icmp .ge 19, 3) := dk_162 0 19 (dk_at dksX5_letterOf_0 20 rfl rfl)
theorem dX5_letterOf_23 : decode cX5_letterOf 23 = .ok (.lload_n 3, 1) := dk_33 (dk_at dksX5_letterOf_0 23 rfl rfl)
theorem dX5_letterOf_24 : decode cX5_letterOf 24 = .ok (.ldc2_w 98, 3) := dk_20 0 98 (dk_at dksX5_letterOf_1 0 rfl rfl)
theorem dX5_letterOf_27 : decode cX5_letterOf 27 = .ok (.lrem, 1) := dk_113 (dk_at dksX5_letterOf_1 3 rfl rfl)
theorem dX5_letterOf_28 : decode cX5_letterOf 28 = .ok (.ldc2_w 150, 3) := dk_20 0 150 (dk_at dksX5_letterOf_1 4 rfl rfl)
theorem dX5_letterOf_31 : decode cX5_letterOf 31 = .ok (.lmul, 1) := dk_105 (dk_at dksX5_letterOf_1 7 rfl rfl)
theorem dX5_letterOf_32 : decode cX5_letterOf 32 = .ok (.lstore_n 3, 1) := dk_66 (dk_at dksX5_letterOf_1 8 rfl rfl)
theorem dX5_letterOf_33 : decode cX5_letterOf 33 = .ok (.iinc 5 1, 3) := dk_132 5 1 (dk_at dksX5_letterOf_1 9 rfl rfl)
theorem dX5_letterOf_36 : decode cX5_letterOf 36 = .ok (.goto (-19), 3) := dk_167 255 237 (dk_at dksX5_letterOf_1 12 rfl rfl)
theorem dX5_letterOf_39 : decode cX5_letterOf 39 = .ok (.lload_n 3, 1) := dk_33 (dk_at dksX5_letterOf_1 15 rfl rfl)
theorem dX5_letterOf_40 : decode cX5_letterOf 40 = .ok (.ldc2_w 98, 3) := dk_20 0 98 (dk_at dksX5_letterOf_1 16 rfl rfl)
theorem dX5_letterOf_43 : decode cX5_letterOf 43 = .ok (.lcmp, 1) := dk_148 (dk_at dksX5_letterOf_1 19 rfl rfl)
theorem dX5_letterOf_44 : decode cX5_letterOf 44 = .ok (.ifCond .ge 7, 3) := dk_156 0 7 (dk_at dksX5_letterOf_1 20 rfl rfl)
theorem dX5_letterOf_47 : decode cX5_letterOf 47 = .ok (.iconst 0, 1) := dk_3 (dk_at dksX5_letterOf_1 23 rfl rfl)
theorem dX5_letterOf_48 : decode cX5_letterOf 48 = .ok (.goto 12, 3) := dk_167 0 12 (dk_at dksX5_letterOf_2 0 rfl rfl)
theorem dX5_letterOf_51 : decode cX5_letterOf 51 = .ok (.lload_n 3, 1) := dk_33 (dk_at dksX5_letterOf_2 3 rfl rfl)
theorem dX5_letterOf_52 : decode cX5_letterOf 52 = .ok (.ldc2_w 98, 3) := dk_20 0 98 (dk_at dksX5_letterOf_2 4 rfl rfl)
theorem dX5_letterOf_55 : decode cX5_letterOf 55 = .ok (.ldiv, 1) := dk_109 (dk_at dksX5_letterOf_2 7 rfl rfl)
theorem dX5_letterOf_56 : decode cX5_letterOf 56 = .ok (.l2i, 1) := dk_136 (dk_at dksX5_letterOf_2 8 rfl rfl)
theorem dX5_letterOf_57 : decode cX5_letterOf 57 = .ok (.bipush 96, 2) := dk_16 96 (dk_at dksX5_letterOf_2 9 rfl rfl)
theorem dX5_letterOf_59 : decode cX5_letterOf 59 = .ok (.iadd, 1) := dk_96 (dk_at dksX5_letterOf_2 11 rfl rfl)
theorem dX5_letterOf_60 : decode cX5_letterOf 60 = .ok (.ireturn, 1) := dk_172 (dk_at dksX5_letterOf_2 12 rfl rfl)
abbrev cX5_movesOf : ByteArray := prog_20_method_107_code
def yX5_movesOf : MethodName := ⟨RX5, "movesOf", "(I)I"⟩
def dkwX5_movesOf_2 : List UInt8 := [3, 96, 61, 132, 3, 1, 167, 255, 227, 28, 172]
abbrev dktX5_movesOf_2 : List UInt8 := dkwX5_movesOf_2 ++ []
def dkwX5_movesOf_1 : List UInt8 := [62, 29, 42, 27, 182, 1, 230, 163, 0, 26, 28, 42, 27, 29, 182, 1, 233, 153, 0, 7, 4, 167, 0, 4]
abbrev dktX5_movesOf_1 : List UInt8 := dkwX5_movesOf_1 ++ dktX5_movesOf_2
def dkwX5_movesOf_0 : List UInt8 := [42, 182, 0, 208, 42, 27, 182, 1, 168, 153, 0, 5, 3, 172, 3, 61, 42, 27, 5, 182, 0, 140, 4, 96]
abbrev dktX5_movesOf_0 : List UInt8 := dkwX5_movesOf_0 ++ dktX5_movesOf_1
theorem dksX5_movesOf_0 : cX5_movesOf.data.toList.drop 0 = dktX5_movesOf_0 := by decide +kernel
theorem dksX5_movesOf_1 : cX5_movesOf.data.toList.drop 24 = dktX5_movesOf_1 := dk_seg dksX5_movesOf_0 24 rfl rfl
theorem dksX5_movesOf_2 : cX5_movesOf.data.toList.drop 48 = dktX5_movesOf_2 := dk_seg dksX5_movesOf_1 24 rfl rfl
theorem dX5_movesOf_0 : decode cX5_movesOf 0 = .ok (.aload_n 0, 1) := dk_42 (dk_at dksX5_movesOf_0 0 rfl rfl)
theorem dX5_movesOf_1 : decode cX5_movesOf 1 = .ok (.invokevirtual 208, 3) := dk_182 0 208 (dk_at dksX5_movesOf_0 1 rfl rfl)
theorem dX5_movesOf_4 : decode cX5_movesOf 4 = .ok (.aload_n 0, 1) := dk_42 (dk_at dksX5_movesOf_0 4 rfl rfl)
theorem dX5_movesOf_5 : decode cX5_movesOf 5 = .ok (.iload_n 1, 1) := dk_27 (dk_at dksX5_movesOf_0 5 rfl rfl)
theorem dX5_movesOf_6 : decode cX5_movesOf 6 = .ok (.invokevirtual 424, 3) := dk_182 1 168 (dk_at dksX5_movesOf_0 6 rfl rfl)
theorem dX5_movesOf_9 : decode cX5_movesOf 9 = .ok (.ifCond .eq 5, 3) := dk_153 0 5 (dk_at dksX5_movesOf_0 9 rfl rfl)
theorem dX5_movesOf_12 : decode cX5_movesOf 12 = .ok (.iconst 0, 1) := dk_3 (dk_at dksX5_movesOf_0 12 rfl rfl)
theorem dX5_movesOf_13 : decode cX5_movesOf 13 = .ok (.ireturn, 1) := dk_172 (dk_at dksX5_movesOf_0 13 rfl rfl)
theorem dX5_movesOf_14 : decode cX5_movesOf 14 = .ok (.iconst 0, 1) := dk_3 (dk_at dksX5_movesOf_0 14 rfl rfl)
theorem dX5_movesOf_15 : decode cX5_movesOf 15 = .ok (.istore_n 2, 1) := dk_61 (dk_at dksX5_movesOf_0 15 rfl rfl)
theorem dX5_movesOf_16 : decode cX5_movesOf 16 = .ok (.aload_n 0, 1) := dk_42 (dk_at dksX5_movesOf_0 16 rfl rfl)
theorem dX5_movesOf_17 : decode cX5_movesOf 17 = .ok (.iload_n 1, 1) := dk_27 (dk_at dksX5_movesOf_0 17 rfl rfl)
theorem dX5_movesOf_18 : decode cX5_movesOf 18 = .ok (.iconst 2, 1) := dk_5 (dk_at dksX5_movesOf_0 18 rfl rfl)
theorem dX5_movesOf_19 : decode cX5_movesOf 19 = .ok (.invokevirtual 140, 3) := dk_182 0 140 (dk_at dksX5_movesOf_0 19 rfl rfl)
theorem dX5_movesOf_22 : decode cX5_movesOf 22 = .ok (.iconst 1, 1) := dk_4 (dk_at dksX5_movesOf_0 22 rfl rfl)
theorem dX5_movesOf_23 : decode cX5_movesOf 23 = .ok (.iadd, 1) := dk_96 (dk_at dksX5_movesOf_0 23 rfl rfl)
theorem dX5_movesOf_24 : decode cX5_movesOf 24 = .ok (.istore_n 3, 1) := dk_62 (dk_at dksX5_movesOf_1 0 rfl rfl)
theorem dX5_movesOf_25 : decode cX5_movesOf 25 = .ok (.iload_n 3, 1) := dk_29 (dk_at dksX5_movesOf_1 1 rfl rfl)
theorem dX5_movesOf_26 : decode cX5_movesOf 26 = .ok (.aload_n 0, 1) := dk_42 (dk_at dksX5_movesOf_1 2 rfl rfl)
theorem dX5_movesOf_27 : decode cX5_movesOf 27 = .ok (.iload_n 1, 1) := dk_27 (dk_at dksX5_movesOf_1 3 rfl rfl)
theorem dX5_movesOf_28 : decode cX5_movesOf 28 = .ok (.invokevirtual 486, 3) := dk_182 1 230 (dk_at dksX5_movesOf_1 4 rfl rfl)
theorem dX5_movesOf_31 : decode cX5_movesOf 31 = .ok (.if_icmp .gt 26, 3) := dk_163 0 26 (dk_at dksX5_movesOf_1 7 rfl rfl)
theorem dX5_movesOf_34 : decode cX5_movesOf 34 = .ok (.iload_n 2, 1) := dk_28 (dk_at dksX5_movesOf_1 10 rfl rfl)
theorem dX5_movesOf_35 : decode cX5_movesOf 35 = .ok (.aload_n 0, 1) := dk_42 (dk_at dksX5_movesOf_1 11 rfl rfl)
theorem dX5_movesOf_36 : decode cX5_movesOf 36 = .ok (.iload_n 1, 1) := dk_27 (dk_at dksX5_movesOf_1 12 rfl rfl)
theorem dX5_movesOf_37 : decode cX5_movesOf 37 = .ok (.iload_n 3, 1) := dk_29 (dk_at dksX5_movesOf_1 13 rfl rfl)
theorem dX5_movesOf_38 : decode cX5_movesOf 38 = .ok (.invokevirtual 489, 3) := dk_182 1 233 (dk_at dksX5_movesOf_1 14 rfl rfl)
theorem dX5_movesOf_41 : decode cX5_movesOf 41 = .ok (.ifCond .eq 7, 3) := dk_153 0 7 (dk_at dksX5_movesOf_1 17 rfl rfl)
theorem dX5_movesOf_44 : decode cX5_movesOf 44 = .ok (.iconst 1, 1) := dk_4 (dk_at dksX5_movesOf_1 20 rfl rfl)
theorem dX5_movesOf_45 : decode cX5_movesOf 45 = .ok (.goto 4, 3) := dk_167 0 4 (dk_at dksX5_movesOf_1 21 rfl rfl)
theorem dX5_movesOf_48 : decode cX5_movesOf 48 = .ok (.iconst 0, 1) := dk_3 (dk_at dksX5_movesOf_2 0 rfl rfl)
theorem dX5_movesOf_49 : decode cX5_movesOf 49 = .ok (.iadd, 1) := dk_96 (dk_at dksX5_movesOf_2 1 rfl rfl)
theorem dX5_movesOf_50 : decode cX5_movesOf 50 = .ok (.istore_n 2, 1) := dk_61 (dk_at dksX5_movesOf_2 2 rfl rfl)
theorem dX5_movesOf_51 : decode cX5_movesOf 51 = .ok (.iinc 3 1, 3) := dk_132 3 1 (dk_at dksX5_movesOf_2 3 rfl rfl)
theorem dX5_movesOf_54 : decode cX5_movesOf 54 = .ok (.goto (-29), 3) := dk_167 255 227 (dk_at dksX5_movesOf_2 6 rfl rfl)
theorem dX5_movesOf_57 : decode cX5_movesOf 57 = .ok (.iload_n 2, 1) := dk_28 (dk_at dksX5_movesOf_2 9 rfl rfl)
theorem dX5_movesOf_58 : decode cX5_movesOf 58 = .ok (.ireturn, 1) := dk_172 (dk_at dksX5_movesOf_2 10 rfl rfl)
abbrev cX5_lastLived : ByteArray := prog_20_method_106_code
def yX5_lastLived : MethodName := ⟨RX5, "lastLived", "(I)I"⟩
def dkwX5_lastLived_0 : List UInt8 := [42, 180, 0, 7, 16, 6, 46, 42, 27, 6, 182, 0, 140, 4, 100, 184, 1, 227, 172]
abbrev dktX5_lastLived_0 : List UInt8 := dkwX5_lastLived_0 ++ []
theorem dksX5_lastLived_0 : cX5_lastLived.data.toList.drop 0 = dktX5_lastLived_0 := by decide +kernel
theorem dX5_lastLived_0 : decode cX5_lastLived 0 = .ok (.aload_n 0, 1) := dk_42 (dk_at dksX5_lastLived_0 0 rfl rfl)
theorem dX5_lastLived_1 : decode cX5_lastLived 1 = .ok (.getfield 7, 3) := dk_180 0 7 (dk_at dksX5_lastLived_0 1 rfl rfl)
theorem dX5_lastLived_4 : decode cX5_lastLived 4 = .ok (.bipush 6, 2) := dk_16 6 (dk_at dksX5_lastLived_0 4 rfl rfl)
theorem dX5_lastLived_6 : decode cX5_lastLived 6 = .ok (.iaload, 1) := dk_46 (dk_at dksX5_lastLived_0 6 rfl rfl)
theorem dX5_lastLived_7 : decode cX5_lastLived 7 = .ok (.aload_n 0, 1) := dk_42 (dk_at dksX5_lastLived_0 7 rfl rfl)
theorem dX5_lastLived_8 : decode cX5_lastLived 8 = .ok (.iload_n 1, 1) := dk_27 (dk_at dksX5_lastLived_0 8 rfl rfl)
theorem dX5_lastLived_9 : decode cX5_lastLived 9 = .ok (.iconst 3, 1) := dk_6 (dk_at dksX5_lastLived_0 9 rfl rfl)
theorem dX5_lastLived_10 : decode cX5_lastLived 10 = .ok (.invokevirtual 140, 3) := dk_182 0 140 (dk_at dksX5_lastLived_0 10 rfl rfl)
theorem dX5_lastLived_13 : decode cX5_lastLived 13 = .ok (.iconst 1, 1) := dk_4 (dk_at dksX5_lastLived_0 13 rfl rfl)
theorem dX5_lastLived_14 : decode cX5_lastLived 14 = .ok (.isub, 1) := dk_100 (dk_at dksX5_lastLived_0 14 rfl rfl)
theorem dX5_lastLived_15 : decode cX5_lastLived 15 = .ok (.invokestatic 483, 3) := dk_184 1 227 (dk_at dksX5_lastLived_0 15 rfl rfl)
theorem dX5_lastLived_18 : decode cX5_lastLived 18 = .ok (.ireturn, 1) := dk_172 (dk_at dksX5_lastLived_0 18 rfl rfl)
abbrev cX5_movesIn : ByteArray := prog_20_method_105_code
def yX5_movesIn : MethodName := ⟨RX5, "movesIn", "(II)Z"⟩
def dkwX5_movesIn_0 : List UInt8 := [42, 27, 28, 182, 0, 181, 42, 27, 28, 4, 100, 182, 0, 181, 159, 0, 7, 4, 167, 0, 4, 3, 172]
abbrev dktX5_movesIn_0 : List UInt8 := dkwX5_movesIn_0 ++ []
theorem dksX5_movesIn_0 : cX5_movesIn.data.toList.drop 0 = dktX5_movesIn_0 := by decide +kernel
theorem dX5_movesIn_0 : decode cX5_movesIn 0 = .ok (.aload_n 0, 1) := dk_42 (dk_at dksX5_movesIn_0 0 rfl rfl)
theorem dX5_movesIn_1 : decode cX5_movesIn 1 = .ok (.iload_n 1, 1) := dk_27 (dk_at dksX5_movesIn_0 1 rfl rfl)
theorem dX5_movesIn_2 : decode cX5_movesIn 2 = .ok (.iload_n 2, 1) := dk_28 (dk_at dksX5_movesIn_0 2 rfl rfl)
theorem dX5_movesIn_3 : decode cX5_movesIn 3 = .ok (.invokevirtual 181, 3) := dk_182 0 181 (dk_at dksX5_movesIn_0 3 rfl rfl)
theorem dX5_movesIn_6 : decode cX5_movesIn 6 = .ok (.aload_n 0, 1) := dk_42 (dk_at dksX5_movesIn_0 6 rfl rfl)
theorem dX5_movesIn_7 : decode cX5_movesIn 7 = .ok (.iload_n 1, 1) := dk_27 (dk_at dksX5_movesIn_0 7 rfl rfl)
theorem dX5_movesIn_8 : decode cX5_movesIn 8 = .ok (.iload_n 2, 1) := dk_28 (dk_at dksX5_movesIn_0 8 rfl rfl)
theorem dX5_movesIn_9 : decode cX5_movesIn 9 = .ok (.iconst 1, 1) := dk_4 (dk_at dksX5_movesIn_0 9 rfl rfl)
theorem dX5_movesIn_10 : decode cX5_movesIn 10 = .ok (.isub, 1) := dk_100 (dk_at dksX5_movesIn_0 10 rfl rfl)
theorem dX5_movesIn_11 : decode cX5_movesIn 11 = .ok (.invokevirtual 181, 3) := dk_182 0 181 (dk_at dksX5_movesIn_0 11 rfl rfl)
theorem dX5_movesIn_14 : decode cX5_movesIn 14 = .ok (.if_icmp .eq 7, 3) := dk_159 0 7 (dk_at dksX5_movesIn_0 14 rfl rfl)
theorem dX5_movesIn_17 : decode cX5_movesIn 17 = .ok (.iconst 1, 1) := dk_4 (dk_at dksX5_movesIn_0 17 rfl rfl)
theorem dX5_movesIn_18 : decode cX5_movesIn 18 = .ok (.goto 4, 3) := dk_167 0 4 (dk_at dksX5_movesIn_0 18 rfl rfl)
theorem dX5_movesIn_21 : decode cX5_movesIn 21 = .ok (.iconst 0, 1) := dk_3 (dk_at dksX5_movesIn_0 21 rfl rfl)
theorem dX5_movesIn_22 : decode cX5_movesIn 22 = .ok (.ireturn, 1) := dk_172 (dk_at dksX5_movesIn_0 22 rfl rfl)
abbrev cX5_lastMove : ByteArray := prog_20_method_108_code
def yX5_lastMove : MethodName := ⟨RX5, "lastMove", "(I)I"⟩
def dkwX5_lastMove_2 : List UInt8 := [172]
abbrev dktX5_lastMove_2 : List UInt8 := dkwX5_lastMove_2 ++ []
def dkwX5_lastMove_1 : List UInt8 := [182, 0, 140, 164, 0, 20, 42, 27, 28, 182, 1, 233, 153, 0, 5, 28, 172, 132, 2, 255, 167, 255, 232, 2]
abbrev dktX5_lastMove_1 : List UInt8 := dkwX5_lastMove_1 ++ dktX5_lastMove_2
def dkwX5_lastMove_0 : List UInt8 := [42, 182, 0, 208, 42, 27, 182, 1, 168, 153, 0, 5, 3, 172, 42, 27, 182, 1, 230, 61, 28, 42, 27, 5]
abbrev dktX5_lastMove_0 : List UInt8 := dkwX5_lastMove_0 ++ dktX5_lastMove_1
theorem dksX5_lastMove_0 : cX5_lastMove.data.toList.drop 0 = dktX5_lastMove_0 := by decide +kernel
theorem dksX5_lastMove_1 : cX5_lastMove.data.toList.drop 24 = dktX5_lastMove_1 := dk_seg dksX5_lastMove_0 24 rfl rfl
theorem dksX5_lastMove_2 : cX5_lastMove.data.toList.drop 48 = dktX5_lastMove_2 := dk_seg dksX5_lastMove_1 24 rfl rfl
theorem dX5_lastMove_0 : decode cX5_lastMove 0 = .ok (.aload_n 0, 1) := dk_42 (dk_at dksX5_lastMove_0 0 rfl rfl)
theorem dX5_lastMove_1 : decode cX5_lastMove 1 = .ok (.invokevirtual 208, 3) := dk_182 0 208 (dk_at dksX5_lastMove_0 1 rfl rfl)
theorem dX5_lastMove_4 : decode cX5_lastMove 4 = .ok (.aload_n 0, 1) := dk_42 (dk_at dksX5_lastMove_0 4 rfl rfl)
theorem dX5_lastMove_5 : decode cX5_lastMove 5 = .ok (.iload_n 1, 1) := dk_27 (dk_at dksX5_lastMove_0 5 rfl rfl)
theorem dX5_lastMove_6 : decode cX5_lastMove 6 = .ok (.invokevirtual 424, 3) := dk_182 1 168 (dk_at dksX5_lastMove_0 6 rfl rfl)
theorem dX5_lastMove_9 : decode cX5_lastMove 9 = .ok (.ifCond .eq 5, 3) := dk_153 0 5 (dk_at dksX5_lastMove_0 9 rfl rfl)
theorem dX5_lastMove_12 : decode cX5_lastMove 12 = .ok (.iconst 0, 1) := dk_3 (dk_at dksX5_lastMove_0 12 rfl rfl)
theorem dX5_lastMove_13 : decode cX5_lastMove 13 = .ok (.ireturn, 1) := dk_172 (dk_at dksX5_lastMove_0 13 rfl rfl)
theorem dX5_lastMove_14 : decode cX5_lastMove 14 = .ok (.aload_n 0, 1) := dk_42 (dk_at dksX5_lastMove_0 14 rfl rfl)
theorem dX5_lastMove_15 : decode cX5_lastMove 15 = .ok (.iload_n 1, 1) := dk_27 (dk_at dksX5_lastMove_0 15 rfl rfl)
theorem dX5_lastMove_16 : decode cX5_lastMove 16 = .ok (.invokevirtual 486, 3) := dk_182 1 230 (dk_at dksX5_lastMove_0 16 rfl rfl)
theorem dX5_lastMove_19 : decode cX5_lastMove 19 = .ok (.istore_n 2, 1) := dk_61 (dk_at dksX5_lastMove_0 19 rfl rfl)
theorem dX5_lastMove_20 : decode cX5_lastMove 20 = .ok (.iload_n 2, 1) := dk_28 (dk_at dksX5_lastMove_0 20 rfl rfl)
theorem dX5_lastMove_21 : decode cX5_lastMove 21 = .ok (.aload_n 0, 1) := dk_42 (dk_at dksX5_lastMove_0 21 rfl rfl)
theorem dX5_lastMove_22 : decode cX5_lastMove 22 = .ok (.iload_n 1, 1) := dk_27 (dk_at dksX5_lastMove_0 22 rfl rfl)
theorem dX5_lastMove_23 : decode cX5_lastMove 23 = .ok (.iconst 2, 1) := dk_5 (dk_at dksX5_lastMove_0 23 rfl rfl)
theorem dX5_lastMove_24 : decode cX5_lastMove 24 = .ok (.invokevirtual 140, 3) := dk_182 0 140 (dk_at dksX5_lastMove_1 0 rfl rfl)
theorem dX5_lastMove_27 : decode cX5_lastMove 27 = .ok (.if_icmp .le 20, 3) := dk_164 0 20 (dk_at dksX5_lastMove_1 3 rfl rfl)
theorem dX5_lastMove_30 : decode cX5_lastMove 30 = .ok (.aload_n 0, 1) := dk_42 (dk_at dksX5_lastMove_1 6 rfl rfl)
theorem dX5_lastMove_31 : decode cX5_lastMove 31 = .ok (.iload_n 1, 1) := dk_27 (dk_at dksX5_lastMove_1 7 rfl rfl)
theorem dX5_lastMove_32 : decode cX5_lastMove 32 = .ok (.iload_n 2, 1) := dk_28 (dk_at dksX5_lastMove_1 8 rfl rfl)
theorem dX5_lastMove_33 : decode cX5_lastMove 33 = .ok (.invokevirtual 489, 3) := dk_182 1 233 (dk_at dksX5_lastMove_1 9 rfl rfl)
theorem dX5_lastMove_36 : decode cX5_lastMove 36 = .ok (.ifCond .eq 5, 3) := dk_153 0 5 (dk_at dksX5_lastMove_1 12 rfl rfl)
theorem dX5_lastMove_39 : decode cX5_lastMove 39 = .ok (.iload_n 2, 1) := dk_28 (dk_at dksX5_lastMove_1 15 rfl rfl)
theorem dX5_lastMove_40 : decode cX5_lastMove 40 = .ok (.ireturn, 1) := dk_172 (dk_at dksX5_lastMove_1 16 rfl rfl)
theorem dX5_lastMove_41 : decode cX5_lastMove 41 = .ok (.iinc 2 (-1), 3) := dk_132 2 255 (dk_at dksX5_lastMove_1 17 rfl rfl)
theorem dX5_lastMove_44 : decode cX5_lastMove 44 = .ok (.goto (-24), 3) := dk_167 255 232 (dk_at dksX5_lastMove_1 20 rfl rfl)
theorem dX5_lastMove_47 : decode cX5_lastMove 47 = .ok (.iconst (-1), 1) := dk_2 (dk_at dksX5_lastMove_1 23 rfl rfl)
theorem dX5_lastMove_48 : decode cX5_lastMove 48 = .ok (.ireturn, 1) := dk_172 (dk_at dksX5_lastMove_2 0 rfl rfl)
abbrev cX5_villagesIn : ByteArray := prog_20_method_109_code
def yX5_villagesIn : MethodName := ⟨RX5, "villagesIn", "(II)I"⟩
def dkwX5_villagesIn_1 : List UInt8 := [167, 0, 9, 42, 27, 28, 182, 1, 198, 172]
abbrev dktX5_villagesIn_1 : List UInt8 := dkwX5_villagesIn_1 ++ []
def dkwX5_villagesIn_0 : List UInt8 := [42, 182, 0, 208, 42, 27, 182, 1, 186, 154, 0, 12, 42, 28, 5, 182, 1, 216, 153, 0, 7, 3]
abbrev dktX5_villagesIn_0 : List UInt8 := dkwX5_villagesIn_0 ++ dktX5_villagesIn_1
theorem dksX5_villagesIn_0 : cX5_villagesIn.data.toList.drop 0 = dktX5_villagesIn_0 := by decide +kernel
theorem dksX5_villagesIn_1 : cX5_villagesIn.data.toList.drop 22 = dktX5_villagesIn_1 := dk_seg dksX5_villagesIn_0 22 rfl rfl
theorem dX5_villagesIn_0 : decode cX5_villagesIn 0 = .ok (.aload_n 0, 1) := dk_42 (dk_at dksX5_villagesIn_0 0 rfl rfl)
theorem dX5_villagesIn_1 : decode cX5_villagesIn 1 = .ok (.invokevirtual 208, 3) := dk_182 0 208 (dk_at dksX5_villagesIn_0 1 rfl rfl)
theorem dX5_villagesIn_4 : decode cX5_villagesIn 4 = .ok (.aload_n 0, 1) := dk_42 (dk_at dksX5_villagesIn_0 4 rfl rfl)
theorem dX5_villagesIn_5 : decode cX5_villagesIn 5 = .ok (.iload_n 1, 1) := dk_27 (dk_at dksX5_villagesIn_0 5 rfl rfl)
theorem dX5_villagesIn_6 : decode cX5_villagesIn 6 = .ok (.invokevirtual 442, 3) := dk_182 1 186 (dk_at dksX5_villagesIn_0 6 rfl rfl)
theorem dX5_villagesIn_9 : decode cX5_villagesIn 9 = .ok (.ifCond .ne 12, 3) := dk_154 0 12 (dk_at dksX5_villagesIn_0 9 rfl rfl)
theorem dX5_villagesIn_12 : decode cX5_villagesIn 12 = .ok (.aload_n 0, 1) := dk_42 (dk_at dksX5_villagesIn_0 12 rfl rfl)
theorem dX5_villagesIn_13 : decode cX5_villagesIn 13 = .ok (.iload_n 2, 1) := dk_28 (dk_at dksX5_villagesIn_0 13 rfl rfl)
theorem dX5_villagesIn_14 : decode cX5_villagesIn 14 = .ok (.iconst 2, 1) := dk_5 (dk_at dksX5_villagesIn_0 14 rfl rfl)
theorem dX5_villagesIn_15 : decode cX5_villagesIn 15 = .ok (.invokevirtual 472, 3) := dk_182 1 216 (dk_at dksX5_villagesIn_0 15 rfl rfl)
theorem dX5_villagesIn_18 : decode cX5_villagesIn 18 = .ok (.ifCond .eq 7, 3) := dk_153 0 7 (dk_at dksX5_villagesIn_0 18 rfl rfl)
theorem dX5_villagesIn_21 : decode cX5_villagesIn 21 = .ok (.iconst 0, 1) := dk_3 (dk_at dksX5_villagesIn_0 21 rfl rfl)
theorem dX5_villagesIn_22 : decode cX5_villagesIn 22 = .ok (.goto 9, 3) := dk_167 0 9 (dk_at dksX5_villagesIn_1 0 rfl rfl)
theorem dX5_villagesIn_25 : decode cX5_villagesIn 25 = .ok (.aload_n 0, 1) := dk_42 (dk_at dksX5_villagesIn_1 3 rfl rfl)
theorem dX5_villagesIn_26 : decode cX5_villagesIn 26 = .ok (.iload_n 1, 1) := dk_27 (dk_at dksX5_villagesIn_1 4 rfl rfl)
theorem dX5_villagesIn_27 : decode cX5_villagesIn 27 = .ok (.iload_n 2, 1) := dk_28 (dk_at dksX5_villagesIn_1 5 rfl rfl)
theorem dX5_villagesIn_28 : decode cX5_villagesIn 28 = .ok (.invokevirtual 454, 3) := dk_182 1 198 (dk_at dksX5_villagesIn_1 6 rfl rfl)
theorem dX5_villagesIn_31 : decode cX5_villagesIn 31 = .ok (.ireturn, 1) := dk_172 (dk_at dksX5_villagesIn_1 9 rfl rfl)
abbrev cX5_movedBetween : ByteArray := prog_20_method_110_code
def yX5_movedBetween : MethodName := ⟨RX5, "movedBetween", "(II)I"⟩
def dkwX5_movedBetween_2 : List UInt8 := [182, 0, 188, 153, 0, 10, 4, 21, 4, 120, 167, 0, 4, 3, 128, 62, 132, 4, 1, 167, 255, 220, 29, 172]
abbrev dktX5_movedBetween_2 : List UInt8 := dkwX5_movedBetween_2 ++ []
def dkwX5_movedBetween_1 : List UInt8 := [3, 62, 3, 54, 4, 21, 4, 42, 180, 0, 7, 6, 46, 162, 0, 31, 29, 42, 21, 4, 27, 28]
abbrev dktX5_movedBetween_1 : List UInt8 := dkwX5_movedBetween_1 ++ dktX5_movedBetween_2
def dkwX5_movedBetween_0 : List UInt8 := [42, 182, 0, 208, 42, 27, 4, 182, 1, 216, 154, 0, 12, 42, 28, 4, 182, 1, 216, 153, 0, 5, 3, 172]
abbrev dktX5_movedBetween_0 : List UInt8 := dkwX5_movedBetween_0 ++ dktX5_movedBetween_1
theorem dksX5_movedBetween_0 : cX5_movedBetween.data.toList.drop 0 = dktX5_movedBetween_0 := by decide +kernel
theorem dksX5_movedBetween_1 : cX5_movedBetween.data.toList.drop 24 = dktX5_movedBetween_1 := dk_seg dksX5_movedBetween_0 24 rfl rfl
theorem dksX5_movedBetween_2 : cX5_movedBetween.data.toList.drop 46 = dktX5_movedBetween_2 := dk_seg dksX5_movedBetween_1 22 rfl rfl
theorem dX5_movedBetween_0 : decode cX5_movedBetween 0 = .ok (.aload_n 0, 1) := dk_42 (dk_at dksX5_movedBetween_0 0 rfl rfl)
theorem dX5_movedBetween_1 : decode cX5_movedBetween 1 = .ok (.invokevirtual 208, 3) := dk_182 0 208 (dk_at dksX5_movedBetween_0 1 rfl rfl)
theorem dX5_movedBetween_4 : decode cX5_movedBetween 4 = .ok (.aload_n 0, 1) := dk_42 (dk_at dksX5_movedBetween_0 4 rfl rfl)
theorem dX5_movedBetween_5 : decode cX5_movedBetween 5 = .ok (.iload_n 1, 1) := dk_27 (dk_at dksX5_movedBetween_0 5 rfl rfl)
theorem dX5_movedBetween_6 : decode cX5_movedBetween 6 = .ok (.iconst 1, 1) := dk_4 (dk_at dksX5_movedBetween_0 6 rfl rfl)
theorem dX5_movedBetween_7 : decode cX5_movedBetween 7 = .ok (.invokevirtual 472, 3) := dk_182 1 216 (dk_at dksX5_movedBetween_0 7 rfl rfl)
theorem dX5_movedBetween_10 : decode cX5_movedBetween 10 = .ok (.ifCond .ne 12, 3) := dk_154 0 12 (dk_at dksX5_movedBetween_0 10 rfl rfl)
theorem dX5_movedBetween_13 : decode cX5_movedBetween 13 = .ok (.aload_n 0, 1) := dk_42 (dk_at dksX5_movedBetween_0 13 rfl rfl)
theorem dX5_movedBetween_14 : decode cX5_movedBetween 14 = .ok (.iload_n 2, 1) := dk_28 (dk_at dksX5_movedBetween_0 14 rfl rfl)
theorem dX5_movedBetween_15 : decode cX5_movedBetween 15 = .ok (.iconst 1, 1) := dk_4 (dk_at dksX5_movedBetween_0 15 rfl rfl)
theorem dX5_movedBetween_16 : decode cX5_movedBetween 16 = .ok (.invokevirtual 472, 3) := dk_182 1 216 (dk_at dksX5_movedBetween_0 16 rfl rfl)
theorem dX5_movedBetween_19 : decode cX5_movedBetween 19 = .ok (.ifCond .eq 5, 3) := dk_153 0 5 (dk_at dksX5_movedBetween_0 19 rfl rfl)
theorem dX5_movedBetween_22 : decode cX5_movedBetween 22 = .ok (.iconst 0, 1) := dk_3 (dk_at dksX5_movedBetween_0 22 rfl rfl)
theorem dX5_movedBetween_23 : decode cX5_movedBetween 23 = .ok (.ireturn, 1) := dk_172 (dk_at dksX5_movedBetween_0 23 rfl rfl)
theorem dX5_movedBetween_24 : decode cX5_movedBetween 24 = .ok (.iconst 0, 1) := dk_3 (dk_at dksX5_movedBetween_1 0 rfl rfl)
theorem dX5_movedBetween_25 : decode cX5_movedBetween 25 = .ok (.istore_n 3, 1) := dk_62 (dk_at dksX5_movedBetween_1 1 rfl rfl)
theorem dX5_movedBetween_26 : decode cX5_movedBetween 26 = .ok (.iconst 0, 1) := dk_3 (dk_at dksX5_movedBetween_1 2 rfl rfl)
theorem dX5_movedBetween_27 : decode cX5_movedBetween 27 = .ok (.istore 4, 2) := dk_54 4 (dk_at dksX5_movedBetween_1 3 rfl rfl)
theorem dX5_movedBetween_29 : decode cX5_movedBetween 29 = .ok (.iload 4, 2) := dk_21 4 (dk_at dksX5_movedBetween_1 5 rfl rfl)
theorem dX5_movedBetween_31 : decode cX5_movedBetween 31 = .ok (.aload_n 0, 1) := dk_42 (dk_at dksX5_movedBetween_1 7 rfl rfl)
theorem dX5_movedBetween_32 : decode cX5_movedBetween 32 = .ok (.getfield 7, 3) := dk_180 0 7 (dk_at dksX5_movedBetween_1 8 rfl rfl)
theorem dX5_movedBetween_35 : decode cX5_movedBetween 35 = .ok (.iconst 3, 1) := dk_6 (dk_at dksX5_movedBetween_1 11 rfl rfl)
theorem dX5_movedBetween_36 : decode cX5_movedBetween 36 = .ok (.iaload, 1) := dk_46 (dk_at dksX5_movedBetween_1 12 rfl rfl)
theorem dX5_movedBetween_37 : decode cX5_movedBetween 37 = .ok (.if_icmp .ge 31, 3) := dk_162 0 31 (dk_at dksX5_movedBetween_1 13 rfl rfl)
theorem dX5_movedBetween_40 : decode cX5_movedBetween 40 = .ok (.iload_n 3, 1) := dk_29 (dk_at dksX5_movedBetween_1 16 rfl rfl)
theorem dX5_movedBetween_41 : decode cX5_movedBetween 41 = .ok (.aload_n 0, 1) := dk_42 (dk_at dksX5_movedBetween_1 17 rfl rfl)
theorem dX5_movedBetween_42 : decode cX5_movedBetween 42 = .ok (.iload 4, 2) := dk_21 4 (dk_at dksX5_movedBetween_1 18 rfl rfl)
theorem dX5_movedBetween_44 : decode cX5_movedBetween 44 = .ok (.iload_n 1, 1) := dk_27 (dk_at dksX5_movedBetween_1 20 rfl rfl)
theorem dX5_movedBetween_45 : decode cX5_movedBetween 45 = .ok (.iload_n 2, 1) := dk_28 (dk_at dksX5_movedBetween_1 21 rfl rfl)
theorem dX5_movedBetween_46 : decode cX5_movedBetween 46 = .ok (.invokevirtual 188, 3) := dk_182 0 188 (dk_at dksX5_movedBetween_2 0 rfl rfl)
theorem dX5_movedBetween_49 : decode cX5_movedBetween 49 = .ok (.ifCond .eq 10, 3) := dk_153 0 10 (dk_at dksX5_movedBetween_2 3 rfl rfl)
theorem dX5_movedBetween_52 : decode cX5_movedBetween 52 = .ok (.iconst 1, 1) := dk_4 (dk_at dksX5_movedBetween_2 6 rfl rfl)
theorem dX5_movedBetween_53 : decode cX5_movedBetween 53 = .ok (.iload 4, 2) := dk_21 4 (dk_at dksX5_movedBetween_2 7 rfl rfl)
theorem dX5_movedBetween_55 : decode cX5_movedBetween 55 = .ok (.ishl, 1) := dk_120 (dk_at dksX5_movedBetween_2 9 rfl rfl)
theorem dX5_movedBetween_56 : decode cX5_movedBetween 56 = .ok (.goto 4, 3) := dk_167 0 4 (dk_at dksX5_movedBetween_2 10 rfl rfl)
theorem dX5_movedBetween_59 : decode cX5_movedBetween 59 = .ok (.iconst 0, 1) := dk_3 (dk_at dksX5_movedBetween_2 13 rfl rfl)
theorem dX5_movedBetween_60 : decode cX5_movedBetween 60 = .ok (.ior, 1) := dk_128 (dk_at dksX5_movedBetween_2 14 rfl rfl)
theorem dX5_movedBetween_61 : decode cX5_movedBetween 61 = .ok (.istore_n 3, 1) := dk_62 (dk_at dksX5_movedBetween_2 15 rfl rfl)
theorem dX5_movedBetween_62 : decode cX5_movedBetween 62 = .ok (.iinc 4 1, 3) := dk_132 4 1 (dk_at dksX5_movedBetween_2 16 rfl rfl)
theorem dX5_movedBetween_65 : decode cX5_movedBetween 65 = .ok (.goto (-36), 3) := dk_167 255 220 (dk_at dksX5_movedBetween_2 19 rfl rfl)
theorem dX5_movedBetween_68 : decode cX5_movedBetween 68 = .ok (.iload_n 3, 1) := dk_29 (dk_at dksX5_movedBetween_2 22 rfl rfl)
theorem dX5_movedBetween_69 : decode cX5_movedBetween 69 = .ok (.ireturn, 1) := dk_172 (dk_at dksX5_movedBetween_2 23 rfl rfl)
abbrev cX5_nextMove : ByteArray := prog_20_method_111_code
def yX5_nextMove : MethodName := ⟨RX5, "nextMove", "(I)I"⟩
def dkwX5_nextMove_2 : List UInt8 := [2, 172]
abbrev dktX5_nextMove_2 : List UInt8 := dkwX5_nextMove_2 ++ []
def dkwX5_nextMove_1 : List UInt8 := [28, 17, 3, 231, 163, 0, 20, 42, 27, 28, 182, 1, 233, 153, 0, 5, 28, 172, 132, 2, 1, 167, 255, 235]
abbrev dktX5_nextMove_1 : List UInt8 := dkwX5_nextMove_1 ++ dktX5_nextMove_2
def dkwX5_nextMove_0 : List UInt8 := [42, 182, 0, 208, 42, 27, 182, 1, 168, 153, 0, 5, 3, 172, 42, 180, 0, 7, 16, 6, 46, 4, 96, 61]
abbrev dktX5_nextMove_0 : List UInt8 := dkwX5_nextMove_0 ++ dktX5_nextMove_1
theorem dksX5_nextMove_0 : cX5_nextMove.data.toList.drop 0 = dktX5_nextMove_0 := by decide +kernel
theorem dksX5_nextMove_1 : cX5_nextMove.data.toList.drop 24 = dktX5_nextMove_1 := dk_seg dksX5_nextMove_0 24 rfl rfl
theorem dksX5_nextMove_2 : cX5_nextMove.data.toList.drop 48 = dktX5_nextMove_2 := dk_seg dksX5_nextMove_1 24 rfl rfl
theorem dX5_nextMove_0 : decode cX5_nextMove 0 = .ok (.aload_n 0, 1) := dk_42 (dk_at dksX5_nextMove_0 0 rfl rfl)
theorem dX5_nextMove_1 : decode cX5_nextMove 1 = .ok (.invokevirtual 208, 3) := dk_182 0 208 (dk_at dksX5_nextMove_0 1 rfl rfl)
theorem dX5_nextMove_4 : decode cX5_nextMove 4 = .ok (.aload_n 0, 1) := dk_42 (dk_at dksX5_nextMove_0 4 rfl rfl)
theorem dX5_nextMove_5 : decode cX5_nextMove 5 = .ok (.iload_n 1, 1) := dk_27 (dk_at dksX5_nextMove_0 5 rfl rfl)
theorem dX5_nextMove_6 : decode cX5_nextMove 6 = .ok (.invokevirtual 424, 3) := dk_182 1 168 (dk_at dksX5_nextMove_0 6 rfl rfl)
theorem dX5_nextMove_9 : decode cX5_nextMove 9 = .ok (.ifCond .eq 5, 3) := dk_153 0 5 (dk_at dksX5_nextMove_0 9 rfl rfl)
theorem dX5_nextMove_12 : decode cX5_nextMove 12 = .ok (.iconst 0, 1) := dk_3 (dk_at dksX5_nextMove_0 12 rfl rfl)
theorem dX5_nextMove_13 : decode cX5_nextMove 13 = .ok (.ireturn, 1) := dk_172 (dk_at dksX5_nextMove_0 13 rfl rfl)
theorem dX5_nextMove_14 : decode cX5_nextMove 14 = .ok (.aload_n 0, 1) := dk_42 (dk_at dksX5_nextMove_0 14 rfl rfl)
theorem dX5_nextMove_15 : decode cX5_nextMove 15 = .ok (.getfield 7, 3) := dk_180 0 7 (dk_at dksX5_nextMove_0 15 rfl rfl)
theorem dX5_nextMove_18 : decode cX5_nextMove 18 = .ok (.bipush 6, 2) := dk_16 6 (dk_at dksX5_nextMove_0 18 rfl rfl)
theorem dX5_nextMove_20 : decode cX5_nextMove 20 = .ok (.iaload, 1) := dk_46 (dk_at dksX5_nextMove_0 20 rfl rfl)
theorem dX5_nextMove_21 : decode cX5_nextMove 21 = .ok (.iconst 1, 1) := dk_4 (dk_at dksX5_nextMove_0 21 rfl rfl)
theorem dX5_nextMove_22 : decode cX5_nextMove 22 = .ok (.iadd, 1) := dk_96 (dk_at dksX5_nextMove_0 22 rfl rfl)
theorem dX5_nextMove_23 : decode cX5_nextMove 23 = .ok (.istore_n 2, 1) := dk_61 (dk_at dksX5_nextMove_0 23 rfl rfl)
theorem dX5_nextMove_24 : decode cX5_nextMove 24 = .ok (.iload_n 2, 1) := dk_28 (dk_at dksX5_nextMove_1 0 rfl rfl)
theorem dX5_nextMove_25 : decode cX5_nextMove 25 = .ok (.sipush 999, 3) := dk_17 3 231 (dk_at dksX5_nextMove_1 1 rfl rfl)
theorem dX5_nextMove_28 : decode cX5_nextMove 28 = .ok (.if_icmp .gt 20, 3) := dk_163 0 20 (dk_at dksX5_nextMove_1 4 rfl rfl)
theorem dX5_nextMove_31 : decode cX5_nextMove 31 = .ok (.aload_n 0, 1) := dk_42 (dk_at dksX5_nextMove_1 7 rfl rfl)
theorem dX5_nextMove_32 : decode cX5_nextMove 32 = .ok (.iload_n 1, 1) := dk_27 (dk_at dksX5_nextMove_1 8 rfl rfl)
theorem dX5_nextMove_33 : decode cX5_nextMove 33 = .ok (.iload_n 2, 1) := dk_28 (dk_at dksX5_nextMove_1 9 rfl rfl)
theorem dX5_nextMove_34 : decode cX5_nextMove 34 = .ok (.invokevirtual 489, 3) := dk_182 1 233 (dk_at dksX5_nextMove_1 10 rfl rfl)
theorem dX5_nextMove_37 : decode cX5_nextMove 37 = .ok (.ifCond .eq 5, 3) := dk_153 0 5 (dk_at dksX5_nextMove_1 13 rfl rfl)
theorem dX5_nextMove_40 : decode cX5_nextMove 40 = .ok (.iload_n 2, 1) := dk_28 (dk_at dksX5_nextMove_1 16 rfl rfl)
theorem dX5_nextMove_41 : decode cX5_nextMove 41 = .ok (.ireturn, 1) := dk_172 (dk_at dksX5_nextMove_1 17 rfl rfl)
theorem dX5_nextMove_42 : decode cX5_nextMove 42 = .ok (.iinc 2 1, 3) := dk_132 2 1 (dk_at dksX5_nextMove_1 18 rfl rfl)
theorem dX5_nextMove_45 : decode cX5_nextMove 45 = .ok (.goto (-21), 3) := dk_167 255 235 (dk_at dksX5_nextMove_1 21 rfl rfl)
theorem dX5_nextMove_48 : decode cX5_nextMove 48 = .ok (.iconst (-1), 1) := dk_2 (dk_at dksX5_nextMove_2 0 rfl rfl)
theorem dX5_nextMove_49 : decode cX5_nextMove 49 = .ok (.ireturn, 1) := dk_172 (dk_at dksX5_nextMove_2 1 rfl rfl)
abbrev cX5_named : ByteArray := prog_20_method_113_code
def yX5_named : MethodName := ⟨RX5, "named", "()I"⟩
def dkwX5_named_3 : List UInt8 := [132, 4, 1, 167, 255, 197, 29, 172]
abbrev dktX5_named_3 : List UInt8 := dkwX5_named_3 ++ []
def dkwX5_named_2 : List UInt8 := [180, 0, 7, 16, 6, 46, 182, 0, 155, 31, 148, 154, 0, 10, 4, 21, 4, 120, 167, 0, 4, 3, 128, 62]
abbrev dktX5_named_2 : List UInt8 := dkwX5_named_2 ++ dktX5_named_3
def dkwX5_named_1 : List UInt8 := [162, 0, 54, 29, 42, 21, 4, 42, 180, 0, 7, 16, 6, 46, 182, 0, 177, 153, 0, 28, 42, 21, 4, 42]
abbrev dktX5_named_1 : List UInt8 := dkwX5_named_1 ++ dktX5_named_2
def dkwX5_named_0 : List UInt8 := [42, 3, 181, 0, 100, 42, 182, 1, 236, 64, 3, 62, 3, 54, 4, 21, 4, 42, 180, 0, 7, 6, 46]
abbrev dktX5_named_0 : List UInt8 := dkwX5_named_0 ++ dktX5_named_1
theorem dksX5_named_0 : cX5_named.data.toList.drop 0 = dktX5_named_0 := by decide +kernel
theorem dksX5_named_1 : cX5_named.data.toList.drop 23 = dktX5_named_1 := dk_seg dksX5_named_0 23 rfl rfl
theorem dksX5_named_2 : cX5_named.data.toList.drop 47 = dktX5_named_2 := dk_seg dksX5_named_1 24 rfl rfl
theorem dksX5_named_3 : cX5_named.data.toList.drop 71 = dktX5_named_3 := dk_seg dksX5_named_2 24 rfl rfl
theorem dX5_named_0 : decode cX5_named 0 = .ok (.aload_n 0, 1) := dk_42 (dk_at dksX5_named_0 0 rfl rfl)
theorem dX5_named_1 : decode cX5_named 1 = .ok (.iconst 0, 1) := dk_3 (dk_at dksX5_named_0 1 rfl rfl)
theorem dX5_named_2 : decode cX5_named 2 = .ok (.putfield 100, 3) := dk_181 0 100 (dk_at dksX5_named_0 2 rfl rfl)
theorem dX5_named_5 : decode cX5_named 5 = .ok (.aload_n 0, 1) := dk_42 (dk_at dksX5_named_0 5 rfl rfl)
theorem dX5_named_6 : decode cX5_named 6 = .ok (.invokevirtual 492, 3) := dk_182 1 236 (dk_at dksX5_named_0 6 rfl rfl)
theorem dX5_named_9 : decode cX5_named 9 = .ok (.lstore_n 1, 1) := dk_64 (dk_at dksX5_named_0 9 rfl rfl)
theorem dX5_named_10 : decode cX5_named 10 = .ok (.iconst 0, 1) := dk_3 (dk_at dksX5_named_0 10 rfl rfl)
theorem dX5_named_11 : decode cX5_named 11 = .ok (.istore_n 3, 1) := dk_62 (dk_at dksX5_named_0 11 rfl rfl)
theorem dX5_named_12 : decode cX5_named 12 = .ok (.iconst 0, 1) := dk_3 (dk_at dksX5_named_0 12 rfl rfl)
theorem dX5_named_13 : decode cX5_named 13 = .ok (.istore 4, 2) := dk_54 4 (dk_at dksX5_named_0 13 rfl rfl)
theorem dX5_named_15 : decode cX5_named 15 = .ok (.iload 4, 2) := dk_21 4 (dk_at dksX5_named_0 15 rfl rfl)
theorem dX5_named_17 : decode cX5_named 17 = .ok (.aload_n 0, 1) := dk_42 (dk_at dksX5_named_0 17 rfl rfl)
theorem dX5_named_18 : decode cX5_named 18 = .ok (.getfield 7, 3) := dk_180 0 7 (dk_at dksX5_named_0 18 rfl rfl)
theorem dX5_named_21 : decode cX5_named 21 = .ok (.iconst 3, 1) := dk_6 (dk_at dksX5_named_0 21 rfl rfl)
theorem dX5_named_22 : decode cX5_named 22 = .ok (.iaload, 1) := dk_46 (dk_at dksX5_named_0 22 rfl rfl)
theorem dX5_named_23 : decode cX5_named 23 = .ok (.if_icmp .ge 54, 3) := dk_162 0 54 (dk_at dksX5_named_1 0 rfl rfl)
theorem dX5_named_26 : decode cX5_named 26 = .ok (.iload_n 3, 1) := dk_29 (dk_at dksX5_named_1 3 rfl rfl)
theorem dX5_named_27 : decode cX5_named 27 = .ok (.aload_n 0, 1) := dk_42 (dk_at dksX5_named_1 4 rfl rfl)
theorem dX5_named_28 : decode cX5_named 28 = .ok (.iload 4, 2) := dk_21 4 (dk_at dksX5_named_1 5 rfl rfl)
theorem dX5_named_30 : decode cX5_named 30 = .ok (.aload_n 0, 1) := dk_42 (dk_at dksX5_named_1 7 rfl rfl)
theorem dX5_named_31 : decode cX5_named 31 = .ok (.getfield 7, 3) := dk_180 0 7 (dk_at dksX5_named_1 8 rfl rfl)
theorem dX5_named_34 : decode cX5_named 34 = .ok (.bipush 6, 2) := dk_16 6 (dk_at dksX5_named_1 11 rfl rfl)
theorem dX5_named_36 : decode cX5_named 36 = .ok (.iaload, 1) := dk_46 (dk_at dksX5_named_1 13 rfl rfl)
theorem dX5_named_37 : decode cX5_named 37 = .ok (.invokevirtual 177, 3) := dk_182 0 177 (dk_at dksX5_named_1 14 rfl rfl)
theorem dX5_named_40 : decode cX5_named 40 = .ok (.ifCond .eq 28, 3) := dk_153 0 28 (dk_at dksX5_named_1 17 rfl rfl)
theorem dX5_named_43 : decode cX5_named 43 = .ok (.aload_n 0, 1) := dk_42 (dk_at dksX5_named_1 20 rfl rfl)
theorem dX5_named_44 : decode cX5_named 44 = .ok (.iload 4, 2) := dk_21 4 (dk_at dksX5_named_1 21 rfl rfl)
theorem dX5_named_46 : decode cX5_named 46 = .ok (.aload_n 0, 1) := dk_42 (dk_at dksX5_named_1 23 rfl rfl)
theorem dX5_named_47 : decode cX5_named 47 = .ok (.getfield 7, 3) := dk_180 0 7 (dk_at dksX5_named_2 0 rfl rfl)
theorem dX5_named_50 : decode cX5_named 50 = .ok (.bipush 6, 2) := dk_16 6 (dk_at dksX5_named_2 3 rfl rfl)
theorem dX5_named_52 : decode cX5_named 52 = .ok (.iaload, 1) := dk_46 (dk_at dksX5_named_2 5 rfl rfl)
theorem dX5_named_53 : decode cX5_named 53 = .ok (.invokevirtual 155, 3) := dk_182 0 155 (dk_at dksX5_named_2 6 rfl rfl)
theorem dX5_named_56 : decode cX5_named 56 = .ok (.lload_n 1, 1) := dk_31 (dk_at dksX5_named_2 9 rfl rfl)
theorem dX5_named_57 : decode cX5_named 57 = .ok (.lcmp, 1) := dk_148 (dk_at dksX5_named_2 10 rfl rfl)
theorem dX5_named_58 : decode cX5_named 58 = .ok (.ifCond .ne 10, 3) := dk_154 0 10 (dk_at dksX5_named_2 11 rfl rfl)
theorem dX5_named_61 : decode cX5_named 61 = .ok (.iconst 1, 1) := dk_4 (dk_at dksX5_named_2 14 rfl rfl)
theorem dX5_named_62 : decode cX5_named 62 = .ok (.iload 4, 2) := dk_21 4 (dk_at dksX5_named_2 15 rfl rfl)
theorem dX5_named_64 : decode cX5_named 64 = .ok (.ishl, 1) := dk_120 (dk_at dksX5_named_2 17 rfl rfl)
theorem dX5_named_65 : decode cX5_named 65 = .ok (.goto 4, 3) := dk_167 0 4 (dk_at dksX5_named_2 18 rfl rfl)
theorem dX5_named_68 : decode cX5_named 68 = .ok (.iconst 0, 1) := dk_3 (dk_at dksX5_named_2 21 rfl rfl)
theorem dX5_named_69 : decode cX5_named 69 = .ok (.ior, 1) := dk_128 (dk_at dksX5_named_2 22 rfl rfl)
theorem dX5_named_70 : decode cX5_named 70 = .ok (.istore_n 3, 1) := dk_62 (dk_at dksX5_named_2 23 rfl rfl)
theorem dX5_named_71 : decode cX5_named 71 = .ok (.iinc 4 1, 3) := dk_132 4 1 (dk_at dksX5_named_3 0 rfl rfl)
theorem dX5_named_74 : decode cX5_named 74 = .ok (.goto (-59), 3) := dk_167 255 197 (dk_at dksX5_named_3 3 rfl rfl)
theorem dX5_named_77 : decode cX5_named 77 = .ok (.iload_n 3, 1) := dk_29 (dk_at dksX5_named_3 6 rfl rfl)
theorem dX5_named_78 : decode cX5_named 78 = .ok (.ireturn, 1) := dk_172 (dk_at dksX5_named_3 7 rfl rfl)
abbrev cX5_nameHeld : ByteArray := prog_20_method_112_code
def yX5_nameHeld : MethodName := ⟨RX5, "nameHeld", "()J"⟩
def dkwX5_nameHeld_2 : List UInt8 := [180, 0, 255, 182, 1, 23, 173]
abbrev dktX5_nameHeld_2 : List UInt8 := dkwX5_nameHeld_2 ++ []
def dkwX5_nameHeld_1 : List UInt8 := [162, 0, 19, 42, 27, 182, 1, 20, 154, 0, 5, 9, 173, 132, 1, 1, 167, 255, 235, 42, 3, 42]
abbrev dktX5_nameHeld_1 : List UInt8 := dkwX5_nameHeld_1 ++ dktX5_nameHeld_2
def dkwX5_nameHeld_0 : List UInt8 := [42, 180, 0, 255, 4, 16, 7, 184, 0, 103, 154, 0, 5, 9, 173, 3, 60, 27, 42, 180, 0, 255]
abbrev dktX5_nameHeld_0 : List UInt8 := dkwX5_nameHeld_0 ++ dktX5_nameHeld_1
theorem dksX5_nameHeld_0 : cX5_nameHeld.data.toList.drop 0 = dktX5_nameHeld_0 := by decide +kernel
theorem dksX5_nameHeld_1 : cX5_nameHeld.data.toList.drop 22 = dktX5_nameHeld_1 := dk_seg dksX5_nameHeld_0 22 rfl rfl
theorem dksX5_nameHeld_2 : cX5_nameHeld.data.toList.drop 44 = dktX5_nameHeld_2 := dk_seg dksX5_nameHeld_1 22 rfl rfl
theorem dX5_nameHeld_0 : decode cX5_nameHeld 0 = .ok (.aload_n 0, 1) := dk_42 (dk_at dksX5_nameHeld_0 0 rfl rfl)
theorem dX5_nameHeld_1 : decode cX5_nameHeld 1 = .ok (.getfield 255, 3) := dk_180 0 255 (dk_at dksX5_nameHeld_0 1 rfl rfl)
theorem dX5_nameHeld_4 : decode cX5_nameHeld 4 = .ok (.iconst 1, 1) := dk_4 (dk_at dksX5_nameHeld_0 4 rfl rfl)
theorem dX5_nameHeld_5 : decode cX5_nameHeld 5 = .ok (.bipush 7, 2) := dk_16 7 (dk_at dksX5_nameHeld_0 5 rfl rfl)
theorem dX5_nameHeld_7 : decode cX5_nameHeld 7 = .ok (.invokestatic 103, 3) := dk_184 0 103 (dk_at dksX5_nameHeld_0 7 rfl rfl)
theorem dX5_nameHeld_10 : decode cX5_nameHeld 10 = .ok (.ifCond .ne 5, 3) := dk_154 0 5 (dk_at dksX5_nameHeld_0 10 rfl rfl)
theorem dX5_nameHeld_13 : decode cX5_nameHeld 13 = .ok (.lconst 0, 1) := dk_9 (dk_at dksX5_nameHeld_0 13 rfl rfl)
theorem dX5_nameHeld_14 : decode cX5_nameHeld 14 = .ok (.lreturn, 1) := dk_173 (dk_at dksX5_nameHeld_0 14 rfl rfl)
theorem dX5_nameHeld_15 : decode cX5_nameHeld 15 = .ok (.iconst 0, 1) := dk_3 (dk_at dksX5_nameHeld_0 15 rfl rfl)
theorem dX5_nameHeld_16 : decode cX5_nameHeld 16 = .ok (.istore_n 1, 1) := dk_60 (dk_at dksX5_nameHeld_0 16 rfl rfl)
theorem dX5_nameHeld_17 : decode cX5_nameHeld 17 = .ok (.iload_n 1, 1) := dk_27 (dk_at dksX5_nameHeld_0 17 rfl rfl)
theorem dX5_nameHeld_18 : decode cX5_nameHeld 18 = .ok (.aload_n 0, 1) := dk_42 (dk_at dksX5_nameHeld_0 18 rfl rfl)
theorem dX5_nameHeld_19 : decode cX5_nameHeld 19 = .ok (.getfield 255, 3) := dk_180 0 255 (dk_at dksX5_nameHeld_0 19 rfl rfl)
theorem dX5_nameHeld_22 : decode cX5_nameHeld 22 = .ok (.if_icmp .ge 19, 3) := dk_162 0 19 (dk_at dksX5_nameHeld_1 0 rfl rfl)
theorem dX5_nameHeld_25 : decode cX5_nameHeld 25 = .ok (.aload_n 0, 1) := dk_42 (dk_at dksX5_nameHeld_1 3 rfl rfl)
theorem dX5_nameHeld_26 : decode cX5_nameHeld 26 = .ok (.iload_n 1, 1) := dk_27 (dk_at dksX5_nameHeld_1 4 rfl rfl)
theorem dX5_nameHeld_27 : decode cX5_nameHeld 27 = .ok (.invokevirtual 276, 3) := dk_182 1 20 (dk_at dksX5_nameHeld_1 5 rfl rfl)
theorem dX5_nameHeld_30 : decode cX5_nameHeld 30 = .ok (.ifCond .ne 5, 3) := dk_154 0 5 (dk_at dksX5_nameHeld_1 8 rfl rfl)
theorem dX5_nameHeld_33 : decode cX5_nameHeld 33 = .ok (.lconst 0, 1) := dk_9 (dk_at dksX5_nameHeld_1 11 rfl rfl)
theorem dX5_nameHeld_34 : decode cX5_nameHeld 34 = .ok (.lreturn, 1) := dk_173 (dk_at dksX5_nameHeld_1 12 rfl rfl)
theorem dX5_nameHeld_35 : decode cX5_nameHeld 35 = .ok (.iinc 1 1, 3) := dk_132 1 1 (dk_at dksX5_nameHeld_1 13 rfl rfl)
theorem dX5_nameHeld_38 : decode cX5_nameHeld 38 = .ok (.goto (-21), 3) := dk_167 255 235 (dk_at dksX5_nameHeld_1 16 rfl rfl)
theorem dX5_nameHeld_41 : decode cX5_nameHeld 41 = .ok (.aload_n 0, 1) := dk_42 (dk_at dksX5_nameHeld_1 19 rfl rfl)
theorem dX5_nameHeld_42 : decode cX5_nameHeld 42 = .ok (.iconst 0, 1) := dk_3 (dk_at dksX5_nameHeld_1 20 rfl rfl)
theorem dX5_nameHeld_43 : decode cX5_nameHeld 43 = .ok (.aload_n 0, 1) := dk_42 (dk_at dksX5_nameHeld_1 21 rfl rfl)
theorem dX5_nameHeld_44 : decode cX5_nameHeld 44 = .ok (.getfield 255, 3) := dk_180 0 255 (dk_at dksX5_nameHeld_2 0 rfl rfl)
theorem dX5_nameHeld_47 : decode cX5_nameHeld 47 = .ok (.invokevirtual 279, 3) := dk_182 1 23 (dk_at dksX5_nameHeld_2 3 rfl rfl)
theorem dX5_nameHeld_50 : decode cX5_nameHeld 50 = .ok (.lreturn, 1) := dk_173 (dk_at dksX5_nameHeld_2 6 rfl rfl)
abbrev cX5_everNamed : ByteArray := prog_20_method_115_code
def yX5_everNamed : MethodName := ⟨RX5, "everNamed", "()I"⟩
def dkwX5_everNamed_2 : List UInt8 := [182, 1, 240, 153, 0, 10, 4, 21, 4, 120, 167, 0, 4, 3, 128, 62, 132, 4, 1, 167, 255, 205, 29, 172]
abbrev dktX5_everNamed_2 : List UInt8 := dkwX5_everNamed_2 ++ []
def dkwX5_everNamed_1 : List UInt8 := [162, 0, 46, 29, 42, 21, 4, 42, 180, 0, 7, 16, 6, 46, 182, 0, 177, 153, 0, 20, 42, 21, 4, 31]
abbrev dktX5_everNamed_1 : List UInt8 := dkwX5_everNamed_1 ++ dktX5_everNamed_2
def dkwX5_everNamed_0 : List UInt8 := [42, 3, 181, 0, 100, 42, 182, 1, 236, 64, 3, 62, 3, 54, 4, 21, 4, 42, 180, 0, 7, 6, 46]
abbrev dktX5_everNamed_0 : List UInt8 := dkwX5_everNamed_0 ++ dktX5_everNamed_1
theorem dksX5_everNamed_0 : cX5_everNamed.data.toList.drop 0 = dktX5_everNamed_0 := by decide +kernel
theorem dksX5_everNamed_1 : cX5_everNamed.data.toList.drop 23 = dktX5_everNamed_1 := dk_seg dksX5_everNamed_0 23 rfl rfl
theorem dksX5_everNamed_2 : cX5_everNamed.data.toList.drop 47 = dktX5_everNamed_2 := dk_seg dksX5_everNamed_1 24 rfl rfl
theorem dX5_everNamed_0 : decode cX5_everNamed 0 = .ok (.aload_n 0, 1) := dk_42 (dk_at dksX5_everNamed_0 0 rfl rfl)
theorem dX5_everNamed_1 : decode cX5_everNamed 1 = .ok (.iconst 0, 1) := dk_3 (dk_at dksX5_everNamed_0 1 rfl rfl)
theorem dX5_everNamed_2 : decode cX5_everNamed 2 = .ok (.putfield 100, 3) := dk_181 0 100 (dk_at dksX5_everNamed_0 2 rfl rfl)
theorem dX5_everNamed_5 : decode cX5_everNamed 5 = .ok (.aload_n 0, 1) := dk_42 (dk_at dksX5_everNamed_0 5 rfl rfl)
theorem dX5_everNamed_6 : decode cX5_everNamed 6 = .ok (.invokevirtual 492, 3) := dk_182 1 236 (dk_at dksX5_everNamed_0 6 rfl rfl)
theorem dX5_everNamed_9 : decode cX5_everNamed 9 = .ok (.lstore_n 1, 1) := dk_64 (dk_at dksX5_everNamed_0 9 rfl rfl)
theorem dX5_everNamed_10 : decode cX5_everNamed 10 = .ok (.iconst 0, 1) := dk_3 (dk_at dksX5_everNamed_0 10 rfl rfl)
theorem dX5_everNamed_11 : decode cX5_everNamed 11 = .ok (.istore_n 3, 1) := dk_62 (dk_at dksX5_everNamed_0 11 rfl rfl)
theorem dX5_everNamed_12 : decode cX5_everNamed 12 = .ok (.iconst 0, 1) := dk_3 (dk_at dksX5_everNamed_0 12 rfl rfl)
theorem dX5_everNamed_13 : decode cX5_everNamed 13 = .ok (.istore 4, 2) := dk_54 4 (dk_at dksX5_everNamed_0 13 rfl rfl)
theorem dX5_everNamed_15 : decode cX5_everNamed 15 = .ok (.iload 4, 2) := dk_21 4 (dk_at dksX5_everNamed_0 15 rfl rfl)
theorem dX5_everNamed_17 : decode cX5_everNamed 17 = .ok (.aload_n 0, 1) := dk_42 (dk_at dksX5_everNamed_0 17 rfl rfl)
theorem dX5_everNamed_18 : decode cX5_everNamed 18 = .ok (.getfield 7, 3) := dk_180 0 7 (dk_at dksX5_everNamed_0 18 rfl rfl)
theorem dX5_everNamed_21 : decode cX5_everNamed 21 = .ok (.iconst 3, 1) := dk_6 (dk_at dksX5_everNamed_0 21 rfl rfl)
theorem dX5_everNamed_22 : decode cX5_everNamed 22 = .ok (.iaload, 1) := dk_46 (dk_at dksX5_everNamed_0 22 rfl rfl)
theorem dX5_everNamed_23 : decode cX5_everNamed 23 = .ok (.if_icmp .ge 46, 3) := dk_162 0 46 (dk_at dksX5_everNamed_1 0 rfl rfl)
theorem dX5_everNamed_26 : decode cX5_everNamed 26 = .ok (.iload_n 3, 1) := dk_29 (dk_at dksX5_everNamed_1 3 rfl rfl)
theorem dX5_everNamed_27 : decode cX5_everNamed 27 = .ok (.aload_n 0, 1) := dk_42 (dk_at dksX5_everNamed_1 4 rfl rfl)
theorem dX5_everNamed_28 : decode cX5_everNamed 28 = .ok (.iload 4, 2) := dk_21 4 (dk_at dksX5_everNamed_1 5 rfl rfl)
theorem dX5_everNamed_30 : decode cX5_everNamed 30 = .ok (.aload_n 0, 1) := dk_42 (dk_at dksX5_everNamed_1 7 rfl rfl)
theorem dX5_everNamed_31 : decode cX5_everNamed 31 = .ok (.getfield 7, 3) := dk_180 0 7 (dk_at dksX5_everNamed_1 8 rfl rfl)
theorem dX5_everNamed_34 : decode cX5_everNamed 34 = .ok (.bipush 6, 2) := dk_16 6 (dk_at dksX5_everNamed_1 11 rfl rfl)
theorem dX5_everNamed_36 : decode cX5_everNamed 36 = .ok (.iaload, 1) := dk_46 (dk_at dksX5_everNamed_1 13 rfl rfl)
theorem dX5_everNamed_37 : decode cX5_everNamed 37 = .ok (.invokevirtual 177, 3) := dk_182 0 177 (dk_at dksX5_everNamed_1 14 rfl rfl)
theorem dX5_everNamed_40 : decode cX5_everNamed 40 = .ok (.ifCond .eq 20, 3) := dk_153 0 20 (dk_at dksX5_everNamed_1 17 rfl rfl)
theorem dX5_everNamed_43 : decode cX5_everNamed 43 = .ok (.aload_n 0, 1) := dk_42 (dk_at dksX5_everNamed_1 20 rfl rfl)
theorem dX5_everNamed_44 : decode cX5_everNamed 44 = .ok (.iload 4, 2) := dk_21 4 (dk_at dksX5_everNamed_1 21 rfl rfl)
theorem dX5_everNamed_46 : decode cX5_everNamed 46 = .ok (.lload_n 1, 1) := dk_31 (dk_at dksX5_everNamed_1 23 rfl rfl)
theorem dX5_everNamed_47 : decode cX5_everNamed 47 = .ok (.invokevirtual 496, 3) := dk_182 1 240 (dk_at dksX5_everNamed_2 0 rfl rfl)
theorem dX5_everNamed_50 : decode cX5_everNamed 50 = .ok (.ifCond .eq 10, 3) := dk_153 0 10 (dk_at dksX5_everNamed_2 3 rfl rfl)
theorem dX5_everNamed_53 : decode cX5_everNamed 53 = .ok (.iconst 1, 1) := dk_4 (dk_at dksX5_everNamed_2 6 rfl rfl)
theorem dX5_everNamed_54 : decode cX5_everNamed 54 = .ok (.iload 4, 2) := dk_21 4 (dk_at dksX5_everNamed_2 7 rfl rfl)
theorem dX5_everNamed_56 : decode cX5_everNamed 56 = .ok (.ishl, 1) := dk_120 (dk_at dksX5_everNamed_2 9 rfl rfl)
theorem dX5_everNamed_57 : decode cX5_everNamed 57 = .ok (.goto 4, 3) := dk_167 0 4 (dk_at dksX5_everNamed_2 10 rfl rfl)
theorem dX5_everNamed_60 : decode cX5_everNamed 60 = .ok (.iconst 0, 1) := dk_3 (dk_at dksX5_everNamed_2 13 rfl rfl)
theorem dX5_everNamed_61 : decode cX5_everNamed 61 = .ok (.ior, 1) := dk_128 (dk_at dksX5_everNamed_2 14 rfl rfl)
theorem dX5_everNamed_62 : decode cX5_everNamed 62 = .ok (.istore_n 3, 1) := dk_62 (dk_at dksX5_everNamed_2 15 rfl rfl)
theorem dX5_everNamed_63 : decode cX5_everNamed 63 = .ok (.iinc 4 1, 3) := dk_132 4 1 (dk_at dksX5_everNamed_2 16 rfl rfl)
theorem dX5_everNamed_66 : decode cX5_everNamed 66 = .ok (.goto (-51), 3) := dk_167 255 205 (dk_at dksX5_everNamed_2 19 rfl rfl)
theorem dX5_everNamed_69 : decode cX5_everNamed 69 = .ok (.iload_n 3, 1) := dk_29 (dk_at dksX5_everNamed_2 22 rfl rfl)
theorem dX5_everNamed_70 : decode cX5_everNamed 70 = .ok (.ireturn, 1) := dk_172 (dk_at dksX5_everNamed_2 23 rfl rfl)
abbrev cX5_wasNamed : ByteArray := prog_20_method_114_code
def yX5_wasNamed : MethodName := ⟨RX5, "wasNamed", "(IJ)Z"⟩
def dkwX5_wasNamed_1 : List UInt8 := [42, 180, 0, 38, 21, 4, 47, 32, 148, 154, 0, 5, 4, 172, 132, 4, 1, 167, 255, 230, 3, 172]
abbrev dktX5_wasNamed_1 : List UInt8 := dkwX5_wasNamed_1 ++ []
def dkwX5_wasNamed_0 : List UInt8 := [42, 27, 42, 180, 0, 7, 16, 6, 46, 182, 0, 163, 3, 54, 4, 21, 4, 42, 180, 0, 152, 162, 0, 23]
abbrev dktX5_wasNamed_0 : List UInt8 := dkwX5_wasNamed_0 ++ dktX5_wasNamed_1
theorem dksX5_wasNamed_0 : cX5_wasNamed.data.toList.drop 0 = dktX5_wasNamed_0 := by decide +kernel
theorem dksX5_wasNamed_1 : cX5_wasNamed.data.toList.drop 24 = dktX5_wasNamed_1 := dk_seg dksX5_wasNamed_0 24 rfl rfl
theorem dX5_wasNamed_0 : decode cX5_wasNamed 0 = .ok (.aload_n 0, 1) := dk_42 (dk_at dksX5_wasNamed_0 0 rfl rfl)
theorem dX5_wasNamed_1 : decode cX5_wasNamed 1 = .ok (.iload_n 1, 1) := dk_27 (dk_at dksX5_wasNamed_0 1 rfl rfl)
theorem dX5_wasNamed_2 : decode cX5_wasNamed 2 = .ok (.aload_n 0, 1) := dk_42 (dk_at dksX5_wasNamed_0 2 rfl rfl)
theorem dX5_wasNamed_3 : decode cX5_wasNamed 3 = .ok (.getfield 7, 3) := dk_180 0 7 (dk_at dksX5_wasNamed_0 3 rfl rfl)
theorem dX5_wasNamed_6 : decode cX5_wasNamed 6 = .ok (.bipush 6, 2) := dk_16 6 (dk_at dksX5_wasNamed_0 6 rfl rfl)
theorem dX5_wasNamed_8 : decode cX5_wasNamed 8 = .ok (.iaload, 1) := dk_46 (dk_at dksX5_wasNamed_0 8 rfl rfl)
theorem dX5_wasNamed_9 : decode cX5_wasNamed 9 = .ok (.invokevirtual 163, 3) := dk_182 0 163 (dk_at dksX5_wasNamed_0 9 rfl rfl)
theorem dX5_wasNamed_12 : decode cX5_wasNamed 12 = .ok (.iconst 0, 1) := dk_3 (dk_at dksX5_wasNamed_0 12 rfl rfl)
theorem dX5_wasNamed_13 : decode cX5_wasNamed 13 = .ok (.istore 4, 2) := dk_54 4 (dk_at dksX5_wasNamed_0 13 rfl rfl)
theorem dX5_wasNamed_15 : decode cX5_wasNamed 15 = .ok (.iload 4, 2) := dk_21 4 (dk_at dksX5_wasNamed_0 15 rfl rfl)
theorem dX5_wasNamed_17 : decode cX5_wasNamed 17 = .ok (.aload_n 0, 1) := dk_42 (dk_at dksX5_wasNamed_0 17 rfl rfl)
theorem dX5_wasNamed_18 : decode cX5_wasNamed 18 = .ok (.getfield 152, 3) := dk_180 0 152 (dk_at dksX5_wasNamed_0 18 rfl rfl)
theorem dX5_wasNamed_21 : decode cX5_wasNamed 21 = .ok (.if_icmp .ge 23, 3) := dk_162 0 23 (dk_at dksX5_wasNamed_0 21 rfl rfl)
theorem dX5_wasNamed_24 : decode cX5_wasNamed 24 = .ok (.aload_n 0, 1) := dk_42 (dk_at dksX5_wasNamed_1 0 rfl rfl)
theorem dX5_wasNamed_25 : decode cX5_wasNamed 25 = .ok (.getfield 38, 3) := dk_180 0 38 (dk_at dksX5_wasNamed_1 1 rfl rfl)
theorem dX5_wasNamed_28 : decode cX5_wasNamed 28 = .ok (.iload 4, 2) := dk_21 4 (dk_at dksX5_wasNamed_1 4 rfl rfl)
theorem dX5_wasNamed_30 : decode cX5_wasNamed 30 = .ok (.laload, 1) := dk_47 (dk_at dksX5_wasNamed_1 6 rfl rfl)
theorem dX5_wasNamed_31 : decode cX5_wasNamed 31 = .ok (.lload_n 2, 1) := dk_32 (dk_at dksX5_wasNamed_1 7 rfl rfl)
theorem dX5_wasNamed_32 : decode cX5_wasNamed 32 = .ok (.lcmp, 1) := dk_148 (dk_at dksX5_wasNamed_1 8 rfl rfl)
theorem dX5_wasNamed_33 : decode cX5_wasNamed 33 = .ok (.ifCond .ne 5, 3) := dk_154 0 5 (dk_at dksX5_wasNamed_1 9 rfl rfl)
theorem dX5_wasNamed_36 : decode cX5_wasNamed 36 = .ok (.iconst 1, 1) := dk_4 (dk_at dksX5_wasNamed_1 12 rfl rfl)
theorem dX5_wasNamed_37 : decode cX5_wasNamed 37 = .ok (.ireturn, 1) := dk_172 (dk_at dksX5_wasNamed_1 13 rfl rfl)
theorem dX5_wasNamed_38 : decode cX5_wasNamed 38 = .ok (.iinc 4 1, 3) := dk_132 4 1 (dk_at dksX5_wasNamed_1 14 rfl rfl)
theorem dX5_wasNamed_41 : decode cX5_wasNamed 41 = .ok (.goto (-26), 3) := dk_167 255 230 (dk_at dksX5_wasNamed_1 17 rfl rfl)
theorem dX5_wasNamed_44 : decode cX5_wasNamed 44 = .ok (.iconst 0, 1) := dk_3 (dk_at dksX5_wasNamed_1 20 rfl rfl)
theorem dX5_wasNamed_45 : decode cX5_wasNamed 45 = .ok (.ireturn, 1) := dk_172 (dk_at dksX5_wasNamed_1 21 rfl rfl)
abbrev cX5_countyNamed : ByteArray := prog_20_method_116_code
def yX5_countyNamed : MethodName := ⟨RX5, "countyNamed", "()I"⟩
def dkwX5_countyNamed_0 : List UInt8 := [42, 3, 181, 0, 100, 42, 3, 42, 180, 0, 7, 5, 46, 42, 182, 1, 236, 182, 1, 62, 172]
abbrev dktX5_countyNamed_0 : List UInt8 := dkwX5_countyNamed_0 ++ []
theorem dksX5_countyNamed_0 : cX5_countyNamed.data.toList.drop 0 = dktX5_countyNamed_0 := by decide +kernel
theorem dX5_countyNamed_0 : decode cX5_countyNamed 0 = .ok (.aload_n 0, 1) := dk_42 (dk_at dksX5_countyNamed_0 0 rfl rfl)
theorem dX5_countyNamed_1 : decode cX5_countyNamed 1 = .ok (.iconst 0, 1) := dk_3 (dk_at dksX5_countyNamed_0 1 rfl rfl)
theorem dX5_countyNamed_2 : decode cX5_countyNamed 2 = .ok (.putfield 100, 3) := dk_181 0 100 (dk_at dksX5_countyNamed_0 2 rfl rfl)
theorem dX5_countyNamed_5 : decode cX5_countyNamed 5 = .ok (.aload_n 0, 1) := dk_42 (dk_at dksX5_countyNamed_0 5 rfl rfl)
theorem dX5_countyNamed_6 : decode cX5_countyNamed 6 = .ok (.iconst 0, 1) := dk_3 (dk_at dksX5_countyNamed_0 6 rfl rfl)
theorem dX5_countyNamed_7 : decode cX5_countyNamed 7 = .ok (.aload_n 0, 1) := dk_42 (dk_at dksX5_countyNamed_0 7 rfl rfl)
theorem dX5_countyNamed_8 : decode cX5_countyNamed 8 = .ok (.getfield 7, 3) := dk_180 0 7 (dk_at dksX5_countyNamed_0 8 rfl rfl)
theorem dX5_countyNamed_11 : decode cX5_countyNamed 11 = .ok (.iconst 2, 1) := dk_5 (dk_at dksX5_countyNamed_0 11 rfl rfl)
theorem dX5_countyNamed_12 : decode cX5_countyNamed 12 = .ok (.iaload, 1) := dk_46 (dk_at dksX5_countyNamed_0 12 rfl rfl)
theorem dX5_countyNamed_13 : decode cX5_countyNamed 13 = .ok (.aload_n 0, 1) := dk_42 (dk_at dksX5_countyNamed_0 13 rfl rfl)
theorem dX5_countyNamed_14 : decode cX5_countyNamed 14 = .ok (.invokevirtual 492, 3) := dk_182 1 236 (dk_at dksX5_countyNamed_0 14 rfl rfl)
theorem dX5_countyNamed_17 : decode cX5_countyNamed 17 = .ok (.invokevirtual 318, 3) := dk_182 1 62 (dk_at dksX5_countyNamed_0 17 rfl rfl)
theorem dX5_countyNamed_20 : decode cX5_countyNamed 20 = .ok (.ireturn, 1) := dk_172 (dk_at dksX5_countyNamed_0 20 rfl rfl)
abbrev cX5_entry : ByteArray := prog_20_method_118_code
def yX5_entry : MethodName := ⟨RX5, "entry", "(III)I"⟩
def dkwX5_entry_4 : List UInt8 := [42, 180, 0, 65, 21, 4, 46, 172, 42, 180, 0, 50, 21, 4, 47, 184, 1, 219, 172]
abbrev dktX5_entry_4 : List UInt8 := dkwX5_entry_4 ++ []
def dkwX5_entry_3 : List UInt8 := [42, 180, 0, 44, 21, 4, 46, 172, 42, 180, 0, 47, 21, 4, 46, 172, 42, 180, 0, 62, 21, 4, 46, 172]
abbrev dktX5_entry_3 : List UInt8 := dkwX5_entry_3 ++ dktX5_entry_4
def dkwX5_entry_2 : List UInt8 := [170, 0, 0, 0, 61, 0, 0, 0, 0, 0, 0, 0, 3, 0, 0, 0, 29, 0, 0, 0, 37, 0, 0, 0, 45, 0, 0, 0, 53]
abbrev dktX5_entry_2 : List UInt8 := dkwX5_entry_2 ++ dktX5_entry_3
def dkwX5_entry_1 : List UInt8 := [4, 167, 0, 4, 3, 5, 182, 0, 118, 153, 0, 5, 3, 172, 29]
abbrev dktX5_entry_1 : List UInt8 := dkwX5_entry_1 ++ dktX5_entry_2
def dkwX5_entry_0 : List UInt8 := [42, 27, 28, 182, 1, 244, 54, 4, 21, 4, 2, 159, 0, 25, 42, 29, 3, 7, 184, 0, 103, 154, 0, 7]
abbrev dktX5_entry_0 : List UInt8 := dkwX5_entry_0 ++ dktX5_entry_1
theorem dksX5_entry_0 : cX5_entry.data.toList.drop 0 = dktX5_entry_0 := by decide +kernel
theorem dksX5_entry_1 : cX5_entry.data.toList.drop 24 = dktX5_entry_1 := dk_seg dksX5_entry_0 24 rfl rfl
theorem dksX5_entry_2 : cX5_entry.data.toList.drop 39 = dktX5_entry_2 := dk_seg dksX5_entry_1 15 rfl rfl
theorem dksX5_entry_3 : cX5_entry.data.toList.drop 68 = dktX5_entry_3 := dk_seg dksX5_entry_2 29 rfl rfl
theorem dksX5_entry_4 : cX5_entry.data.toList.drop 92 = dktX5_entry_4 := dk_seg dksX5_entry_3 24 rfl rfl
theorem dX5_entry_0 : decode cX5_entry 0 = .ok (.aload_n 0, 1) := dk_42 (dk_at dksX5_entry_0 0 rfl rfl)
theorem dX5_entry_1 : decode cX5_entry 1 = .ok (.iload_n 1, 1) := dk_27 (dk_at dksX5_entry_0 1 rfl rfl)
theorem dX5_entry_2 : decode cX5_entry 2 = .ok (.iload_n 2, 1) := dk_28 (dk_at dksX5_entry_0 2 rfl rfl)
theorem dX5_entry_3 : decode cX5_entry 3 = .ok (.invokevirtual 500, 3) := dk_182 1 244 (dk_at dksX5_entry_0 3 rfl rfl)
theorem dX5_entry_6 : decode cX5_entry 6 = .ok (.istore 4, 2) := dk_54 4 (dk_at dksX5_entry_0 6 rfl rfl)
theorem dX5_entry_8 : decode cX5_entry 8 = .ok (.iload 4, 2) := dk_21 4 (dk_at dksX5_entry_0 8 rfl rfl)
theorem dX5_entry_10 : decode cX5_entry 10 = .ok (.iconst (-1), 1) := dk_2 (dk_at dksX5_entry_0 10 rfl rfl)
theorem dX5_entry_11 : decode cX5_entry 11 = .ok (.if_icmp .eq 25, 3) := dk_159 0 25 (dk_at dksX5_entry_0 11 rfl rfl)
theorem dX5_entry_14 : decode cX5_entry 14 = .ok (.aload_n 0, 1) := dk_42 (dk_at dksX5_entry_0 14 rfl rfl)
theorem dX5_entry_15 : decode cX5_entry 15 = .ok (.iload_n 3, 1) := dk_29 (dk_at dksX5_entry_0 15 rfl rfl)
theorem dX5_entry_16 : decode cX5_entry 16 = .ok (.iconst 0, 1) := dk_3 (dk_at dksX5_entry_0 16 rfl rfl)
theorem dX5_entry_17 : decode cX5_entry 17 = .ok (.iconst 4, 1) := dk_7 (dk_at dksX5_entry_0 17 rfl rfl)
theorem dX5_entry_18 : decode cX5_entry 18 = .ok (.invokestatic 103, 3) := dk_184 0 103 (dk_at dksX5_entry_0 18 rfl rfl)
theorem dX5_entry_21 : decode cX5_entry 21 = .ok (.ifCond .ne 7, 3) := dk_154 0 7 (dk_at dksX5_entry_0 21 rfl rfl)
theorem dX5_entry_24 : decode cX5_entry 24 = .ok (.iconst 1, 1) := dk_4 (dk_at dksX5_entry_1 0 rfl rfl)
theorem dX5_entry_25 : decode cX5_entry 25 = .ok (.goto 4, 3) := dk_167 0 4 (dk_at dksX5_entry_1 1 rfl rfl)
theorem dX5_entry_28 : decode cX5_entry 28 = .ok (.iconst 0, 1) := dk_3 (dk_at dksX5_entry_1 4 rfl rfl)
theorem dX5_entry_29 : decode cX5_entry 29 = .ok (.iconst 2, 1) := dk_5 (dk_at dksX5_entry_1 5 rfl rfl)
theorem dX5_entry_30 : decode cX5_entry 30 = .ok (.invokevirtual 118, 3) := dk_182 0 118 (dk_at dksX5_entry_1 6 rfl rfl)
theorem dX5_entry_33 : decode cX5_entry 33 = .ok (.ifCond .eq 5, 3) := dk_153 0 5 (dk_at dksX5_entry_1 9 rfl rfl)
theorem dX5_entry_36 : decode cX5_entry 36 = .ok (.iconst 0, 1) := dk_3 (dk_at dksX5_entry_1 12 rfl rfl)
theorem dX5_entry_37 : decode cX5_entry 37 = .ok (.ireturn, 1) := dk_172 (dk_at dksX5_entry_1 13 rfl rfl)
theorem dX5_entry_38 : decode cX5_entry 38 = .ok (.iload_n 3, 1) := dk_29 (dk_at dksX5_entry_1 14 rfl rfl)
theorem dX5_entry_39 : decode cX5_entry 39 = .ok (.tableswitch 61 0 3 #[29, 37, 45, 53], 29) := by decide +kernel
theorem dX5_entry_68 : decode cX5_entry 68 = .ok (.aload_n 0, 1) := dk_42 (dk_at dksX5_entry_3 0 rfl rfl)
theorem dX5_entry_69 : decode cX5_entry 69 = .ok (.getfield 44, 3) := dk_180 0 44 (dk_at dksX5_entry_3 1 rfl rfl)
theorem dX5_entry_72 : decode cX5_entry 72 = .ok (.iload 4, 2) := dk_21 4 (dk_at dksX5_entry_3 4 rfl rfl)
theorem dX5_entry_74 : decode cX5_entry 74 = .ok (.iaload, 1) := dk_46 (dk_at dksX5_entry_3 6 rfl rfl)
theorem dX5_entry_75 : decode cX5_entry 75 = .ok (.ireturn, 1) := dk_172 (dk_at dksX5_entry_3 7 rfl rfl)
theorem dX5_entry_76 : decode cX5_entry 76 = .ok (.aload_n 0, 1) := dk_42 (dk_at dksX5_entry_3 8 rfl rfl)
theorem dX5_entry_77 : decode cX5_entry 77 = .ok (.getfield 47, 3) := dk_180 0 47 (dk_at dksX5_entry_3 9 rfl rfl)
theorem dX5_entry_80 : decode cX5_entry 80 = .ok (.iload 4, 2) := dk_21 4 (dk_at dksX5_entry_3 12 rfl rfl)
theorem dX5_entry_82 : decode cX5_entry 82 = .ok (.iaload, 1) := dk_46 (dk_at dksX5_entry_3 14 rfl rfl)
theorem dX5_entry_83 : decode cX5_entry 83 = .ok (.ireturn, 1) := dk_172 (dk_at dksX5_entry_3 15 rfl rfl)
theorem dX5_entry_84 : decode cX5_entry 84 = .ok (.aload_n 0, 1) := dk_42 (dk_at dksX5_entry_3 16 rfl rfl)
theorem dX5_entry_85 : decode cX5_entry 85 = .ok (.getfield 62, 3) := dk_180 0 62 (dk_at dksX5_entry_3 17 rfl rfl)
theorem dX5_entry_88 : decode cX5_entry 88 = .ok (.iload 4, 2) := dk_21 4 (dk_at dksX5_entry_3 20 rfl rfl)
theorem dX5_entry_90 : decode cX5_entry 90 = .ok (.iaload, 1) := dk_46 (dk_at dksX5_entry_3 22 rfl rfl)
theorem dX5_entry_91 : decode cX5_entry 91 = .ok (.ireturn, 1) := dk_172 (dk_at dksX5_entry_3 23 rfl rfl)
theorem dX5_entry_92 : decode cX5_entry 92 = .ok (.aload_n 0, 1) := dk_42 (dk_at dksX5_entry_4 0 rfl rfl)
theorem dX5_entry_93 : decode cX5_entry 93 = .ok (.getfield 65, 3) := dk_180 0 65 (dk_at dksX5_entry_4 1 rfl rfl)
theorem dX5_entry_96 : decode cX5_entry 96 = .ok (.iload 4, 2) := dk_21 4 (dk_at dksX5_entry_4 4 rfl rfl)
theorem dX5_entry_98 : decode cX5_entry 98 = .ok (.iaload, 1) := dk_46 (dk_at dksX5_entry_4 6 rfl rfl)
theorem dX5_entry_99 : decode cX5_entry 99 = .ok (.ireturn, 1) := dk_172 (dk_at dksX5_entry_4 7 rfl rfl)
theorem dX5_entry_100 : decode cX5_entry 100 = .ok (.aload_n 0, 1) := dk_42 (dk_at dksX5_entry_4 8 rfl rfl)
theorem dX5_entry_101 : decode cX5_entry 101 = .ok (.getfield 50, 3) := dk_180 0 50 (dk_at dksX5_entry_4 9 rfl rfl)
theorem dX5_entry_104 : decode cX5_entry 104 = .ok (.iload 4, 2) := dk_21 4 (dk_at dksX5_entry_4 12 rfl rfl)
theorem dX5_entry_106 : decode cX5_entry 106 = .ok (.laload, 1) := dk_47 (dk_at dksX5_entry_4 14 rfl rfl)
theorem dX5_entry_107 : decode cX5_entry 107 = .ok (.invokestatic 475, 3) := dk_184 1 219 (dk_at dksX5_entry_4 15 rfl rfl)
theorem dX5_entry_110 : decode cX5_entry 110 = .ok (.ireturn, 1) := dk_172 (dk_at dksX5_entry_4 18 rfl rfl)
abbrev cX5_lineAt : ByteArray := prog_20_method_117_code
def yX5_lineAt : MethodName := ⟨RX5, "lineAt", "(II)I"⟩
def dkwX5_lineAt_2 : List UInt8 := [167, 0, 10, 42, 27, 182, 1, 192, 28, 96, 172]
abbrev dktX5_lineAt_2 : List UInt8 := dkwX5_lineAt_2 ++ []
def dkwX5_lineAt_1 : List UInt8 := [182, 0, 221, 4, 100, 184, 0, 103, 154, 0, 7, 4, 167, 0, 4, 3, 4, 182, 0, 118, 153, 0, 7, 2]
abbrev dktX5_lineAt_1 : List UInt8 := dkwX5_lineAt_1 ++ dktX5_lineAt_2
def dkwX5_lineAt_0 : List UInt8 := [42, 3, 181, 0, 100, 42, 27, 182, 1, 186, 153, 0, 5, 2, 172, 42, 182, 1, 153, 42, 28, 3, 42, 27]
abbrev dktX5_lineAt_0 : List UInt8 := dkwX5_lineAt_0 ++ dktX5_lineAt_1
theorem dksX5_lineAt_0 : cX5_lineAt.data.toList.drop 0 = dktX5_lineAt_0 := by decide +kernel
theorem dksX5_lineAt_1 : cX5_lineAt.data.toList.drop 24 = dktX5_lineAt_1 := dk_seg dksX5_lineAt_0 24 rfl rfl
theorem dksX5_lineAt_2 : cX5_lineAt.data.toList.drop 48 = dktX5_lineAt_2 := dk_seg dksX5_lineAt_1 24 rfl rfl
theorem dX5_lineAt_0 : decode cX5_lineAt 0 = .ok (.aload_n 0, 1) := dk_42 (dk_at dksX5_lineAt_0 0 rfl rfl)
theorem dX5_lineAt_1 : decode cX5_lineAt 1 = .ok (.iconst 0, 1) := dk_3 (dk_at dksX5_lineAt_0 1 rfl rfl)
theorem dX5_lineAt_2 : decode cX5_lineAt 2 = .ok (.putfield 100, 3) := dk_181 0 100 (dk_at dksX5_lineAt_0 2 rfl rfl)
theorem dX5_lineAt_5 : decode cX5_lineAt 5 = .ok (.aload_n 0, 1) := dk_42 (dk_at dksX5_lineAt_0 5 rfl rfl)
theorem dX5_lineAt_6 : decode cX5_lineAt 6 = .ok (.iload_n 1, 1) := dk_27 (dk_at dksX5_lineAt_0 6 rfl rfl)
theorem dX5_lineAt_7 : decode cX5_lineAt 7 = .ok (.invokevirtual 442, 3) := dk_182 1 186 (dk_at dksX5_lineAt_0 7 rfl rfl)
theorem dX5_lineAt_10 : decode cX5_lineAt 10 = .ok (.ifCond .eq 5, 3) := dk_153 0 5 (dk_at dksX5_lineAt_0 10 rfl rfl)
theorem dX5_lineAt_13 : decode cX5_lineAt 13 = .ok (.iconst (-1), 1) := dk_2 (dk_at dksX5_lineAt_0 13 rfl rfl)
theorem dX5_lineAt_14 : decode cX5_lineAt 14 = .ok (.ireturn, 1) := dk_172 (dk_at dksX5_lineAt_0 14 rfl rfl)
theorem dX5_lineAt_15 : decode cX5_lineAt 15 = .ok (.aload_n 0, 1) := dk_42 (dk_at dksX5_lineAt_0 15 rfl rfl)
theorem dX5_lineAt_16 : decode cX5_lineAt 16 = .ok (.invokevirtual 409, 3) := dk_182 1 153 (dk_at dksX5_lineAt_0 16 rfl rfl)
theorem dX5_lineAt_19 : decode cX5_lineAt 19 = .ok (.aload_n 0, 1) := dk_42 (dk_at dksX5_lineAt_0 19 rfl rfl)
theorem dX5_lineAt_20 : decode cX5_lineAt 20 = .ok (.iload_n 2, 1) := dk_28 (dk_at dksX5_lineAt_0 20 rfl rfl)
theorem dX5_lineAt_21 : decode cX5_lineAt 21 = .ok (.iconst 0, 1) := dk_3 (dk_at dksX5_lineAt_0 21 rfl rfl)
theorem dX5_lineAt_22 : decode cX5_lineAt 22 = .ok (.aload_n 0, 1) := dk_42 (dk_at dksX5_lineAt_0 22 rfl rfl)
theorem dX5_lineAt_23 : decode cX5_lineAt 23 = .ok (.iload_n 1, 1) := dk_27 (dk_at dksX5_lineAt_0 23 rfl rfl)
theorem dX5_lineAt_24 : decode cX5_lineAt 24 = .ok (.invokevirtual 221, 3) := dk_182 0 221 (dk_at dksX5_lineAt_1 0 rfl rfl)
theorem dX5_lineAt_27 : decode cX5_lineAt 27 = .ok (.iconst 1, 1) := dk_4 (dk_at dksX5_lineAt_1 3 rfl rfl)
theorem dX5_lineAt_28 : decode cX5_lineAt 28 = .ok (.isub, 1) := dk_100 (dk_at dksX5_lineAt_1 4 rfl rfl)
theorem dX5_lineAt_29 : decode cX5_lineAt 29 = .ok (.invokestatic 103, 3) := dk_184 0 103 (dk_at dksX5_lineAt_1 5 rfl rfl)
theorem dX5_lineAt_32 : decode cX5_lineAt 32 = .ok (.ifCond .ne 7, 3) := dk_154 0 7 (dk_at dksX5_lineAt_1 8 rfl rfl)
theorem dX5_lineAt_35 : decode cX5_lineAt 35 = .ok (.iconst 1, 1) := dk_4 (dk_at dksX5_lineAt_1 11 rfl rfl)
theorem dX5_lineAt_36 : decode cX5_lineAt 36 = .ok (.goto 4, 3) := dk_167 0 4 (dk_at dksX5_lineAt_1 12 rfl rfl)
theorem dX5_lineAt_39 : decode cX5_lineAt 39 = .ok (.iconst 0, 1) := dk_3 (dk_at dksX5_lineAt_1 15 rfl rfl)
theorem dX5_lineAt_40 : decode cX5_lineAt 40 = .ok (.iconst 1, 1) := dk_4 (dk_at dksX5_lineAt_1 16 rfl rfl)
theorem dX5_lineAt_41 : decode cX5_lineAt 41 = .ok (.invokevirtual 118, 3) := dk_182 0 118 (dk_at dksX5_lineAt_1 17 rfl rfl)
theorem dX5_lineAt_44 : decode cX5_lineAt 44 = .ok (.ifCond .eq 7, 3) := dk_153 0 7 (dk_at dksX5_lineAt_1 20 rfl rfl)
theorem dX5_lineAt_47 : decode cX5_lineAt 47 = .ok (.iconst (-1), 1) := dk_2 (dk_at dksX5_lineAt_1 23 rfl rfl)
theorem dX5_lineAt_48 : decode cX5_lineAt 48 = .ok (.goto 10, 3) := dk_167 0 10 (dk_at dksX5_lineAt_2 0 rfl rfl)
theorem dX5_lineAt_51 : decode cX5_lineAt 51 = .ok (.aload_n 0, 1) := dk_42 (dk_at dksX5_lineAt_2 3 rfl rfl)
theorem dX5_lineAt_52 : decode cX5_lineAt 52 = .ok (.iload_n 1, 1) := dk_27 (dk_at dksX5_lineAt_2 4 rfl rfl)
theorem dX5_lineAt_53 : decode cX5_lineAt 53 = .ok (.invokevirtual 448, 3) := dk_182 1 192 (dk_at dksX5_lineAt_2 5 rfl rfl)
theorem dX5_lineAt_56 : decode cX5_lineAt 56 = .ok (.iload_n 2, 1) := dk_28 (dk_at dksX5_lineAt_2 8 rfl rfl)
theorem dX5_lineAt_57 : decode cX5_lineAt 57 = .ok (.iadd, 1) := dk_96 (dk_at dksX5_lineAt_2 9 rfl rfl)
theorem dX5_lineAt_58 : decode cX5_lineAt 58 = .ok (.ireturn, 1) := dk_172 (dk_at dksX5_lineAt_2 10 rfl rfl)
abbrev cX5_entryLetter : ByteArray := prog_20_method_119_code
def yX5_entryLetter : MethodName := ⟨RX5, "entryLetter", "(III)I"⟩
def dkwX5_entryLetter_1 : List UInt8 := [47, 29, 184, 1, 223, 172]
abbrev dktX5_entryLetter_1 : List UInt8 := dkwX5_entryLetter_1 ++ []
def dkwX5_entryLetter_0 : List UInt8 := [42, 27, 28, 182, 1, 244, 54, 4, 21, 4, 2, 160, 0, 7, 3, 167, 0, 14, 42, 180, 0, 50, 21, 4]
abbrev dktX5_entryLetter_0 : List UInt8 := dkwX5_entryLetter_0 ++ dktX5_entryLetter_1
theorem dksX5_entryLetter_0 : cX5_entryLetter.data.toList.drop 0 = dktX5_entryLetter_0 := by decide +kernel
theorem dksX5_entryLetter_1 : cX5_entryLetter.data.toList.drop 24 = dktX5_entryLetter_1 := dk_seg dksX5_entryLetter_0 24 rfl rfl
theorem dX5_entryLetter_0 : decode cX5_entryLetter 0 = .ok (.aload_n 0, 1) := dk_42 (dk_at dksX5_entryLetter_0 0 rfl rfl)
theorem dX5_entryLetter_1 : decode cX5_entryLetter 1 = .ok (.iload_n 1, 1) := dk_27 (dk_at dksX5_entryLetter_0 1 rfl rfl)
theorem dX5_entryLetter_2 : decode cX5_entryLetter 2 = .ok (.iload_n 2, 1) := dk_28 (dk_at dksX5_entryLetter_0 2 rfl rfl)
theorem dX5_entryLetter_3 : decode cX5_entryLetter 3 = .ok (.invokevirtual 500, 3) := dk_182 1 244 (dk_at dksX5_entryLetter_0 3 rfl rfl)
theorem dX5_entryLetter_6 : decode cX5_entryLetter 6 = .ok (.istore 4, 2) := dk_54 4 (dk_at dksX5_entryLetter_0 6 rfl rfl)
theorem dX5_entryLetter_8 : decode cX5_entryLetter 8 = .ok (.iload 4, 2) := dk_21 4 (dk_at dksX5_entryLetter_0 8 rfl rfl)
theorem dX5_entryLetter_10 : decode cX5_entryLetter 10 = .ok (.iconst (-1), 1) := dk_2 (dk_at dksX5_entryLetter_0 10 rfl rfl)
theorem dX5_entryLetter_11 : decode cX5_entryLetter 11 = .ok (.if_icmp .ne 7, 3) := dk_160 0 7 (dk_at dksX5_entryLetter_0 11 rfl rfl)
theorem dX5_entryLetter_14 : decode cX5_entryLetter 14 = .ok (.iconst 0, 1) := dk_3 (dk_at dksX5_entryLetter_0 14 rfl rfl)
theorem dX5_entryLetter_15 : decode cX5_entryLetter 15 = .ok (.goto 14, 3) := dk_167 0 14 (dk_at dksX5_entryLetter_0 15 rfl rfl)
theorem dX5_entryLetter_18 : decode cX5_entryLetter 18 = .ok (.aload_n 0, 1) := dk_42 (dk_at dksX5_entryLetter_0 18 rfl rfl)
theorem dX5_entryLetter_19 : decode cX5_entryLetter 19 = .ok (.getfield 50, 3) := dk_180 0 50 (dk_at dksX5_entryLetter_0 19 rfl rfl)
theorem dX5_entryLetter_22 : decode cX5_entryLetter 22 = .ok (.iload 4, 2) := dk_21 4 (dk_at dksX5_entryLetter_0 22 rfl rfl)
theorem dX5_entryLetter_24 : decode cX5_entryLetter 24 = .ok (.laload, 1) := dk_47 (dk_at dksX5_entryLetter_1 0 rfl rfl)
theorem dX5_entryLetter_25 : decode cX5_entryLetter 25 = .ok (.iload_n 3, 1) := dk_29 (dk_at dksX5_entryLetter_1 1 rfl rfl)
theorem dX5_entryLetter_26 : decode cX5_entryLetter 26 = .ok (.invokestatic 479, 3) := dk_184 1 223 (dk_at dksX5_entryLetter_1 2 rfl rfl)
theorem dX5_entryLetter_29 : decode cX5_entryLetter 29 = .ok (.ireturn, 1) := dk_172 (dk_at dksX5_entryLetter_1 5 rfl rfl)
abbrev cX5_block : ByteArray := prog_20_method_120_code
def yX5_block : MethodName := ⟨RX5, "block", "(I)I"⟩
def dkwX5_block_3 : List UInt8 := [167, 255, 225, 42, 180, 0, 41, 29, 46, 172]
abbrev dktX5_block_3 : List UInt8 := dkwX5_block_3 ++ []
def dkwX5_block_2 : List UInt8 := [154, 0, 25, 28, 42, 29, 182, 0, 191, 153, 0, 7, 4, 167, 0, 4, 3, 100, 61, 132, 3, 1]
abbrev dktX5_block_2 : List UInt8 := dkwX5_block_2 ++ dktX5_block_3
def dkwX5_block_1 : List UInt8 := [4, 182, 0, 118, 153, 0, 5, 3, 172, 27, 61, 3, 62, 28, 157, 0, 11, 42, 29, 182, 0, 191]
abbrev dktX5_block_1 : List UInt8 := dkwX5_block_1 ++ dktX5_block_2
def dkwX5_block_0 : List UInt8 := [42, 182, 1, 153, 42, 27, 3, 42, 182, 1, 156, 4, 100, 184, 0, 103, 154, 0, 7, 4, 167, 0, 4, 3]
abbrev dktX5_block_0 : List UInt8 := dkwX5_block_0 ++ dktX5_block_1
theorem dksX5_block_0 : cX5_block.data.toList.drop 0 = dktX5_block_0 := by decide +kernel
theorem dksX5_block_1 : cX5_block.data.toList.drop 24 = dktX5_block_1 := dk_seg dksX5_block_0 24 rfl rfl
theorem dksX5_block_2 : cX5_block.data.toList.drop 46 = dktX5_block_2 := dk_seg dksX5_block_1 22 rfl rfl
theorem dksX5_block_3 : cX5_block.data.toList.drop 68 = dktX5_block_3 := dk_seg dksX5_block_2 22 rfl rfl
theorem dX5_block_0 : decode cX5_block 0 = .ok (.aload_n 0, 1) := dk_42 (dk_at dksX5_block_0 0 rfl rfl)
theorem dX5_block_1 : decode cX5_block 1 = .ok (.invokevirtual 409, 3) := dk_182 1 153 (dk_at dksX5_block_0 1 rfl rfl)
theorem dX5_block_4 : decode cX5_block 4 = .ok (.aload_n 0, 1) := dk_42 (dk_at dksX5_block_0 4 rfl rfl)
theorem dX5_block_5 : decode cX5_block 5 = .ok (.iload_n 1, 1) := dk_27 (dk_at dksX5_block_0 5 rfl rfl)
theorem dX5_block_6 : decode cX5_block 6 = .ok (.iconst 0, 1) := dk_3 (dk_at dksX5_block_0 6 rfl rfl)
theorem dX5_block_7 : decode cX5_block 7 = .ok (.aload_n 0, 1) := dk_42 (dk_at dksX5_block_0 7 rfl rfl)
theorem dX5_block_8 : decode cX5_block 8 = .ok (.invokevirtual 412, 3) := dk_182 1 156 (dk_at dksX5_block_0 8 rfl rfl)
theorem dX5_block_11 : decode cX5_block 11 = .ok (.iconst 1, 1) := dk_4 (dk_at dksX5_block_0 11 rfl rfl)
theorem dX5_block_12 : decode cX5_block 12 = .ok (.isub, 1) := dk_100 (dk_at dksX5_block_0 12 rfl rfl)
theorem dX5_block_13 : decode cX5_block 13 = .ok (.invokestatic 103, 3) := dk_184 0 103 (dk_at dksX5_block_0 13 rfl rfl)
theorem dX5_block_16 : decode cX5_block 16 = .ok (.ifCond .ne 7, 3) := dk_154 0 7 (dk_at dksX5_block_0 16 rfl rfl)
theorem dX5_block_19 : decode cX5_block 19 = .ok (.iconst 1, 1) := dk_4 (dk_at dksX5_block_0 19 rfl rfl)
theorem dX5_block_20 : decode cX5_block 20 = .ok (.goto 4, 3) := dk_167 0 4 (dk_at dksX5_block_0 20 rfl rfl)
theorem dX5_block_23 : decode cX5_block 23 = .ok (.iconst 0, 1) := dk_3 (dk_at dksX5_block_0 23 rfl rfl)
theorem dX5_block_24 : decode cX5_block 24 = .ok (.iconst 1, 1) := dk_4 (dk_at dksX5_block_1 0 rfl rfl)
theorem dX5_block_25 : decode cX5_block 25 = .ok (.invokevirtual 118, 3) := dk_182 0 118 (dk_at dksX5_block_1 1 rfl rfl)
theorem dX5_block_28 : decode cX5_block 28 = .ok (.ifCond .eq 5, 3) := dk_153 0 5 (dk_at dksX5_block_1 4 rfl rfl)
theorem dX5_block_31 : decode cX5_block 31 = .ok (.iconst 0, 1) := dk_3 (dk_at dksX5_block_1 7 rfl rfl)
theorem dX5_block_32 : decode cX5_block 32 = .ok (.ireturn, 1) := dk_172 (dk_at dksX5_block_1 8 rfl rfl)
theorem dX5_block_33 : decode cX5_block 33 = .ok (.iload_n 1, 1) := dk_27 (dk_at dksX5_block_1 9 rfl rfl)
theorem dX5_block_34 : decode cX5_block 34 = .ok (.istore_n 2, 1) := dk_61 (dk_at dksX5_block_1 10 rfl rfl)
theorem dX5_block_35 : decode cX5_block 35 = .ok (.iconst 0, 1) := dk_3 (dk_at dksX5_block_1 11 rfl rfl)
theorem dX5_block_36 : decode cX5_block 36 = .ok (.istore_n 3, 1) := dk_62 (dk_at dksX5_block_1 12 rfl rfl)
theorem dX5_block_37 : decode cX5_block 37 = .ok (.iload_n 2, 1) := dk_28 (dk_at dksX5_block_1 13 rfl rfl)
theorem dX5_block_38 : decode cX5_block 38 = .ok (.ifCond .gt 11, 3) := dk_157 0 11 (dk_at dksX5_block_1 14 rfl rfl)
theorem dX5_block_41 : decode cX5_block 41 = .ok (.aload_n 0, 1) := dk_42 (dk_at dksX5_block_1 17 rfl rfl)
theorem dX5_block_42 : decode cX5_block 42 = .ok (.iload_n 3, 1) := dk_29 (dk_at dksX5_block_1 18 rfl rfl)
theorem dX5_block_43 : decode cX5_block 43 = .ok (.invokevirtual 191, 3) := dk_182 0 191 (dk_at dksX5_block_1 19 rfl rfl)
theorem dX5_block_46 : decode cX5_block 46 = .ok (.ifCond .ne 25, 3) := dk_154 0 25 (dk_at dksX5_block_2 0 rfl rfl)
theorem dX5_block_49 : decode cX5_block 49 = .ok (.iload_n 2, 1) := dk_28 (dk_at dksX5_block_2 3 rfl rfl)
theorem dX5_block_50 : decode cX5_block 50 = .ok (.aload_n 0, 1) := dk_42 (dk_at dksX5_block_2 4 rfl rfl)
theorem dX5_block_51 : decode cX5_block 51 = .ok (.iload_n 3, 1) := dk_29 (dk_at dksX5_block_2 5 rfl rfl)
theorem dX5_block_52 : decode cX5_block 52 = .ok (.invokevirtual 191, 3) := dk_182 0 191 (dk_at dksX5_block_2 6 rfl rfl)
theorem dX5_block_55 : decode cX5_block 55 = .ok (.ifCond .eq 7, 3) := dk_153 0 7 (dk_at dksX5_block_2 9 rfl rfl)
theorem dX5_block_58 : decode cX5_block 58 = .ok (.iconst 1, 1) := dk_4 (dk_at dksX5_block_2 12 rfl rfl)
theorem dX5_block_59 : decode cX5_block 59 = .ok (.goto 4, 3) := dk_167 0 4 (dk_at dksX5_block_2 13 rfl rfl)
theorem dX5_block_62 : decode cX5_block 62 = .ok (.iconst 0, 1) := dk_3 (dk_at dksX5_block_2 16 rfl rfl)
theorem dX5_block_63 : decode cX5_block 63 = .ok (.isub, 1) := dk_100 (dk_at dksX5_block_2 17 rfl rfl)
theorem dX5_block_64 : decode cX5_block 64 = .ok (.istore_n 2, 1) := dk_61 (dk_at dksX5_block_2 18 rfl rfl)
theorem dX5_block_65 : decode cX5_block 65 = .ok (.iinc 3 1, 3) := dk_132 3 1 (dk_at dksX5_block_2 19 rfl rfl)
theorem dX5_block_68 : decode cX5_block 68 = .ok (.goto (-31), 3) := dk_167 255 225 (dk_at dksX5_block_3 0 rfl rfl)
theorem dX5_block_71 : decode cX5_block 71 = .ok (.aload_n 0, 1) := dk_42 (dk_at dksX5_block_3 3 rfl rfl)
theorem dX5_block_72 : decode cX5_block 72 = .ok (.getfield 41, 3) := dk_180 0 41 (dk_at dksX5_block_3 4 rfl rfl)
theorem dX5_block_75 : decode cX5_block 75 = .ok (.iload_n 3, 1) := dk_29 (dk_at dksX5_block_3 7 rfl rfl)
theorem dX5_block_76 : decode cX5_block 76 = .ok (.iaload, 1) := dk_46 (dk_at dksX5_block_3 8 rfl rfl)
theorem dX5_block_77 : decode cX5_block 77 = .ok (.ireturn, 1) := dk_172 (dk_at dksX5_block_3 9 rfl rfl)
abbrev cX5_used : ByteArray := prog_20_method_122_code
def yX5_used : MethodName := ⟨RX5, "used", "(I)I"⟩
def dkwX5_used_0 : List UInt8 := [42, 27, 182, 1, 247, 153, 0, 7, 3, 167, 0, 9, 42, 180, 0, 68, 27, 46, 172]
abbrev dktX5_used_0 : List UInt8 := dkwX5_used_0 ++ []
theorem dksX5_used_0 : cX5_used.data.toList.drop 0 = dktX5_used_0 := by decide +kernel
theorem dX5_used_0 : decode cX5_used 0 = .ok (.aload_n 0, 1) := dk_42 (dk_at dksX5_used_0 0 rfl rfl)
theorem dX5_used_1 : decode cX5_used 1 = .ok (.iload_n 1, 1) := dk_27 (dk_at dksX5_used_0 1 rfl rfl)
theorem dX5_used_2 : decode cX5_used 2 = .ok (.invokevirtual 503, 3) := dk_182 1 247 (dk_at dksX5_used_0 2 rfl rfl)
theorem dX5_used_5 : decode cX5_used 5 = .ok (.ifCond .eq 7, 3) := dk_153 0 7 (dk_at dksX5_used_0 5 rfl rfl)
theorem dX5_used_8 : decode cX5_used 8 = .ok (.iconst 0, 1) := dk_3 (dk_at dksX5_used_0 8 rfl rfl)
theorem dX5_used_9 : decode cX5_used 9 = .ok (.goto 9, 3) := dk_167 0 9 (dk_at dksX5_used_0 9 rfl rfl)
theorem dX5_used_12 : decode cX5_used 12 = .ok (.aload_n 0, 1) := dk_42 (dk_at dksX5_used_0 12 rfl rfl)
theorem dX5_used_13 : decode cX5_used 13 = .ok (.getfield 68, 3) := dk_180 0 68 (dk_at dksX5_used_0 13 rfl rfl)
theorem dX5_used_16 : decode cX5_used 16 = .ok (.iload_n 1, 1) := dk_27 (dk_at dksX5_used_0 16 rfl rfl)
theorem dX5_used_17 : decode cX5_used 17 = .ok (.iaload, 1) := dk_46 (dk_at dksX5_used_0 17 rfl rfl)
theorem dX5_used_18 : decode cX5_used 18 = .ok (.ireturn, 1) := dk_172 (dk_at dksX5_used_0 18 rfl rfl)
abbrev cX5_noPage : ByteArray := prog_20_method_121_code
def yX5_noPage : MethodName := ⟨RX5, "noPage", "(I)Z"⟩
def dkwX5_noPage_1 : List UInt8 := [4, 182, 0, 118, 172]
abbrev dktX5_noPage_1 : List UInt8 := dkwX5_noPage_1 ++ []
def dkwX5_noPage_0 : List UInt8 := [42, 182, 1, 153, 42, 27, 3, 42, 180, 0, 194, 4, 100, 184, 0, 103, 154, 0, 7, 4, 167, 0, 4, 3]
abbrev dktX5_noPage_0 : List UInt8 := dkwX5_noPage_0 ++ dktX5_noPage_1
theorem dksX5_noPage_0 : cX5_noPage.data.toList.drop 0 = dktX5_noPage_0 := by decide +kernel
theorem dksX5_noPage_1 : cX5_noPage.data.toList.drop 24 = dktX5_noPage_1 := dk_seg dksX5_noPage_0 24 rfl rfl
theorem dX5_noPage_0 : decode cX5_noPage 0 = .ok (.aload_n 0, 1) := dk_42 (dk_at dksX5_noPage_0 0 rfl rfl)
theorem dX5_noPage_1 : decode cX5_noPage 1 = .ok (.invokevirtual 409, 3) := dk_182 1 153 (dk_at dksX5_noPage_0 1 rfl rfl)
theorem dX5_noPage_4 : decode cX5_noPage 4 = .ok (.aload_n 0, 1) := dk_42 (dk_at dksX5_noPage_0 4 rfl rfl)
theorem dX5_noPage_5 : decode cX5_noPage 5 = .ok (.iload_n 1, 1) := dk_27 (dk_at dksX5_noPage_0 5 rfl rfl)
theorem dX5_noPage_6 : decode cX5_noPage 6 = .ok (.iconst 0, 1) := dk_3 (dk_at dksX5_noPage_0 6 rfl rfl)
theorem dX5_noPage_7 : decode cX5_noPage 7 = .ok (.aload_n 0, 1) := dk_42 (dk_at dksX5_noPage_0 7 rfl rfl)
theorem dX5_noPage_8 : decode cX5_noPage 8 = .ok (.getfield 194, 3) := dk_180 0 194 (dk_at dksX5_noPage_0 8 rfl rfl)
theorem dX5_noPage_11 : decode cX5_noPage 11 = .ok (.iconst 1, 1) := dk_4 (dk_at dksX5_noPage_0 11 rfl rfl)
theorem dX5_noPage_12 : decode cX5_noPage 12 = .ok (.isub, 1) := dk_100 (dk_at dksX5_noPage_0 12 rfl rfl)
theorem dX5_noPage_13 : decode cX5_noPage 13 = .ok (.invokestatic 103, 3) := dk_184 0 103 (dk_at dksX5_noPage_0 13 rfl rfl)
theorem dX5_noPage_16 : decode cX5_noPage 16 = .ok (.ifCond .ne 7, 3) := dk_154 0 7 (dk_at dksX5_noPage_0 16 rfl rfl)
theorem dX5_noPage_19 : decode cX5_noPage 19 = .ok (.iconst 1, 1) := dk_4 (dk_at dksX5_noPage_0 19 rfl rfl)
theorem dX5_noPage_20 : decode cX5_noPage 20 = .ok (.goto 4, 3) := dk_167 0 4 (dk_at dksX5_noPage_0 20 rfl rfl)
theorem dX5_noPage_23 : decode cX5_noPage 23 = .ok (.iconst 0, 1) := dk_3 (dk_at dksX5_noPage_0 23 rfl rfl)
theorem dX5_noPage_24 : decode cX5_noPage 24 = .ok (.iconst 1, 1) := dk_4 (dk_at dksX5_noPage_1 0 rfl rfl)
theorem dX5_noPage_25 : decode cX5_noPage 25 = .ok (.invokevirtual 118, 3) := dk_182 0 118 (dk_at dksX5_noPage_1 1 rfl rfl)
theorem dX5_noPage_28 : decode cX5_noPage 28 = .ok (.ireturn, 1) := dk_172 (dk_at dksX5_noPage_1 4 rfl rfl)
abbrev cX5_line : ByteArray := prog_20_method_123_code
def yX5_line : MethodName := ⟨RX5, "line", "(III)I"⟩
def dkwX5_line_5 : List UInt8 := [167, 0, 15, 42, 180, 0, 47, 42, 180, 0, 59, 21, 4, 46, 46, 172]
abbrev dktX5_line_5 : List UInt8 := dkwX5_line_5 ++ []
def dkwX5_line_4 : List UInt8 := [167, 0, 10, 42, 180, 0, 56, 21, 4, 46, 172, 42, 180, 0, 59, 21, 4, 46, 2, 160, 0, 7, 2]
abbrev dktX5_line_4 : List UInt8 := dkwX5_line_4 ++ dktX5_line_5
def dkwX5_line_3 : List UInt8 := [27, 104, 28, 96, 54, 4, 29, 5, 162, 0, 25, 29, 154, 0, 13, 42, 180, 0, 53, 21, 4, 46]
abbrev dktX5_line_3 : List UInt8 := dkwX5_line_3 ++ dktX5_line_4
def dkwX5_line_2 : List UInt8 := [154, 0, 7, 4, 167, 0, 4, 3, 5, 182, 0, 118, 153, 0, 5, 3, 172, 42, 180, 0, 7, 16, 8, 46]
abbrev dktX5_line_2 : List UInt8 := dkwX5_line_2 ++ dktX5_line_3
def dkwX5_line_1 : List UInt8 := [154, 0, 7, 4, 167, 0, 4, 3, 4, 182, 0, 118, 154, 0, 25, 42, 29, 3, 5, 184, 0, 103]
abbrev dktX5_line_1 : List UInt8 := dkwX5_line_1 ++ dktX5_line_2
def dkwX5_line_0 : List UInt8 := [42, 27, 182, 1, 247, 154, 0, 54, 42, 28, 3, 42, 180, 0, 68, 27, 46, 4, 100, 184, 0, 103]
abbrev dktX5_line_0 : List UInt8 := dkwX5_line_0 ++ dktX5_line_1
theorem dksX5_line_0 : cX5_line.data.toList.drop 0 = dktX5_line_0 := by decide +kernel
theorem dksX5_line_1 : cX5_line.data.toList.drop 22 = dktX5_line_1 := dk_seg dksX5_line_0 22 rfl rfl
theorem dksX5_line_2 : cX5_line.data.toList.drop 44 = dktX5_line_2 := dk_seg dksX5_line_1 22 rfl rfl
theorem dksX5_line_3 : cX5_line.data.toList.drop 68 = dktX5_line_3 := dk_seg dksX5_line_2 24 rfl rfl
theorem dksX5_line_4 : cX5_line.data.toList.drop 90 = dktX5_line_4 := dk_seg dksX5_line_3 22 rfl rfl
theorem dksX5_line_5 : cX5_line.data.toList.drop 113 = dktX5_line_5 := dk_seg dksX5_line_4 23 rfl rfl
theorem dX5_line_0 : decode cX5_line 0 = .ok (.aload_n 0, 1) := dk_42 (dk_at dksX5_line_0 0 rfl rfl)
theorem dX5_line_1 : decode cX5_line 1 = .ok (.iload_n 1, 1) := dk_27 (dk_at dksX5_line_0 1 rfl rfl)
theorem dX5_line_2 : decode cX5_line 2 = .ok (.invokevirtual 503, 3) := dk_182 1 247 (dk_at dksX5_line_0 2 rfl rfl)
theorem dX5_line_5 : decode cX5_line 5 = .ok (.ifCond .ne 54, 3) := dk_154 0 54 (dk_at dksX5_line_0 5 rfl rfl)
theorem dX5_line_8 : decode cX5_line 8 = .ok (.aload_n 0, 1) := dk_42 (dk_at dksX5_line_0 8 rfl rfl)
theorem dX5_line_9 : decode cX5_line 9 = .ok (.iload_n 2, 1) := dk_28 (dk_at dksX5_line_0 9 rfl rfl)
theorem dX5_line_10 : decode cX5_line 10 = .ok (.iconst 0, 1) := dk_3 (dk_at dksX5_line_0 10 rfl rfl)
theorem dX5_line_11 : decode cX5_line 11 = .ok (.aload_n 0, 1) := dk_42 (dk_at dksX5_line_0 11 rfl rfl)
theorem dX5_line_12 : decode cX5_line 12 = .ok (.getfield 68, 3) := dk_180 0 68 (dk_at dksX5_line_0 12 rfl rfl)
theorem dX5_line_15 : decode cX5_line 15 = .ok (.iload_n 1, 1) := dk_27 (dk_at dksX5_line_0 15 rfl rfl)
theorem dX5_line_16 : decode cX5_line 16 = .ok (.iaload, 1) := dk_46 (dk_at dksX5_line_0 16 rfl rfl)
theorem dX5_line_17 : decode cX5_line 17 = .ok (.iconst 1, 1) := dk_4 (dk_at dksX5_line_0 17 rfl rfl)
theorem dX5_line_18 : decode cX5_line 18 = .ok (.isub, 1) := dk_100 (dk_at dksX5_line_0 18 rfl rfl)
theorem dX5_line_19 : decode cX5_line 19 = .ok (.invokestatic 103, 3) := dk_184 0 103 (dk_at dksX5_line_0 19 rfl rfl)
theorem dX5_line_22 : decode cX5_line 22 = .ok (.ifCond .ne 7, 3) := dk_154 0 7 (dk_at dksX5_line_1 0 rfl rfl)
theorem dX5_line_25 : decode cX5_line 25 = .ok (.iconst 1, 1) := dk_4 (dk_at dksX5_line_1 3 rfl rfl)
theorem dX5_line_26 : decode cX5_line 26 = .ok (.goto 4, 3) := dk_167 0 4 (dk_at dksX5_line_1 4 rfl rfl)
theorem dX5_line_29 : decode cX5_line 29 = .ok (.iconst 0, 1) := dk_3 (dk_at dksX5_line_1 7 rfl rfl)
theorem dX5_line_30 : decode cX5_line 30 = .ok (.iconst 1, 1) := dk_4 (dk_at dksX5_line_1 8 rfl rfl)
theorem dX5_line_31 : decode cX5_line 31 = .ok (.invokevirtual 118, 3) := dk_182 0 118 (dk_at dksX5_line_1 9 rfl rfl)
theorem dX5_line_34 : decode cX5_line 34 = .ok (.ifCond .ne 25, 3) := dk_154 0 25 (dk_at dksX5_line_1 12 rfl rfl)
theorem dX5_line_37 : decode cX5_line 37 = .ok (.aload_n 0, 1) := dk_42 (dk_at dksX5_line_1 15 rfl rfl)
theorem dX5_line_38 : decode cX5_line 38 = .ok (.iload_n 3, 1) := dk_29 (dk_at dksX5_line_1 16 rfl rfl)
theorem dX5_line_39 : decode cX5_line 39 = .ok (.iconst 0, 1) := dk_3 (dk_at dksX5_line_1 17 rfl rfl)
theorem dX5_line_40 : decode cX5_line 40 = .ok (.iconst 2, 1) := dk_5 (dk_at dksX5_line_1 18 rfl rfl)
theorem dX5_line_41 : decode cX5_line 41 = .ok (.invokestatic 103, 3) := dk_184 0 103 (dk_at dksX5_line_1 19 rfl rfl)
theorem dX5_line_44 : decode cX5_line 44 = .ok (.ifCond .ne 7, 3) := dk_154 0 7 (dk_at dksX5_line_2 0 rfl rfl)
theorem dX5_line_47 : decode cX5_line 47 = .ok (.iconst 1, 1) := dk_4 (dk_at dksX5_line_2 3 rfl rfl)
theorem dX5_line_48 : decode cX5_line 48 = .ok (.goto 4, 3) := dk_167 0 4 (dk_at dksX5_line_2 4 rfl rfl)
theorem dX5_line_51 : decode cX5_line 51 = .ok (.iconst 0, 1) := dk_3 (dk_at dksX5_line_2 7 rfl rfl)
theorem dX5_line_52 : decode cX5_line 52 = .ok (.iconst 2, 1) := dk_5 (dk_at dksX5_line_2 8 rfl rfl)
theorem dX5_line_53 : decode cX5_line 53 = .ok (.invokevirtual 118, 3) := dk_182 0 118 (dk_at dksX5_line_2 9 rfl rfl)
theorem dX5_line_56 : decode cX5_line 56 = .ok (.ifCond .eq 5, 3) := dk_153 0 5 (dk_at dksX5_line_2 12 rfl rfl)
theorem dX5_line_59 : decode cX5_line 59 = .ok (.iconst 0, 1) := dk_3 (dk_at dksX5_line_2 15 rfl rfl)
theorem dX5_line_60 : decode cX5_line 60 = .ok (.ireturn, 1) := dk_172 (dk_at dksX5_line_2 16 rfl rfl)
theorem dX5_line_61 : decode cX5_line 61 = .ok (.aload_n 0, 1) := dk_42 (dk_at dksX5_line_2 17 rfl rfl)
theorem dX5_line_62 : decode cX5_line 62 = .ok (.getfield 7, 3) := dk_180 0 7 (dk_at dksX5_line_2 18 rfl rfl)
theorem dX5_line_65 : decode cX5_line 65 = .ok (.bipush 8, 2) := dk_16 8 (dk_at dksX5_line_2 21 rfl rfl)
theorem dX5_line_67 : decode cX5_line 67 = .ok (.iaload, 1) := dk_46 (dk_at dksX5_line_2 23 rfl rfl)
theorem dX5_line_68 : decode cX5_line 68 = .ok (.iload_n 1, 1) := dk_27 (dk_at dksX5_line_3 0 rfl rfl)
theorem dX5_line_69 : decode cX5_line 69 = .ok (.imul, 1) := dk_104 (dk_at dksX5_line_3 1 rfl rfl)
theorem dX5_line_70 : decode cX5_line 70 = .ok (.iload_n 2, 1) := dk_28 (dk_at dksX5_line_3 2 rfl rfl)
theorem dX5_line_71 : decode cX5_line 71 = .ok (.iadd, 1) := dk_96 (dk_at dksX5_line_3 3 rfl rfl)
theorem dX5_line_72 : decode cX5_line 72 = .ok (.istore 4, 2) := dk_54 4 (dk_at dksX5_line_3 4 rfl rfl)
theorem dX5_line_74 : decode cX5_line 74 = .ok (.iload_n 3, 1) := dk_29 (dk_at dksX5_line_3 6 rfl rfl)
theorem dX5_line_75 : decode cX5_line 75 = .ok (.iconst 2, 1) := dk_5 (dk_at dksX5_line_3 7 rfl rfl)
theorem dX5_line_76 : decode cX5_line 76 = .ok (.if_icmp .ge 25, 3) := dk_162 0 25 (dk_at dksX5_line_3 8 rfl rfl)
theorem dX5_line_79 : decode cX5_line 79 = .ok (.iload_n 3, 1) := dk_29 (dk_at dksX5_line_3 11 rfl rfl)
theorem dX5_line_80 : decode cX5_line 80 = .ok (.ifCond .ne 13, 3) := dk_154 0 13 (dk_at dksX5_line_3 12 rfl rfl)
theorem dX5_line_83 : decode cX5_line 83 = .ok (.aload_n 0, 1) := dk_42 (dk_at dksX5_line_3 15 rfl rfl)
theorem dX5_line_84 : decode cX5_line 84 = .ok (.getfield 53, 3) := dk_180 0 53 (dk_at dksX5_line_3 16 rfl rfl)
theorem dX5_line_87 : decode cX5_line 87 = .ok (.iload 4, 2) := dk_21 4 (dk_at dksX5_line_3 19 rfl rfl)
theorem dX5_line_89 : decode cX5_line 89 = .ok (.iaload, 1) := dk_46 (dk_at dksX5_line_3 21 rfl rfl)
theorem dX5_line_90 : decode cX5_line 90 = .ok (.goto 10, 3) := dk_167 0 10 (dk_at dksX5_line_4 0 rfl rfl)
theorem dX5_line_93 : decode cX5_line 93 = .ok (.aload_n 0, 1) := dk_42 (dk_at dksX5_line_4 3 rfl rfl)
theorem dX5_line_94 : decode cX5_line 94 = .ok (.getfield 56, 3) := dk_180 0 56 (dk_at dksX5_line_4 4 rfl rfl)
theorem dX5_line_97 : decode cX5_line 97 = .ok (.iload 4, 2) := dk_21 4 (dk_at dksX5_line_4 7 rfl rfl)
theorem dX5_line_99 : decode cX5_line 99 = .ok (.iaload, 1) := dk_46 (dk_at dksX5_line_4 9 rfl rfl)
theorem dX5_line_100 : decode cX5_line 100 = .ok (.ireturn, 1) := dk_172 (dk_at dksX5_line_4 10 rfl rfl)
theorem dX5_line_101 : decode cX5_line 101 = .ok (.aload_n 0, 1) := dk_42 (dk_at dksX5_line_4 11 rfl rfl)
theorem dX5_line_102 : decode cX5_line 102 = .ok (.getfield 59, 3) := dk_180 0 59 (dk_at dksX5_line_4 12 rfl rfl)
theorem dX5_line_105 : decode cX5_line 105 = .ok (.iload 4, 2) := dk_21 4 (dk_at dksX5_line_4 15 rfl rfl)
theorem dX5_line_107 : decode cX5_line 107 = .ok (.iaload, 1) := dk_46 (dk_at dksX5_line_4 17 rfl rfl)
theorem dX5_line_108 : decode cX5_line 108 = .ok (.iconst (-1), 1) := dk_2 (dk_at dksX5_line_4 18 rfl rfl)
theorem dX5_line_109 : decode cX5_line 109 = .ok (.if_icmp .ne 7, 3) := dk_160 0 7 (dk_at dksX5_line_4 19 rfl rfl)
theorem dX5_line_112 : decode cX5_line 112 = .ok (.iconst (-1), 1) := dk_2 (dk_at dksX5_line_4 22 rfl rfl)
theorem dX5_line_113 : decode cX5_line 113 = .ok (.goto 15, 3) := dk_167 0 15 (dk_at dksX5_line_5 0 rfl rfl)
theorem dX5_line_116 : decode cX5_line 116 = .ok (.aload_n 0, 1) := dk_42 (dk_at dksX5_line_5 3 rfl rfl)
theorem dX5_line_117 : decode cX5_line 117 = .ok (.getfield 47, 3) := dk_180 0 47 (dk_at dksX5_line_5 4 rfl rfl)
theorem dX5_line_120 : decode cX5_line 120 = .ok (.aload_n 0, 1) := dk_42 (dk_at dksX5_line_5 7 rfl rfl)
theorem dX5_line_121 : decode cX5_line 121 = .ok (.getfield 59, 3) := dk_180 0 59 (dk_at dksX5_line_5 8 rfl rfl)
theorem dX5_line_124 : decode cX5_line 124 = .ok (.iload 4, 2) := dk_21 4 (dk_at dksX5_line_5 11 rfl rfl)
theorem dX5_line_126 : decode cX5_line 126 = .ok (.iaload, 1) := dk_46 (dk_at dksX5_line_5 13 rfl rfl)
theorem dX5_line_127 : decode cX5_line 127 = .ok (.iaload, 1) := dk_46 (dk_at dksX5_line_5 14 rfl rfl)
theorem dX5_line_128 : decode cX5_line 128 = .ok (.ireturn, 1) := dk_172 (dk_at dksX5_line_5 15 rfl rfl)
abbrev cX5_waste : ByteArray := prog_20_method_124_code
def yX5_waste : MethodName := ⟨RX5, "waste", "()I"⟩
def dkwX5_waste_1 : List UInt8 := [16, 8, 46, 42, 180, 0, 68, 28, 46, 100, 96, 60, 132, 2, 1, 167, 255, 226, 27, 172]
abbrev dktX5_waste_1 : List UInt8 := dkwX5_waste_1 ++ []
def dkwX5_waste_0 : List UInt8 := [42, 182, 1, 153, 3, 60, 3, 61, 28, 42, 180, 0, 194, 4, 100, 162, 0, 26, 27, 42, 180, 0, 7]
abbrev dktX5_waste_0 : List UInt8 := dkwX5_waste_0 ++ dktX5_waste_1
theorem dksX5_waste_0 : cX5_waste.data.toList.drop 0 = dktX5_waste_0 := by decide +kernel
theorem dksX5_waste_1 : cX5_waste.data.toList.drop 23 = dktX5_waste_1 := dk_seg dksX5_waste_0 23 rfl rfl
theorem dX5_waste_0 : decode cX5_waste 0 = .ok (.aload_n 0, 1) := dk_42 (dk_at dksX5_waste_0 0 rfl rfl)
theorem dX5_waste_1 : decode cX5_waste 1 = .ok (.invokevirtual 409, 3) := dk_182 1 153 (dk_at dksX5_waste_0 1 rfl rfl)
theorem dX5_waste_4 : decode cX5_waste 4 = .ok (.iconst 0, 1) := dk_3 (dk_at dksX5_waste_0 4 rfl rfl)
theorem dX5_waste_5 : decode cX5_waste 5 = .ok (.istore_n 1, 1) := dk_60 (dk_at dksX5_waste_0 5 rfl rfl)
theorem dX5_waste_6 : decode cX5_waste 6 = .ok (.iconst 0, 1) := dk_3 (dk_at dksX5_waste_0 6 rfl rfl)
theorem dX5_waste_7 : decode cX5_waste 7 = .ok (.istore_n 2, 1) := dk_61 (dk_at dksX5_waste_0 7 rfl rfl)
theorem dX5_waste_8 : decode cX5_waste 8 = .ok (.iload_n 2, 1) := dk_28 (dk_at dksX5_waste_0 8 rfl rfl)
theorem dX5_waste_9 : decode cX5_waste 9 = .ok (.aload_n 0, 1) := dk_42 (dk_at dksX5_waste_0 9 rfl rfl)
theorem dX5_waste_10 : decode cX5_waste 10 = .ok (.getfield 194, 3) := dk_180 0 194 (dk_at dksX5_waste_0 10 rfl rfl)
theorem dX5_waste_13 : decode cX5_waste 13 = .ok (.iconst 1, 1) := dk_4 (dk_at dksX5_waste_0 13 rfl rfl)
theorem dX5_waste_14 : decode cX5_waste 14 = .ok (.isub, 1) := dk_100 (dk_at dksX5_waste_0 14 rfl rfl)
theorem dX5_waste_15 : decode cX5_waste 15 = .ok (.if_icmp .ge 26, 3) := dk_162 0 26 (dk_at dksX5_waste_0 15 rfl rfl)
theorem dX5_waste_18 : decode cX5_waste 18 = .ok (.iload_n 1, 1) := dk_27 (dk_at dksX5_waste_0 18 rfl rfl)
theorem dX5_waste_19 : decode cX5_waste 19 = .ok (.aload_n 0, 1) := dk_42 (dk_at dksX5_waste_0 19 rfl rfl)
theorem dX5_waste_20 : decode cX5_waste 20 = .ok (.getfield 7, 3) := dk_180 0 7 (dk_at dksX5_waste_0 20 rfl rfl)
theorem dX5_waste_23 : decode cX5_waste 23 = .ok (.bipush 8, 2) := dk_16 8 (dk_at dksX5_waste_1 0 rfl rfl)
theorem dX5_waste_25 : decode cX5_waste 25 = .ok (.iaload, 1) := dk_46 (dk_at dksX5_waste_1 2 rfl rfl)
theorem dX5_waste_26 : decode cX5_waste 26 = .ok (.aload_n 0, 1) := dk_42 (dk_at dksX5_waste_1 3 rfl rfl)
theorem dX5_waste_27 : decode cX5_waste 27 = .ok (.getfield 68, 3) := dk_180 0 68 (dk_at dksX5_waste_1 4 rfl rfl)
theorem dX5_waste_30 : decode cX5_waste 30 = .ok (.iload_n 2, 1) := dk_28 (dk_at dksX5_waste_1 7 rfl rfl)
theorem dX5_waste_31 : decode cX5_waste 31 = .ok (.iaload, 1) := dk_46 (dk_at dksX5_waste_1 8 rfl rfl)
theorem dX5_waste_32 : decode cX5_waste 32 = .ok (.isub, 1) := dk_100 (dk_at dksX5_waste_1 9 rfl rfl)
theorem dX5_waste_33 : decode cX5_waste 33 = .ok (.iadd, 1) := dk_96 (dk_at dksX5_waste_1 10 rfl rfl)
theorem dX5_waste_34 : decode cX5_waste 34 = .ok (.istore_n 1, 1) := dk_60 (dk_at dksX5_waste_1 11 rfl rfl)
theorem dX5_waste_35 : decode cX5_waste 35 = .ok (.iinc 2 1, 3) := dk_132 2 1 (dk_at dksX5_waste_1 12 rfl rfl)
theorem dX5_waste_38 : decode cX5_waste 38 = .ok (.goto (-30), 3) := dk_167 255 226 (dk_at dksX5_waste_1 15 rfl rfl)
theorem dX5_waste_41 : decode cX5_waste 41 = .ok (.iload_n 1, 1) := dk_27 (dk_at dksX5_waste_1 18 rfl rfl)
theorem dX5_waste_42 : decode cX5_waste 42 = .ok (.ireturn, 1) := dk_172 (dk_at dksX5_waste_1 19 rfl rfl)
abbrev cX5_linesFor : ByteArray := prog_20_method_126_code
def yX5_linesFor : MethodName := ⟨RX5, "linesFor", "(I)I"⟩
def dkwX5_linesFor_2 : List UInt8 := [180, 0, 194, 27, 163, 0, 5, 28, 172, 132, 2, 1, 167, 255, 232, 2, 172]
abbrev dktX5_linesFor_2 : List UInt8 := dkwX5_linesFor_2 ++ []
def dkwX5_linesFor_1 : List UInt8 := [153, 0, 5, 3, 172, 42, 182, 1, 153, 7, 61, 28, 16, 30, 163, 0, 24, 42, 28, 182, 0, 214, 42]
abbrev dktX5_linesFor_1 : List UInt8 := dkwX5_linesFor_1 ++ dktX5_linesFor_2
def dkwX5_linesFor_0 : List UInt8 := [42, 3, 181, 0, 100, 42, 27, 184, 1, 250, 154, 0, 7, 4, 167, 0, 4, 3, 4, 182, 0, 118]
abbrev dktX5_linesFor_0 : List UInt8 := dkwX5_linesFor_0 ++ dktX5_linesFor_1
theorem dksX5_linesFor_0 : cX5_linesFor.data.toList.drop 0 = dktX5_linesFor_0 := by decide +kernel
theorem dksX5_linesFor_1 : cX5_linesFor.data.toList.drop 22 = dktX5_linesFor_1 := dk_seg dksX5_linesFor_0 22 rfl rfl
theorem dksX5_linesFor_2 : cX5_linesFor.data.toList.drop 45 = dktX5_linesFor_2 := dk_seg dksX5_linesFor_1 23 rfl rfl
theorem dX5_linesFor_0 : decode cX5_linesFor 0 = .ok (.aload_n 0, 1) := dk_42 (dk_at dksX5_linesFor_0 0 rfl rfl)
theorem dX5_linesFor_1 : decode cX5_linesFor 1 = .ok (.iconst 0, 1) := dk_3 (dk_at dksX5_linesFor_0 1 rfl rfl)
theorem dX5_linesFor_2 : decode cX5_linesFor 2 = .ok (.putfield 100, 3) := dk_181 0 100 (dk_at dksX5_linesFor_0 2 rfl rfl)
theorem dX5_linesFor_5 : decode cX5_linesFor 5 = .ok (.aload_n 0, 1) := dk_42 (dk_at dksX5_linesFor_0 5 rfl rfl)
theorem dX5_linesFor_6 : decode cX5_linesFor 6 = .ok (.iload_n 1, 1) := dk_27 (dk_at dksX5_linesFor_0 6 rfl rfl)
theorem dX5_linesFor_7 : decode cX5_linesFor 7 = .ok (.invokestatic 506, 3) := dk_184 1 250 (dk_at dksX5_linesFor_0 7 rfl rfl)
theorem dX5_linesFor_10 : decode cX5_linesFor 10 = .ok (.ifCond .ne 7, 3) := dk_154 0 7 (dk_at dksX5_linesFor_0 10 rfl rfl)
theorem dX5_linesFor_13 : decode cX5_linesFor 13 = .ok (.iconst 1, 1) := dk_4 (dk_at dksX5_linesFor_0 13 rfl rfl)
theorem dX5_linesFor_14 : decode cX5_linesFor 14 = .ok (.goto 4, 3) := dk_167 0 4 (dk_at dksX5_linesFor_0 14 rfl rfl)
theorem dX5_linesFor_17 : decode cX5_linesFor 17 = .ok (.iconst 0, 1) := dk_3 (dk_at dksX5_linesFor_0 17 rfl rfl)
theorem dX5_linesFor_18 : decode cX5_linesFor 18 = .ok (.iconst 1, 1) := dk_4 (dk_at dksX5_linesFor_0 18 rfl rfl)
theorem dX5_linesFor_19 : decode cX5_linesFor 19 = .ok (.invokevirtual 118, 3) := dk_182 0 118 (dk_at dksX5_linesFor_0 19 rfl rfl)
theorem dX5_linesFor_22 : decode cX5_linesFor 22 = .ok (.ifCond .eq 5, 3) := dk_153 0 5 (dk_at dksX5_linesFor_1 0 rfl rfl)
theorem dX5_linesFor_25 : decode cX5_linesFor 25 = .ok (.iconst 0, 1) := dk_3 (dk_at dksX5_linesFor_1 3 rfl rfl)
theorem dX5_linesFor_26 : decode cX5_linesFor 26 = .ok (.ireturn, 1) := dk_172 (dk_at dksX5_linesFor_1 4 rfl rfl)
theorem dX5_linesFor_27 : decode cX5_linesFor 27 = .ok (.aload_n 0, 1) := dk_42 (dk_at dksX5_linesFor_1 5 rfl rfl)
theorem dX5_linesFor_28 : decode cX5_linesFor 28 = .ok (.invokevirtual 409, 3) := dk_182 1 153 (dk_at dksX5_linesFor_1 6 rfl rfl)
theorem dX5_linesFor_31 : decode cX5_linesFor 31 = .ok (.iconst 4, 1) := dk_7 (dk_at dksX5_linesFor_1 9 rfl rfl)
theorem dX5_linesFor_32 : decode cX5_linesFor 32 = .ok (.istore_n 2, 1) := dk_61 (dk_at dksX5_linesFor_1 10 rfl rfl)
theorem dX5_linesFor_33 : decode cX5_linesFor 33 = .ok (.iload_n 2, 1) := dk_28 (dk_at dksX5_linesFor_1 11 rfl rfl)
theorem dX5_linesFor_34 : decode cX5_linesFor 34 = .ok (.bipush 30, 2) := dk_16 30 (dk_at dksX5_linesFor_1 12 rfl rfl)
theorem dX5_linesFor_36 : decode cX5_linesFor 36 = .ok (.if_icmp .gt 24, 3) := dk_163 0 24 (dk_at dksX5_linesFor_1 14 rfl rfl)
theorem dX5_linesFor_39 : decode cX5_linesFor 39 = .ok (.aload_n 0, 1) := dk_42 (dk_at dksX5_linesFor_1 17 rfl rfl)
theorem dX5_linesFor_40 : decode cX5_linesFor 40 = .ok (.iload_n 2, 1) := dk_28 (dk_at dksX5_linesFor_1 18 rfl rfl)
theorem dX5_linesFor_41 : decode cX5_linesFor 41 = .ok (.invokevirtual 214, 3) := dk_182 0 214 (dk_at dksX5_linesFor_1 19 rfl rfl)
theorem dX5_linesFor_44 : decode cX5_linesFor 44 = .ok (.aload_n 0, 1) := dk_42 (dk_at dksX5_linesFor_1 22 rfl rfl)
theorem dX5_linesFor_45 : decode cX5_linesFor 45 = .ok (.getfield 194, 3) := dk_180 0 194 (dk_at dksX5_linesFor_2 0 rfl rfl)
theorem dX5_linesFor_48 : decode cX5_linesFor 48 = .ok (.iload_n 1, 1) := dk_27 (dk_at dksX5_linesFor_2 3 rfl rfl)
theorem dX5_linesFor_49 : decode cX5_linesFor 49 = .ok (.if_icmp .gt 5, 3) := dk_163 0 5 (dk_at dksX5_linesFor_2 4 rfl rfl)
theorem dX5_linesFor_52 : decode cX5_linesFor 52 = .ok (.iload_n 2, 1) := dk_28 (dk_at dksX5_linesFor_2 7 rfl rfl)
theorem dX5_linesFor_53 : decode cX5_linesFor 53 = .ok (.ireturn, 1) := dk_172 (dk_at dksX5_linesFor_2 8 rfl rfl)
theorem dX5_linesFor_54 : decode cX5_linesFor 54 = .ok (.iinc 2 1, 3) := dk_132 2 1 (dk_at dksX5_linesFor_2 9 rfl rfl)
theorem dX5_linesFor_57 : decode cX5_linesFor 57 = .ok (.goto (-24), 3) := dk_167 255 232 (dk_at dksX5_linesFor_2 12 rfl rfl)
theorem dX5_linesFor_60 : decode cX5_linesFor 60 = .ok (.iconst (-1), 1) := dk_2 (dk_at dksX5_linesFor_2 15 rfl rfl)
theorem dX5_linesFor_61 : decode cX5_linesFor 61 = .ok (.ireturn, 1) := dk_172 (dk_at dksX5_linesFor_2 16 rfl rfl)
abbrev cX5_arePages : ByteArray := prog_20_method_125_code
def yX5_arePages : MethodName := ⟨RX5, "arePages", "(I)Z"⟩
def dkwX5_arePages_0 : List UInt8 := [26, 4, 16, 99, 184, 0, 103, 172]
abbrev dktX5_arePages_0 : List UInt8 := dkwX5_arePages_0 ++ []
theorem dksX5_arePages_0 : cX5_arePages.data.toList.drop 0 = dktX5_arePages_0 := by decide +kernel
theorem dX5_arePages_0 : decode cX5_arePages 0 = .ok (.iload_n 0, 1) := dk_26 (dk_at dksX5_arePages_0 0 rfl rfl)
theorem dX5_arePages_1 : decode cX5_arePages 1 = .ok (.iconst 1, 1) := dk_4 (dk_at dksX5_arePages_0 1 rfl rfl)
theorem dX5_arePages_2 : decode cX5_arePages 2 = .ok (.bipush 99, 2) := dk_16 99 (dk_at dksX5_arePages_0 2 rfl rfl)
theorem dX5_arePages_4 : decode cX5_arePages 4 = .ok (.invokestatic 103, 3) := dk_184 0 103 (dk_at dksX5_arePages_0 4 rfl rfl)
theorem dX5_arePages_7 : decode cX5_arePages 7 = .ok (.ireturn, 1) := dk_172 (dk_at dksX5_arePages_0 7 rfl rfl)
abbrev cX5_volumes : ByteArray := prog_20_method_127_code
def yX5_volumes : MethodName := ⟨RX5, "volumes", "(I)I"⟩
def dkwX5_volumes_1 : List UInt8 := [153, 0, 5, 3, 172, 42, 182, 1, 153, 42, 27, 182, 1, 253, 172]
abbrev dktX5_volumes_1 : List UInt8 := dkwX5_volumes_1 ++ []
def dkwX5_volumes_0 : List UInt8 := [42, 3, 181, 0, 100, 42, 27, 184, 1, 250, 154, 0, 7, 4, 167, 0, 4, 3, 4, 182, 0, 118]
abbrev dktX5_volumes_0 : List UInt8 := dkwX5_volumes_0 ++ dktX5_volumes_1
theorem dksX5_volumes_0 : cX5_volumes.data.toList.drop 0 = dktX5_volumes_0 := by decide +kernel
theorem dksX5_volumes_1 : cX5_volumes.data.toList.drop 22 = dktX5_volumes_1 := dk_seg dksX5_volumes_0 22 rfl rfl
theorem dX5_volumes_0 : decode cX5_volumes 0 = .ok (.aload_n 0, 1) := dk_42 (dk_at dksX5_volumes_0 0 rfl rfl)
theorem dX5_volumes_1 : decode cX5_volumes 1 = .ok (.iconst 0, 1) := dk_3 (dk_at dksX5_volumes_0 1 rfl rfl)
theorem dX5_volumes_2 : decode cX5_volumes 2 = .ok (.putfield 100, 3) := dk_181 0 100 (dk_at dksX5_volumes_0 2 rfl rfl)
theorem dX5_volumes_5 : decode cX5_volumes 5 = .ok (.aload_n 0, 1) := dk_42 (dk_at dksX5_volumes_0 5 rfl rfl)
theorem dX5_volumes_6 : decode cX5_volumes 6 = .ok (.iload_n 1, 1) := dk_27 (dk_at dksX5_volumes_0 6 rfl rfl)
theorem dX5_volumes_7 : decode cX5_volumes 7 = .ok (.invokestatic 506, 3) := dk_184 1 250 (dk_at dksX5_volumes_0 7 rfl rfl)
theorem dX5_volumes_10 : decode cX5_volumes 10 = .ok (.ifCond .ne 7, 3) := dk_154 0 7 (dk_at dksX5_volumes_0 10 rfl rfl)
theorem dX5_volumes_13 : decode cX5_volumes 13 = .ok (.iconst 1, 1) := dk_4 (dk_at dksX5_volumes_0 13 rfl rfl)
theorem dX5_volumes_14 : decode cX5_volumes 14 = .ok (.goto 4, 3) := dk_167 0 4 (dk_at dksX5_volumes_0 14 rfl rfl)
theorem dX5_volumes_17 : decode cX5_volumes 17 = .ok (.iconst 0, 1) := dk_3 (dk_at dksX5_volumes_0 17 rfl rfl)
theorem dX5_volumes_18 : decode cX5_volumes 18 = .ok (.iconst 1, 1) := dk_4 (dk_at dksX5_volumes_0 18 rfl rfl)
theorem dX5_volumes_19 : decode cX5_volumes 19 = .ok (.invokevirtual 118, 3) := dk_182 0 118 (dk_at dksX5_volumes_0 19 rfl rfl)
theorem dX5_volumes_22 : decode cX5_volumes 22 = .ok (.ifCond .eq 5, 3) := dk_153 0 5 (dk_at dksX5_volumes_1 0 rfl rfl)
theorem dX5_volumes_25 : decode cX5_volumes 25 = .ok (.iconst 0, 1) := dk_3 (dk_at dksX5_volumes_1 3 rfl rfl)
theorem dX5_volumes_26 : decode cX5_volumes 26 = .ok (.ireturn, 1) := dk_172 (dk_at dksX5_volumes_1 4 rfl rfl)
theorem dX5_volumes_27 : decode cX5_volumes 27 = .ok (.aload_n 0, 1) := dk_42 (dk_at dksX5_volumes_1 5 rfl rfl)
theorem dX5_volumes_28 : decode cX5_volumes 28 = .ok (.invokevirtual 409, 3) := dk_182 1 153 (dk_at dksX5_volumes_1 6 rfl rfl)
theorem dX5_volumes_31 : decode cX5_volumes 31 = .ok (.aload_n 0, 1) := dk_42 (dk_at dksX5_volumes_1 9 rfl rfl)
theorem dX5_volumes_32 : decode cX5_volumes 32 = .ok (.iload_n 1, 1) := dk_27 (dk_at dksX5_volumes_1 10 rfl rfl)
theorem dX5_volumes_33 : decode cX5_volumes 33 = .ok (.invokevirtual 509, 3) := dk_182 1 253 (dk_at dksX5_volumes_1 11 rfl rfl)
theorem dX5_volumes_36 : decode cX5_volumes 36 = .ok (.ireturn, 1) := dk_172 (dk_at dksX5_volumes_1 14 rfl rfl)
abbrev cX5_splits : ByteArray := prog_20_method_50_code
def yX5_splits : MethodName := ⟨RX5, "splits", "(I)I"⟩
def dkwX5_splits_4 : List UInt8 := [167, 0, 12, 42, 180, 0, 237, 184, 0, 232, 4, 96, 172]
abbrev dktX5_splits_4 : List UInt8 := dkwX5_splits_4 ++ []
def dkwX5_splits_3 : List UInt8 := [181, 0, 237, 42, 29, 181, 0, 240, 132, 2, 1, 167, 255, 200, 42, 180, 0, 240, 2, 160, 0, 7, 2]
abbrev dktX5_splits_3 : List UInt8 := dkwX5_splits_3 ++ dktX5_splits_4
def dkwX5_splits_2 : List UInt8 := [42, 180, 0, 240, 2, 159, 0, 15, 42, 28, 29, 182, 0, 252, 154, 0, 6, 167, 0, 13, 42, 28]
abbrev dktX5_splits_2 : List UInt8 := dkwX5_splits_2 ++ dktX5_splits_3
def dkwX5_splits_1 : List UInt8 := [61, 28, 4, 42, 180, 0, 218, 4, 100, 120, 162, 0, 50, 42, 28, 182, 0, 249, 62, 29, 27, 163, 0, 33]
abbrev dktX5_splits_1 : List UInt8 := dkwX5_splits_1 ++ dktX5_splits_2
def dkwX5_splits_0 : List UInt8 := [42, 182, 0, 246, 42, 180, 0, 218, 154, 0, 5, 3, 172, 42, 2, 181, 0, 240, 42, 3, 181, 0, 237, 3]
abbrev dktX5_splits_0 : List UInt8 := dkwX5_splits_0 ++ dktX5_splits_1
theorem dksX5_splits_0 : cX5_splits.data.toList.drop 0 = dktX5_splits_0 := by decide +kernel
theorem dksX5_splits_1 : cX5_splits.data.toList.drop 24 = dktX5_splits_1 := dk_seg dksX5_splits_0 24 rfl rfl
theorem dksX5_splits_2 : cX5_splits.data.toList.drop 48 = dktX5_splits_2 := dk_seg dksX5_splits_1 24 rfl rfl
theorem dksX5_splits_3 : cX5_splits.data.toList.drop 70 = dktX5_splits_3 := dk_seg dksX5_splits_2 22 rfl rfl
theorem dksX5_splits_4 : cX5_splits.data.toList.drop 93 = dktX5_splits_4 := dk_seg dksX5_splits_3 23 rfl rfl
theorem dX5_splits_0 : decode cX5_splits 0 = .ok (.aload_n 0, 1) := dk_42 (dk_at dksX5_splits_0 0 rfl rfl)
theorem dX5_splits_1 : decode cX5_splits 1 = .ok (.invokevirtual 246, 3) := dk_182 0 246 (dk_at dksX5_splits_0 1 rfl rfl)
theorem dX5_splits_4 : decode cX5_splits 4 = .ok (.aload_n 0, 1) := dk_42 (dk_at dksX5_splits_0 4 rfl rfl)
theorem dX5_splits_5 : decode cX5_splits 5 = .ok (.getfield 218, 3) := dk_180 0 218 (dk_at dksX5_splits_0 5 rfl rfl)
theorem dX5_splits_8 : decode cX5_splits 8 = .ok (.ifCond .ne 5, 3) := dk_154 0 5 (dk_at dksX5_splits_0 8 rfl rfl)
theorem dX5_splits_11 : decode cX5_splits 11 = .ok (.iconst 0, 1) := dk_3 (dk_at dksX5_splits_0 11 rfl rfl)
theorem dX5_splits_12 : decode cX5_splits 12 = .ok (.ireturn, 1) := dk_172 (dk_at dksX5_splits_0 12 rfl rfl)
theorem dX5_splits_13 : decode cX5_splits 13 = .ok (.aload_n 0, 1) := dk_42 (dk_at dksX5_splits_0 13 rfl rfl)
theorem dX5_splits_14 : decode cX5_splits 14 = .ok (.iconst (-1), 1) := dk_2 (dk_at dksX5_splits_0 14 rfl rfl)
theorem dX5_splits_15 : decode cX5_splits 15 = .ok (.putfield 240, 3) := dk_181 0 240 (dk_at dksX5_splits_0 15 rfl rfl)
theorem dX5_splits_18 : decode cX5_splits 18 = .ok (.aload_n 0, 1) := dk_42 (dk_at dksX5_splits_0 18 rfl rfl)
theorem dX5_splits_19 : decode cX5_splits 19 = .ok (.iconst 0, 1) := dk_3 (dk_at dksX5_splits_0 19 rfl rfl)
theorem dX5_splits_20 : decode cX5_splits 20 = .ok (.putfield 237, 3) := dk_181 0 237 (dk_at dksX5_splits_0 20 rfl rfl)
theorem dX5_splits_23 : decode cX5_splits 23 = .ok (.iconst 0, 1) := dk_3 (dk_at dksX5_splits_0 23 rfl rfl)
theorem dX5_splits_24 : decode cX5_splits 24 = .ok (.istore_n 2, 1) := dk_61 (dk_at dksX5_splits_1 0 rfl rfl)
theorem dX5_splits_25 : decode cX5_splits 25 = .ok (.iload_n 2, 1) := dk_28 (dk_at dksX5_splits_1 1 rfl rfl)
theorem dX5_splits_26 : decode cX5_splits 26 = .ok (.iconst 1, 1) := dk_4 (dk_at dksX5_splits_1 2 rfl rfl)
theorem dX5_splits_27 : decode cX5_splits 27 = .ok (.aload_n 0, 1) := dk_42 (dk_at dksX5_splits_1 3 rfl rfl)
theorem dX5_splits_28 : decode cX5_splits 28 = .ok (.getfield 218, 3) := dk_180 0 218 (dk_at dksX5_splits_1 4 rfl rfl)
theorem dX5_splits_31 : decode cX5_splits 31 = .ok (.iconst 1, 1) := dk_4 (dk_at dksX5_splits_1 7 rfl rfl)
theorem dX5_splits_32 : decode cX5_splits 32 = .ok (.isub, 1) := dk_100 (dk_at dksX5_splits_1 8 rfl rfl)
theorem dX5_splits_33 : decode cX5_splits 33 = .ok (.ishl, 1) := dk_120 (dk_at dksX5_splits_1 9 rfl rfl)
theorem dX5_splits_34 : decode cX5_splits 34 = .ok (.if_icmp .ge 50, 3) := dk_162 0 50 (dk_at dksX5_splits_1 10 rfl rfl)
theorem dX5_splits_37 : decode cX5_splits 37 = .ok (.aload_n 0, 1) := dk_42 (dk_at dksX5_splits_1 13 rfl rfl)
theorem dX5_splits_38 : decode cX5_splits 38 = .ok (.iload_n 2, 1) := dk_28 (dk_at dksX5_splits_1 14 rfl rfl)
theorem dX5_splits_39 : decode cX5_splits 39 = .ok (.invokevirtual 249, 3) := dk_182 0 249 (dk_at dksX5_splits_1 15 rfl rfl)
theorem dX5_splits_42 : decode cX5_splits 42 = .ok (.istore_n 3, 1) := dk_62 (dk_at dksX5_splits_1 18 rfl rfl)
theorem dX5_splits_43 : decode cX5_splits 43 = .ok (.iload_n 3, 1) := dk_29 (dk_at dksX5_splits_1 19 rfl rfl)
theorem dX5_splits_44 : decode cX5_splits 44 = .ok (.iload_n 1, 1) := dk_27 (dk_at dksX5_splits_1 20 rfl rfl)
theorem dX5_splits_45 : decode cX5_splits 45 = .ok (.if_icmp .gt 33, 3) := dk_163 0 33 (dk_at dksX5_splits_1 21 rfl rfl)
theorem dX5_splits_48 : decode cX5_splits 48 = .ok (.aload_n 0, 1) := dk_42 (dk_at dksX5_splits_2 0 rfl rfl)
theorem dX5_splits_49 : decode cX5_splits 49 = .ok (.getfield 240, 3) := dk_180 0 240 (dk_at dksX5_splits_2 1 rfl rfl)
theorem dX5_splits_52 : decode cX5_splits 52 = .ok (.iconst (-1), 1) := dk_2 (dk_at dksX5_splits_2 4 rfl rfl)
theorem dX5_splits_53 : decode cX5_splits 53 = .ok (.if_icmp .eq 15, 3) := dk_159 0 15 (dk_at dksX5_splits_2 5 rfl rfl)
theorem dX5_splits_56 : decode cX5_splits 56 = .ok (.aload_n 0, 1) := dk_42 (dk_at dksX5_splits_2 8 rfl rfl)
theorem dX5_splits_57 : decode cX5_splits 57 = .ok (.iload_n 2, 1) := dk_28 (dk_at dksX5_splits_2 9 rfl rfl)
theorem dX5_splits_58 : decode cX5_splits 58 = .ok (.iload_n 3, 1) := dk_29 (dk_at dksX5_splits_2 10 rfl rfl)
theorem dX5_splits_59 : decode cX5_splits 59 = .ok (.invokevirtual 252, 3) := dk_182 0 252 (dk_at dksX5_splits_2 11 rfl rfl)
theorem dX5_splits_62 : decode cX5_splits 62 = .ok (.ifCond .ne 6, 3) := dk_154 0 6 (dk_at dksX5_splits_2 14 rfl rfl)
theorem dX5_splits_65 : decode cX5_splits 65 = .ok (.goto 13, 3) := dk_167 0 13 (dk_at dksX5_splits_2 17 rfl rfl)
theorem dX5_splits_68 : decode cX5_splits 68 = .ok (.aload_n 0, 1) := dk_42 (dk_at dksX5_splits_2 20 rfl rfl)
theorem dX5_splits_69 : decode cX5_splits 69 = .ok (.iload_n 2, 1) := dk_28 (dk_at dksX5_splits_2 21 rfl rfl)
theorem dX5_splits_70 : decode cX5_splits 70 = .ok (.putfield 237, 3) := dk_181 0 237 (dk_at dksX5_splits_3 0 rfl rfl)
theorem dX5_splits_73 : decode cX5_splits 73 = .ok (.aload_n 0, 1) := dk_42 (dk_at dksX5_splits_3 3 rfl rfl)
theorem dX5_splits_74 : decode cX5_splits 74 = .ok (.iload_n 3, 1) := dk_29 (dk_at dksX5_splits_3 4 rfl rfl)
theorem dX5_splits_75 : decode cX5_splits 75 = .ok (.putfield 240, 3) := dk_181 0 240 (dk_at dksX5_splits_3 5 rfl rfl)
theorem dX5_splits_78 : decode cX5_splits 78 = .ok (.iinc 2 1, 3) := dk_132 2 1 (dk_at dksX5_splits_3 8 rfl rfl)
theorem dX5_splits_81 : decode cX5_splits 81 = .ok (.goto (-56), 3) := dk_167 255 200 (dk_at dksX5_splits_3 11 rfl rfl)
theorem dX5_splits_84 : decode cX5_splits 84 = .ok (.aload_n 0, 1) := dk_42 (dk_at dksX5_splits_3 14 rfl rfl)
theorem dX5_splits_85 : decode cX5_splits 85 = .ok (.getfield 240, 3) := dk_180 0 240 (dk_at dksX5_splits_3 15 rfl rfl)
theorem dX5_splits_88 : decode cX5_splits 88 = .ok (.iconst (-1), 1) := dk_2 (dk_at dksX5_splits_3 18 rfl rfl)
theorem dX5_splits_89 : decode cX5_splits 89 = .ok (.if_icmp .ne 7, 3) := dk_160 0 7 (dk_at dksX5_splits_3 19 rfl rfl)
theorem dX5_splits_92 : decode cX5_splits 92 = .ok (.iconst (-1), 1) := dk_2 (dk_at dksX5_splits_3 22 rfl rfl)
theorem dX5_splits_93 : decode cX5_splits 93 = .ok (.goto 12, 3) := dk_167 0 12 (dk_at dksX5_splits_4 0 rfl rfl)
theorem dX5_splits_96 : decode cX5_splits 96 = .ok (.aload_n 0, 1) := dk_42 (dk_at dksX5_splits_4 3 rfl rfl)
theorem dX5_splits_97 : decode cX5_splits 97 = .ok (.getfield 237, 3) := dk_180 0 237 (dk_at dksX5_splits_4 4 rfl rfl)
theorem dX5_splits_100 : decode cX5_splits 100 = .ok (.invokestatic 232, 3) := dk_184 0 232 (dk_at dksX5_splits_4 7 rfl rfl)
theorem dX5_splits_103 : decode cX5_splits 103 = .ok (.iconst 1, 1) := dk_4 (dk_at dksX5_splits_4 10 rfl rfl)
theorem dX5_splits_104 : decode cX5_splits 104 = .ok (.iadd, 1) := dk_96 (dk_at dksX5_splits_4 11 rfl rfl)
theorem dX5_splits_105 : decode cX5_splits 105 = .ok (.ireturn, 1) := dk_172 (dk_at dksX5_splits_4 12 rfl rfl)
abbrev cX5_laysBlocks : ByteArray := prog_20_method_45_code
def yX5_laysBlocks : MethodName := ⟨RX5, "laysBlocks", "()V"⟩
def dkwX5_laysBlocks_3 : List UInt8 := [180, 0, 218, 4, 96, 181, 0, 218, 132, 1, 1, 167, 255, 185, 177]
abbrev dktX5_laysBlocks_3 : List UInt8 := dkwX5_laysBlocks_3 ++ []
def dkwX5_laysBlocks_2 : List UInt8 := [180, 0, 7, 16, 8, 46, 96, 5, 100, 42, 180, 0, 7, 16, 8, 46, 4, 100, 108, 79, 42, 89]
abbrev dktX5_laysBlocks_2 : List UInt8 := dkwX5_laysBlocks_2 ++ dktX5_laysBlocks_3
def dkwX5_laysBlocks_1 : List UInt8 := [167, 0, 52, 42, 180, 0, 71, 42, 180, 0, 218, 42, 42, 180, 0, 41, 27, 46, 182, 0, 221, 42]
abbrev dktX5_laysBlocks_1 : List UInt8 := dkwX5_laysBlocks_1 ++ dktX5_laysBlocks_2
def dkwX5_laysBlocks_0 : List UInt8 := [42, 3, 181, 0, 218, 3, 60, 27, 42, 180, 0, 170, 162, 0, 69, 42, 27, 182, 0, 191, 154, 0, 6]
abbrev dktX5_laysBlocks_0 : List UInt8 := dkwX5_laysBlocks_0 ++ dktX5_laysBlocks_1
theorem dksX5_laysBlocks_0 : cX5_laysBlocks.data.toList.drop 0 = dktX5_laysBlocks_0 := by decide +kernel
theorem dksX5_laysBlocks_1 : cX5_laysBlocks.data.toList.drop 23 = dktX5_laysBlocks_1 := dk_seg dksX5_laysBlocks_0 23 rfl rfl
theorem dksX5_laysBlocks_2 : cX5_laysBlocks.data.toList.drop 45 = dktX5_laysBlocks_2 := dk_seg dksX5_laysBlocks_1 22 rfl rfl
theorem dksX5_laysBlocks_3 : cX5_laysBlocks.data.toList.drop 67 = dktX5_laysBlocks_3 := dk_seg dksX5_laysBlocks_2 22 rfl rfl
theorem dX5_laysBlocks_0 : decode cX5_laysBlocks 0 = .ok (.aload_n 0, 1) := dk_42 (dk_at dksX5_laysBlocks_0 0 rfl rfl)
theorem dX5_laysBlocks_1 : decode cX5_laysBlocks 1 = .ok (.iconst 0, 1) := dk_3 (dk_at dksX5_laysBlocks_0 1 rfl rfl)
theorem dX5_laysBlocks_2 : decode cX5_laysBlocks 2 = .ok (.putfield 218, 3) := dk_181 0 218 (dk_at dksX5_laysBlocks_0 2 rfl rfl)
theorem dX5_laysBlocks_5 : decode cX5_laysBlocks 5 = .ok (.iconst 0, 1) := dk_3 (dk_at dksX5_laysBlocks_0 5 rfl rfl)
theorem dX5_laysBlocks_6 : decode cX5_laysBlocks 6 = .ok (.istore_n 1, 1) := dk_60 (dk_at dksX5_laysBlocks_0 6 rfl rfl)
theorem dX5_laysBlocks_7 : decode cX5_laysBlocks 7 = .ok (.iload_n 1, 1) := dk_27 (dk_at dksX5_laysBlocks_0 7 rfl rfl)
theorem dX5_laysBlocks_8 : decode cX5_laysBlocks 8 = .ok (.aload_n 0, 1) := dk_42 (dk_at dksX5_laysBlocks_0 8 rfl rfl)
theorem dX5_laysBlocks_9 : decode cX5_laysBlocks 9 = .ok (.getfield 170, 3) := dk_180 0 170 (dk_at dksX5_laysBlocks_0 9 rfl rfl)
theorem dX5_laysBlocks_12 : decode cX5_laysBlocks 12 = .ok (.if_icmp .ge 69, 3) := dk_162 0 69 (dk_at dksX5_laysBlocks_0 12 rfl rfl)
theorem dX5_laysBlocks_15 : decode cX5_laysBlocks 15 = .ok (.aload_n 0, 1) := dk_42 (dk_at dksX5_laysBlocks_0 15 rfl rfl)
theorem dX5_laysBlocks_16 : decode cX5_laysBlocks 16 = .ok (.iload_n 1, 1) := dk_27 (dk_at dksX5_laysBlocks_0 16 rfl rfl)
theorem dX5_laysBlocks_17 : decode cX5_laysBlocks 17 = .ok (.invokevirtual 191, 3) := dk_182 0 191 (dk_at dksX5_laysBlocks_0 17 rfl rfl)
theorem dX5_laysBlocks_20 : decode cX5_laysBlocks 20 = .ok (.ifCond .ne 6, 3) := dk_154 0 6 (dk_at dksX5_laysBlocks_0 20 rfl rfl)
theorem dX5_laysBlocks_23 : decode cX5_laysBlocks 23 = .ok (.goto 52, 3) := dk_167 0 52 (dk_at dksX5_laysBlocks_1 0 rfl rfl)
theorem dX5_laysBlocks_26 : decode cX5_laysBlocks 26 = .ok (.aload_n 0, 1) := dk_42 (dk_at dksX5_laysBlocks_1 3 rfl rfl)
theorem dX5_laysBlocks_27 : decode cX5_laysBlocks 27 = .ok (.getfield 71, 3) := dk_180 0 71 (dk_at dksX5_laysBlocks_1 4 rfl rfl)
theorem dX5_laysBlocks_30 : decode cX5_laysBlocks 30 = .ok (.aload_n 0, 1) := dk_42 (dk_at dksX5_laysBlocks_1 7 rfl rfl)
theorem dX5_laysBlocks_31 : decode cX5_laysBlocks 31 = .ok (.getfield 218, 3) := dk_180 0 218 (dk_at dksX5_laysBlocks_1 8 rfl rfl)
theorem dX5_laysBlocks_34 : decode cX5_laysBlocks 34 = .ok (.aload_n 0, 1) := dk_42 (dk_at dksX5_laysBlocks_1 11 rfl rfl)
theorem dX5_laysBlocks_35 : decode cX5_laysBlocks 35 = .ok (.aload_n 0, 1) := dk_42 (dk_at dksX5_laysBlocks_1 12 rfl rfl)
theorem dX5_laysBlocks_36 : decode cX5_laysBlocks 36 = .ok (.getfield 41, 3) := dk_180 0 41 (dk_at dksX5_laysBlocks_1 13 rfl rfl)
theorem dX5_laysBlocks_39 : decode cX5_laysBlocks 39 = .ok (.iload_n 1, 1) := dk_27 (dk_at dksX5_laysBlocks_1 16 rfl rfl)
theorem dX5_laysBlocks_40 : decode cX5_laysBlocks 40 = .ok (.iaload, 1) := dk_46 (dk_at dksX5_laysBlocks_1 17 rfl rfl)
theorem dX5_laysBlocks_41 : decode cX5_laysBlocks 41 = .ok (.invokevirtual 221, 3) := dk_182 0 221 (dk_at dksX5_laysBlocks_1 18 rfl rfl)
theorem dX5_laysBlocks_44 : decode cX5_laysBlocks 44 = .ok (.aload_n 0, 1) := dk_42 (dk_at dksX5_laysBlocks_1 21 rfl rfl)
theorem dX5_laysBlocks_45 : decode cX5_laysBlocks 45 = .ok (.getfield 7, 3) := dk_180 0 7 (dk_at dksX5_laysBlocks_2 0 rfl rfl)
theorem dX5_laysBlocks_48 : decode cX5_laysBlocks 48 = .ok (.bipush 8, 2) := dk_16 8 (dk_at dksX5_laysBlocks_2 3 rfl rfl)
theorem dX5_laysBlocks_50 : decode cX5_laysBlocks 50 = .ok (.iaload, 1) := dk_46 (dk_at dksX5_laysBlocks_2 5 rfl rfl)
theorem dX5_laysBlocks_51 : decode cX5_laysBlocks 51 = .ok (.iadd, 1) := dk_96 (dk_at dksX5_laysBlocks_2 6 rfl rfl)
theorem dX5_laysBlocks_52 : decode cX5_laysBlocks 52 = .ok (.iconst 2, 1) := dk_5 (dk_at dksX5_laysBlocks_2 7 rfl rfl)
theorem dX5_laysBlocks_53 : decode cX5_laysBlocks 53 = .ok (.isub, 1) := dk_100 (dk_at dksX5_laysBlocks_2 8 rfl rfl)
theorem dX5_laysBlocks_54 : decode cX5_laysBlocks 54 = .ok (.aload_n 0, 1) := dk_42 (dk_at dksX5_laysBlocks_2 9 rfl rfl)
theorem dX5_laysBlocks_55 : decode cX5_laysBlocks 55 = .ok (.getfield 7, 3) := dk_180 0 7 (dk_at dksX5_laysBlocks_2 10 rfl rfl)
theorem dX5_laysBlocks_58 : decode cX5_laysBlocks 58 = .ok (.bipush 8, 2) := dk_16 8 (dk_at dksX5_laysBlocks_2 13 rfl rfl)
theorem dX5_laysBlocks_60 : decode cX5_laysBlocks 60 = .ok (.iaload, 1) := dk_46 (dk_at dksX5_laysBlocks_2 15 rfl rfl)
theorem dX5_laysBlocks_61 : decode cX5_laysBlocks 61 = .ok (.iconst 1, 1) := dk_4 (dk_at dksX5_laysBlocks_2 16 rfl rfl)
theorem dX5_laysBlocks_62 : decode cX5_laysBlocks 62 = .ok (.isub, 1) := dk_100 (dk_at dksX5_laysBlocks_2 17 rfl rfl)
theorem dX5_laysBlocks_63 : decode cX5_laysBlocks 63 = .ok (.idiv, 1) := dk_108 (dk_at dksX5_laysBlocks_2 18 rfl rfl)
theorem dX5_laysBlocks_64 : decode cX5_laysBlocks 64 = .ok (.iastore, 1) := dk_79 (dk_at dksX5_laysBlocks_2 19 rfl rfl)
theorem dX5_laysBlocks_65 : decode cX5_laysBlocks 65 = .ok (.aload_n 0, 1) := dk_42 (dk_at dksX5_laysBlocks_2 20 rfl rfl)
theorem dX5_laysBlocks_66 : decode cX5_laysBlocks 66 = .ok (.dup, 1) := dk_89 (dk_at dksX5_laysBlocks_2 21 rfl rfl)
theorem dX5_laysBlocks_67 : decode cX5_laysBlocks 67 = .ok (.getfield 218, 3) := dk_180 0 218 (dk_at dksX5_laysBlocks_3 0 rfl rfl)
theorem dX5_laysBlocks_70 : decode cX5_laysBlocks 70 = .ok (.iconst 1, 1) := dk_4 (dk_at dksX5_laysBlocks_3 3 rfl rfl)
theorem dX5_laysBlocks_71 : decode cX5_laysBlocks 71 = .ok (.iadd, 1) := dk_96 (dk_at dksX5_laysBlocks_3 4 rfl rfl)
theorem dX5_laysBlocks_72 : decode cX5_laysBlocks 72 = .ok (.putfield 218, 3) := dk_181 0 218 (dk_at dksX5_laysBlocks_3 5 rfl rfl)
theorem dX5_laysBlocks_75 : decode cX5_laysBlocks 75 = .ok (.iinc 1 1, 3) := dk_132 1 1 (dk_at dksX5_laysBlocks_3 8 rfl rfl)
theorem dX5_laysBlocks_78 : decode cX5_laysBlocks 78 = .ok (.goto (-71), 3) := dk_167 255 185 (dk_at dksX5_laysBlocks_3 11 rfl rfl)
theorem dX5_laysBlocks_81 : decode cX5_laysBlocks 81 = .ok (.return_, 1) := dk_177 (dk_at dksX5_laysBlocks_3 14 rfl rfl)
abbrev cX5_mostOf : ByteArray := prog_20_method_47_code
def yX5_mostOf : MethodName := ⟨RX5, "mostOf", "(I)I"⟩
def dkwX5_mostOf_2 : List UInt8 := [132, 4, 1, 167, 255, 213, 28, 172]
abbrev dktX5_mostOf_2 : List UInt8 := dkwX5_mostOf_2 ++ []
def dkwX5_mostOf_1 : List UInt8 := [96, 62, 28, 29, 184, 0, 224, 61, 27, 21, 4, 184, 0, 229, 153, 0, 7, 3, 167, 0, 4, 29, 62]
abbrev dktX5_mostOf_1 : List UInt8 := dkwX5_mostOf_1 ++ dktX5_mostOf_2
def dkwX5_mostOf_0 : List UInt8 := [3, 61, 3, 62, 3, 54, 4, 21, 4, 42, 180, 0, 218, 162, 0, 40, 29, 42, 180, 0, 71, 21, 4, 46]
abbrev dktX5_mostOf_0 : List UInt8 := dkwX5_mostOf_0 ++ dktX5_mostOf_1
theorem dksX5_mostOf_0 : cX5_mostOf.data.toList.drop 0 = dktX5_mostOf_0 := by decide +kernel
theorem dksX5_mostOf_1 : cX5_mostOf.data.toList.drop 24 = dktX5_mostOf_1 := dk_seg dksX5_mostOf_0 24 rfl rfl
theorem dksX5_mostOf_2 : cX5_mostOf.data.toList.drop 47 = dktX5_mostOf_2 := dk_seg dksX5_mostOf_1 23 rfl rfl
theorem dX5_mostOf_0 : decode cX5_mostOf 0 = .ok (.iconst 0, 1) := dk_3 (dk_at dksX5_mostOf_0 0 rfl rfl)
theorem dX5_mostOf_1 : decode cX5_mostOf 1 = .ok (.istore_n 2, 1) := dk_61 (dk_at dksX5_mostOf_0 1 rfl rfl)
theorem dX5_mostOf_2 : decode cX5_mostOf 2 = .ok (.iconst 0, 1) := dk_3 (dk_at dksX5_mostOf_0 2 rfl rfl)
theorem dX5_mostOf_3 : decode cX5_mostOf 3 = .ok (.istore_n 3, 1) := dk_62 (dk_at dksX5_mostOf_0 3 rfl rfl)
theorem dX5_mostOf_4 : decode cX5_mostOf 4 = .ok (.iconst 0, 1) := dk_3 (dk_at dksX5_mostOf_0 4 rfl rfl)
theorem dX5_mostOf_5 : decode cX5_mostOf 5 = .ok (.istore 4, 2) := dk_54 4 (dk_at dksX5_mostOf_0 5 rfl rfl)
theorem dX5_mostOf_7 : decode cX5_mostOf 7 = .ok (.iload 4, 2) := dk_21 4 (dk_at dksX5_mostOf_0 7 rfl rfl)
theorem dX5_mostOf_9 : decode cX5_mostOf 9 = .ok (.aload_n 0, 1) := dk_42 (dk_at dksX5_mostOf_0 9 rfl rfl)
theorem dX5_mostOf_10 : decode cX5_mostOf 10 = .ok (.getfield 218, 3) := dk_180 0 218 (dk_at dksX5_mostOf_0 10 rfl rfl)
theorem dX5_mostOf_13 : decode cX5_mostOf 13 = .ok (.if_icmp .ge 40, 3) := dk_162 0 40 (dk_at dksX5_mostOf_0 13 rfl rfl)
theorem dX5_mostOf_16 : decode cX5_mostOf 16 = .ok (.iload_n 3, 1) := dk_29 (dk_at dksX5_mostOf_0 16 rfl rfl)
theorem dX5_mostOf_17 : decode cX5_mostOf 17 = .ok (.aload_n 0, 1) := dk_42 (dk_at dksX5_mostOf_0 17 rfl rfl)
theorem dX5_mostOf_18 : decode cX5_mostOf 18 = .ok (.getfield 71, 3) := dk_180 0 71 (dk_at dksX5_mostOf_0 18 rfl rfl)
theorem dX5_mostOf_21 : decode cX5_mostOf 21 = .ok (.iload 4, 2) := dk_21 4 (dk_at dksX5_mostOf_0 21 rfl rfl)
theorem dX5_mostOf_23 : decode cX5_mostOf 23 = .ok (.iaload, 1) := dk_46 (dk_at dksX5_mostOf_0 23 rfl rfl)
theorem dX5_mostOf_24 : decode cX5_mostOf 24 = .ok (.iadd, 1) := dk_96 (dk_at dksX5_mostOf_1 0 rfl rfl)
theorem dX5_mostOf_25 : decode cX5_mostOf 25 = .ok (.istore_n 3, 1) := dk_62 (dk_at dksX5_mostOf_1 1 rfl rfl)
theorem dX5_mostOf_26 : decode cX5_mostOf 26 = .ok (.iload_n 2, 1) := dk_28 (dk_at dksX5_mostOf_1 2 rfl rfl)
theorem dX5_mostOf_27 : decode cX5_mostOf 27 = .ok (.iload_n 3, 1) := dk_29 (dk_at dksX5_mostOf_1 3 rfl rfl)
theorem dX5_mostOf_28 : decode cX5_mostOf 28 = .ok (.invokestatic 224, 3) := dk_184 0 224 (dk_at dksX5_mostOf_1 4 rfl rfl)
theorem dX5_mostOf_31 : decode cX5_mostOf 31 = .ok (.istore_n 2, 1) := dk_61 (dk_at dksX5_mostOf_1 7 rfl rfl)
theorem dX5_mostOf_32 : decode cX5_mostOf 32 = .ok (.iload_n 1, 1) := dk_27 (dk_at dksX5_mostOf_1 8 rfl rfl)
theorem dX5_mostOf_33 : decode cX5_mostOf 33 = .ok (.iload 4, 2) := dk_21 4 (dk_at dksX5_mostOf_1 9 rfl rfl)
theorem dX5_mostOf_35 : decode cX5_mostOf 35 = .ok (.invokestatic 229, 3) := dk_184 0 229 (dk_at dksX5_mostOf_1 11 rfl rfl)
theorem dX5_mostOf_38 : decode cX5_mostOf 38 = .ok (.ifCond .eq 7, 3) := dk_153 0 7 (dk_at dksX5_mostOf_1 14 rfl rfl)
theorem dX5_mostOf_41 : decode cX5_mostOf 41 = .ok (.iconst 0, 1) := dk_3 (dk_at dksX5_mostOf_1 17 rfl rfl)
theorem dX5_mostOf_42 : decode cX5_mostOf 42 = .ok (.goto 4, 3) := dk_167 0 4 (dk_at dksX5_mostOf_1 18 rfl rfl)
theorem dX5_mostOf_45 : decode cX5_mostOf 45 = .ok (.iload_n 3, 1) := dk_29 (dk_at dksX5_mostOf_1 21 rfl rfl)
theorem dX5_mostOf_46 : decode cX5_mostOf 46 = .ok (.istore_n 3, 1) := dk_62 (dk_at dksX5_mostOf_1 22 rfl rfl)
theorem dX5_mostOf_47 : decode cX5_mostOf 47 = .ok (.iinc 4 1, 3) := dk_132 4 1 (dk_at dksX5_mostOf_2 0 rfl rfl)
theorem dX5_mostOf_50 : decode cX5_mostOf 50 = .ok (.goto (-43), 3) := dk_167 255 213 (dk_at dksX5_mostOf_2 3 rfl rfl)
theorem dX5_mostOf_53 : decode cX5_mostOf 53 = .ok (.iload_n 2, 1) := dk_28 (dk_at dksX5_mostOf_2 6 rfl rfl)
theorem dX5_mostOf_54 : decode cX5_mostOf 54 = .ok (.ireturn, 1) := dk_172 (dk_at dksX5_mostOf_2 7 rfl rfl)
abbrev cX5_ends : ByteArray := prog_20_method_46_code
def yX5_ends : MethodName := ⟨RX5, "ends", "(II)Z"⟩
def dkwX5_ends_0 : List UInt8 := [26, 27, 122, 4, 126, 4, 160, 0, 7, 4, 167, 0, 4, 3, 172]
abbrev dktX5_ends_0 : List UInt8 := dkwX5_ends_0 ++ []
theorem dksX5_ends_0 : cX5_ends.data.toList.drop 0 = dktX5_ends_0 := by decide +kernel
theorem dX5_ends_0 : decode cX5_ends 0 = .ok (.iload_n 0, 1) := dk_26 (dk_at dksX5_ends_0 0 rfl rfl)
theorem dX5_ends_1 : decode cX5_ends 1 = .ok (.iload_n 1, 1) := dk_27 (dk_at dksX5_ends_0 1 rfl rfl)
theorem dX5_ends_2 : decode cX5_ends 2 = .ok (.ishr, 1) := dk_122 (dk_at dksX5_ends_0 2 rfl rfl)
theorem dX5_ends_3 : decode cX5_ends 3 = .ok (.iconst 1, 1) := dk_4 (dk_at dksX5_ends_0 3 rfl rfl)
theorem dX5_ends_4 : decode cX5_ends 4 = .ok (.iand, 1) := dk_126 (dk_at dksX5_ends_0 4 rfl rfl)
theorem dX5_ends_5 : decode cX5_ends 5 = .ok (.iconst 1, 1) := dk_4 (dk_at dksX5_ends_0 5 rfl rfl)
theorem dX5_ends_6 : decode cX5_ends 6 = .ok (.if_icmp .ne 7, 3) := dk_160 0 7 (dk_at dksX5_ends_0 6 rfl rfl)
theorem dX5_ends_9 : decode cX5_ends 9 = .ok (.iconst 1, 1) := dk_4 (dk_at dksX5_ends_0 9 rfl rfl)
theorem dX5_ends_10 : decode cX5_ends 10 = .ok (.goto 4, 3) := dk_167 0 4 (dk_at dksX5_ends_0 10 rfl rfl)
theorem dX5_ends_13 : decode cX5_ends 13 = .ok (.iconst 0, 1) := dk_3 (dk_at dksX5_ends_0 13 rfl rfl)
theorem dX5_ends_14 : decode cX5_ends 14 = .ok (.ireturn, 1) := dk_172 (dk_at dksX5_ends_0 14 rfl rfl)
abbrev cX5_isBetter : ByteArray := prog_20_method_49_code
def yX5_isBetter : MethodName := ⟨RX5, "isBetter", "(II)Z"⟩
def dkwX5_isBetter_2 : List UInt8 := [167, 0, 15, 3, 167, 0, 11, 27, 42, 180, 0, 237, 184, 0, 243, 172]
abbrev dktX5_isBetter_2 : List UInt8 := dkwX5_isBetter_2 ++ []
def dkwX5_isBetter_1 : List UInt8 := [167, 0, 4, 3, 172, 28, 42, 180, 0, 240, 159, 0, 19, 28, 42, 180, 0, 240, 162, 0, 7, 4]
abbrev dktX5_isBetter_1 : List UInt8 := dkwX5_isBetter_1 ++ dktX5_isBetter_2
def dkwX5_isBetter_0 : List UInt8 := [27, 184, 0, 232, 42, 180, 0, 237, 184, 0, 232, 100, 62, 29, 153, 0, 13, 29, 156, 0, 7, 4]
abbrev dktX5_isBetter_0 : List UInt8 := dkwX5_isBetter_0 ++ dktX5_isBetter_1
theorem dksX5_isBetter_0 : cX5_isBetter.data.toList.drop 0 = dktX5_isBetter_0 := by decide +kernel
theorem dksX5_isBetter_1 : cX5_isBetter.data.toList.drop 22 = dktX5_isBetter_1 := dk_seg dksX5_isBetter_0 22 rfl rfl
theorem dksX5_isBetter_2 : cX5_isBetter.data.toList.drop 44 = dktX5_isBetter_2 := dk_seg dksX5_isBetter_1 22 rfl rfl
theorem dX5_isBetter_0 : decode cX5_isBetter 0 = .ok (.iload_n 1, 1) := dk_27 (dk_at dksX5_isBetter_0 0 rfl rfl)
theorem dX5_isBetter_1 : decode cX5_isBetter 1 = .ok (.invokestatic 232, 3) := dk_184 0 232 (dk_at dksX5_isBetter_0 1 rfl rfl)
theorem dX5_isBetter_4 : decode cX5_isBetter 4 = .ok (.aload_n 0, 1) := dk_42 (dk_at dksX5_isBetter_0 4 rfl rfl)
theorem dX5_isBetter_5 : decode cX5_isBetter 5 = .ok (.getfield 237, 3) := dk_180 0 237 (dk_at dksX5_isBetter_0 5 rfl rfl)
theorem dX5_isBetter_8 : decode cX5_isBetter 8 = .ok (.invokestatic 232, 3) := dk_184 0 232 (dk_at dksX5_isBetter_0 8 rfl rfl)
theorem dX5_isBetter_11 : decode cX5_isBetter 11 = .ok (.isub, 1) := dk_100 (dk_at dksX5_isBetter_0 11 rfl rfl)
theorem dX5_isBetter_12 : decode cX5_isBetter 12 = .ok (.istore_n 3, 1) := dk_62 (dk_at dksX5_isBetter_0 12 rfl rfl)
theorem dX5_isBetter_13 : decode cX5_isBetter 13 = .ok (.iload_n 3, 1) := dk_29 (dk_at dksX5_isBetter_0 13 rfl rfl)
theorem dX5_isBetter_14 : decode cX5_isBetter 14 = .ok (.ifCond .eq 13, 3) := dk_153 0 13 (dk_at dksX5_isBetter_0 14 rfl rfl)
theorem dX5_isBetter_17 : decode cX5_isBetter 17 = .ok (.iload_n 3, 1) := dk_29 (dk_at dksX5_isBetter_0 17 rfl rfl)
theorem dX5_isBetter_18 : decode cX5_isBetter 18 = .ok (.ifCond .ge 7, 3) := dk_156 0 7 (dk_at dksX5_isBetter_0 18 rfl rfl)
theorem dX5_isBetter_21 : decode cX5_isBetter 21 = .ok (.iconst 1, 1) := dk_4 (dk_at dksX5_isBetter_0 21 rfl rfl)
theorem dX5_isBetter_22 : decode cX5_isBetter 22 = .ok (.goto 4, 3) := dk_167 0 4 (dk_at dksX5_isBetter_1 0 rfl rfl)
theorem dX5_isBetter_25 : decode cX5_isBetter 25 = .ok (.iconst 0, 1) := dk_3 (dk_at dksX5_isBetter_1 3 rfl rfl)
theorem dX5_isBetter_26 : decode cX5_isBetter 26 = .ok (.ireturn, 1) := dk_172 (dk_at dksX5_isBetter_1 4 rfl rfl)
theorem dX5_isBetter_27 : decode cX5_isBetter 27 = .ok (.iload_n 2, 1) := dk_28 (dk_at dksX5_isBetter_1 5 rfl rfl)
theorem dX5_isBetter_28 : decode cX5_isBetter 28 = .ok (.aload_n 0, 1) := dk_42 (dk_at dksX5_isBetter_1 6 rfl rfl)
theorem dX5_isBetter_29 : decode cX5_isBetter 29 = .ok (.getfield 240, 3) := dk_180 0 240 (dk_at dksX5_isBetter_1 7 rfl rfl)
theorem dX5_isBetter_32 : decode cX5_isBetter 32 = .ok (.if_icmp .eq 19, 3) := dk_159 0 19 (dk_at dksX5_isBetter_1 10 rfl rfl)
theorem dX5_isBetter_35 : decode cX5_isBetter 35 = .ok (.iload_n 2, 1) := dk_28 (dk_at dksX5_isBetter_1 13 rfl rfl)
theorem dX5_isBetter_36 : decode cX5_isBetter 36 = .ok (.aload_n 0, 1) := dk_42 (dk_at dksX5_isBetter_1 14 rfl rfl)
theorem dX5_isBetter_37 : decode cX5_isBetter 37 = .ok (.getfield 240, 3) := dk_180 0 240 (dk_at dksX5_isBetter_1 15 rfl rfl)
theorem dX5_isBetter_40 : decode cX5_isBetter 40 = .ok (.if_icmp .ge 7, 3) := dk_162 0 7 (dk_at dksX5_isBetter_1 18 rfl rfl)
theorem dX5_isBetter_43 : decode cX5_isBetter 43 = .ok (.iconst 1, 1) := dk_4 (dk_at dksX5_isBetter_1 21 rfl rfl)
theorem dX5_isBetter_44 : decode cX5_isBetter 44 = .ok (.goto 15, 3) := dk_167 0 15 (dk_at dksX5_isBetter_2 0 rfl rfl)
theorem dX5_isBetter_47 : decode cX5_isBetter 47 = .ok (.iconst 0, 1) := dk_3 (dk_at dksX5_isBetter_2 3 rfl rfl)
theorem dX5_isBetter_48 : decode cX5_isBetter 48 = .ok (.goto 11, 3) := dk_167 0 11 (dk_at dksX5_isBetter_2 4 rfl rfl)
theorem dX5_isBetter_51 : decode cX5_isBetter 51 = .ok (.iload_n 1, 1) := dk_27 (dk_at dksX5_isBetter_2 7 rfl rfl)
theorem dX5_isBetter_52 : decode cX5_isBetter 52 = .ok (.aload_n 0, 1) := dk_42 (dk_at dksX5_isBetter_2 8 rfl rfl)
theorem dX5_isBetter_53 : decode cX5_isBetter 53 = .ok (.getfield 237, 3) := dk_180 0 237 (dk_at dksX5_isBetter_2 9 rfl rfl)
theorem dX5_isBetter_56 : decode cX5_isBetter 56 = .ok (.invokestatic 243, 3) := dk_184 0 243 (dk_at dksX5_isBetter_2 12 rfl rfl)
theorem dX5_isBetter_59 : decode cX5_isBetter 59 = .ok (.ireturn, 1) := dk_172 (dk_at dksX5_isBetter_2 15 rfl rfl)
abbrev cX5_endsLater : ByteArray := prog_20_method_48_code
def yX5_endsLater : MethodName := ⟨RX5, "endsLater", "(II)Z"⟩
def dkwX5_endsLater_0 : List UInt8 := [26, 27, 130, 61, 27, 28, 126, 28, 116, 126, 153, 0, 7, 4, 167, 0, 4, 3, 172]
abbrev dktX5_endsLater_0 : List UInt8 := dkwX5_endsLater_0 ++ []
theorem dksX5_endsLater_0 : cX5_endsLater.data.toList.drop 0 = dktX5_endsLater_0 := by decide +kernel
theorem dX5_endsLater_0 : decode cX5_endsLater 0 = .ok (.iload_n 0, 1) := dk_26 (dk_at dksX5_endsLater_0 0 rfl rfl)
theorem dX5_endsLater_1 : decode cX5_endsLater 1 = .ok (.iload_n 1, 1) := dk_27 (dk_at dksX5_endsLater_0 1 rfl rfl)
theorem dX5_endsLater_2 : decode cX5_endsLater 2 = .ok (.ixor, 1) := dk_130 (dk_at dksX5_endsLater_0 2 rfl rfl)
theorem dX5_endsLater_3 : decode cX5_endsLater 3 = .ok (.istore_n 2, 1) := dk_61 (dk_at dksX5_endsLater_0 3 rfl rfl)
theorem dX5_endsLater_4 : decode cX5_endsLater 4 = .ok (.iload_n 1, 1) := dk_27 (dk_at dksX5_endsLater_0 4 rfl rfl)
theorem dX5_endsLater_5 : decode cX5_endsLater 5 = .ok (.iload_n 2, 1) := dk_28 (dk_at dksX5_endsLater_0 5 rfl rfl)
theorem dX5_endsLater_6 : decode cX5_endsLater 6 = .ok (.iand, 1) := dk_126 (dk_at dksX5_endsLater_0 6 rfl rfl)
theorem dX5_endsLater_7 : decode cX5_endsLater 7 = .ok (.iload_n 2, 1) := dk_28 (dk_at dksX5_endsLater_0 7 rfl rfl)
theorem dX5_endsLater_8 : decode cX5_endsLater 8 = .ok (.ineg, 1) := dk_116 (dk_at dksX5_endsLater_0 8 rfl rfl)
theorem dX5_endsLater_9 : decode cX5_endsLater 9 = .ok (.iand, 1) := dk_126 (dk_at dksX5_endsLater_0 9 rfl rfl)
theorem dX5_endsLater_10 : decode cX5_endsLater 10 = .ok (.ifCond .eq 7, 3) := dk_153 0 7 (dk_at dksX5_endsLater_0 10 rfl rfl)
theorem dX5_endsLater_13 : decode cX5_endsLater 13 = .ok (.iconst 1, 1) := dk_4 (dk_at dksX5_endsLater_0 13 rfl rfl)
theorem dX5_endsLater_14 : decode cX5_endsLater 14 = .ok (.goto 4, 3) := dk_167 0 4 (dk_at dksX5_endsLater_0 14 rfl rfl)
theorem dX5_endsLater_17 : decode cX5_endsLater 17 = .ok (.iconst 0, 1) := dk_3 (dk_at dksX5_endsLater_0 17 rfl rfl)
theorem dX5_endsLater_18 : decode cX5_endsLater 18 = .ok (.ireturn, 1) := dk_172 (dk_at dksX5_endsLater_0 18 rfl rfl)
abbrev cX5_volume : ByteArray := prog_20_method_129_code
def yX5_volume : MethodName := ⟨RX5, "volume", "(III)I"⟩
def dkwX5_volume_4 : List UInt8 := [167, 0, 21, 29, 4, 160, 0, 8, 21, 5, 167, 0, 11, 42, 21, 4, 21, 5, 182, 2, 6, 172]
abbrev dktX5_volume_4 : List UInt8 := dkwX5_volume_4 ++ []
def dkwX5_volume_3 : List UInt8 := [172, 42, 28, 182, 2, 0, 54, 4, 42, 21, 4, 182, 2, 3, 54, 5, 29, 154, 0, 8, 21, 4]
abbrev dktX5_volume_3 : List UInt8 := dkwX5_volume_3 ++ dktX5_volume_4
def dkwX5_volume_2 : List UInt8 := [182, 1, 253, 4, 100, 184, 0, 103, 154, 0, 7, 4, 167, 0, 4, 3, 5, 182, 0, 118, 153, 0, 5, 3]
abbrev dktX5_volume_2 : List UInt8 := dkwX5_volume_2 ++ dktX5_volume_3
def dkwX5_volume_1 : List UInt8 := [167, 0, 4, 3, 4, 182, 0, 118, 153, 0, 5, 3, 172, 42, 182, 1, 153, 42, 28, 3, 42, 27]
abbrev dktX5_volume_1 : List UInt8 := dkwX5_volume_1 ++ dktX5_volume_2
def dkwX5_volume_0 : List UInt8 := [42, 3, 181, 0, 100, 42, 27, 184, 1, 250, 153, 0, 12, 29, 3, 5, 184, 0, 103, 154, 0, 7, 4]
abbrev dktX5_volume_0 : List UInt8 := dkwX5_volume_0 ++ dktX5_volume_1
theorem dksX5_volume_0 : cX5_volume.data.toList.drop 0 = dktX5_volume_0 := by decide +kernel
theorem dksX5_volume_1 : cX5_volume.data.toList.drop 23 = dktX5_volume_1 := dk_seg dksX5_volume_0 23 rfl rfl
theorem dksX5_volume_2 : cX5_volume.data.toList.drop 45 = dktX5_volume_2 := dk_seg dksX5_volume_1 22 rfl rfl
theorem dksX5_volume_3 : cX5_volume.data.toList.drop 69 = dktX5_volume_3 := dk_seg dksX5_volume_2 24 rfl rfl
theorem dksX5_volume_4 : cX5_volume.data.toList.drop 91 = dktX5_volume_4 := dk_seg dksX5_volume_3 22 rfl rfl
theorem dX5_volume_0 : decode cX5_volume 0 = .ok (.aload_n 0, 1) := dk_42 (dk_at dksX5_volume_0 0 rfl rfl)
theorem dX5_volume_1 : decode cX5_volume 1 = .ok (.iconst 0, 1) := dk_3 (dk_at dksX5_volume_0 1 rfl rfl)
theorem dX5_volume_2 : decode cX5_volume 2 = .ok (.putfield 100, 3) := dk_181 0 100 (dk_at dksX5_volume_0 2 rfl rfl)
theorem dX5_volume_5 : decode cX5_volume 5 = .ok (.aload_n 0, 1) := dk_42 (dk_at dksX5_volume_0 5 rfl rfl)
theorem dX5_volume_6 : decode cX5_volume 6 = .ok (.iload_n 1, 1) := dk_27 (dk_at dksX5_volume_0 6 rfl rfl)
theorem dX5_volume_7 : decode cX5_volume 7 = .ok (.invokestatic 506, 3) := dk_184 1 250 (dk_at dksX5_volume_0 7 rfl rfl)
theorem dX5_volume_10 : decode cX5_volume 10 = .ok (.ifCond .eq 12, 3) := dk_153 0 12 (dk_at dksX5_volume_0 10 rfl rfl)
theorem dX5_volume_13 : decode cX5_volume 13 = .ok (.iload_n 3, 1) := dk_29 (dk_at dksX5_volume_0 13 rfl rfl)
theorem dX5_volume_14 : decode cX5_volume 14 = .ok (.iconst 0, 1) := dk_3 (dk_at dksX5_volume_0 14 rfl rfl)
theorem dX5_volume_15 : decode cX5_volume 15 = .ok (.iconst 2, 1) := dk_5 (dk_at dksX5_volume_0 15 rfl rfl)
theorem dX5_volume_16 : decode cX5_volume 16 = .ok (.invokestatic 103, 3) := dk_184 0 103 (dk_at dksX5_volume_0 16 rfl rfl)
theorem dX5_volume_19 : decode cX5_volume 19 = .ok (.ifCond .ne 7, 3) := dk_154 0 7 (dk_at dksX5_volume_0 19 rfl rfl)
theorem dX5_volume_22 : decode cX5_volume 22 = .ok (.iconst 1, 1) := dk_4 (dk_at dksX5_volume_0 22 rfl rfl)
theorem dX5_volume_23 : decode cX5_volume 23 = .ok (.goto 4, 3) := dk_167 0 4 (dk_at dksX5_volume_1 0 rfl rfl)
theorem dX5_volume_26 : decode cX5_volume 26 = .ok (.iconst 0, 1) := dk_3 (dk_at dksX5_volume_1 3 rfl rfl)
theorem dX5_volume_27 : decode cX5_volume 27 = .ok (.iconst 1, 1) := dk_4 (dk_at dksX5_volume_1 4 rfl rfl)
theorem dX5_volume_28 : decode cX5_volume 28 = .ok (.invokevirtual 118, 3) := dk_182 0 118 (dk_at dksX5_volume_1 5 rfl rfl)
theorem dX5_volume_31 : decode cX5_volume 31 = .ok (.ifCond .eq 5, 3) := dk_153 0 5 (dk_at dksX5_volume_1 8 rfl rfl)
theorem dX5_volume_34 : decode cX5_volume 34 = .ok (.iconst 0, 1) := dk_3 (dk_at dksX5_volume_1 11 rfl rfl)
theorem dX5_volume_35 : decode cX5_volume 35 = .ok (.ireturn, 1) := dk_172 (dk_at dksX5_volume_1 12 rfl rfl)
theorem dX5_volume_36 : decode cX5_volume 36 = .ok (.aload_n 0, 1) := dk_42 (dk_at dksX5_volume_1 13 rfl rfl)
theorem dX5_volume_37 : decode cX5_volume 37 = .ok (.invokevirtual 409, 3) := dk_182 1 153 (dk_at dksX5_volume_1 14 rfl rfl)
theorem dX5_volume_40 : decode cX5_volume 40 = .ok (.aload_n 0, 1) := dk_42 (dk_at dksX5_volume_1 17 rfl rfl)
theorem dX5_volume_41 : decode cX5_volume 41 = .ok (.iload_n 2, 1) := dk_28 (dk_at dksX5_volume_1 18 rfl rfl)
theorem dX5_volume_42 : decode cX5_volume 42 = .ok (.iconst 0, 1) := dk_3 (dk_at dksX5_volume_1 19 rfl rfl)
theorem dX5_volume_43 : decode cX5_volume 43 = .ok (.aload_n 0, 1) := dk_42 (dk_at dksX5_volume_1 20 rfl rfl)
theorem dX5_volume_44 : decode cX5_volume 44 = .ok (.iload_n 1, 1) := dk_27 (dk_at dksX5_volume_1 21 rfl rfl)
theorem dX5_volume_45 : decode cX5_volume 45 = .ok (.invokevirtual 509, 3) := dk_182 1 253 (dk_at dksX5_volume_2 0 rfl rfl)
theorem dX5_volume_48 : decode cX5_volume 48 = .ok (.iconst 1, 1) := dk_4 (dk_at dksX5_volume_2 3 rfl rfl)
theorem dX5_volume_49 : decode cX5_volume 49 = .ok (.isub, 1) := dk_100 (dk_at dksX5_volume_2 4 rfl rfl)
theorem dX5_volume_50 : decode cX5_volume 50 = .ok (.invokestatic 103, 3) := dk_184 0 103 (dk_at dksX5_volume_2 5 rfl rfl)
theorem dX5_volume_53 : decode cX5_volume 53 = .ok (.ifCond .ne 7, 3) := dk_154 0 7 (dk_at dksX5_volume_2 8 rfl rfl)
theorem dX5_volume_56 : decode cX5_volume 56 = .ok (.iconst 1, 1) := dk_4 (dk_at dksX5_volume_2 11 rfl rfl)
theorem dX5_volume_57 : decode cX5_volume 57 = .ok (.goto 4, 3) := dk_167 0 4 (dk_at dksX5_volume_2 12 rfl rfl)
theorem dX5_volume_60 : decode cX5_volume 60 = .ok (.iconst 0, 1) := dk_3 (dk_at dksX5_volume_2 15 rfl rfl)
theorem dX5_volume_61 : decode cX5_volume 61 = .ok (.iconst 2, 1) := dk_5 (dk_at dksX5_volume_2 16 rfl rfl)
theorem dX5_volume_62 : decode cX5_volume 62 = .ok (.invokevirtual 118, 3) := dk_182 0 118 (dk_at dksX5_volume_2 17 rfl rfl)
theorem dX5_volume_65 : decode cX5_volume 65 = .ok (.ifCond .eq 5, 3) := dk_153 0 5 (dk_at dksX5_volume_2 20 rfl rfl)
theorem dX5_volume_68 : decode cX5_volume 68 = .ok (.iconst 0, 1) := dk_3 (dk_at dksX5_volume_2 23 rfl rfl)
theorem dX5_volume_69 : decode cX5_volume 69 = .ok (.ireturn, 1) := dk_172 (dk_at dksX5_volume_3 0 rfl rfl)
theorem dX5_volume_70 : decode cX5_volume 70 = .ok (.aload_n 0, 1) := dk_42 (dk_at dksX5_volume_3 1 rfl rfl)
theorem dX5_volume_71 : decode cX5_volume 71 = .ok (.iload_n 2, 1) := dk_28 (dk_at dksX5_volume_3 2 rfl rfl)
theorem dX5_volume_72 : decode cX5_volume 72 = .ok (.invokevirtual 512, 3) := dk_182 2 0 (dk_at dksX5_volume_3 3 rfl rfl)
theorem dX5_volume_75 : decode cX5_volume 75 = .ok (.istore 4, 2) := dk_54 4 (dk_at dksX5_volume_3 6 rfl rfl)
theorem dX5_volume_77 : decode cX5_volume 77 = .ok (.aload_n 0, 1) := dk_42 (dk_at dksX5_volume_3 8 rfl rfl)
theorem dX5_volume_78 : decode cX5_volume 78 = .ok (.iload 4, 2) := dk_21 4 (dk_at dksX5_volume_3 9 rfl rfl)
theorem dX5_volume_80 : decode cX5_volume 80 = .ok (.invokevirtual 515, 3) := dk_182 2 3 (dk_at dksX5_volume_3 11 rfl rfl)
theorem dX5_volume_83 : decode cX5_volume 83 = .ok (.istore 5, 2) := dk_54 5 (dk_at dksX5_volume_3 14 rfl rfl)
theorem dX5_volume_85 : decode cX5_volume 85 = .ok (.iload_n 3, 1) := dk_29 (dk_at dksX5_volume_3 16 rfl rfl)
theorem dX5_volume_86 : decode cX5_volume 86 = .ok (.ifCond .ne 8, 3) := dk_154 0 8 (dk_at dksX5_volume_3 17 rfl rfl)
theorem dX5_volume_89 : decode cX5_volume 89 = .ok (.iload 4, 2) := dk_21 4 (dk_at dksX5_volume_3 20 rfl rfl)
theorem dX5_volume_91 : decode cX5_volume 91 = .ok (.goto 21, 3) := dk_167 0 21 (dk_at dksX5_volume_4 0 rfl rfl)
theorem dX5_volume_94 : decode cX5_volume 94 = .ok (.iload_n 3, 1) := dk_29 (dk_at dksX5_volume_4 3 rfl rfl)
theorem dX5_volume_95 : decode cX5_volume 95 = .ok (.iconst 1, 1) := dk_4 (dk_at dksX5_volume_4 4 rfl rfl)
theorem dX5_volume_96 : decode cX5_volume 96 = .ok (.if_icmp .ne 8, 3) := dk_160 0 8 (dk_at dksX5_volume_4 5 rfl rfl)
theorem dX5_volume_99 : decode cX5_volume 99 = .ok (.iload 5, 2) := dk_21 5 (dk_at dksX5_volume_4 8 rfl rfl)
theorem dX5_volume_101 : decode cX5_volume 101 = .ok (.goto 11, 3) := dk_167 0 11 (dk_at dksX5_volume_4 10 rfl rfl)
theorem dX5_volume_104 : decode cX5_volume 104 = .ok (.aload_n 0, 1) := dk_42 (dk_at dksX5_volume_4 13 rfl rfl)
theorem dX5_volume_105 : decode cX5_volume 105 = .ok (.iload 4, 2) := dk_21 4 (dk_at dksX5_volume_4 14 rfl rfl)
theorem dX5_volume_107 : decode cX5_volume 107 = .ok (.iload 5, 2) := dk_21 5 (dk_at dksX5_volume_4 16 rfl rfl)
theorem dX5_volume_109 : decode cX5_volume 109 = .ok (.invokevirtual 518, 3) := dk_182 2 6 (dk_at dksX5_volume_4 18 rfl rfl)
theorem dX5_volume_112 : decode cX5_volume 112 = .ok (.ireturn, 1) := dk_172 (dk_at dksX5_volume_4 21 rfl rfl)
abbrev cX5_firstOfVolume : ByteArray := prog_20_method_51_code
def yX5_firstOfVolume : MethodName := ⟨RX5, "firstOfVolume", "(I)I"⟩
def dkwX5_firstOfVolume_1 : List UInt8 := [3, 100, 62, 132, 2, 1, 167, 255, 230, 28, 172]
abbrev dktX5_firstOfVolume_1 : List UInt8 := dkwX5_firstOfVolume_1 ++ []
def dkwX5_firstOfVolume_0 : List UInt8 := [3, 61, 27, 62, 29, 158, 0, 28, 29, 42, 180, 0, 237, 28, 184, 0, 229, 153, 0, 7, 4, 167, 0, 4]
abbrev dktX5_firstOfVolume_0 : List UInt8 := dkwX5_firstOfVolume_0 ++ dktX5_firstOfVolume_1
theorem dksX5_firstOfVolume_0 : cX5_firstOfVolume.data.toList.drop 0 = dktX5_firstOfVolume_0 := by decide +kernel
theorem dksX5_firstOfVolume_1 : cX5_firstOfVolume.data.toList.drop 24 = dktX5_firstOfVolume_1 := dk_seg dksX5_firstOfVolume_0 24 rfl rfl
theorem dX5_firstOfVolume_0 : decode cX5_firstOfVolume 0 = .ok (.iconst 0, 1) := dk_3 (dk_at dksX5_firstOfVolume_0 0 rfl rfl)
theorem dX5_firstOfVolume_1 : decode cX5_firstOfVolume 1 = .ok (.istore_n 2, 1) := dk_61 (dk_at dksX5_firstOfVolume_0 1 rfl rfl)
theorem dX5_firstOfVolume_2 : decode cX5_firstOfVolume 2 = .ok (.iload_n 1, 1) := dk_27 (dk_at dksX5_firstOfVolume_0 2 rfl rfl)
theorem dX5_firstOfVolume_3 : decode cX5_firstOfVolume 3 = .ok (.istore_n 3, 1) := dk_62 (dk_at dksX5_firstOfVolume_0 3 rfl rfl)
theorem dX5_firstOfVolume_4 : decode cX5_firstOfVolume 4 = .ok (.iload_n 3, 1) := dk_29 (dk_at dksX5_firstOfVolume_0 4 rfl rfl)
theorem dX5_firstOfVolume_5 : decode cX5_firstOfVolume 5 = .ok (.ifCond .le 28, 3) := dk_158 0 28 (dk_at dksX5_firstOfVolume_0 5 rfl rfl)
theorem dX5_firstOfVolume_8 : decode cX5_firstOfVolume 8 = .ok (.iload_n 3, 1) := dk_29 (dk_at dksX5_firstOfVolume_0 8 rfl rfl)
theorem dX5_firstOfVolume_9 : decode cX5_firstOfVolume 9 = .ok (.aload_n 0, 1) := dk_42 (dk_at dksX5_firstOfVolume_0 9 rfl rfl)
theorem dX5_firstOfVolume_10 : decode cX5_firstOfVolume 10 = .ok (.getfield 237, 3) := dk_180 0 237 (dk_at dksX5_firstOfVolume_0 10 rfl rfl)
theorem dX5_firstOfVolume_13 : decode cX5_firstOfVolume 13 = .ok (.iload_n 2, 1) := dk_28 (dk_at dksX5_firstOfVolume_0 13 rfl rfl)
theorem dX5_firstOfVolume_14 : decode cX5_firstOfVolume 14 = .ok (.invokestatic 229, 3) := dk_184 0 229 (dk_at dksX5_firstOfVolume_0 14 rfl rfl)
theorem dX5_firstOfVolume_17 : decode cX5_firstOfVolume 17 = .ok (.ifCond .eq 7, 3) := dk_153 0 7 (dk_at dksX5_firstOfVolume_0 17 rfl rfl)
theorem dX5_firstOfVolume_20 : decode cX5_firstOfVolume 20 = .ok (.iconst 1, 1) := dk_4 (dk_at dksX5_firstOfVolume_0 20 rfl rfl)
theorem dX5_firstOfVolume_21 : decode cX5_firstOfVolume 21 = .ok (.goto 4, 3) := dk_167 0 4 (dk_at dksX5_firstOfVolume_0 21 rfl rfl)
theorem dX5_firstOfVolume_24 : decode cX5_firstOfVolume 24 = .ok (.iconst 0, 1) := dk_3 (dk_at dksX5_firstOfVolume_1 0 rfl rfl)
theorem dX5_firstOfVolume_25 : decode cX5_firstOfVolume 25 = .ok (.isub, 1) := dk_100 (dk_at dksX5_firstOfVolume_1 1 rfl rfl)
theorem dX5_firstOfVolume_26 : decode cX5_firstOfVolume 26 = .ok (.istore_n 3, 1) := dk_62 (dk_at dksX5_firstOfVolume_1 2 rfl rfl)
theorem dX5_firstOfVolume_27 : decode cX5_firstOfVolume 27 = .ok (.iinc 2 1, 3) := dk_132 2 1 (dk_at dksX5_firstOfVolume_1 3 rfl rfl)
theorem dX5_firstOfVolume_30 : decode cX5_firstOfVolume 30 = .ok (.goto (-26), 3) := dk_167 255 230 (dk_at dksX5_firstOfVolume_1 6 rfl rfl)
theorem dX5_firstOfVolume_33 : decode cX5_firstOfVolume 33 = .ok (.iload_n 2, 1) := dk_28 (dk_at dksX5_firstOfVolume_1 9 rfl rfl)
theorem dX5_firstOfVolume_34 : decode cX5_firstOfVolume 34 = .ok (.ireturn, 1) := dk_172 (dk_at dksX5_firstOfVolume_1 10 rfl rfl)
abbrev cX5_blocksOf : ByteArray := prog_20_method_52_code
def yX5_blocksOf : MethodName := ⟨RX5, "blocksOf", "(I)I"⟩
def dkwX5_blocksOf_1 : List UInt8 := [132, 2, 1, 167, 255, 232, 28, 4, 96, 27, 100, 172]
abbrev dktX5_blocksOf_1 : List UInt8 := dkwX5_blocksOf_1 ++ []
def dkwX5_blocksOf_0 : List UInt8 := [27, 61, 28, 42, 180, 0, 218, 4, 100, 162, 0, 20, 42, 180, 0, 237, 28, 184, 0, 229, 154, 0, 9]
abbrev dktX5_blocksOf_0 : List UInt8 := dkwX5_blocksOf_0 ++ dktX5_blocksOf_1
theorem dksX5_blocksOf_0 : cX5_blocksOf.data.toList.drop 0 = dktX5_blocksOf_0 := by decide +kernel
theorem dksX5_blocksOf_1 : cX5_blocksOf.data.toList.drop 23 = dktX5_blocksOf_1 := dk_seg dksX5_blocksOf_0 23 rfl rfl
theorem dX5_blocksOf_0 : decode cX5_blocksOf 0 = .ok (.iload_n 1, 1) := dk_27 (dk_at dksX5_blocksOf_0 0 rfl rfl)
theorem dX5_blocksOf_1 : decode cX5_blocksOf 1 = .ok (.istore_n 2, 1) := dk_61 (dk_at dksX5_blocksOf_0 1 rfl rfl)
theorem dX5_blocksOf_2 : decode cX5_blocksOf 2 = .ok (.iload_n 2, 1) := dk_28 (dk_at dksX5_blocksOf_0 2 rfl rfl)
theorem dX5_blocksOf_3 : decode cX5_blocksOf 3 = .ok (.aload_n 0, 1) := dk_42 (dk_at dksX5_blocksOf_0 3 rfl rfl)
theorem dX5_blocksOf_4 : decode cX5_blocksOf 4 = .ok (.getfield 218, 3) := dk_180 0 218 (dk_at dksX5_blocksOf_0 4 rfl rfl)
theorem dX5_blocksOf_7 : decode cX5_blocksOf 7 = .ok (.iconst 1, 1) := dk_4 (dk_at dksX5_blocksOf_0 7 rfl rfl)
theorem dX5_blocksOf_8 : decode cX5_blocksOf 8 = .ok (.isub, 1) := dk_100 (dk_at dksX5_blocksOf_0 8 rfl rfl)
theorem dX5_blocksOf_9 : decode cX5_blocksOf 9 = .ok (.if_icmp .ge 20, 3) := dk_162 0 20 (dk_at dksX5_blocksOf_0 9 rfl rfl)
theorem dX5_blocksOf_12 : decode cX5_blocksOf 12 = .ok (.aload_n 0, 1) := dk_42 (dk_at dksX5_blocksOf_0 12 rfl rfl)
theorem dX5_blocksOf_13 : decode cX5_blocksOf 13 = .ok (.getfield 237, 3) := dk_180 0 237 (dk_at dksX5_blocksOf_0 13 rfl rfl)
theorem dX5_blocksOf_16 : decode cX5_blocksOf 16 = .ok (.iload_n 2, 1) := dk_28 (dk_at dksX5_blocksOf_0 16 rfl rfl)
theorem dX5_blocksOf_17 : decode cX5_blocksOf 17 = .ok (.invokestatic 229, 3) := dk_184 0 229 (dk_at dksX5_blocksOf_0 17 rfl rfl)
theorem dX5_blocksOf_20 : decode cX5_blocksOf 20 = .ok (.ifCond .ne 9, 3) := dk_154 0 9 (dk_at dksX5_blocksOf_0 20 rfl rfl)
theorem dX5_blocksOf_23 : decode cX5_blocksOf 23 = .ok (.iinc 2 1, 3) := dk_132 2 1 (dk_at dksX5_blocksOf_1 0 rfl rfl)
theorem dX5_blocksOf_26 : decode cX5_blocksOf 26 = .ok (.goto (-24), 3) := dk_167 255 232 (dk_at dksX5_blocksOf_1 3 rfl rfl)
theorem dX5_blocksOf_29 : decode cX5_blocksOf 29 = .ok (.iload_n 2, 1) := dk_28 (dk_at dksX5_blocksOf_1 6 rfl rfl)
theorem dX5_blocksOf_30 : decode cX5_blocksOf 30 = .ok (.iconst 1, 1) := dk_4 (dk_at dksX5_blocksOf_1 7 rfl rfl)
theorem dX5_blocksOf_31 : decode cX5_blocksOf 31 = .ok (.iadd, 1) := dk_96 (dk_at dksX5_blocksOf_1 8 rfl rfl)
theorem dX5_blocksOf_32 : decode cX5_blocksOf 32 = .ok (.iload_n 1, 1) := dk_27 (dk_at dksX5_blocksOf_1 9 rfl rfl)
theorem dX5_blocksOf_33 : decode cX5_blocksOf 33 = .ok (.isub, 1) := dk_100 (dk_at dksX5_blocksOf_1 10 rfl rfl)
theorem dX5_blocksOf_34 : decode cX5_blocksOf 34 = .ok (.ireturn, 1) := dk_172 (dk_at dksX5_blocksOf_1 11 rfl rfl)
abbrev cX5_pagesFrom : ByteArray := prog_20_method_128_code
def yX5_pagesFrom : MethodName := ⟨RX5, "pagesFrom", "(II)I"⟩
def dkwX5_pagesFrom_1 : List UInt8 := [132, 4, 1, 167, 255, 235, 29, 172]
abbrev dktX5_pagesFrom_1 : List UInt8 := dkwX5_pagesFrom_1 ++ []
def dkwX5_pagesFrom_0 : List UInt8 := [3, 62, 27, 54, 4, 21, 4, 27, 28, 96, 162, 0, 19, 29, 42, 180, 0, 71, 21, 4, 46, 96, 62]
abbrev dktX5_pagesFrom_0 : List UInt8 := dkwX5_pagesFrom_0 ++ dktX5_pagesFrom_1
theorem dksX5_pagesFrom_0 : cX5_pagesFrom.data.toList.drop 0 = dktX5_pagesFrom_0 := by decide +kernel
theorem dksX5_pagesFrom_1 : cX5_pagesFrom.data.toList.drop 23 = dktX5_pagesFrom_1 := dk_seg dksX5_pagesFrom_0 23 rfl rfl
theorem dX5_pagesFrom_0 : decode cX5_pagesFrom 0 = .ok (.iconst 0, 1) := dk_3 (dk_at dksX5_pagesFrom_0 0 rfl rfl)
theorem dX5_pagesFrom_1 : decode cX5_pagesFrom 1 = .ok (.istore_n 3, 1) := dk_62 (dk_at dksX5_pagesFrom_0 1 rfl rfl)
theorem dX5_pagesFrom_2 : decode cX5_pagesFrom 2 = .ok (.iload_n 1, 1) := dk_27 (dk_at dksX5_pagesFrom_0 2 rfl rfl)
theorem dX5_pagesFrom_3 : decode cX5_pagesFrom 3 = .ok (.istore 4, 2) := dk_54 4 (dk_at dksX5_pagesFrom_0 3 rfl rfl)
theorem dX5_pagesFrom_5 : decode cX5_pagesFrom 5 = .ok (.iload 4, 2) := dk_21 4 (dk_at dksX5_pagesFrom_0 5 rfl rfl)
theorem dX5_pagesFrom_7 : decode cX5_pagesFrom 7 = .ok (.iload_n 1, 1) := dk_27 (dk_at dksX5_pagesFrom_0 7 rfl rfl)
theorem dX5_pagesFrom_8 : decode cX5_pagesFrom 8 = .ok (.iload_n 2, 1) := dk_28 (dk_at dksX5_pagesFrom_0 8 rfl rfl)
theorem dX5_pagesFrom_9 : decode cX5_pagesFrom 9 = .ok (.iadd, 1) := dk_96 (dk_at dksX5_pagesFrom_0 9 rfl rfl)
theorem dX5_pagesFrom_10 : decode cX5_pagesFrom 10 = .ok (.if_icmp .ge 19, 3) := dk_162 0 19 (dk_at dksX5_pagesFrom_0 10 rfl rfl)
theorem dX5_pagesFrom_13 : decode cX5_pagesFrom 13 = .ok (.iload_n 3, 1) := dk_29 (dk_at dksX5_pagesFrom_0 13 rfl rfl)
theorem dX5_pagesFrom_14 : decode cX5_pagesFrom 14 = .ok (.aload_n 0, 1) := dk_42 (dk_at dksX5_pagesFrom_0 14 rfl rfl)
theorem dX5_pagesFrom_15 : decode cX5_pagesFrom 15 = .ok (.getfield 71, 3) := dk_180 0 71 (dk_at dksX5_pagesFrom_0 15 rfl rfl)
theorem dX5_pagesFrom_18 : decode cX5_pagesFrom 18 = .ok (.iload 4, 2) := dk_21 4 (dk_at dksX5_pagesFrom_0 18 rfl rfl)
theorem dX5_pagesFrom_20 : decode cX5_pagesFrom 20 = .ok (.iaload, 1) := dk_46 (dk_at dksX5_pagesFrom_0 20 rfl rfl)
theorem dX5_pagesFrom_21 : decode cX5_pagesFrom 21 = .ok (.iadd, 1) := dk_96 (dk_at dksX5_pagesFrom_0 21 rfl rfl)
theorem dX5_pagesFrom_22 : decode cX5_pagesFrom 22 = .ok (.istore_n 3, 1) := dk_62 (dk_at dksX5_pagesFrom_0 22 rfl rfl)
theorem dX5_pagesFrom_23 : decode cX5_pagesFrom 23 = .ok (.iinc 4 1, 3) := dk_132 4 1 (dk_at dksX5_pagesFrom_1 0 rfl rfl)
theorem dX5_pagesFrom_26 : decode cX5_pagesFrom 26 = .ok (.goto (-21), 3) := dk_167 255 235 (dk_at dksX5_pagesFrom_1 3 rfl rfl)
theorem dX5_pagesFrom_29 : decode cX5_pagesFrom 29 = .ok (.iload_n 3, 1) := dk_29 (dk_at dksX5_pagesFrom_1 6 rfl rfl)
theorem dX5_pagesFrom_30 : decode cX5_pagesFrom 30 = .ok (.ireturn, 1) := dk_172 (dk_at dksX5_pagesFrom_1 7 rfl rfl)
abbrev cX5_movedIf : ByteArray := prog_20_method_131_code
def yX5_movedIf : MethodName := ⟨RX5, "movedIf", "(I)I"⟩
def dkwX5_movedIf_1 : List UInt8 := [182, 0, 211, 42, 5, 182, 1, 159, 172]
abbrev dktX5_movedIf_1 : List UInt8 := dkwX5_movedIf_1 ++ []
def dkwX5_movedIf_0 : List UInt8 := [42, 182, 0, 208, 42, 27, 182, 2, 9, 153, 0, 5, 3, 172, 42, 27, 42, 180, 0, 7, 16, 6, 46]
abbrev dktX5_movedIf_0 : List UInt8 := dkwX5_movedIf_0 ++ dktX5_movedIf_1
theorem dksX5_movedIf_0 : cX5_movedIf.data.toList.drop 0 = dktX5_movedIf_0 := by decide +kernel
theorem dksX5_movedIf_1 : cX5_movedIf.data.toList.drop 23 = dktX5_movedIf_1 := dk_seg dksX5_movedIf_0 23 rfl rfl
theorem dX5_movedIf_0 : decode cX5_movedIf 0 = .ok (.aload_n 0, 1) := dk_42 (dk_at dksX5_movedIf_0 0 rfl rfl)
theorem dX5_movedIf_1 : decode cX5_movedIf 1 = .ok (.invokevirtual 208, 3) := dk_182 0 208 (dk_at dksX5_movedIf_0 1 rfl rfl)
theorem dX5_movedIf_4 : decode cX5_movedIf 4 = .ok (.aload_n 0, 1) := dk_42 (dk_at dksX5_movedIf_0 4 rfl rfl)
theorem dX5_movedIf_5 : decode cX5_movedIf 5 = .ok (.iload_n 1, 1) := dk_27 (dk_at dksX5_movedIf_0 5 rfl rfl)
theorem dX5_movedIf_6 : decode cX5_movedIf 6 = .ok (.invokevirtual 521, 3) := dk_182 2 9 (dk_at dksX5_movedIf_0 6 rfl rfl)
theorem dX5_movedIf_9 : decode cX5_movedIf 9 = .ok (.ifCond .eq 5, 3) := dk_153 0 5 (dk_at dksX5_movedIf_0 9 rfl rfl)
theorem dX5_movedIf_12 : decode cX5_movedIf 12 = .ok (.iconst 0, 1) := dk_3 (dk_at dksX5_movedIf_0 12 rfl rfl)
theorem dX5_movedIf_13 : decode cX5_movedIf 13 = .ok (.ireturn, 1) := dk_172 (dk_at dksX5_movedIf_0 13 rfl rfl)
theorem dX5_movedIf_14 : decode cX5_movedIf 14 = .ok (.aload_n 0, 1) := dk_42 (dk_at dksX5_movedIf_0 14 rfl rfl)
theorem dX5_movedIf_15 : decode cX5_movedIf 15 = .ok (.iload_n 1, 1) := dk_27 (dk_at dksX5_movedIf_0 15 rfl rfl)
theorem dX5_movedIf_16 : decode cX5_movedIf 16 = .ok (.aload_n 0, 1) := dk_42 (dk_at dksX5_movedIf_0 16 rfl rfl)
theorem dX5_movedIf_17 : decode cX5_movedIf 17 = .ok (.getfield 7, 3) := dk_180 0 7 (dk_at dksX5_movedIf_0 17 rfl rfl)
theorem dX5_movedIf_20 : decode cX5_movedIf 20 = .ok (.bipush 6, 2) := dk_16 6 (dk_at dksX5_movedIf_0 20 rfl rfl)
theorem dX5_movedIf_22 : decode cX5_movedIf 22 = .ok (.iaload, 1) := dk_46 (dk_at dksX5_movedIf_0 22 rfl rfl)
theorem dX5_movedIf_23 : decode cX5_movedIf 23 = .ok (.invokevirtual 211, 3) := dk_182 0 211 (dk_at dksX5_movedIf_1 0 rfl rfl)
theorem dX5_movedIf_26 : decode cX5_movedIf 26 = .ok (.aload_n 0, 1) := dk_42 (dk_at dksX5_movedIf_1 3 rfl rfl)
theorem dX5_movedIf_27 : decode cX5_movedIf 27 = .ok (.iconst 2, 1) := dk_5 (dk_at dksX5_movedIf_1 4 rfl rfl)
theorem dX5_movedIf_28 : decode cX5_movedIf 28 = .ok (.invokevirtual 415, 3) := dk_182 1 159 (dk_at dksX5_movedIf_1 5 rfl rfl)
theorem dX5_movedIf_31 : decode cX5_movedIf 31 = .ok (.ireturn, 1) := dk_172 (dk_at dksX5_movedIf_1 8 rfl rfl)
abbrev cX5_noNext : ByteArray := prog_20_method_130_code
def yX5_noNext : MethodName := ⟨RX5, "noNext", "(I)Z"⟩
def dkwX5_noNext_1 : List UInt8 := [3, 4, 182, 0, 118, 172]
abbrev dktX5_noNext_1 : List UInt8 := dkwX5_noNext_1 ++ []
def dkwX5_noNext_0 : List UInt8 := [42, 27, 42, 180, 0, 7, 16, 6, 46, 4, 96, 17, 3, 231, 184, 0, 103, 154, 0, 7, 4, 167, 0, 4]
abbrev dktX5_noNext_0 : List UInt8 := dkwX5_noNext_0 ++ dktX5_noNext_1
theorem dksX5_noNext_0 : cX5_noNext.data.toList.drop 0 = dktX5_noNext_0 := by decide +kernel
theorem dksX5_noNext_1 : cX5_noNext.data.toList.drop 24 = dktX5_noNext_1 := dk_seg dksX5_noNext_0 24 rfl rfl
theorem dX5_noNext_0 : decode cX5_noNext 0 = .ok (.aload_n 0, 1) := dk_42 (dk_at dksX5_noNext_0 0 rfl rfl)
theorem dX5_noNext_1 : decode cX5_noNext 1 = .ok (.iload_n 1, 1) := dk_27 (dk_at dksX5_noNext_0 1 rfl rfl)
theorem dX5_noNext_2 : decode cX5_noNext 2 = .ok (.aload_n 0, 1) := dk_42 (dk_at dksX5_noNext_0 2 rfl rfl)
theorem dX5_noNext_3 : decode cX5_noNext 3 = .ok (.getfield 7, 3) := dk_180 0 7 (dk_at dksX5_noNext_0 3 rfl rfl)
theorem dX5_noNext_6 : decode cX5_noNext 6 = .ok (.bipush 6, 2) := dk_16 6 (dk_at dksX5_noNext_0 6 rfl rfl)
theorem dX5_noNext_8 : decode cX5_noNext 8 = .ok (.iaload, 1) := dk_46 (dk_at dksX5_noNext_0 8 rfl rfl)
theorem dX5_noNext_9 : decode cX5_noNext 9 = .ok (.iconst 1, 1) := dk_4 (dk_at dksX5_noNext_0 9 rfl rfl)
theorem dX5_noNext_10 : decode cX5_noNext 10 = .ok (.iadd, 1) := dk_96 (dk_at dksX5_noNext_0 10 rfl rfl)
theorem dX5_noNext_11 : decode cX5_noNext 11 = .ok (.sipush 999, 3) := dk_17 3 231 (dk_at dksX5_noNext_0 11 rfl rfl)
theorem dX5_noNext_14 : decode cX5_noNext 14 = .ok (.invokestatic 103, 3) := dk_184 0 103 (dk_at dksX5_noNext_0 14 rfl rfl)
theorem dX5_noNext_17 : decode cX5_noNext 17 = .ok (.ifCond .ne 7, 3) := dk_154 0 7 (dk_at dksX5_noNext_0 17 rfl rfl)
theorem dX5_noNext_20 : decode cX5_noNext 20 = .ok (.iconst 1, 1) := dk_4 (dk_at dksX5_noNext_0 20 rfl rfl)
theorem dX5_noNext_21 : decode cX5_noNext 21 = .ok (.goto 4, 3) := dk_167 0 4 (dk_at dksX5_noNext_0 21 rfl rfl)
theorem dX5_noNext_24 : decode cX5_noNext 24 = .ok (.iconst 0, 1) := dk_3 (dk_at dksX5_noNext_1 0 rfl rfl)
theorem dX5_noNext_25 : decode cX5_noNext 25 = .ok (.iconst 1, 1) := dk_4 (dk_at dksX5_noNext_1 1 rfl rfl)
theorem dX5_noNext_26 : decode cX5_noNext 26 = .ok (.invokevirtual 118, 3) := dk_182 0 118 (dk_at dksX5_noNext_1 2 rfl rfl)
theorem dX5_noNext_29 : decode cX5_noNext 29 = .ok (.ireturn, 1) := dk_172 (dk_at dksX5_noNext_1 5 rfl rfl)
abbrev cX5_pagesIf : ByteArray := prog_20_method_132_code
def yX5_pagesIf : MethodName := ⟨RX5, "pagesIf", "(I)I"⟩
def dkwX5_pagesIf_1 : List UInt8 := [182, 0, 211, 42, 42, 180, 0, 7, 16, 8, 46, 182, 0, 214, 42, 180, 0, 194, 172]
abbrev dktX5_pagesIf_1 : List UInt8 := dkwX5_pagesIf_1 ++ []
def dkwX5_pagesIf_0 : List UInt8 := [42, 182, 0, 208, 42, 27, 182, 2, 9, 153, 0, 5, 3, 172, 42, 27, 42, 180, 0, 7, 16, 6, 46]
abbrev dktX5_pagesIf_0 : List UInt8 := dkwX5_pagesIf_0 ++ dktX5_pagesIf_1
theorem dksX5_pagesIf_0 : cX5_pagesIf.data.toList.drop 0 = dktX5_pagesIf_0 := by decide +kernel
theorem dksX5_pagesIf_1 : cX5_pagesIf.data.toList.drop 23 = dktX5_pagesIf_1 := dk_seg dksX5_pagesIf_0 23 rfl rfl
theorem dX5_pagesIf_0 : decode cX5_pagesIf 0 = .ok (.aload_n 0, 1) := dk_42 (dk_at dksX5_pagesIf_0 0 rfl rfl)
theorem dX5_pagesIf_1 : decode cX5_pagesIf 1 = .ok (.invokevirtual 208, 3) := dk_182 0 208 (dk_at dksX5_pagesIf_0 1 rfl rfl)
theorem dX5_pagesIf_4 : decode cX5_pagesIf 4 = .ok (.aload_n 0, 1) := dk_42 (dk_at dksX5_pagesIf_0 4 rfl rfl)
theorem dX5_pagesIf_5 : decode cX5_pagesIf 5 = .ok (.iload_n 1, 1) := dk_27 (dk_at dksX5_pagesIf_0 5 rfl rfl)
theorem dX5_pagesIf_6 : decode cX5_pagesIf 6 = .ok (.invokevirtual 521, 3) := dk_182 2 9 (dk_at dksX5_pagesIf_0 6 rfl rfl)
theorem dX5_pagesIf_9 : decode cX5_pagesIf 9 = .ok (.ifCond .eq 5, 3) := dk_153 0 5 (dk_at dksX5_pagesIf_0 9 rfl rfl)
theorem dX5_pagesIf_12 : decode cX5_pagesIf 12 = .ok (.iconst 0, 1) := dk_3 (dk_at dksX5_pagesIf_0 12 rfl rfl)
theorem dX5_pagesIf_13 : decode cX5_pagesIf 13 = .ok (.ireturn, 1) := dk_172 (dk_at dksX5_pagesIf_0 13 rfl rfl)
theorem dX5_pagesIf_14 : decode cX5_pagesIf 14 = .ok (.aload_n 0, 1) := dk_42 (dk_at dksX5_pagesIf_0 14 rfl rfl)
theorem dX5_pagesIf_15 : decode cX5_pagesIf 15 = .ok (.iload_n 1, 1) := dk_27 (dk_at dksX5_pagesIf_0 15 rfl rfl)
theorem dX5_pagesIf_16 : decode cX5_pagesIf 16 = .ok (.aload_n 0, 1) := dk_42 (dk_at dksX5_pagesIf_0 16 rfl rfl)
theorem dX5_pagesIf_17 : decode cX5_pagesIf 17 = .ok (.getfield 7, 3) := dk_180 0 7 (dk_at dksX5_pagesIf_0 17 rfl rfl)
theorem dX5_pagesIf_20 : decode cX5_pagesIf 20 = .ok (.bipush 6, 2) := dk_16 6 (dk_at dksX5_pagesIf_0 20 rfl rfl)
theorem dX5_pagesIf_22 : decode cX5_pagesIf 22 = .ok (.iaload, 1) := dk_46 (dk_at dksX5_pagesIf_0 22 rfl rfl)
theorem dX5_pagesIf_23 : decode cX5_pagesIf 23 = .ok (.invokevirtual 211, 3) := dk_182 0 211 (dk_at dksX5_pagesIf_1 0 rfl rfl)
theorem dX5_pagesIf_26 : decode cX5_pagesIf 26 = .ok (.aload_n 0, 1) := dk_42 (dk_at dksX5_pagesIf_1 3 rfl rfl)
theorem dX5_pagesIf_27 : decode cX5_pagesIf 27 = .ok (.aload_n 0, 1) := dk_42 (dk_at dksX5_pagesIf_1 4 rfl rfl)
theorem dX5_pagesIf_28 : decode cX5_pagesIf 28 = .ok (.getfield 7, 3) := dk_180 0 7 (dk_at dksX5_pagesIf_1 5 rfl rfl)
theorem dX5_pagesIf_31 : decode cX5_pagesIf 31 = .ok (.bipush 8, 2) := dk_16 8 (dk_at dksX5_pagesIf_1 8 rfl rfl)
theorem dX5_pagesIf_33 : decode cX5_pagesIf 33 = .ok (.iaload, 1) := dk_46 (dk_at dksX5_pagesIf_1 10 rfl rfl)
theorem dX5_pagesIf_34 : decode cX5_pagesIf 34 = .ok (.invokevirtual 214, 3) := dk_182 0 214 (dk_at dksX5_pagesIf_1 11 rfl rfl)
theorem dX5_pagesIf_37 : decode cX5_pagesIf 37 = .ok (.aload_n 0, 1) := dk_42 (dk_at dksX5_pagesIf_1 14 rfl rfl)
theorem dX5_pagesIf_38 : decode cX5_pagesIf 38 = .ok (.getfield 194, 3) := dk_180 0 194 (dk_at dksX5_pagesIf_1 15 rfl rfl)
theorem dX5_pagesIf_41 : decode cX5_pagesIf 41 = .ok (.ireturn, 1) := dk_172 (dk_at dksX5_pagesIf_1 18 rfl rfl)
abbrev cX5_fullest : ByteArray := prog_20_method_133_code
def yX5_fullest : MethodName := ⟨RX5, "fullest", "()I"⟩
def dkwX5_fullest_2 : List UInt8 := [60, 21, 4, 61, 132, 3, 1, 167, 255, 212, 27, 172]
abbrev dktX5_fullest_2 : List UInt8 := dkwX5_fullest_2 ++ []
def dkwX5_fullest_1 : List UInt8 := [180, 0, 7, 16, 6, 46, 182, 1, 198, 184, 0, 232, 54, 4, 21, 4, 28, 163, 0, 6, 167, 0, 8, 29]
abbrev dktX5_fullest_1 : List UInt8 := dkwX5_fullest_1 ++ dktX5_fullest_2
def dkwX5_fullest_0 : List UInt8 := [42, 182, 0, 208, 2, 60, 3, 61, 3, 62, 29, 42, 180, 0, 7, 5, 46, 162, 0, 40, 42, 29, 42]
abbrev dktX5_fullest_0 : List UInt8 := dkwX5_fullest_0 ++ dktX5_fullest_1
theorem dksX5_fullest_0 : cX5_fullest.data.toList.drop 0 = dktX5_fullest_0 := by decide +kernel
theorem dksX5_fullest_1 : cX5_fullest.data.toList.drop 23 = dktX5_fullest_1 := dk_seg dksX5_fullest_0 23 rfl rfl
theorem dksX5_fullest_2 : cX5_fullest.data.toList.drop 47 = dktX5_fullest_2 := dk_seg dksX5_fullest_1 24 rfl rfl
theorem dX5_fullest_0 : decode cX5_fullest 0 = .ok (.aload_n 0, 1) := dk_42 (dk_at dksX5_fullest_0 0 rfl rfl)
theorem dX5_fullest_1 : decode cX5_fullest 1 = .ok (.invokevirtual 208, 3) := dk_182 0 208 (dk_at dksX5_fullest_0 1 rfl rfl)
theorem dX5_fullest_4 : decode cX5_fullest 4 = .ok (.iconst (-1), 1) := dk_2 (dk_at dksX5_fullest_0 4 rfl rfl)
theorem dX5_fullest_5 : decode cX5_fullest 5 = .ok (.istore_n 1, 1) := dk_60 (dk_at dksX5_fullest_0 5 rfl rfl)
theorem dX5_fullest_6 : decode cX5_fullest 6 = .ok (.iconst 0, 1) := dk_3 (dk_at dksX5_fullest_0 6 rfl rfl)
theorem dX5_fullest_7 : decode cX5_fullest 7 = .ok (.istore_n 2, 1) := dk_61 (dk_at dksX5_fullest_0 7 rfl rfl)
theorem dX5_fullest_8 : decode cX5_fullest 8 = .ok (.iconst 0, 1) := dk_3 (dk_at dksX5_fullest_0 8 rfl rfl)
theorem dX5_fullest_9 : decode cX5_fullest 9 = .ok (.istore_n 3, 1) := dk_62 (dk_at dksX5_fullest_0 9 rfl rfl)
theorem dX5_fullest_10 : decode cX5_fullest 10 = .ok (.iload_n 3, 1) := dk_29 (dk_at dksX5_fullest_0 10 rfl rfl)
theorem dX5_fullest_11 : decode cX5_fullest 11 = .ok (.aload_n 0, 1) := dk_42 (dk_at dksX5_fullest_0 11 rfl rfl)
theorem dX5_fullest_12 : decode cX5_fullest 12 = .ok (.getfield 7, 3) := dk_180 0 7 (dk_at dksX5_fullest_0 12 rfl rfl)
theorem dX5_fullest_15 : decode cX5_fullest 15 = .ok (.iconst 2, 1) := dk_5 (dk_at dksX5_fullest_0 15 rfl rfl)
theorem dX5_fullest_16 : decode cX5_fullest 16 = .ok (.iaload, 1) := dk_46 (dk_at dksX5_fullest_0 16 rfl rfl)
theorem dX5_fullest_17 : decode cX5_fullest 17 = .ok (.if_icmp .ge 40, 3) := dk_162 0 40 (dk_at dksX5_fullest_0 17 rfl rfl)
theorem dX5_fullest_20 : decode cX5_fullest 20 = .ok (.aload_n 0, 1) := dk_42 (dk_at dksX5_fullest_0 20 rfl rfl)
theorem dX5_fullest_21 : decode cX5_fullest 21 = .ok (.iload_n 3, 1) := dk_29 (dk_at dksX5_fullest_0 21 rfl rfl)
theorem dX5_fullest_22 : decode cX5_fullest 22 = .ok (.aload_n 0, 1) := dk_42 (dk_at dksX5_fullest_0 22 rfl rfl)
theorem dX5_fullest_23 : decode cX5_fullest 23 = .ok (.getfield 7, 3) := dk_180 0 7 (dk_at dksX5_fullest_1 0 rfl rfl)
theorem dX5_fullest_26 : decode cX5_fullest 26 = .ok (.bipush 6, 2) := dk_16 6 (dk_at dksX5_fullest_1 3 rfl rfl)
theorem dX5_fullest_28 : decode cX5_fullest 28 = .ok (.iaload, 1) := dk_46 (dk_at dksX5_fullest_1 5 rfl rfl)
theorem dX5_fullest_29 : decode cX5_fullest 29 = .ok (.invokevirtual 454, 3) := dk_182 1 198 (dk_at dksX5_fullest_1 6 rfl rfl)
theorem dX5_fullest_32 : decode cX5_fullest 32 = .ok (.invokestatic 232, 3) := dk_184 0 232 (dk_at dksX5_fullest_1 9 rfl rfl)
theorem dX5_fullest_35 : decode cX5_fullest 35 = .ok (.istore 4, 2) := dk_54 4 (dk_at dksX5_fullest_1 12 rfl rfl)
theorem dX5_fullest_37 : decode cX5_fullest 37 = .ok (.iload 4, 2) := dk_21 4 (dk_at dksX5_fullest_1 14 rfl rfl)
theorem dX5_fullest_39 : decode cX5_fullest 39 = .ok (.iload_n 2, 1) := dk_28 (dk_at dksX5_fullest_1 16 rfl rfl)
theorem dX5_fullest_40 : decode cX5_fullest 40 = .ok (.if_icmp .gt 6, 3) := dk_163 0 6 (dk_at dksX5_fullest_1 17 rfl rfl)
theorem dX5_fullest_43 : decode cX5_fullest 43 = .ok (.goto 8, 3) := dk_167 0 8 (dk_at dksX5_fullest_1 20 rfl rfl)
theorem dX5_fullest_46 : decode cX5_fullest 46 = .ok (.iload_n 3, 1) := dk_29 (dk_at dksX5_fullest_1 23 rfl rfl)
theorem dX5_fullest_47 : decode cX5_fullest 47 = .ok (.istore_n 1, 1) := dk_60 (dk_at dksX5_fullest_2 0 rfl rfl)
theorem dX5_fullest_48 : decode cX5_fullest 48 = .ok (.iload 4, 2) := dk_21 4 (dk_at dksX5_fullest_2 1 rfl rfl)
theorem dX5_fullest_50 : decode cX5_fullest 50 = .ok (.istore_n 2, 1) := dk_61 (dk_at dksX5_fullest_2 3 rfl rfl)
theorem dX5_fullest_51 : decode cX5_fullest 51 = .ok (.iinc 3 1, 3) := dk_132 3 1 (dk_at dksX5_fullest_2 4 rfl rfl)
theorem dX5_fullest_54 : decode cX5_fullest 54 = .ok (.goto (-44), 3) := dk_167 255 212 (dk_at dksX5_fullest_2 7 rfl rfl)
theorem dX5_fullest_57 : decode cX5_fullest 57 = .ok (.iload_n 1, 1) := dk_27 (dk_at dksX5_fullest_2 10 rfl rfl)
theorem dX5_fullest_58 : decode cX5_fullest 58 = .ok (.ireturn, 1) := dk_172 (dk_at dksX5_fullest_2 11 rfl rfl)
abbrev cX5_meanVillages : ByteArray := prog_20_method_134_code
def yX5_meanVillages : MethodName := ⟨RX5, "meanVillages", "()D"⟩
def dkwX5_meanVillages_1 : List UInt8 := [46, 182, 1, 162, 135, 27, 135, 111, 175]
abbrev dktX5_meanVillages_1 : List UInt8 := dkwX5_meanVillages_1 ++ []
def dkwX5_meanVillages_0 : List UInt8 := [42, 182, 1, 153, 42, 182, 1, 156, 60, 27, 154, 0, 7, 14, 167, 0, 18, 42, 42, 180, 0, 7, 16, 6]
abbrev dktX5_meanVillages_0 : List UInt8 := dkwX5_meanVillages_0 ++ dktX5_meanVillages_1
theorem dksX5_meanVillages_0 : cX5_meanVillages.data.toList.drop 0 = dktX5_meanVillages_0 := by decide +kernel
theorem dksX5_meanVillages_1 : cX5_meanVillages.data.toList.drop 24 = dktX5_meanVillages_1 := dk_seg dksX5_meanVillages_0 24 rfl rfl
theorem dX5_meanVillages_0 : decode cX5_meanVillages 0 = .ok (.aload_n 0, 1) := dk_42 (dk_at dksX5_meanVillages_0 0 rfl rfl)
theorem dX5_meanVillages_1 : decode cX5_meanVillages 1 = .ok (.invokevirtual 409, 3) := dk_182 1 153 (dk_at dksX5_meanVillages_0 1 rfl rfl)
theorem dX5_meanVillages_4 : decode cX5_meanVillages 4 = .ok (.aload_n 0, 1) := dk_42 (dk_at dksX5_meanVillages_0 4 rfl rfl)
theorem dX5_meanVillages_5 : decode cX5_meanVillages 5 = .ok (.invokevirtual 412, 3) := dk_182 1 156 (dk_at dksX5_meanVillages_0 5 rfl rfl)
theorem dX5_meanVillages_8 : decode cX5_meanVillages 8 = .ok (.istore_n 1, 1) := dk_60 (dk_at dksX5_meanVillages_0 8 rfl rfl)
theorem dX5_meanVillages_9 : decode cX5_meanVillages 9 = .ok (.iload_n 1, 1) := dk_27 (dk_at dksX5_meanVillages_0 9 rfl rfl)
theorem dX5_meanVillages_10 : decode cX5_meanVillages 10 = .ok (.ifCond .ne 7, 3) := dk_154 0 7 (dk_at dksX5_meanVillages_0 10 rfl rfl)
theorem dX5_meanVillages_13 : decode cX5_meanVillages 13 = .ok (.dconst 0, 1) := dk_14 (dk_at dksX5_meanVillages_0 13 rfl rfl)
theorem dX5_meanVillages_14 : decode cX5_meanVillages 14 = .ok (.goto 18, 3) := dk_167 0 18 (dk_at dksX5_meanVillages_0 14 rfl rfl)
theorem dX5_meanVillages_17 : decode cX5_meanVillages 17 = .ok (.aload_n 0, 1) := dk_42 (dk_at dksX5_meanVillages_0 17 rfl rfl)
theorem dX5_meanVillages_18 : decode cX5_meanVillages 18 = .ok (.aload_n 0, 1) := dk_42 (dk_at dksX5_meanVillages_0 18 rfl rfl)
theorem dX5_meanVillages_19 : decode cX5_meanVillages 19 = .ok (.getfield 7, 3) := dk_180 0 7 (dk_at dksX5_meanVillages_0 19 rfl rfl)
theorem dX5_meanVillages_22 : decode cX5_meanVillages 22 = .ok (.bipush 6, 2) := dk_16 6 (dk_at dksX5_meanVillages_0 22 rfl rfl)
theorem dX5_meanVillages_24 : decode cX5_meanVillages 24 = .ok (.iaload, 1) := dk_46 (dk_at dksX5_meanVillages_1 0 rfl rfl)
theorem dX5_meanVillages_25 : decode cX5_meanVillages 25 = .ok (.invokevirtual 418, 3) := dk_182 1 162 (dk_at dksX5_meanVillages_1 1 rfl rfl)
theorem dX5_meanVillages_28 : decode cX5_meanVillages 28 = .ok (.i2d, 1) := dk_135 (dk_at dksX5_meanVillages_1 4 rfl rfl)
theorem dX5_meanVillages_29 : decode cX5_meanVillages 29 = .ok (.iload_n 1, 1) := dk_27 (dk_at dksX5_meanVillages_1 5 rfl rfl)
theorem dX5_meanVillages_30 : decode cX5_meanVillages 30 = .ok (.i2d, 1) := dk_135 (dk_at dksX5_meanVillages_1 6 rfl rfl)
theorem dX5_meanVillages_31 : decode cX5_meanVillages 31 = .ok (.ddiv, 1) := dk_111 (dk_at dksX5_meanVillages_1 7 rfl rfl)
theorem dX5_meanVillages_32 : decode cX5_meanVillages 32 = .ok (.dreturn, 1) := dk_175 (dk_at dksX5_meanVillages_1 8 rfl rfl)
abbrev cX5_seeShare : ByteArray := prog_20_method_135_code
def yX5_seeShare : MethodName := ⟨RX5, "seeShare", "()F"⟩
def dkwX5_seeShare_1 : List UInt8 := [167, 0, 11, 27, 134, 42, 180, 0, 170, 134, 110, 174]
abbrev dktX5_seeShare_1 : List UInt8 := dkwX5_seeShare_1 ++ []
def dkwX5_seeShare_0 : List UInt8 := [42, 182, 1, 153, 42, 4, 182, 1, 159, 42, 5, 182, 1, 159, 96, 60, 42, 180, 0, 170, 154, 0, 7, 11]
abbrev dktX5_seeShare_0 : List UInt8 := dkwX5_seeShare_0 ++ dktX5_seeShare_1
theorem dksX5_seeShare_0 : cX5_seeShare.data.toList.drop 0 = dktX5_seeShare_0 := by decide +kernel
theorem dksX5_seeShare_1 : cX5_seeShare.data.toList.drop 24 = dktX5_seeShare_1 := dk_seg dksX5_seeShare_0 24 rfl rfl
theorem dX5_seeShare_0 : decode cX5_seeShare 0 = .ok (.aload_n 0, 1) := dk_42 (dk_at dksX5_seeShare_0 0 rfl rfl)
theorem dX5_seeShare_1 : decode cX5_seeShare 1 = .ok (.invokevirtual 409, 3) := dk_182 1 153 (dk_at dksX5_seeShare_0 1 rfl rfl)
theorem dX5_seeShare_4 : decode cX5_seeShare 4 = .ok (.aload_n 0, 1) := dk_42 (dk_at dksX5_seeShare_0 4 rfl rfl)
theorem dX5_seeShare_5 : decode cX5_seeShare 5 = .ok (.iconst 1, 1) := dk_4 (dk_at dksX5_seeShare_0 5 rfl rfl)
theorem dX5_seeShare_6 : decode cX5_seeShare 6 = .ok (.invokevirtual 415, 3) := dk_182 1 159 (dk_at dksX5_seeShare_0 6 rfl rfl)
theorem dX5_seeShare_9 : decode cX5_seeShare 9 = .ok (.aload_n 0, 1) := dk_42 (dk_at dksX5_seeShare_0 9 rfl rfl)
theorem dX5_seeShare_10 : decode cX5_seeShare 10 = .ok (.iconst 2, 1) := dk_5 (dk_at dksX5_seeShare_0 10 rfl rfl)
theorem dX5_seeShare_11 : decode cX5_seeShare 11 = .ok (.invokevirtual 415, 3) := dk_182 1 159 (dk_at dksX5_seeShare_0 11 rfl rfl)
theorem dX5_seeShare_14 : decode cX5_seeShare 14 = .ok (.iadd, 1) := dk_96 (dk_at dksX5_seeShare_0 14 rfl rfl)
theorem dX5_seeShare_15 : decode cX5_seeShare 15 = .ok (.istore_n 1, 1) := dk_60 (dk_at dksX5_seeShare_0 15 rfl rfl)
theorem dX5_seeShare_16 : decode cX5_seeShare 16 = .ok (.aload_n 0, 1) := dk_42 (dk_at dksX5_seeShare_0 16 rfl rfl)
theorem dX5_seeShare_17 : decode cX5_seeShare 17 = .ok (.getfield 170, 3) := dk_180 0 170 (dk_at dksX5_seeShare_0 17 rfl rfl)
theorem dX5_seeShare_20 : decode cX5_seeShare 20 = .ok (.ifCond .ne 7, 3) := dk_154 0 7 (dk_at dksX5_seeShare_0 20 rfl rfl)
theorem dX5_seeShare_23 : decode cX5_seeShare 23 = .ok (.fconst 0, 1) := dk_11 (dk_at dksX5_seeShare_0 23 rfl rfl)
theorem dX5_seeShare_24 : decode cX5_seeShare 24 = .ok (.goto 11, 3) := dk_167 0 11 (dk_at dksX5_seeShare_1 0 rfl rfl)
theorem dX5_seeShare_27 : decode cX5_seeShare 27 = .ok (.iload_n 1, 1) := dk_27 (dk_at dksX5_seeShare_1 3 rfl rfl)
theorem dX5_seeShare_28 : decode cX5_seeShare 28 = .ok (.i2f, 1) := dk_134 (dk_at dksX5_seeShare_1 4 rfl rfl)
theorem dX5_seeShare_29 : decode cX5_seeShare 29 = .ok (.aload_n 0, 1) := dk_42 (dk_at dksX5_seeShare_1 5 rfl rfl)
theorem dX5_seeShare_30 : decode cX5_seeShare 30 = .ok (.getfield 170, 3) := dk_180 0 170 (dk_at dksX5_seeShare_1 6 rfl rfl)
theorem dX5_seeShare_33 : decode cX5_seeShare 33 = .ok (.i2f, 1) := dk_134 (dk_at dksX5_seeShare_1 9 rfl rfl)
theorem dX5_seeShare_34 : decode cX5_seeShare 34 = .ok (.fdiv, 1) := dk_110 (dk_at dksX5_seeShare_1 10 rfl rfl)
theorem dX5_seeShare_35 : decode cX5_seeShare 35 = .ok (.freturn, 1) := dk_174 (dk_at dksX5_seeShare_1 11 rfl rfl)
abbrev cX5_publish : ByteArray := prog_20_method_136_code
def yX5_publish : MethodName := ⟨RX5, "publish", "(I)I"⟩
def dkwX5_publish_2 : List UInt8 := [42, 180, 0, 7, 16, 7, 46, 182, 0, 211, 42, 5, 182, 1, 159, 172]
abbrev dktX5_publish_2 : List UInt8 := dkwX5_publish_2 ++ []
def dkwX5_publish_1 : List UInt8 := [42, 180, 0, 7, 16, 6, 46, 79, 42, 180, 0, 7, 16, 6, 27, 79, 42, 42, 180, 0, 7, 16, 6, 46]
abbrev dktX5_publish_1 : List UInt8 := dkwX5_publish_1 ++ dktX5_publish_2
def dkwX5_publish_0 : List UInt8 := [42, 182, 0, 208, 42, 27, 182, 2, 9, 153, 0, 5, 3, 172, 42, 182, 2, 12, 42, 180, 0, 7, 16, 7]
abbrev dktX5_publish_0 : List UInt8 := dkwX5_publish_0 ++ dktX5_publish_1
theorem dksX5_publish_0 : cX5_publish.data.toList.drop 0 = dktX5_publish_0 := by decide +kernel
theorem dksX5_publish_1 : cX5_publish.data.toList.drop 24 = dktX5_publish_1 := dk_seg dksX5_publish_0 24 rfl rfl
theorem dksX5_publish_2 : cX5_publish.data.toList.drop 48 = dktX5_publish_2 := dk_seg dksX5_publish_1 24 rfl rfl
theorem dX5_publish_0 : decode cX5_publish 0 = .ok (.aload_n 0, 1) := dk_42 (dk_at dksX5_publish_0 0 rfl rfl)
theorem dX5_publish_1 : decode cX5_publish 1 = .ok (.invokevirtual 208, 3) := dk_182 0 208 (dk_at dksX5_publish_0 1 rfl rfl)
theorem dX5_publish_4 : decode cX5_publish 4 = .ok (.aload_n 0, 1) := dk_42 (dk_at dksX5_publish_0 4 rfl rfl)
theorem dX5_publish_5 : decode cX5_publish 5 = .ok (.iload_n 1, 1) := dk_27 (dk_at dksX5_publish_0 5 rfl rfl)
theorem dX5_publish_6 : decode cX5_publish 6 = .ok (.invokevirtual 521, 3) := dk_182 2 9 (dk_at dksX5_publish_0 6 rfl rfl)
theorem dX5_publish_9 : decode cX5_publish 9 = .ok (.ifCond .eq 5, 3) := dk_153 0 5 (dk_at dksX5_publish_0 9 rfl rfl)
theorem dX5_publish_12 : decode cX5_publish 12 = .ok (.iconst 0, 1) := dk_3 (dk_at dksX5_publish_0 12 rfl rfl)
theorem dX5_publish_13 : decode cX5_publish 13 = .ok (.ireturn, 1) := dk_172 (dk_at dksX5_publish_0 13 rfl rfl)
theorem dX5_publish_14 : decode cX5_publish 14 = .ok (.aload_n 0, 1) := dk_42 (dk_at dksX5_publish_0 14 rfl rfl)
theorem dX5_publish_15 : decode cX5_publish 15 = .ok (.invokevirtual 524, 3) := dk_182 2 12 (dk_at dksX5_publish_0 15 rfl rfl)
theorem dX5_publish_18 : decode cX5_publish 18 = .ok (.aload_n 0, 1) := dk_42 (dk_at dksX5_publish_0 18 rfl rfl)
theorem dX5_publish_19 : decode cX5_publish 19 = .ok (.getfield 7, 3) := dk_180 0 7 (dk_at dksX5_publish_0 19 rfl rfl)
theorem dX5_publish_22 : decode cX5_publish 22 = .ok (.bipush 7, 2) := dk_16 7 (dk_at dksX5_publish_0 22 rfl rfl)
theorem dX5_publish_24 : decode cX5_publish 24 = .ok (.aload_n 0, 1) := dk_42 (dk_at dksX5_publish_1 0 rfl rfl)
theorem dX5_publish_25 : decode cX5_publish 25 = .ok (.getfield 7, 3) := dk_180 0 7 (dk_at dksX5_publish_1 1 rfl rfl)
theorem dX5_publish_28 : decode cX5_publish 28 = .ok (.bipush 6, 2) := dk_16 6 (dk_at dksX5_publish_1 4 rfl rfl)
theorem dX5_publish_30 : decode cX5_publish 30 = .ok (.iaload, 1) := dk_46 (dk_at dksX5_publish_1 6 rfl rfl)
theorem dX5_publish_31 : decode cX5_publish 31 = .ok (.iastore, 1) := dk_79 (dk_at dksX5_publish_1 7 rfl rfl)
theorem dX5_publish_32 : decode cX5_publish 32 = .ok (.aload_n 0, 1) := dk_42 (dk_at dksX5_publish_1 8 rfl rfl)
theorem dX5_publish_33 : decode cX5_publish 33 = .ok (.getfield 7, 3) := dk_180 0 7 (dk_at dksX5_publish_1 9 rfl rfl)
theorem dX5_publish_36 : decode cX5_publish 36 = .ok (.bipush 6, 2) := dk_16 6 (dk_at dksX5_publish_1 12 rfl rfl)
theorem dX5_publish_38 : decode cX5_publish 38 = .ok (.iload_n 1, 1) := dk_27 (dk_at dksX5_publish_1 14 rfl rfl)
theorem dX5_publish_39 : decode cX5_publish 39 = .ok (.iastore, 1) := dk_79 (dk_at dksX5_publish_1 15 rfl rfl)
theorem dX5_publish_40 : decode cX5_publish 40 = .ok (.aload_n 0, 1) := dk_42 (dk_at dksX5_publish_1 16 rfl rfl)
theorem dX5_publish_41 : decode cX5_publish 41 = .ok (.aload_n 0, 1) := dk_42 (dk_at dksX5_publish_1 17 rfl rfl)
theorem dX5_publish_42 : decode cX5_publish 42 = .ok (.getfield 7, 3) := dk_180 0 7 (dk_at dksX5_publish_1 18 rfl rfl)
theorem dX5_publish_45 : decode cX5_publish 45 = .ok (.bipush 6, 2) := dk_16 6 (dk_at dksX5_publish_1 21 rfl rfl)
theorem dX5_publish_47 : decode cX5_publish 47 = .ok (.iaload, 1) := dk_46 (dk_at dksX5_publish_1 23 rfl rfl)
theorem dX5_publish_48 : decode cX5_publish 48 = .ok (.aload_n 0, 1) := dk_42 (dk_at dksX5_publish_2 0 rfl rfl)
theorem dX5_publish_49 : decode cX5_publish 49 = .ok (.getfield 7, 3) := dk_180 0 7 (dk_at dksX5_publish_2 1 rfl rfl)
theorem dX5_publish_52 : decode cX5_publish 52 = .ok (.bipush 7, 2) := dk_16 7 (dk_at dksX5_publish_2 4 rfl rfl)
theorem dX5_publish_54 : decode cX5_publish 54 = .ok (.iaload, 1) := dk_46 (dk_at dksX5_publish_2 6 rfl rfl)
theorem dX5_publish_55 : decode cX5_publish 55 = .ok (.invokevirtual 211, 3) := dk_182 0 211 (dk_at dksX5_publish_2 7 rfl rfl)
theorem dX5_publish_58 : decode cX5_publish 58 = .ok (.aload_n 0, 1) := dk_42 (dk_at dksX5_publish_2 10 rfl rfl)
theorem dX5_publish_59 : decode cX5_publish 59 = .ok (.iconst 2, 1) := dk_5 (dk_at dksX5_publish_2 11 rfl rfl)
theorem dX5_publish_60 : decode cX5_publish 60 = .ok (.invokevirtual 415, 3) := dk_182 1 159 (dk_at dksX5_publish_2 12 rfl rfl)
theorem dX5_publish_63 : decode cX5_publish 63 = .ok (.ireturn, 1) := dk_172 (dk_at dksX5_publish_2 15 rfl rfl)
abbrev cX5_remembers : ByteArray := prog_20_method_9_code
def yX5_remembers : MethodName := ⟨RX5, "remembers", "()V"⟩
def dkwX5_remembers_4 : List UInt8 := [16, 48, 184, 0, 114, 42, 89, 180, 0, 107, 4, 96, 181, 0, 107, 177]
abbrev dktX5_remembers_4 : List UInt8 := dkwX5_remembers_4 ++ []
def dkwX5_remembers_3 : List UInt8 := [104, 17, 1, 10, 184, 0, 110, 42, 180, 0, 22, 3, 42, 180, 0, 32, 16, 48, 42, 180, 0, 107, 104]
abbrev dktX5_remembers_3 : List UInt8 := dkwX5_remembers_3 ++ dktX5_remembers_4
def dkwX5_remembers_2 : List UInt8 := [180, 0, 107, 4, 100, 181, 0, 107, 42, 180, 0, 7, 3, 42, 180, 0, 19, 17, 1, 10, 42, 180, 0, 107]
abbrev dktX5_remembers_2 : List UInt8 := dkwX5_remembers_2 ++ dktX5_remembers_3
def dkwX5_remembers_1 : List UInt8 := [184, 0, 110, 42, 180, 0, 32, 16, 48, 42, 180, 0, 32, 3, 17, 1, 80, 184, 0, 114, 42, 89]
abbrev dktX5_remembers_1 : List UInt8 := dkwX5_remembers_1 ++ dktX5_remembers_2
def dkwX5_remembers_0 : List UInt8 := [42, 180, 0, 107, 16, 8, 160, 0, 48, 42, 180, 0, 19, 17, 1, 10, 42, 180, 0, 19, 3, 17, 7, 70]
abbrev dktX5_remembers_0 : List UInt8 := dkwX5_remembers_0 ++ dktX5_remembers_1
theorem dksX5_remembers_0 : cX5_remembers.data.toList.drop 0 = dktX5_remembers_0 := by decide +kernel
theorem dksX5_remembers_1 : cX5_remembers.data.toList.drop 24 = dktX5_remembers_1 := dk_seg dksX5_remembers_0 24 rfl rfl
theorem dksX5_remembers_2 : cX5_remembers.data.toList.drop 46 = dktX5_remembers_2 := dk_seg dksX5_remembers_1 22 rfl rfl
theorem dksX5_remembers_3 : cX5_remembers.data.toList.drop 70 = dktX5_remembers_3 := dk_seg dksX5_remembers_2 24 rfl rfl
theorem dksX5_remembers_4 : cX5_remembers.data.toList.drop 93 = dktX5_remembers_4 := dk_seg dksX5_remembers_3 23 rfl rfl
theorem dX5_remembers_0 : decode cX5_remembers 0 = .ok (.aload_n 0, 1) := dk_42 (dk_at dksX5_remembers_0 0 rfl rfl)
theorem dX5_remembers_1 : decode cX5_remembers 1 = .ok (.getfield 107, 3) := dk_180 0 107 (dk_at dksX5_remembers_0 1 rfl rfl)
theorem dX5_remembers_4 : decode cX5_remembers 4 = .ok (.bipush 8, 2) := dk_16 8 (dk_at dksX5_remembers_0 4 rfl rfl)
theorem dX5_remembers_6 : decode cX5_remembers 6 = .ok (.if_icmp .ne 48, 3) := dk_160 0 48 (dk_at dksX5_remembers_0 6 rfl rfl)
theorem dX5_remembers_9 : decode cX5_remembers 9 = .ok (.aload_n 0, 1) := dk_42 (dk_at dksX5_remembers_0 9 rfl rfl)
theorem dX5_remembers_10 : decode cX5_remembers 10 = .ok (.getfield 19, 3) := dk_180 0 19 (dk_at dksX5_remembers_0 10 rfl rfl)
theorem dX5_remembers_13 : decode cX5_remembers 13 = .ok (.sipush 266, 3) := dk_17 1 10 (dk_at dksX5_remembers_0 13 rfl rfl)
theorem dX5_remembers_16 : decode cX5_remembers 16 = .ok (.aload_n 0, 1) := dk_42 (dk_at dksX5_remembers_0 16 rfl rfl)
theorem dX5_remembers_17 : decode cX5_remembers 17 = .ok (.getfield 19, 3) := dk_180 0 19 (dk_at dksX5_remembers_0 17 rfl rfl)
theorem dX5_remembers_20 : decode cX5_remembers 20 = .ok (.iconst 0, 1) := dk_3 (dk_at dksX5_remembers_0 20 rfl rfl)
theorem dX5_remembers_21 : decode cX5_remembers 21 = .ok (.sipush 1862, 3) := dk_17 7 70 (dk_at dksX5_remembers_0 21 rfl rfl)
theorem dX5_remembers_24 : decode cX5_remembers 24 = .ok (.invokestatic 110, 3) := dk_184 0 110 (dk_at dksX5_remembers_1 0 rfl rfl)
theorem dX5_remembers_27 : decode cX5_remembers 27 = .ok (.aload_n 0, 1) := dk_42 (dk_at dksX5_remembers_1 3 rfl rfl)
theorem dX5_remembers_28 : decode cX5_remembers 28 = .ok (.getfield 32, 3) := dk_180 0 32 (dk_at dksX5_remembers_1 4 rfl rfl)
theorem dX5_remembers_31 : decode cX5_remembers 31 = .ok (.bipush 48, 2) := dk_16 48 (dk_at dksX5_remembers_1 7 rfl rfl)
theorem dX5_remembers_33 : decode cX5_remembers 33 = .ok (.aload_n 0, 1) := dk_42 (dk_at dksX5_remembers_1 9 rfl rfl)
theorem dX5_remembers_34 : decode cX5_remembers 34 = .ok (.getfield 32, 3) := dk_180 0 32 (dk_at dksX5_remembers_1 10 rfl rfl)
theorem dX5_remembers_37 : decode cX5_remembers 37 = .ok (.iconst 0, 1) := dk_3 (dk_at dksX5_remembers_1 13 rfl rfl)
theorem dX5_remembers_38 : decode cX5_remembers 38 = .ok (.sipush 336, 3) := dk_17 1 80 (dk_at dksX5_remembers_1 14 rfl rfl)
theorem dX5_remembers_41 : decode cX5_remembers 41 = .ok (.invokestatic 114, 3) := dk_184 0 114 (dk_at dksX5_remembers_1 17 rfl rfl)
theorem dX5_remembers_44 : decode cX5_remembers 44 = .ok (.aload_n 0, 1) := dk_42 (dk_at dksX5_remembers_1 20 rfl rfl)
theorem dX5_remembers_45 : decode cX5_remembers 45 = .ok (.dup, 1) := dk_89 (dk_at dksX5_remembers_1 21 rfl rfl)
theorem dX5_remembers_46 : decode cX5_remembers 46 = .ok (.getfield 107, 3) := dk_180 0 107 (dk_at dksX5_remembers_2 0 rfl rfl)
theorem dX5_remembers_49 : decode cX5_remembers 49 = .ok (.iconst 1, 1) := dk_4 (dk_at dksX5_remembers_2 3 rfl rfl)
theorem dX5_remembers_50 : decode cX5_remembers 50 = .ok (.isub, 1) := dk_100 (dk_at dksX5_remembers_2 4 rfl rfl)
theorem dX5_remembers_51 : decode cX5_remembers 51 = .ok (.putfield 107, 3) := dk_181 0 107 (dk_at dksX5_remembers_2 5 rfl rfl)
theorem dX5_remembers_54 : decode cX5_remembers 54 = .ok (.aload_n 0, 1) := dk_42 (dk_at dksX5_remembers_2 8 rfl rfl)
theorem dX5_remembers_55 : decode cX5_remembers 55 = .ok (.getfield 7, 3) := dk_180 0 7 (dk_at dksX5_remembers_2 9 rfl rfl)
theorem dX5_remembers_58 : decode cX5_remembers 58 = .ok (.iconst 0, 1) := dk_3 (dk_at dksX5_remembers_2 12 rfl rfl)
theorem dX5_remembers_59 : decode cX5_remembers 59 = .ok (.aload_n 0, 1) := dk_42 (dk_at dksX5_remembers_2 13 rfl rfl)
theorem dX5_remembers_60 : decode cX5_remembers 60 = .ok (.getfield 19, 3) := dk_180 0 19 (dk_at dksX5_remembers_2 14 rfl rfl)
theorem dX5_remembers_63 : decode cX5_remembers 63 = .ok (.sipush 266, 3) := dk_17 1 10 (dk_at dksX5_remembers_2 17 rfl rfl)
theorem dX5_remembers_66 : decode cX5_remembers 66 = .ok (.aload_n 0, 1) := dk_42 (dk_at dksX5_remembers_2 20 rfl rfl)
theorem dX5_remembers_67 : decode cX5_remembers 67 = .ok (.getfield 107, 3) := dk_180 0 107 (dk_at dksX5_remembers_2 21 rfl rfl)
theorem dX5_remembers_70 : decode cX5_remembers 70 = .ok (.imul, 1) := dk_104 (dk_at dksX5_remembers_3 0 rfl rfl)
theorem dX5_remembers_71 : decode cX5_remembers 71 = .ok (.sipush 266, 3) := dk_17 1 10 (dk_at dksX5_remembers_3 1 rfl rfl)
theorem dX5_remembers_74 : decode cX5_remembers 74 = .ok (.invokestatic 110, 3) := dk_184 0 110 (dk_at dksX5_remembers_3 4 rfl rfl)
theorem dX5_remembers_77 : decode cX5_remembers 77 = .ok (.aload_n 0, 1) := dk_42 (dk_at dksX5_remembers_3 7 rfl rfl)
theorem dX5_remembers_78 : decode cX5_remembers 78 = .ok (.getfield 22, 3) := dk_180 0 22 (dk_at dksX5_remembers_3 8 rfl rfl)
theorem dX5_remembers_81 : decode cX5_remembers 81 = .ok (.iconst 0, 1) := dk_3 (dk_at dksX5_remembers_3 11 rfl rfl)
theorem dX5_remembers_82 : decode cX5_remembers 82 = .ok (.aload_n 0, 1) := dk_42 (dk_at dksX5_remembers_3 12 rfl rfl)
theorem dX5_remembers_83 : decode cX5_remembers 83 = .ok (.getfield 32, 3) := dk_180 0 32 (dk_at dksX5_remembers_3 13 rfl rfl)
theorem dX5_remembers_86 : decode cX5_remembers 86 = .ok (.bipush 48, 2) := dk_16 48 (dk_at dksX5_remembers_3 16 rfl rfl)
theorem dX5_remembers_88 : decode cX5_remembers 88 = .ok (.aload_n 0, 1) := dk_42 (dk_at dksX5_remembers_3 18 rfl rfl)
theorem dX5_remembers_89 : decode cX5_remembers 89 = .ok (.getfield 107, 3) := dk_180 0 107 (dk_at dksX5_remembers_3 19 rfl rfl)
theorem dX5_remembers_92 : decode cX5_remembers 92 = .ok (.imul, 1) := dk_104 (dk_at dksX5_remembers_3 22 rfl rfl)
theorem dX5_remembers_93 : decode cX5_remembers 93 = .ok (.bipush 48, 2) := dk_16 48 (dk_at dksX5_remembers_4 0 rfl rfl)
theorem dX5_remembers_95 : decode cX5_remembers 95 = .ok (.invokestatic 114, 3) := dk_184 0 114 (dk_at dksX5_remembers_4 2 rfl rfl)
theorem dX5_remembers_98 : decode cX5_remembers 98 = .ok (.aload_n 0, 1) := dk_42 (dk_at dksX5_remembers_4 5 rfl rfl)
theorem dX5_remembers_99 : decode cX5_remembers 99 = .ok (.dup, 1) := dk_89 (dk_at dksX5_remembers_4 6 rfl rfl)
theorem dX5_remembers_100 : decode cX5_remembers 100 = .ok (.getfield 107, 3) := dk_180 0 107 (dk_at dksX5_remembers_4 7 rfl rfl)
theorem dX5_remembers_103 : decode cX5_remembers 103 = .ok (.iconst 1, 1) := dk_4 (dk_at dksX5_remembers_4 10 rfl rfl)
theorem dX5_remembers_104 : decode cX5_remembers 104 = .ok (.iadd, 1) := dk_96 (dk_at dksX5_remembers_4 11 rfl rfl)
theorem dX5_remembers_105 : decode cX5_remembers 105 = .ok (.putfield 107, 3) := dk_181 0 107 (dk_at dksX5_remembers_4 12 rfl rfl)
theorem dX5_remembers_108 : decode cX5_remembers 108 = .ok (.return_, 1) := dk_177 (dk_at dksX5_remembers_4 15 rfl rfl)
abbrev cX5_redraw : ByteArray := prog_20_method_139_code
def yX5_redraw : MethodName := ⟨RX5, "redraw", "(IIIIII)I"⟩
def dkwX5_redraw_3 : List UInt8 := [3, 21, 6, 2, 182, 1, 92, 42, 180, 0, 7, 7, 46, 4, 100, 172]
abbrev dktX5_redraw_3 : List UInt8 := dkwX5_redraw_3 ++ []
def dkwX5_redraw_2 : List UInt8 := [182, 2, 18, 153, 0, 5, 3, 172, 42, 182, 2, 12, 42, 28, 29, 21, 4, 21, 5, 182, 1, 86, 42, 27]
abbrev dktX5_redraw_2 : List UInt8 := dkwX5_redraw_2 ++ dktX5_redraw_3
def dkwX5_redraw_1 : List UInt8 := [29, 21, 4, 21, 5, 182, 2, 15, 154, 0, 7, 4, 167, 0, 4, 3, 5, 182, 0, 118, 154, 0, 10, 42]
abbrev dktX5_redraw_1 : List UInt8 := dkwX5_redraw_1 ++ dktX5_redraw_2
def dkwX5_redraw_0 : List UInt8 := [42, 3, 181, 0, 100, 42, 21, 6, 182, 1, 186, 154, 0, 43, 42, 27, 184, 0, 122, 153, 0, 16, 42, 28]
abbrev dktX5_redraw_0 : List UInt8 := dkwX5_redraw_0 ++ dktX5_redraw_1
theorem dksX5_redraw_0 : cX5_redraw.data.toList.drop 0 = dktX5_redraw_0 := by decide +kernel
theorem dksX5_redraw_1 : cX5_redraw.data.toList.drop 24 = dktX5_redraw_1 := dk_seg dksX5_redraw_0 24 rfl rfl
theorem dksX5_redraw_2 : cX5_redraw.data.toList.drop 48 = dktX5_redraw_2 := dk_seg dksX5_redraw_1 24 rfl rfl
theorem dksX5_redraw_3 : cX5_redraw.data.toList.drop 72 = dktX5_redraw_3 := dk_seg dksX5_redraw_2 24 rfl rfl
theorem dX5_redraw_0 : decode cX5_redraw 0 = .ok (.aload_n 0, 1) := dk_42 (dk_at dksX5_redraw_0 0 rfl rfl)
theorem dX5_redraw_1 : decode cX5_redraw 1 = .ok (.iconst 0, 1) := dk_3 (dk_at dksX5_redraw_0 1 rfl rfl)
theorem dX5_redraw_2 : decode cX5_redraw 2 = .ok (.putfield 100, 3) := dk_181 0 100 (dk_at dksX5_redraw_0 2 rfl rfl)
theorem dX5_redraw_5 : decode cX5_redraw 5 = .ok (.aload_n 0, 1) := dk_42 (dk_at dksX5_redraw_0 5 rfl rfl)
theorem dX5_redraw_6 : decode cX5_redraw 6 = .ok (.iload 6, 2) := dk_21 6 (dk_at dksX5_redraw_0 6 rfl rfl)
theorem dX5_redraw_8 : decode cX5_redraw 8 = .ok (.invokevirtual 442, 3) := dk_182 1 186 (dk_at dksX5_redraw_0 8 rfl rfl)
theorem dX5_redraw_11 : decode cX5_redraw 11 = .ok (.ifCond .ne 43, 3) := dk_154 0 43 (dk_at dksX5_redraw_0 11 rfl rfl)
theorem dX5_redraw_14 : decode cX5_redraw 14 = .ok (.aload_n 0, 1) := dk_42 (dk_at dksX5_redraw_0 14 rfl rfl)
theorem dX5_redraw_15 : decode cX5_redraw 15 = .ok (.iload_n 1, 1) := dk_27 (dk_at dksX5_redraw_0 15 rfl rfl)
theorem dX5_redraw_16 : decode cX5_redraw 16 = .ok (.invokestatic 122, 3) := dk_184 0 122 (dk_at dksX5_redraw_0 16 rfl rfl)
theorem dX5_redraw_19 : decode cX5_redraw 19 = .ok (.ifCond .eq 16, 3) := dk_153 0 16 (dk_at dksX5_redraw_0 19 rfl rfl)
theorem dX5_redraw_22 : decode cX5_redraw 22 = .ok (.aload_n 0, 1) := dk_42 (dk_at dksX5_redraw_0 22 rfl rfl)
theorem dX5_redraw_23 : decode cX5_redraw 23 = .ok (.iload_n 2, 1) := dk_28 (dk_at dksX5_redraw_0 23 rfl rfl)
theorem dX5_redraw_24 : decode cX5_redraw 24 = .ok (.iload_n 3, 1) := dk_29 (dk_at dksX5_redraw_1 0 rfl rfl)
theorem dX5_redraw_25 : decode cX5_redraw 25 = .ok (.iload 4, 2) := dk_21 4 (dk_at dksX5_redraw_1 1 rfl rfl)
theorem dX5_redraw_27 : decode cX5_redraw 27 = .ok (.iload 5, 2) := dk_21 5 (dk_at dksX5_redraw_1 3 rfl rfl)
theorem dX5_redraw_29 : decode cX5_redraw 29 = .ok (.invokevirtual 527, 3) := dk_182 2 15 (dk_at dksX5_redraw_1 5 rfl rfl)
theorem dX5_redraw_32 : decode cX5_redraw 32 = .ok (.ifCond .ne 7, 3) := dk_154 0 7 (dk_at dksX5_redraw_1 8 rfl rfl)
theorem dX5_redraw_35 : decode cX5_redraw 35 = .ok (.iconst 1, 1) := dk_4 (dk_at dksX5_redraw_1 11 rfl rfl)
theorem dX5_redraw_36 : decode cX5_redraw 36 = .ok (.goto 4, 3) := dk_167 0 4 (dk_at dksX5_redraw_1 12 rfl rfl)
theorem dX5_redraw_39 : decode cX5_redraw 39 = .ok (.iconst 0, 1) := dk_3 (dk_at dksX5_redraw_1 15 rfl rfl)
theorem dX5_redraw_40 : decode cX5_redraw 40 = .ok (.iconst 2, 1) := dk_5 (dk_at dksX5_redraw_1 16 rfl rfl)
theorem dX5_redraw_41 : decode cX5_redraw 41 = .ok (.invokevirtual 118, 3) := dk_182 0 118 (dk_at dksX5_redraw_1 17 rfl rfl)
theorem dX5_redraw_44 : decode cX5_redraw 44 = .ok (.ifCond .ne 10, 3) := dk_154 0 10 (dk_at dksX5_redraw_1 20 rfl rfl)
theorem dX5_redraw_47 : decode cX5_redraw 47 = .ok (.aload_n 0, 1) := dk_42 (dk_at dksX5_redraw_1 23 rfl rfl)
theorem dX5_redraw_48 : decode cX5_redraw 48 = .ok (.invokevirtual 530, 3) := dk_182 2 18 (dk_at dksX5_redraw_2 0 rfl rfl)
theorem dX5_redraw_51 : decode cX5_redraw 51 = .ok (.ifCond .eq 5, 3) := dk_153 0 5 (dk_at dksX5_redraw_2 3 rfl rfl)
theorem dX5_redraw_54 : decode cX5_redraw 54 = .ok (.iconst 0, 1) := dk_3 (dk_at dksX5_redraw_2 6 rfl rfl)
theorem dX5_redraw_55 : decode cX5_redraw 55 = .ok (.ireturn, 1) := dk_172 (dk_at dksX5_redraw_2 7 rfl rfl)
theorem dX5_redraw_56 : decode cX5_redraw 56 = .ok (.aload_n 0, 1) := dk_42 (dk_at dksX5_redraw_2 8 rfl rfl)
theorem dX5_redraw_57 : decode cX5_redraw 57 = .ok (.invokevirtual 524, 3) := dk_182 2 12 (dk_at dksX5_redraw_2 9 rfl rfl)
theorem dX5_redraw_60 : decode cX5_redraw 60 = .ok (.aload_n 0, 1) := dk_42 (dk_at dksX5_redraw_2 12 rfl rfl)
theorem dX5_redraw_61 : decode cX5_redraw 61 = .ok (.iload_n 2, 1) := dk_28 (dk_at dksX5_redraw_2 13 rfl rfl)
theorem dX5_redraw_62 : decode cX5_redraw 62 = .ok (.iload_n 3, 1) := dk_29 (dk_at dksX5_redraw_2 14 rfl rfl)
theorem dX5_redraw_63 : decode cX5_redraw 63 = .ok (.iload 4, 2) := dk_21 4 (dk_at dksX5_redraw_2 15 rfl rfl)
theorem dX5_redraw_65 : decode cX5_redraw 65 = .ok (.iload 5, 2) := dk_21 5 (dk_at dksX5_redraw_2 17 rfl rfl)
theorem dX5_redraw_67 : decode cX5_redraw 67 = .ok (.invokevirtual 342, 3) := dk_182 1 86 (dk_at dksX5_redraw_2 19 rfl rfl)
theorem dX5_redraw_70 : decode cX5_redraw 70 = .ok (.aload_n 0, 1) := dk_42 (dk_at dksX5_redraw_2 22 rfl rfl)
theorem dX5_redraw_71 : decode cX5_redraw 71 = .ok (.iload_n 1, 1) := dk_27 (dk_at dksX5_redraw_2 23 rfl rfl)
theorem dX5_redraw_72 : decode cX5_redraw 72 = .ok (.iconst 0, 1) := dk_3 (dk_at dksX5_redraw_3 0 rfl rfl)
theorem dX5_redraw_73 : decode cX5_redraw 73 = .ok (.iload 6, 2) := dk_21 6 (dk_at dksX5_redraw_3 1 rfl rfl)
theorem dX5_redraw_75 : decode cX5_redraw 75 = .ok (.iconst (-1), 1) := dk_2 (dk_at dksX5_redraw_3 3 rfl rfl)
theorem dX5_redraw_76 : decode cX5_redraw 76 = .ok (.invokevirtual 348, 3) := dk_182 1 92 (dk_at dksX5_redraw_3 4 rfl rfl)
theorem dX5_redraw_79 : decode cX5_redraw 79 = .ok (.aload_n 0, 1) := dk_42 (dk_at dksX5_redraw_3 7 rfl rfl)
theorem dX5_redraw_80 : decode cX5_redraw 80 = .ok (.getfield 7, 3) := dk_180 0 7 (dk_at dksX5_redraw_3 8 rfl rfl)
theorem dX5_redraw_83 : decode cX5_redraw 83 = .ok (.iconst 4, 1) := dk_7 (dk_at dksX5_redraw_3 11 rfl rfl)
theorem dX5_redraw_84 : decode cX5_redraw 84 = .ok (.iaload, 1) := dk_46 (dk_at dksX5_redraw_3 12 rfl rfl)
theorem dX5_redraw_85 : decode cX5_redraw 85 = .ok (.iconst 1, 1) := dk_4 (dk_at dksX5_redraw_3 13 rfl rfl)
theorem dX5_redraw_86 : decode cX5_redraw 86 = .ok (.isub, 1) := dk_100 (dk_at dksX5_redraw_3 14 rfl rfl)
theorem dX5_redraw_87 : decode cX5_redraw 87 = .ok (.ireturn, 1) := dk_172 (dk_at dksX5_redraw_3 15 rfl rfl)
abbrev cX5_isFrame : ByteArray := prog_20_method_137_code
def yX5_isFrame : MethodName := ⟨RX5, "isFrame", "(IIII)Z"⟩
def dkwX5_isFrame_2 : List UInt8 := [21, 4, 4, 42, 180, 0, 7, 4, 46, 28, 100, 184, 0, 103, 153, 0, 7, 4, 167, 0, 4, 3, 172]
abbrev dktX5_isFrame_2 : List UInt8 := dkwX5_isFrame_2 ++ []
def dkwX5_isFrame_1 : List UInt8 := [4, 100, 184, 0, 103, 153, 0, 40, 29, 4, 42, 180, 0, 7, 3, 46, 27, 100, 184, 0, 103, 153, 0, 24]
abbrev dktX5_isFrame_1 : List UInt8 := dkwX5_isFrame_1 ++ dktX5_isFrame_2
def dkwX5_isFrame_0 : List UInt8 := [27, 3, 42, 180, 0, 7, 3, 46, 4, 100, 184, 0, 103, 153, 0, 56, 28, 3, 42, 180, 0, 7, 4, 46]
abbrev dktX5_isFrame_0 : List UInt8 := dkwX5_isFrame_0 ++ dktX5_isFrame_1
theorem dksX5_isFrame_0 : cX5_isFrame.data.toList.drop 0 = dktX5_isFrame_0 := by decide +kernel
theorem dksX5_isFrame_1 : cX5_isFrame.data.toList.drop 24 = dktX5_isFrame_1 := dk_seg dksX5_isFrame_0 24 rfl rfl
theorem dksX5_isFrame_2 : cX5_isFrame.data.toList.drop 48 = dktX5_isFrame_2 := dk_seg dksX5_isFrame_1 24 rfl rfl
theorem dX5_isFrame_0 : decode cX5_isFrame 0 = .ok (.iload_n 1, 1) := dk_27 (dk_at dksX5_isFrame_0 0 rfl rfl)
theorem dX5_isFrame_1 : decode cX5_isFrame 1 = .ok (.iconst 0, 1) := dk_3 (dk_at dksX5_isFrame_0 1 rfl rfl)
theorem dX5_isFrame_2 : decode cX5_isFrame 2 = .ok (.aload_n 0, 1) := dk_42 (dk_at dksX5_isFrame_0 2 rfl rfl)
theorem dX5_isFrame_3 : decode cX5_isFrame 3 = .ok (.getfield 7, 3) := dk_180 0 7 (dk_at dksX5_isFrame_0 3 rfl rfl)
theorem dX5_isFrame_6 : decode cX5_isFrame 6 = .ok (.iconst 0, 1) := dk_3 (dk_at dksX5_isFrame_0 6 rfl rfl)
theorem dX5_isFrame_7 : decode cX5_isFrame 7 = .ok (.iaload, 1) := dk_46 (dk_at dksX5_isFrame_0 7 rfl rfl)
theorem dX5_isFrame_8 : decode cX5_isFrame 8 = .ok (.iconst 1, 1) := dk_4 (dk_at dksX5_isFrame_0 8 rfl rfl)
theorem dX5_isFrame_9 : decode cX5_isFrame 9 = .ok (.isub, 1) := dk_100 (dk_at dksX5_isFrame_0 9 rfl rfl)
theorem dX5_isFrame_10 : decode cX5_isFrame 10 = .ok (.invokestatic 103, 3) := dk_184 0 103 (dk_at dksX5_isFrame_0 10 rfl rfl)
theorem dX5_isFrame_13 : decode cX5_isFrame 13 = .ok (.ifCond .eq 56, 3) := dk_153 0 56 (dk_at dksX5_isFrame_0 13 rfl rfl)
theorem dX5_isFrame_16 : decode cX5_isFrame 16 = .ok (.iload_n 2, 1) := dk_28 (dk_at dksX5_isFrame_0 16 rfl rfl)
theorem dX5_isFrame_17 : decode cX5_isFrame 17 = .ok (.iconst 0, 1) := dk_3 (dk_at dksX5_isFrame_0 17 rfl rfl)
theorem dX5_isFrame_18 : decode cX5_isFrame 18 = .ok (.aload_n 0, 1) := dk_42 (dk_at dksX5_isFrame_0 18 rfl rfl)
theorem dX5_isFrame_19 : decode cX5_isFrame 19 = .ok (.getfield 7, 3) := dk_180 0 7 (dk_at dksX5_isFrame_0 19 rfl rfl)
theorem dX5_isFrame_22 : decode cX5_isFrame 22 = .ok (.iconst 1, 1) := dk_4 (dk_at dksX5_isFrame_0 22 rfl rfl)
theorem dX5_isFrame_23 : decode cX5_isFrame 23 = .ok (.iaload, 1) := dk_46 (dk_at dksX5_isFrame_0 23 rfl rfl)
theorem dX5_isFrame_24 : decode cX5_isFrame 24 = .ok (.iconst 1, 1) := dk_4 (dk_at dksX5_isFrame_1 0 rfl rfl)
theorem dX5_isFrame_25 : decode cX5_isFrame 25 = .ok (.isub, 1) := dk_100 (dk_at dksX5_isFrame_1 1 rfl rfl)
theorem dX5_isFrame_26 : decode cX5_isFrame 26 = .ok (.invokestatic 103, 3) := dk_184 0 103 (dk_at dksX5_isFrame_1 2 rfl rfl)
theorem dX5_isFrame_29 : decode cX5_isFrame 29 = .ok (.ifCond .eq 40, 3) := dk_153 0 40 (dk_at dksX5_isFrame_1 5 rfl rfl)
theorem dX5_isFrame_32 : decode cX5_isFrame 32 = .ok (.iload_n 3, 1) := dk_29 (dk_at dksX5_isFrame_1 8 rfl rfl)
theorem dX5_isFrame_33 : decode cX5_isFrame 33 = .ok (.iconst 1, 1) := dk_4 (dk_at dksX5_isFrame_1 9 rfl rfl)
theorem dX5_isFrame_34 : decode cX5_isFrame 34 = .ok (.aload_n 0, 1) := dk_42 (dk_at dksX5_isFrame_1 10 rfl rfl)
theorem dX5_isFrame_35 : decode cX5_isFrame 35 = .ok (.getfield 7, 3) := dk_180 0 7 (dk_at dksX5_isFrame_1 11 rfl rfl)
theorem dX5_isFrame_38 : decode cX5_isFrame 38 = .ok (.iconst 0, 1) := dk_3 (dk_at dksX5_isFrame_1 14 rfl rfl)
theorem dX5_isFrame_39 : decode cX5_isFrame 39 = .ok (.iaload, 1) := dk_46 (dk_at dksX5_isFrame_1 15 rfl rfl)
theorem dX5_isFrame_40 : decode cX5_isFrame 40 = .ok (.iload_n 1, 1) := dk_27 (dk_at dksX5_isFrame_1 16 rfl rfl)
theorem dX5_isFrame_41 : decode cX5_isFrame 41 = .ok (.isub, 1) := dk_100 (dk_at dksX5_isFrame_1 17 rfl rfl)
theorem dX5_isFrame_42 : decode cX5_isFrame 42 = .ok (.invokestatic 103, 3) := dk_184 0 103 (dk_at dksX5_isFrame_1 18 rfl rfl)
theorem dX5_isFrame_45 : decode cX5_isFrame 45 = .ok (.ifCond .eq 24, 3) := dk_153 0 24 (dk_at dksX5_isFrame_1 21 rfl rfl)
theorem dX5_isFrame_48 : decode cX5_isFrame 48 = .ok (.iload 4, 2) := dk_21 4 (dk_at dksX5_isFrame_2 0 rfl rfl)
theorem dX5_isFrame_50 : decode cX5_isFrame 50 = .ok (.iconst 1, 1) := dk_4 (dk_at dksX5_isFrame_2 2 rfl rfl)
theorem dX5_isFrame_51 : decode cX5_isFrame 51 = .ok (.aload_n 0, 1) := dk_42 (dk_at dksX5_isFrame_2 3 rfl rfl)
theorem dX5_isFrame_52 : decode cX5_isFrame 52 = .ok (.getfield 7, 3) := dk_180 0 7 (dk_at dksX5_isFrame_2 4 rfl rfl)
theorem dX5_isFrame_55 : decode cX5_isFrame 55 = .ok (.iconst 1, 1) := dk_4 (dk_at dksX5_isFrame_2 7 rfl rfl)
theorem dX5_isFrame_56 : decode cX5_isFrame 56 = .ok (.iaload, 1) := dk_46 (dk_at dksX5_isFrame_2 8 rfl rfl)
theorem dX5_isFrame_57 : decode cX5_isFrame 57 = .ok (.iload_n 2, 1) := dk_28 (dk_at dksX5_isFrame_2 9 rfl rfl)
theorem dX5_isFrame_58 : decode cX5_isFrame 58 = .ok (.isub, 1) := dk_100 (dk_at dksX5_isFrame_2 10 rfl rfl)
theorem dX5_isFrame_59 : decode cX5_isFrame 59 = .ok (.invokestatic 103, 3) := dk_184 0 103 (dk_at dksX5_isFrame_2 11 rfl rfl)
theorem dX5_isFrame_62 : decode cX5_isFrame 62 = .ok (.ifCond .eq 7, 3) := dk_153 0 7 (dk_at dksX5_isFrame_2 14 rfl rfl)
theorem dX5_isFrame_65 : decode cX5_isFrame 65 = .ok (.iconst 1, 1) := dk_4 (dk_at dksX5_isFrame_2 17 rfl rfl)
theorem dX5_isFrame_66 : decode cX5_isFrame 66 = .ok (.goto 4, 3) := dk_167 0 4 (dk_at dksX5_isFrame_2 18 rfl rfl)
theorem dX5_isFrame_69 : decode cX5_isFrame 69 = .ok (.iconst 0, 1) := dk_3 (dk_at dksX5_isFrame_2 21 rfl rfl)
theorem dX5_isFrame_70 : decode cX5_isFrame 70 = .ok (.ireturn, 1) := dk_172 (dk_at dksX5_isFrame_2 22 rfl rfl)
abbrev cX5_isFull : ByteArray := prog_20_method_138_code
def yX5_isFull : MethodName := ⟨RX5, "isFull", "()Z"⟩
def dkwX5_isFull_0 : List UInt8 := [42, 42, 180, 0, 7, 7, 46, 16, 16, 160, 0, 7, 4, 167, 0, 4, 3, 6, 182, 0, 118, 172]
abbrev dktX5_isFull_0 : List UInt8 := dkwX5_isFull_0 ++ []
theorem dksX5_isFull_0 : cX5_isFull.data.toList.drop 0 = dktX5_isFull_0 := by decide +kernel
theorem dX5_isFull_0 : decode cX5_isFull 0 = .ok (.aload_n 0, 1) := dk_42 (dk_at dksX5_isFull_0 0 rfl rfl)
theorem dX5_isFull_1 : decode cX5_isFull 1 = .ok (.aload_n 0, 1) := dk_42 (dk_at dksX5_isFull_0 1 rfl rfl)
theorem dX5_isFull_2 : decode cX5_isFull 2 = .ok (.getfield 7, 3) := dk_180 0 7 (dk_at dksX5_isFull_0 2 rfl rfl)
theorem dX5_isFull_5 : decode cX5_isFull 5 = .ok (.iconst 4, 1) := dk_7 (dk_at dksX5_isFull_0 5 rfl rfl)
theorem dX5_isFull_6 : decode cX5_isFull 6 = .ok (.iaload, 1) := dk_46 (dk_at dksX5_isFull_0 6 rfl rfl)
theorem dX5_isFull_7 : decode cX5_isFull 7 = .ok (.bipush 16, 2) := dk_16 16 (dk_at dksX5_isFull_0 7 rfl rfl)
theorem dX5_isFull_9 : decode cX5_isFull 9 = .ok (.if_icmp .ne 7, 3) := dk_160 0 7 (dk_at dksX5_isFull_0 9 rfl rfl)
theorem dX5_isFull_12 : decode cX5_isFull 12 = .ok (.iconst 1, 1) := dk_4 (dk_at dksX5_isFull_0 12 rfl rfl)
theorem dX5_isFull_13 : decode cX5_isFull 13 = .ok (.goto 4, 3) := dk_167 0 4 (dk_at dksX5_isFull_0 13 rfl rfl)
theorem dX5_isFull_16 : decode cX5_isFull 16 = .ok (.iconst 0, 1) := dk_3 (dk_at dksX5_isFull_0 16 rfl rfl)
theorem dX5_isFull_17 : decode cX5_isFull 17 = .ok (.iconst 3, 1) := dk_6 (dk_at dksX5_isFull_0 17 rfl rfl)
theorem dX5_isFull_18 : decode cX5_isFull 18 = .ok (.invokevirtual 118, 3) := dk_182 0 118 (dk_at dksX5_isFull_0 18 rfl rfl)
theorem dX5_isFull_21 : decode cX5_isFull 21 = .ok (.ireturn, 1) := dk_172 (dk_at dksX5_isFull_0 21 rfl rfl)
abbrev cX5_join : ByteArray := prog_20_method_140_code
def yX5_join : MethodName := ⟨RX5, "join", "(III)I"⟩
def dkwX5_join_3 : List UInt8 := [28, 182, 1, 92, 42, 180, 0, 7, 7, 46, 4, 100, 172]
abbrev dktX5_join_3 : List UInt8 := dkwX5_join_3 ++ []
def dkwX5_join_2 : List UInt8 := [182, 2, 18, 153, 0, 5, 3, 172, 42, 182, 2, 12, 42, 3, 3, 3, 3, 182, 1, 86, 42, 27, 4, 29]
abbrev dktX5_join_2 : List UInt8 := dkwX5_join_2 ++ dktX5_join_3
def dkwX5_join_1 : List UInt8 := [184, 0, 122, 153, 0, 8, 28, 29, 160, 0, 7, 4, 167, 0, 4, 3, 5, 182, 0, 118, 154, 0, 10, 42]
abbrev dktX5_join_1 : List UInt8 := dkwX5_join_1 ++ dktX5_join_2
def dkwX5_join_0 : List UInt8 := [42, 3, 181, 0, 100, 42, 28, 182, 1, 186, 154, 0, 43, 42, 29, 182, 1, 186, 154, 0, 35, 42, 27]
abbrev dktX5_join_0 : List UInt8 := dkwX5_join_0 ++ dktX5_join_1
theorem dksX5_join_0 : cX5_join.data.toList.drop 0 = dktX5_join_0 := by decide +kernel
theorem dksX5_join_1 : cX5_join.data.toList.drop 23 = dktX5_join_1 := dk_seg dksX5_join_0 23 rfl rfl
theorem dksX5_join_2 : cX5_join.data.toList.drop 47 = dktX5_join_2 := dk_seg dksX5_join_1 24 rfl rfl
theorem dksX5_join_3 : cX5_join.data.toList.drop 71 = dktX5_join_3 := dk_seg dksX5_join_2 24 rfl rfl
theorem dX5_join_0 : decode cX5_join 0 = .ok (.aload_n 0, 1) := dk_42 (dk_at dksX5_join_0 0 rfl rfl)
theorem dX5_join_1 : decode cX5_join 1 = .ok (.iconst 0, 1) := dk_3 (dk_at dksX5_join_0 1 rfl rfl)
theorem dX5_join_2 : decode cX5_join 2 = .ok (.putfield 100, 3) := dk_181 0 100 (dk_at dksX5_join_0 2 rfl rfl)
theorem dX5_join_5 : decode cX5_join 5 = .ok (.aload_n 0, 1) := dk_42 (dk_at dksX5_join_0 5 rfl rfl)
theorem dX5_join_6 : decode cX5_join 6 = .ok (.iload_n 2, 1) := dk_28 (dk_at dksX5_join_0 6 rfl rfl)
theorem dX5_join_7 : decode cX5_join 7 = .ok (.invokevirtual 442, 3) := dk_182 1 186 (dk_at dksX5_join_0 7 rfl rfl)
theorem dX5_join_10 : decode cX5_join 10 = .ok (.ifCond .ne 43, 3) := dk_154 0 43 (dk_at dksX5_join_0 10 rfl rfl)
theorem dX5_join_13 : decode cX5_join 13 = .ok (.aload_n 0, 1) := dk_42 (dk_at dksX5_join_0 13 rfl rfl)
theorem dX5_join_14 : decode cX5_join 14 = .ok (.iload_n 3, 1) := dk_29 (dk_at dksX5_join_0 14 rfl rfl)
theorem dX5_join_15 : decode cX5_join 15 = .ok (.invokevirtual 442, 3) := dk_182 1 186 (dk_at dksX5_join_0 15 rfl rfl)
theorem dX5_join_18 : decode cX5_join 18 = .ok (.ifCond .ne 35, 3) := dk_154 0 35 (dk_at dksX5_join_0 18 rfl rfl)
theorem dX5_join_21 : decode cX5_join 21 = .ok (.aload_n 0, 1) := dk_42 (dk_at dksX5_join_0 21 rfl rfl)
theorem dX5_join_22 : decode cX5_join 22 = .ok (.iload_n 1, 1) := dk_27 (dk_at dksX5_join_0 22 rfl rfl)
theorem dX5_join_23 : decode cX5_join 23 = .ok (.invokestatic 122, 3) := dk_184 0 122 (dk_at dksX5_join_1 0 rfl rfl)
theorem dX5_join_26 : decode cX5_join 26 = .ok (.ifCond .eq 8, 3) := dk_153 0 8 (dk_at dksX5_join_1 3 rfl rfl)
theorem dX5_join_29 : decode cX5_join 29 = .ok (.iload_n 2, 1) := dk_28 (dk_at dksX5_join_1 6 rfl rfl)
theorem dX5_join_30 : decode cX5_join 30 = .ok (.iload_n 3, 1) := dk_29 (dk_at dksX5_join_1 7 rfl rfl)
theorem dX5_join_31 : decode cX5_join 31 = .ok (.if_icmp .ne 7, 3) := dk_160 0 7 (dk_at dksX5_join_1 8 rfl rfl)
theorem dX5_join_34 : decode cX5_join 34 = .ok (.iconst 1, 1) := dk_4 (dk_at dksX5_join_1 11 rfl rfl)
theorem dX5_join_35 : decode cX5_join 35 = .ok (.goto 4, 3) := dk_167 0 4 (dk_at dksX5_join_1 12 rfl rfl)
theorem dX5_join_38 : decode cX5_join 38 = .ok (.iconst 0, 1) := dk_3 (dk_at dksX5_join_1 15 rfl rfl)
theorem dX5_join_39 : decode cX5_join 39 = .ok (.iconst 2, 1) := dk_5 (dk_at dksX5_join_1 16 rfl rfl)
theorem dX5_join_40 : decode cX5_join 40 = .ok (.invokevirtual 118, 3) := dk_182 0 118 (dk_at dksX5_join_1 17 rfl rfl)
theorem dX5_join_43 : decode cX5_join 43 = .ok (.ifCond .ne 10, 3) := dk_154 0 10 (dk_at dksX5_join_1 20 rfl rfl)
theorem dX5_join_46 : decode cX5_join 46 = .ok (.aload_n 0, 1) := dk_42 (dk_at dksX5_join_1 23 rfl rfl)
theorem dX5_join_47 : decode cX5_join 47 = .ok (.invokevirtual 530, 3) := dk_182 2 18 (dk_at dksX5_join_2 0 rfl rfl)
theorem dX5_join_50 : decode cX5_join 50 = .ok (.ifCond .eq 5, 3) := dk_153 0 5 (dk_at dksX5_join_2 3 rfl rfl)
theorem dX5_join_53 : decode cX5_join 53 = .ok (.iconst 0, 1) := dk_3 (dk_at dksX5_join_2 6 rfl rfl)
theorem dX5_join_54 : decode cX5_join 54 = .ok (.ireturn, 1) := dk_172 (dk_at dksX5_join_2 7 rfl rfl)
theorem dX5_join_55 : decode cX5_join 55 = .ok (.aload_n 0, 1) := dk_42 (dk_at dksX5_join_2 8 rfl rfl)
theorem dX5_join_56 : decode cX5_join 56 = .ok (.invokevirtual 524, 3) := dk_182 2 12 (dk_at dksX5_join_2 9 rfl rfl)
theorem dX5_join_59 : decode cX5_join 59 = .ok (.aload_n 0, 1) := dk_42 (dk_at dksX5_join_2 12 rfl rfl)
theorem dX5_join_60 : decode cX5_join 60 = .ok (.iconst 0, 1) := dk_3 (dk_at dksX5_join_2 13 rfl rfl)
theorem dX5_join_61 : decode cX5_join 61 = .ok (.iconst 0, 1) := dk_3 (dk_at dksX5_join_2 14 rfl rfl)
theorem dX5_join_62 : decode cX5_join 62 = .ok (.iconst 0, 1) := dk_3 (dk_at dksX5_join_2 15 rfl rfl)
theorem dX5_join_63 : decode cX5_join 63 = .ok (.iconst 0, 1) := dk_3 (dk_at dksX5_join_2 16 rfl rfl)
theorem dX5_join_64 : decode cX5_join 64 = .ok (.invokevirtual 342, 3) := dk_182 1 86 (dk_at dksX5_join_2 17 rfl rfl)
theorem dX5_join_67 : decode cX5_join 67 = .ok (.aload_n 0, 1) := dk_42 (dk_at dksX5_join_2 20 rfl rfl)
theorem dX5_join_68 : decode cX5_join 68 = .ok (.iload_n 1, 1) := dk_27 (dk_at dksX5_join_2 21 rfl rfl)
theorem dX5_join_69 : decode cX5_join 69 = .ok (.iconst 1, 1) := dk_4 (dk_at dksX5_join_2 22 rfl rfl)
theorem dX5_join_70 : decode cX5_join 70 = .ok (.iload_n 3, 1) := dk_29 (dk_at dksX5_join_2 23 rfl rfl)
theorem dX5_join_71 : decode cX5_join 71 = .ok (.iload_n 2, 1) := dk_28 (dk_at dksX5_join_3 0 rfl rfl)
theorem dX5_join_72 : decode cX5_join 72 = .ok (.invokevirtual 348, 3) := dk_182 1 92 (dk_at dksX5_join_3 1 rfl rfl)
theorem dX5_join_75 : decode cX5_join 75 = .ok (.aload_n 0, 1) := dk_42 (dk_at dksX5_join_3 4 rfl rfl)
theorem dX5_join_76 : decode cX5_join 76 = .ok (.getfield 7, 3) := dk_180 0 7 (dk_at dksX5_join_3 5 rfl rfl)
theorem dX5_join_79 : decode cX5_join 79 = .ok (.iconst 4, 1) := dk_7 (dk_at dksX5_join_3 8 rfl rfl)
theorem dX5_join_80 : decode cX5_join 80 = .ok (.iaload, 1) := dk_46 (dk_at dksX5_join_3 9 rfl rfl)
theorem dX5_join_81 : decode cX5_join 81 = .ok (.iconst 1, 1) := dk_4 (dk_at dksX5_join_3 10 rfl rfl)
theorem dX5_join_82 : decode cX5_join 82 = .ok (.isub, 1) := dk_100 (dk_at dksX5_join_3 11 rfl rfl)
theorem dX5_join_83 : decode cX5_join 83 = .ok (.ireturn, 1) := dk_172 (dk_at dksX5_join_3 12 rfl rfl)
abbrev cX5_dropReform : ByteArray := prog_20_method_141_code
def yX5_dropReform : MethodName := ⟨RX5, "dropReform", "(I)I"⟩
def dkwX5_dropReform_3 : List UInt8 := [46, 172]
abbrev dktX5_dropReform_3 : List UInt8 := dkwX5_dropReform_3 ++ []
def dkwX5_dropReform_2 : List UInt8 := [16, 8, 27, 104, 96, 16, 8, 42, 180, 0, 7, 7, 46, 27, 100, 104, 184, 0, 110, 42, 180, 0, 7, 7]
abbrev dktX5_dropReform_2 : List UInt8 := dkwX5_dropReform_2 ++ dktX5_dropReform_3
def dkwX5_dropReform_1 : List UInt8 := [92, 46, 4, 100, 79, 42, 180, 0, 7, 16, 106, 16, 8, 27, 4, 96, 104, 96, 42, 180, 0, 7, 16, 106]
abbrev dktX5_dropReform_1 : List UInt8 := dkwX5_dropReform_1 ++ dktX5_dropReform_2
def dkwX5_dropReform_0 : List UInt8 := [42, 3, 181, 0, 100, 42, 27, 182, 1, 210, 153, 0, 5, 3, 172, 42, 182, 2, 12, 42, 180, 0, 7, 7]
abbrev dktX5_dropReform_0 : List UInt8 := dkwX5_dropReform_0 ++ dktX5_dropReform_1
theorem dksX5_dropReform_0 : cX5_dropReform.data.toList.drop 0 = dktX5_dropReform_0 := by decide +kernel
theorem dksX5_dropReform_1 : cX5_dropReform.data.toList.drop 24 = dktX5_dropReform_1 := dk_seg dksX5_dropReform_0 24 rfl rfl
theorem dksX5_dropReform_2 : cX5_dropReform.data.toList.drop 48 = dktX5_dropReform_2 := dk_seg dksX5_dropReform_1 24 rfl rfl
theorem dksX5_dropReform_3 : cX5_dropReform.data.toList.drop 72 = dktX5_dropReform_3 := dk_seg dksX5_dropReform_2 24 rfl rfl
theorem dX5_dropReform_0 : decode cX5_dropReform 0 = .ok (.aload_n 0, 1) := dk_42 (dk_at dksX5_dropReform_0 0 rfl rfl)
theorem dX5_dropReform_1 : decode cX5_dropReform 1 = .ok (.iconst 0, 1) := dk_3 (dk_at dksX5_dropReform_0 1 rfl rfl)
theorem dX5_dropReform_2 : decode cX5_dropReform 2 = .ok (.putfield 100, 3) := dk_181 0 100 (dk_at dksX5_dropReform_0 2 rfl rfl)
theorem dX5_dropReform_5 : decode cX5_dropReform 5 = .ok (.aload_n 0, 1) := dk_42 (dk_at dksX5_dropReform_0 5 rfl rfl)
theorem dX5_dropReform_6 : decode cX5_dropReform 6 = .ok (.iload_n 1, 1) := dk_27 (dk_at dksX5_dropReform_0 6 rfl rfl)
theorem dX5_dropReform_7 : decode cX5_dropReform 7 = .ok (.invokevirtual 466, 3) := dk_182 1 210 (dk_at dksX5_dropReform_0 7 rfl rfl)
theorem dX5_dropReform_10 : decode cX5_dropReform 10 = .ok (.ifCond .eq 5, 3) := dk_153 0 5 (dk_at dksX5_dropReform_0 10 rfl rfl)
theorem dX5_dropReform_13 : decode cX5_dropReform 13 = .ok (.iconst 0, 1) := dk_3 (dk_at dksX5_dropReform_0 13 rfl rfl)
theorem dX5_dropReform_14 : decode cX5_dropReform 14 = .ok (.ireturn, 1) := dk_172 (dk_at dksX5_dropReform_0 14 rfl rfl)
theorem dX5_dropReform_15 : decode cX5_dropReform 15 = .ok (.aload_n 0, 1) := dk_42 (dk_at dksX5_dropReform_0 15 rfl rfl)
theorem dX5_dropReform_16 : decode cX5_dropReform 16 = .ok (.invokevirtual 524, 3) := dk_182 2 12 (dk_at dksX5_dropReform_0 16 rfl rfl)
theorem dX5_dropReform_19 : decode cX5_dropReform 19 = .ok (.aload_n 0, 1) := dk_42 (dk_at dksX5_dropReform_0 19 rfl rfl)
theorem dX5_dropReform_20 : decode cX5_dropReform 20 = .ok (.getfield 7, 3) := dk_180 0 7 (dk_at dksX5_dropReform_0 20 rfl rfl)
theorem dX5_dropReform_23 : decode cX5_dropReform 23 = .ok (.iconst 4, 1) := dk_7 (dk_at dksX5_dropReform_0 23 rfl rfl)
theorem dX5_dropReform_24 : decode cX5_dropReform 24 = .ok (.dup2, 1) := dk_92 (dk_at dksX5_dropReform_1 0 rfl rfl)
theorem dX5_dropReform_25 : decode cX5_dropReform 25 = .ok (.iaload, 1) := dk_46 (dk_at dksX5_dropReform_1 1 rfl rfl)
theorem dX5_dropReform_26 : decode cX5_dropReform 26 = .ok (.iconst 1, 1) := dk_4 (dk_at dksX5_dropReform_1 2 rfl rfl)
theorem dX5_dropReform_27 : decode cX5_dropReform 27 = .ok (.isub, 1) := dk_100 (dk_at dksX5_dropReform_1 3 rfl rfl)
theorem dX5_dropReform_28 : decode cX5_dropReform 28 = .ok (.iastore, 1) := dk_79 (dk_at dksX5_dropReform_1 4 rfl rfl)
theorem dX5_dropReform_29 : decode cX5_dropReform 29 = .ok (.aload_n 0, 1) := dk_42 (dk_at dksX5_dropReform_1 5 rfl rfl)
theorem dX5_dropReform_30 : decode cX5_dropReform 30 = .ok (.getfield 7, 3) := dk_180 0 7 (dk_at dksX5_dropReform_1 6 rfl rfl)
theorem dX5_dropReform_33 : decode cX5_dropReform 33 = .ok (.bipush 106, 2) := dk_16 106 (dk_at dksX5_dropReform_1 9 rfl rfl)
theorem dX5_dropReform_35 : decode cX5_dropReform 35 = .ok (.bipush 8, 2) := dk_16 8 (dk_at dksX5_dropReform_1 11 rfl rfl)
theorem dX5_dropReform_37 : decode cX5_dropReform 37 = .ok (.iload_n 1, 1) := dk_27 (dk_at dksX5_dropReform_1 13 rfl rfl)
theorem dX5_dropReform_38 : decode cX5_dropReform 38 = .ok (.iconst 1, 1) := dk_4 (dk_at dksX5_dropReform_1 14 rfl rfl)
theorem dX5_dropReform_39 : decode cX5_dropReform 39 = .ok (.iadd, 1) := dk_96 (dk_at dksX5_dropReform_1 15 rfl rfl)
theorem dX5_dropReform_40 : decode cX5_dropReform 40 = .ok (.imul, 1) := dk_104 (dk_at dksX5_dropReform_1 16 rfl rfl)
theorem dX5_dropReform_41 : decode cX5_dropReform 41 = .ok (.iadd, 1) := dk_96 (dk_at dksX5_dropReform_1 17 rfl rfl)
theorem dX5_dropReform_42 : decode cX5_dropReform 42 = .ok (.aload_n 0, 1) := dk_42 (dk_at dksX5_dropReform_1 18 rfl rfl)
theorem dX5_dropReform_43 : decode cX5_dropReform 43 = .ok (.getfield 7, 3) := dk_180 0 7 (dk_at dksX5_dropReform_1 19 rfl rfl)
theorem dX5_dropReform_46 : decode cX5_dropReform 46 = .ok (.bipush 106, 2) := dk_16 106 (dk_at dksX5_dropReform_1 22 rfl rfl)
theorem dX5_dropReform_48 : decode cX5_dropReform 48 = .ok (.bipush 8, 2) := dk_16 8 (dk_at dksX5_dropReform_2 0 rfl rfl)
theorem dX5_dropReform_50 : decode cX5_dropReform 50 = .ok (.iload_n 1, 1) := dk_27 (dk_at dksX5_dropReform_2 2 rfl rfl)
theorem dX5_dropReform_51 : decode cX5_dropReform 51 = .ok (.imul, 1) := dk_104 (dk_at dksX5_dropReform_2 3 rfl rfl)
theorem dX5_dropReform_52 : decode cX5_dropReform 52 = .ok (.iadd, 1) := dk_96 (dk_at dksX5_dropReform_2 4 rfl rfl)
theorem dX5_dropReform_53 : decode cX5_dropReform 53 = .ok (.bipush 8, 2) := dk_16 8 (dk_at dksX5_dropReform_2 5 rfl rfl)
theorem dX5_dropReform_55 : decode cX5_dropReform 55 = .ok (.aload_n 0, 1) := dk_42 (dk_at dksX5_dropReform_2 7 rfl rfl)
theorem dX5_dropReform_56 : decode cX5_dropReform 56 = .ok (.getfield 7, 3) := dk_180 0 7 (dk_at dksX5_dropReform_2 8 rfl rfl)
theorem dX5_dropReform_59 : decode cX5_dropReform 59 = .ok (.iconst 4, 1) := dk_7 (dk_at dksX5_dropReform_2 11 rfl rfl)
theorem dX5_dropReform_60 : decode cX5_dropReform 60 = .ok (.iaload, 1) := dk_46 (dk_at dksX5_dropReform_2 12 rfl rfl)
theorem dX5_dropReform_61 : decode cX5_dropReform 61 = .ok (.iload_n 1, 1) := dk_27 (dk_at dksX5_dropReform_2 13 rfl rfl)
theorem dX5_dropReform_62 : decode cX5_dropReform 62 = .ok (.isub, 1) := dk_100 (dk_at dksX5_dropReform_2 14 rfl rfl)
theorem dX5_dropReform_63 : decode cX5_dropReform 63 = .ok (.imul, 1) := dk_104 (dk_at dksX5_dropReform_2 15 rfl rfl)
theorem dX5_dropReform_64 : decode cX5_dropReform 64 = .ok (.invokestatic 110, 3) := dk_184 0 110 (dk_at dksX5_dropReform_2 16 rfl rfl)
theorem dX5_dropReform_67 : decode cX5_dropReform 67 = .ok (.aload_n 0, 1) := dk_42 (dk_at dksX5_dropReform_2 19 rfl rfl)
theorem dX5_dropReform_68 : decode cX5_dropReform 68 = .ok (.getfield 7, 3) := dk_180 0 7 (dk_at dksX5_dropReform_2 20 rfl rfl)
theorem dX5_dropReform_71 : decode cX5_dropReform 71 = .ok (.iconst 4, 1) := dk_7 (dk_at dksX5_dropReform_2 23 rfl rfl)
theorem dX5_dropReform_72 : decode cX5_dropReform 72 = .ok (.iaload, 1) := dk_46 (dk_at dksX5_dropReform_3 0 rfl rfl)
theorem dX5_dropReform_73 : decode cX5_dropReform 73 = .ok (.ireturn, 1) := dk_172 (dk_at dksX5_dropReform_3 1 rfl rfl)
abbrev cX5_rename : ByteArray := prog_20_method_142_code
def yX5_rename : MethodName := ⟨RX5, "rename", "(II)I"⟩
def dkwX5_rename_3 : List UInt8 := [28, 33, 182, 1, 95, 42, 27, 182, 1, 171, 172]
abbrev dktX5_rename_3 : List UInt8 := dkwX5_rename_3 ++ []
def dkwX5_rename_2 : List UInt8 := [42, 182, 1, 236, 66, 42, 3, 181, 0, 255, 33, 9, 148, 154, 0, 5, 2, 172, 42, 182, 2, 12, 42, 27]
abbrev dktX5_rename_2 : List UInt8 := dkwX5_rename_2 ++ dktX5_rename_3
def dkwX5_rename_1 : List UInt8 := [180, 0, 7, 8, 46, 16, 16, 160, 0, 7, 4, 167, 0, 4, 3, 6, 182, 0, 118, 153, 0, 5, 3, 172]
abbrev dktX5_rename_1 : List UInt8 := dkwX5_rename_1 ++ dktX5_rename_2
def dkwX5_rename_0 : List UInt8 := [42, 3, 181, 0, 100, 42, 27, 182, 1, 168, 154, 0, 36, 42, 28, 5, 182, 1, 216, 154, 0, 27, 42, 42]
abbrev dktX5_rename_0 : List UInt8 := dkwX5_rename_0 ++ dktX5_rename_1
theorem dksX5_rename_0 : cX5_rename.data.toList.drop 0 = dktX5_rename_0 := by decide +kernel
theorem dksX5_rename_1 : cX5_rename.data.toList.drop 24 = dktX5_rename_1 := dk_seg dksX5_rename_0 24 rfl rfl
theorem dksX5_rename_2 : cX5_rename.data.toList.drop 48 = dktX5_rename_2 := dk_seg dksX5_rename_1 24 rfl rfl
theorem dksX5_rename_3 : cX5_rename.data.toList.drop 72 = dktX5_rename_3 := dk_seg dksX5_rename_2 24 rfl rfl
theorem dX5_rename_0 : decode cX5_rename 0 = .ok (.aload_n 0, 1) := dk_42 (dk_at dksX5_rename_0 0 rfl rfl)
theorem dX5_rename_1 : decode cX5_rename 1 = .ok (.iconst 0, 1) := dk_3 (dk_at dksX5_rename_0 1 rfl rfl)
theorem dX5_rename_2 : decode cX5_rename 2 = .ok (.putfield 100, 3) := dk_181 0 100 (dk_at dksX5_rename_0 2 rfl rfl)
theorem dX5_rename_5 : decode cX5_rename 5 = .ok (.aload_n 0, 1) := dk_42 (dk_at dksX5_rename_0 5 rfl rfl)
theorem dX5_rename_6 : decode cX5_rename 6 = .ok (.iload_n 1, 1) := dk_27 (dk_at dksX5_rename_0 6 rfl rfl)
theorem dX5_rename_7 : decode cX5_rename 7 = .ok (.invokevirtual 424, 3) := dk_182 1 168 (dk_at dksX5_rename_0 7 rfl rfl)
theorem dX5_rename_10 : decode cX5_rename 10 = .ok (.ifCond .ne 36, 3) := dk_154 0 36 (dk_at dksX5_rename_0 10 rfl rfl)
theorem dX5_rename_13 : decode cX5_rename 13 = .ok (.aload_n 0, 1) := dk_42 (dk_at dksX5_rename_0 13 rfl rfl)
theorem dX5_rename_14 : decode cX5_rename 14 = .ok (.iload_n 2, 1) := dk_28 (dk_at dksX5_rename_0 14 rfl rfl)
theorem dX5_rename_15 : decode cX5_rename 15 = .ok (.iconst 2, 1) := dk_5 (dk_at dksX5_rename_0 15 rfl rfl)
theorem dX5_rename_16 : decode cX5_rename 16 = .ok (.invokevirtual 472, 3) := dk_182 1 216 (dk_at dksX5_rename_0 16 rfl rfl)
theorem dX5_rename_19 : decode cX5_rename 19 = .ok (.ifCond .ne 27, 3) := dk_154 0 27 (dk_at dksX5_rename_0 19 rfl rfl)
theorem dX5_rename_22 : decode cX5_rename 22 = .ok (.aload_n 0, 1) := dk_42 (dk_at dksX5_rename_0 22 rfl rfl)
theorem dX5_rename_23 : decode cX5_rename 23 = .ok (.aload_n 0, 1) := dk_42 (dk_at dksX5_rename_0 23 rfl rfl)
theorem dX5_rename_24 : decode cX5_rename 24 = .ok (.getfield 7, 3) := dk_180 0 7 (dk_at dksX5_rename_1 0 rfl rfl)
theorem dX5_rename_27 : decode cX5_rename 27 = .ok (.iconst 5, 1) := dk_8 (dk_at dksX5_rename_1 3 rfl rfl)
theorem dX5_rename_28 : decode cX5_rename 28 = .ok (.iaload, 1) := dk_46 (dk_at dksX5_rename_1 4 rfl rfl)
theorem dX5_rename_29 : decode cX5_rename 29 = .ok (.bipush 16, 2) := dk_16 16 (dk_at dksX5_rename_1 5 rfl rfl)
theorem dX5_rename_31 : decode cX5_rename 31 = .ok (.if_icmp .ne 7, 3) := dk_160 0 7 (dk_at dksX5_rename_1 7 rfl rfl)
theorem dX5_rename_34 : decode cX5_rename 34 = .ok (.iconst 1, 1) := dk_4 (dk_at dksX5_rename_1 10 rfl rfl)
theorem dX5_rename_35 : decode cX5_rename 35 = .ok (.goto 4, 3) := dk_167 0 4 (dk_at dksX5_rename_1 11 rfl rfl)
theorem dX5_rename_38 : decode cX5_rename 38 = .ok (.iconst 0, 1) := dk_3 (dk_at dksX5_rename_1 14 rfl rfl)
theorem dX5_rename_39 : decode cX5_rename 39 = .ok (.iconst 3, 1) := dk_6 (dk_at dksX5_rename_1 15 rfl rfl)
theorem dX5_rename_40 : decode cX5_rename 40 = .ok (.invokevirtual 118, 3) := dk_182 0 118 (dk_at dksX5_rename_1 16 rfl rfl)
theorem dX5_rename_43 : decode cX5_rename 43 = .ok (.ifCond .eq 5, 3) := dk_153 0 5 (dk_at dksX5_rename_1 19 rfl rfl)
theorem dX5_rename_46 : decode cX5_rename 46 = .ok (.iconst 0, 1) := dk_3 (dk_at dksX5_rename_1 22 rfl rfl)
theorem dX5_rename_47 : decode cX5_rename 47 = .ok (.ireturn, 1) := dk_172 (dk_at dksX5_rename_1 23 rfl rfl)
theorem dX5_rename_48 : decode cX5_rename 48 = .ok (.aload_n 0, 1) := dk_42 (dk_at dksX5_rename_2 0 rfl rfl)
theorem dX5_rename_49 : decode cX5_rename 49 = .ok (.invokevirtual 492, 3) := dk_182 1 236 (dk_at dksX5_rename_2 1 rfl rfl)
theorem dX5_rename_52 : decode cX5_rename 52 = .ok (.lstore_n 3, 1) := dk_66 (dk_at dksX5_rename_2 4 rfl rfl)
theorem dX5_rename_53 : decode cX5_rename 53 = .ok (.aload_n 0, 1) := dk_42 (dk_at dksX5_rename_2 5 rfl rfl)
theorem dX5_rename_54 : decode cX5_rename 54 = .ok (.iconst 0, 1) := dk_3 (dk_at dksX5_rename_2 6 rfl rfl)
theorem dX5_rename_55 : decode cX5_rename 55 = .ok (.putfield 255, 3) := dk_181 0 255 (dk_at dksX5_rename_2 7 rfl rfl)
theorem dX5_rename_58 : decode cX5_rename 58 = .ok (.lload_n 3, 1) := dk_33 (dk_at dksX5_rename_2 10 rfl rfl)
theorem dX5_rename_59 : decode cX5_rename 59 = .ok (.lconst 0, 1) := dk_9 (dk_at dksX5_rename_2 11 rfl rfl)
theorem dX5_rename_60 : decode cX5_rename 60 = .ok (.lcmp, 1) := dk_148 (dk_at dksX5_rename_2 12 rfl rfl)
theorem dX5_rename_61 : decode cX5_rename 61 = .ok (.ifCond .ne 5, 3) := dk_154 0 5 (dk_at dksX5_rename_2 13 rfl rfl)
theorem dX5_rename_64 : decode cX5_rename 64 = .ok (.iconst (-1), 1) := dk_2 (dk_at dksX5_rename_2 16 rfl rfl)
theorem dX5_rename_65 : decode cX5_rename 65 = .ok (.ireturn, 1) := dk_172 (dk_at dksX5_rename_2 17 rfl rfl)
theorem dX5_rename_66 : decode cX5_rename 66 = .ok (.aload_n 0, 1) := dk_42 (dk_at dksX5_rename_2 18 rfl rfl)
theorem dX5_rename_67 : decode cX5_rename 67 = .ok (.invokevirtual 524, 3) := dk_182 2 12 (dk_at dksX5_rename_2 19 rfl rfl)
theorem dX5_rename_70 : decode cX5_rename 70 = .ok (.aload_n 0, 1) := dk_42 (dk_at dksX5_rename_2 22 rfl rfl)
theorem dX5_rename_71 : decode cX5_rename 71 = .ok (.iload_n 1, 1) := dk_27 (dk_at dksX5_rename_2 23 rfl rfl)
theorem dX5_rename_72 : decode cX5_rename 72 = .ok (.iload_n 2, 1) := dk_28 (dk_at dksX5_rename_3 0 rfl rfl)
theorem dX5_rename_73 : decode cX5_rename 73 = .ok (.lload_n 3, 1) := dk_33 (dk_at dksX5_rename_3 1 rfl rfl)
theorem dX5_rename_74 : decode cX5_rename 74 = .ok (.invokevirtual 351, 3) := dk_182 1 95 (dk_at dksX5_rename_3 2 rfl rfl)
theorem dX5_rename_77 : decode cX5_rename 77 = .ok (.aload_n 0, 1) := dk_42 (dk_at dksX5_rename_3 5 rfl rfl)
theorem dX5_rename_78 : decode cX5_rename 78 = .ok (.iload_n 1, 1) := dk_27 (dk_at dksX5_rename_3 6 rfl rfl)
theorem dX5_rename_79 : decode cX5_rename 79 = .ok (.invokevirtual 427, 3) := dk_182 1 171 (dk_at dksX5_rename_3 7 rfl rfl)
theorem dX5_rename_82 : decode cX5_rename 82 = .ok (.ireturn, 1) := dk_172 (dk_at dksX5_rename_3 10 rfl rfl)
abbrev cX5_setGone : ByteArray := prog_20_method_143_code
def yX5_setGone : MethodName := ⟨RX5, "setGone", "(II)I"⟩
def dkwX5_setGone_3 : List UInt8 := [29, 172]
abbrev dktX5_setGone_3 : List UInt8 := dkwX5_setGone_3 ++ []
def dkwX5_setGone_2 : List UInt8 := [182, 2, 12, 42, 27, 6, 182, 0, 140, 62, 42, 180, 0, 7, 16, 10, 7, 27, 104, 96, 6, 96, 28, 79]
abbrev dktX5_setGone_2 : List UInt8 := dkwX5_setGone_2 ++ dktX5_setGone_3
def dkwX5_setGone_1 : List UInt8 := [17, 3, 232, 184, 0, 103, 154, 0, 7, 4, 167, 0, 4, 3, 5, 182, 0, 118, 153, 0, 5, 3, 172, 42]
abbrev dktX5_setGone_1 : List UInt8 := dkwX5_setGone_1 ++ dktX5_setGone_2
def dkwX5_setGone_0 : List UInt8 := [42, 3, 181, 0, 100, 42, 27, 182, 1, 168, 154, 0, 34, 42, 28, 42, 27, 5, 182, 0, 140, 4, 96]
abbrev dktX5_setGone_0 : List UInt8 := dkwX5_setGone_0 ++ dktX5_setGone_1
theorem dksX5_setGone_0 : cX5_setGone.data.toList.drop 0 = dktX5_setGone_0 := by decide +kernel
theorem dksX5_setGone_1 : cX5_setGone.data.toList.drop 23 = dktX5_setGone_1 := dk_seg dksX5_setGone_0 23 rfl rfl
theorem dksX5_setGone_2 : cX5_setGone.data.toList.drop 47 = dktX5_setGone_2 := dk_seg dksX5_setGone_1 24 rfl rfl
theorem dksX5_setGone_3 : cX5_setGone.data.toList.drop 71 = dktX5_setGone_3 := dk_seg dksX5_setGone_2 24 rfl rfl
theorem dX5_setGone_0 : decode cX5_setGone 0 = .ok (.aload_n 0, 1) := dk_42 (dk_at dksX5_setGone_0 0 rfl rfl)
theorem dX5_setGone_1 : decode cX5_setGone 1 = .ok (.iconst 0, 1) := dk_3 (dk_at dksX5_setGone_0 1 rfl rfl)
theorem dX5_setGone_2 : decode cX5_setGone 2 = .ok (.putfield 100, 3) := dk_181 0 100 (dk_at dksX5_setGone_0 2 rfl rfl)
theorem dX5_setGone_5 : decode cX5_setGone 5 = .ok (.aload_n 0, 1) := dk_42 (dk_at dksX5_setGone_0 5 rfl rfl)
theorem dX5_setGone_6 : decode cX5_setGone 6 = .ok (.iload_n 1, 1) := dk_27 (dk_at dksX5_setGone_0 6 rfl rfl)
theorem dX5_setGone_7 : decode cX5_setGone 7 = .ok (.invokevirtual 424, 3) := dk_182 1 168 (dk_at dksX5_setGone_0 7 rfl rfl)
theorem dX5_setGone_10 : decode cX5_setGone 10 = .ok (.ifCond .ne 34, 3) := dk_154 0 34 (dk_at dksX5_setGone_0 10 rfl rfl)
theorem dX5_setGone_13 : decode cX5_setGone 13 = .ok (.aload_n 0, 1) := dk_42 (dk_at dksX5_setGone_0 13 rfl rfl)
theorem dX5_setGone_14 : decode cX5_setGone 14 = .ok (.iload_n 2, 1) := dk_28 (dk_at dksX5_setGone_0 14 rfl rfl)
theorem dX5_setGone_15 : decode cX5_setGone 15 = .ok (.aload_n 0, 1) := dk_42 (dk_at dksX5_setGone_0 15 rfl rfl)
theorem dX5_setGone_16 : decode cX5_setGone 16 = .ok (.iload_n 1, 1) := dk_27 (dk_at dksX5_setGone_0 16 rfl rfl)
theorem dX5_setGone_17 : decode cX5_setGone 17 = .ok (.iconst 2, 1) := dk_5 (dk_at dksX5_setGone_0 17 rfl rfl)
theorem dX5_setGone_18 : decode cX5_setGone 18 = .ok (.invokevirtual 140, 3) := dk_182 0 140 (dk_at dksX5_setGone_0 18 rfl rfl)
theorem dX5_setGone_21 : decode cX5_setGone 21 = .ok (.iconst 1, 1) := dk_4 (dk_at dksX5_setGone_0 21 rfl rfl)
theorem dX5_setGone_22 : decode cX5_setGone 22 = .ok (.iadd, 1) := dk_96 (dk_at dksX5_setGone_0 22 rfl rfl)
theorem dX5_setGone_23 : decode cX5_setGone 23 = .ok (.sipush 1000, 3) := dk_17 3 232 (dk_at dksX5_setGone_1 0 rfl rfl)
theorem dX5_setGone_26 : decode cX5_setGone 26 = .ok (.invokestatic 103, 3) := dk_184 0 103 (dk_at dksX5_setGone_1 3 rfl rfl)
theorem dX5_setGone_29 : decode cX5_setGone 29 = .ok (.ifCond .ne 7, 3) := dk_154 0 7 (dk_at dksX5_setGone_1 6 rfl rfl)
theorem dX5_setGone_32 : decode cX5_setGone 32 = .ok (.iconst 1, 1) := dk_4 (dk_at dksX5_setGone_1 9 rfl rfl)
theorem dX5_setGone_33 : decode cX5_setGone 33 = .ok (.goto 4, 3) := dk_167 0 4 (dk_at dksX5_setGone_1 10 rfl rfl)
theorem dX5_setGone_36 : decode cX5_setGone 36 = .ok (.iconst 0, 1) := dk_3 (dk_at dksX5_setGone_1 13 rfl rfl)
theorem dX5_setGone_37 : decode cX5_setGone 37 = .ok (.iconst 2, 1) := dk_5 (dk_at dksX5_setGone_1 14 rfl rfl)
theorem dX5_setGone_38 : decode cX5_setGone 38 = .ok (.invokevirtual 118, 3) := dk_182 0 118 (dk_at dksX5_setGone_1 15 rfl rfl)
theorem dX5_setGone_41 : decode cX5_setGone 41 = .ok (.ifCond .eq 5, 3) := dk_153 0 5 (dk_at dksX5_setGone_1 18 rfl rfl)
theorem dX5_setGone_44 : decode cX5_setGone 44 = .ok (.iconst 0, 1) := dk_3 (dk_at dksX5_setGone_1 21 rfl rfl)
theorem dX5_setGone_45 : decode cX5_setGone 45 = .ok (.ireturn, 1) := dk_172 (dk_at dksX5_setGone_1 22 rfl rfl)
theorem dX5_setGone_46 : decode cX5_setGone 46 = .ok (.aload_n 0, 1) := dk_42 (dk_at dksX5_setGone_1 23 rfl rfl)
theorem dX5_setGone_47 : decode cX5_setGone 47 = .ok (.invokevirtual 524, 3) := dk_182 2 12 (dk_at dksX5_setGone_2 0 rfl rfl)
theorem dX5_setGone_50 : decode cX5_setGone 50 = .ok (.aload_n 0, 1) := dk_42 (dk_at dksX5_setGone_2 3 rfl rfl)
theorem dX5_setGone_51 : decode cX5_setGone 51 = .ok (.iload_n 1, 1) := dk_27 (dk_at dksX5_setGone_2 4 rfl rfl)
theorem dX5_setGone_52 : decode cX5_setGone 52 = .ok (.iconst 3, 1) := dk_6 (dk_at dksX5_setGone_2 5 rfl rfl)
theorem dX5_setGone_53 : decode cX5_setGone 53 = .ok (.invokevirtual 140, 3) := dk_182 0 140 (dk_at dksX5_setGone_2 6 rfl rfl)
theorem dX5_setGone_56 : decode cX5_setGone 56 = .ok (.istore_n 3, 1) := dk_62 (dk_at dksX5_setGone_2 9 rfl rfl)
theorem dX5_setGone_57 : decode cX5_setGone 57 = .ok (.aload_n 0, 1) := dk_42 (dk_at dksX5_setGone_2 10 rfl rfl)
theorem dX5_setGone_58 : decode cX5_setGone 58 = .ok (.getfield 7, 3) := dk_180 0 7 (dk_at dksX5_setGone_2 11 rfl rfl)
theorem dX5_setGone_61 : decode cX5_setGone 61 = .ok (.bipush 10, 2) := dk_16 10 (dk_at dksX5_setGone_2 14 rfl rfl)
theorem dX5_setGone_63 : decode cX5_setGone 63 = .ok (.iconst 4, 1) := dk_7 (dk_at dksX5_setGone_2 16 rfl rfl)
theorem dX5_setGone_64 : decode cX5_setGone 64 = .ok (.iload_n 1, 1) := dk_27 (dk_at dksX5_setGone_2 17 rfl rfl)
theorem dX5_setGone_65 : decode cX5_setGone 65 = .ok (.imul, 1) := dk_104 (dk_at dksX5_setGone_2 18 rfl rfl)
theorem dX5_setGone_66 : decode cX5_setGone 66 = .ok (.iadd, 1) := dk_96 (dk_at dksX5_setGone_2 19 rfl rfl)
theorem dX5_setGone_67 : decode cX5_setGone 67 = .ok (.iconst 3, 1) := dk_6 (dk_at dksX5_setGone_2 20 rfl rfl)
theorem dX5_setGone_68 : decode cX5_setGone 68 = .ok (.iadd, 1) := dk_96 (dk_at dksX5_setGone_2 21 rfl rfl)
theorem dX5_setGone_69 : decode cX5_setGone 69 = .ok (.iload_n 2, 1) := dk_28 (dk_at dksX5_setGone_2 22 rfl rfl)
theorem dX5_setGone_70 : decode cX5_setGone 70 = .ok (.iastore, 1) := dk_79 (dk_at dksX5_setGone_2 23 rfl rfl)
theorem dX5_setGone_71 : decode cX5_setGone 71 = .ok (.iload_n 3, 1) := dk_29 (dk_at dksX5_setGone_3 0 rfl rfl)
theorem dX5_setGone_72 : decode cX5_setGone 72 = .ok (.ireturn, 1) := dk_172 (dk_at dksX5_setGone_3 1 rfl rfl)
abbrev cX5_setLines : ByteArray := prog_20_method_144_code
def yX5_setLines : MethodName := ⟨RX5, "setLines", "(I)I"⟩
def dkwX5_setLines_2 : List UInt8 := [16, 8, 27, 79, 28, 172]
abbrev dktX5_setLines_2 : List UInt8 := dkwX5_setLines_2 ++ []
def dkwX5_setLines_1 : List UInt8 := [182, 0, 118, 153, 0, 5, 3, 172, 42, 182, 2, 12, 42, 180, 0, 7, 16, 8, 46, 61, 42, 180, 0, 7]
abbrev dktX5_setLines_1 : List UInt8 := dkwX5_setLines_1 ++ dktX5_setLines_2
def dkwX5_setLines_0 : List UInt8 := [42, 3, 181, 0, 100, 42, 27, 7, 16, 30, 184, 0, 103, 154, 0, 7, 4, 167, 0, 4, 3, 4]
abbrev dktX5_setLines_0 : List UInt8 := dkwX5_setLines_0 ++ dktX5_setLines_1
theorem dksX5_setLines_0 : cX5_setLines.data.toList.drop 0 = dktX5_setLines_0 := by decide +kernel
theorem dksX5_setLines_1 : cX5_setLines.data.toList.drop 22 = dktX5_setLines_1 := dk_seg dksX5_setLines_0 22 rfl rfl
theorem dksX5_setLines_2 : cX5_setLines.data.toList.drop 46 = dktX5_setLines_2 := dk_seg dksX5_setLines_1 24 rfl rfl
theorem dX5_setLines_0 : decode cX5_setLines 0 = .ok (.aload_n 0, 1) := dk_42 (dk_at dksX5_setLines_0 0 rfl rfl)
theorem dX5_setLines_1 : decode cX5_setLines 1 = .ok (.iconst 0, 1) := dk_3 (dk_at dksX5_setLines_0 1 rfl rfl)
theorem dX5_setLines_2 : decode cX5_setLines 2 = .ok (.putfield 100, 3) := dk_181 0 100 (dk_at dksX5_setLines_0 2 rfl rfl)
theorem dX5_setLines_5 : decode cX5_setLines 5 = .ok (.aload_n 0, 1) := dk_42 (dk_at dksX5_setLines_0 5 rfl rfl)
theorem dX5_setLines_6 : decode cX5_setLines 6 = .ok (.iload_n 1, 1) := dk_27 (dk_at dksX5_setLines_0 6 rfl rfl)
theorem dX5_setLines_7 : decode cX5_setLines 7 = .ok (.iconst 4, 1) := dk_7 (dk_at dksX5_setLines_0 7 rfl rfl)
theorem dX5_setLines_8 : decode cX5_setLines 8 = .ok (.bipush 30, 2) := dk_16 30 (dk_at dksX5_setLines_0 8 rfl rfl)
theorem dX5_setLines_10 : decode cX5_setLines 10 = .ok (.invokestatic 103, 3) := dk_184 0 103 (dk_at dksX5_setLines_0 10 rfl rfl)
theorem dX5_setLines_13 : decode cX5_setLines 13 = .ok (.ifCond .ne 7, 3) := dk_154 0 7 (dk_at dksX5_setLines_0 13 rfl rfl)
theorem dX5_setLines_16 : decode cX5_setLines 16 = .ok (.iconst 1, 1) := dk_4 (dk_at dksX5_setLines_0 16 rfl rfl)
theorem dX5_setLines_17 : decode cX5_setLines 17 = .ok (.goto 4, 3) := dk_167 0 4 (dk_at dksX5_setLines_0 17 rfl rfl)
theorem dX5_setLines_20 : decode cX5_setLines 20 = .ok (.iconst 0, 1) := dk_3 (dk_at dksX5_setLines_0 20 rfl rfl)
theorem dX5_setLines_21 : decode cX5_setLines 21 = .ok (.iconst 1, 1) := dk_4 (dk_at dksX5_setLines_0 21 rfl rfl)
theorem dX5_setLines_22 : decode cX5_setLines 22 = .ok (.invokevirtual 118, 3) := dk_182 0 118 (dk_at dksX5_setLines_1 0 rfl rfl)
theorem dX5_setLines_25 : decode cX5_setLines 25 = .ok (.ifCond .eq 5, 3) := dk_153 0 5 (dk_at dksX5_setLines_1 3 rfl rfl)
theorem dX5_setLines_28 : decode cX5_setLines 28 = .ok (.iconst 0, 1) := dk_3 (dk_at dksX5_setLines_1 6 rfl rfl)
theorem dX5_setLines_29 : decode cX5_setLines 29 = .ok (.ireturn, 1) := dk_172 (dk_at dksX5_setLines_1 7 rfl rfl)
theorem dX5_setLines_30 : decode cX5_setLines 30 = .ok (.aload_n 0, 1) := dk_42 (dk_at dksX5_setLines_1 8 rfl rfl)
theorem dX5_setLines_31 : decode cX5_setLines 31 = .ok (.invokevirtual 524, 3) := dk_182 2 12 (dk_at dksX5_setLines_1 9 rfl rfl)
theorem dX5_setLines_34 : decode cX5_setLines 34 = .ok (.aload_n 0, 1) := dk_42 (dk_at dksX5_setLines_1 12 rfl rfl)
theorem dX5_setLines_35 : decode cX5_setLines 35 = .ok (.getfield 7, 3) := dk_180 0 7 (dk_at dksX5_setLines_1 13 rfl rfl)
theorem dX5_setLines_38 : decode cX5_setLines 38 = .ok (.bipush 8, 2) := dk_16 8 (dk_at dksX5_setLines_1 16 rfl rfl)
theorem dX5_setLines_40 : decode cX5_setLines 40 = .ok (.iaload, 1) := dk_46 (dk_at dksX5_setLines_1 18 rfl rfl)
theorem dX5_setLines_41 : decode cX5_setLines 41 = .ok (.istore_n 2, 1) := dk_61 (dk_at dksX5_setLines_1 19 rfl rfl)
theorem dX5_setLines_42 : decode cX5_setLines 42 = .ok (.aload_n 0, 1) := dk_42 (dk_at dksX5_setLines_1 20 rfl rfl)
theorem dX5_setLines_43 : decode cX5_setLines 43 = .ok (.getfield 7, 3) := dk_180 0 7 (dk_at dksX5_setLines_1 21 rfl rfl)
theorem dX5_setLines_46 : decode cX5_setLines 46 = .ok (.bipush 8, 2) := dk_16 8 (dk_at dksX5_setLines_2 0 rfl rfl)
theorem dX5_setLines_48 : decode cX5_setLines 48 = .ok (.iload_n 1, 1) := dk_27 (dk_at dksX5_setLines_2 2 rfl rfl)
theorem dX5_setLines_49 : decode cX5_setLines 49 = .ok (.iastore, 1) := dk_79 (dk_at dksX5_setLines_2 3 rfl rfl)
theorem dX5_setLines_50 : decode cX5_setLines 50 = .ok (.iload_n 2, 1) := dk_28 (dk_at dksX5_setLines_2 4 rfl rfl)
theorem dX5_setLines_51 : decode cX5_setLines 51 = .ok (.ireturn, 1) := dk_172 (dk_at dksX5_setLines_2 5 rfl rfl)
abbrev cX5_setFresh : ByteArray := prog_20_method_145_code
def yX5_setFresh : MethodName := ⟨RX5, "setFresh", "(Z)Z"⟩
def dkwX5_setFresh_1 : List UInt8 := [3, 61, 42, 180, 0, 7, 16, 9, 27, 153, 0, 7, 4, 167, 0, 4, 3, 79, 28, 172]
abbrev dktX5_setFresh_1 : List UInt8 := dkwX5_setFresh_1 ++ []
def dkwX5_setFresh_0 : List UInt8 := [42, 3, 181, 0, 100, 42, 182, 2, 12, 42, 180, 0, 7, 16, 9, 46, 4, 160, 0, 7, 4, 167, 0, 4]
abbrev dktX5_setFresh_0 : List UInt8 := dkwX5_setFresh_0 ++ dktX5_setFresh_1
theorem dksX5_setFresh_0 : cX5_setFresh.data.toList.drop 0 = dktX5_setFresh_0 := by decide +kernel
theorem dksX5_setFresh_1 : cX5_setFresh.data.toList.drop 24 = dktX5_setFresh_1 := dk_seg dksX5_setFresh_0 24 rfl rfl
theorem dX5_setFresh_0 : decode cX5_setFresh 0 = .ok (.aload_n 0, 1) := dk_42 (dk_at dksX5_setFresh_0 0 rfl rfl)
theorem dX5_setFresh_1 : decode cX5_setFresh 1 = .ok (.iconst 0, 1) := dk_3 (dk_at dksX5_setFresh_0 1 rfl rfl)
theorem dX5_setFresh_2 : decode cX5_setFresh 2 = .ok (.putfield 100, 3) := dk_181 0 100 (dk_at dksX5_setFresh_0 2 rfl rfl)
theorem dX5_setFresh_5 : decode cX5_setFresh 5 = .ok (.aload_n 0, 1) := dk_42 (dk_at dksX5_setFresh_0 5 rfl rfl)
theorem dX5_setFresh_6 : decode cX5_setFresh 6 = .ok (.invokevirtual 524, 3) := dk_182 2 12 (dk_at dksX5_setFresh_0 6 rfl rfl)
theorem dX5_setFresh_9 : decode cX5_setFresh 9 = .ok (.aload_n 0, 1) := dk_42 (dk_at dksX5_setFresh_0 9 rfl rfl)
theorem dX5_setFresh_10 : decode cX5_setFresh 10 = .ok (.getfield 7, 3) := dk_180 0 7 (dk_at dksX5_setFresh_0 10 rfl rfl)
theorem dX5_setFresh_13 : decode cX5_setFresh 13 = .ok (.bipush 9, 2) := dk_16 9 (dk_at dksX5_setFresh_0 13 rfl rfl)
theorem dX5_setFresh_15 : decode cX5_setFresh 15 = .ok (.iaload, 1) := dk_46 (dk_at dksX5_setFresh_0 15 rfl rfl)
theorem dX5_setFresh_16 : decode cX5_setFresh 16 = .ok (.iconst 1, 1) := dk_4 (dk_at dksX5_setFresh_0 16 rfl rfl)
theorem dX5_setFresh_17 : decode cX5_setFresh 17 = .ok (.if_icmp .ne 7, 3) := dk_160 0 7 (dk_at dksX5_setFresh_0 17 rfl rfl)
theorem dX5_setFresh_20 : decode cX5_setFresh 20 = .ok (.iconst 1, 1) := dk_4 (dk_at dksX5_setFresh_0 20 rfl rfl)
theorem dX5_setFresh_21 : decode cX5_setFresh 21 = .ok (.goto 4, 3) := dk_167 0 4 (dk_at dksX5_setFresh_0 21 rfl rfl)
theorem dX5_setFresh_24 : decode cX5_setFresh 24 = .ok (.iconst 0, 1) := dk_3 (dk_at dksX5_setFresh_1 0 rfl rfl)
theorem dX5_setFresh_25 : decode cX5_setFresh 25 = .ok (.istore_n 2, 1) := dk_61 (dk_at dksX5_setFresh_1 1 rfl rfl)
theorem dX5_setFresh_26 : decode cX5_setFresh 26 = .ok (.aload_n 0, 1) := dk_42 (dk_at dksX5_setFresh_1 2 rfl rfl)
theorem dX5_setFresh_27 : decode cX5_setFresh 27 = .ok (.getfield 7, 3) := dk_180 0 7 (dk_at dksX5_setFresh_1 3 rfl rfl)
theorem dX5_setFresh_30 : decode cX5_setFresh 30 = .ok (.bipush 9, 2) := dk_16 9 (dk_at dksX5_setFresh_1 6 rfl rfl)
theorem dX5_setFresh_32 : decode cX5_setFresh 32 = .ok (.iload_n 1, 1) := dk_27 (dk_at dksX5_setFresh_1 8 rfl rfl)
theorem dX5_setFresh_33 : decode cX5_setFresh 33 = .ok (.ifCond .eq 7, 3) := dk_153 0 7 (dk_at dksX5_setFresh_1 9 rfl rfl)
theorem dX5_setFresh_36 : decode cX5_setFresh 36 = .ok (.iconst 1, 1) := dk_4 (dk_at dksX5_setFresh_1 12 rfl rfl)
theorem dX5_setFresh_37 : decode cX5_setFresh 37 = .ok (.goto 4, 3) := dk_167 0 4 (dk_at dksX5_setFresh_1 13 rfl rfl)
theorem dX5_setFresh_40 : decode cX5_setFresh 40 = .ok (.iconst 0, 1) := dk_3 (dk_at dksX5_setFresh_1 16 rfl rfl)
theorem dX5_setFresh_41 : decode cX5_setFresh 41 = .ok (.iastore, 1) := dk_79 (dk_at dksX5_setFresh_1 17 rfl rfl)
theorem dX5_setFresh_42 : decode cX5_setFresh 42 = .ok (.iload_n 2, 1) := dk_28 (dk_at dksX5_setFresh_1 18 rfl rfl)
theorem dX5_setFresh_43 : decode cX5_setFresh 43 = .ok (.ireturn, 1) := dk_172 (dk_at dksX5_setFresh_1 19 rfl rfl)
abbrev cX5_undo : ByteArray := prog_20_method_146_code
def yX5_undo : MethodName := ⟨RX5, "undo", "()I"⟩
def dkwX5_undo_3 : List UInt8 := [180, 0, 107, 104, 42, 180, 0, 22, 3, 16, 48, 184, 0, 114, 42, 180, 0, 107, 172]
abbrev dktX5_undo_3 : List UInt8 := dkwX5_undo_3 ++ []
def dkwX5_undo_2 : List UInt8 := [180, 0, 107, 104, 42, 180, 0, 7, 3, 17, 1, 10, 184, 0, 110, 42, 180, 0, 32, 16, 48, 42]
abbrev dktX5_undo_2 : List UInt8 := dkwX5_undo_2 ++ dktX5_undo_3
def dkwX5_undo_1 : List UInt8 := [153, 0, 5, 3, 172, 42, 89, 180, 0, 107, 4, 100, 181, 0, 107, 42, 180, 0, 19, 17, 1, 10, 42]
abbrev dktX5_undo_1 : List UInt8 := dkwX5_undo_1 ++ dktX5_undo_2
def dkwX5_undo_0 : List UInt8 := [42, 3, 181, 0, 100, 42, 42, 180, 0, 107, 154, 0, 7, 4, 167, 0, 4, 3, 4, 182, 0, 118]
abbrev dktX5_undo_0 : List UInt8 := dkwX5_undo_0 ++ dktX5_undo_1
theorem dksX5_undo_0 : cX5_undo.data.toList.drop 0 = dktX5_undo_0 := by decide +kernel
theorem dksX5_undo_1 : cX5_undo.data.toList.drop 22 = dktX5_undo_1 := dk_seg dksX5_undo_0 22 rfl rfl
theorem dksX5_undo_2 : cX5_undo.data.toList.drop 45 = dktX5_undo_2 := dk_seg dksX5_undo_1 23 rfl rfl
theorem dksX5_undo_3 : cX5_undo.data.toList.drop 67 = dktX5_undo_3 := dk_seg dksX5_undo_2 22 rfl rfl
theorem dX5_undo_0 : decode cX5_undo 0 = .ok (.aload_n 0, 1) := dk_42 (dk_at dksX5_undo_0 0 rfl rfl)
theorem dX5_undo_1 : decode cX5_undo 1 = .ok (.iconst 0, 1) := dk_3 (dk_at dksX5_undo_0 1 rfl rfl)
theorem dX5_undo_2 : decode cX5_undo 2 = .ok (.putfield 100, 3) := dk_181 0 100 (dk_at dksX5_undo_0 2 rfl rfl)
theorem dX5_undo_5 : decode cX5_undo 5 = .ok (.aload_n 0, 1) := dk_42 (dk_at dksX5_undo_0 5 rfl rfl)
theorem dX5_undo_6 : decode cX5_undo 6 = .ok (.aload_n 0, 1) := dk_42 (dk_at dksX5_undo_0 6 rfl rfl)
theorem dX5_undo_7 : decode cX5_undo 7 = .ok (.getfield 107, 3) := dk_180 0 107 (dk_at dksX5_undo_0 7 rfl rfl)
theorem dX5_undo_10 : decode cX5_undo 10 = .ok (.ifCond .ne 7, 3) := dk_154 0 7 (dk_at dksX5_undo_0 10 rfl rfl)
theorem dX5_undo_13 : decode cX5_undo 13 = .ok (.iconst 1, 1) := dk_4 (dk_at dksX5_undo_0 13 rfl rfl)
theorem dX5_undo_14 : decode cX5_undo 14 = .ok (.goto 4, 3) := dk_167 0 4 (dk_at dksX5_undo_0 14 rfl rfl)
theorem dX5_undo_17 : decode cX5_undo 17 = .ok (.iconst 0, 1) := dk_3 (dk_at dksX5_undo_0 17 rfl rfl)
theorem dX5_undo_18 : decode cX5_undo 18 = .ok (.iconst 1, 1) := dk_4 (dk_at dksX5_undo_0 18 rfl rfl)
theorem dX5_undo_19 : decode cX5_undo 19 = .ok (.invokevirtual 118, 3) := dk_182 0 118 (dk_at dksX5_undo_0 19 rfl rfl)
theorem dX5_undo_22 : decode cX5_undo 22 = .ok (.ifCond .eq 5, 3) := dk_153 0 5 (dk_at dksX5_undo_1 0 rfl rfl)
theorem dX5_undo_25 : decode cX5_undo 25 = .ok (.iconst 0, 1) := dk_3 (dk_at dksX5_undo_1 3 rfl rfl)
theorem dX5_undo_26 : decode cX5_undo 26 = .ok (.ireturn, 1) := dk_172 (dk_at dksX5_undo_1 4 rfl rfl)
theorem dX5_undo_27 : decode cX5_undo 27 = .ok (.aload_n 0, 1) := dk_42 (dk_at dksX5_undo_1 5 rfl rfl)
theorem dX5_undo_28 : decode cX5_undo 28 = .ok (.dup, 1) := dk_89 (dk_at dksX5_undo_1 6 rfl rfl)
theorem dX5_undo_29 : decode cX5_undo 29 = .ok (.getfield 107, 3) := dk_180 0 107 (dk_at dksX5_undo_1 7 rfl rfl)
theorem dX5_undo_32 : decode cX5_undo 32 = .ok (.iconst 1, 1) := dk_4 (dk_at dksX5_undo_1 10 rfl rfl)
theorem dX5_undo_33 : decode cX5_undo 33 = .ok (.isub, 1) := dk_100 (dk_at dksX5_undo_1 11 rfl rfl)
theorem dX5_undo_34 : decode cX5_undo 34 = .ok (.putfield 107, 3) := dk_181 0 107 (dk_at dksX5_undo_1 12 rfl rfl)
theorem dX5_undo_37 : decode cX5_undo 37 = .ok (.aload_n 0, 1) := dk_42 (dk_at dksX5_undo_1 15 rfl rfl)
theorem dX5_undo_38 : decode cX5_undo 38 = .ok (.getfield 19, 3) := dk_180 0 19 (dk_at dksX5_undo_1 16 rfl rfl)
theorem dX5_undo_41 : decode cX5_undo 41 = .ok (.sipush 266, 3) := dk_17 1 10 (dk_at dksX5_undo_1 19 rfl rfl)
theorem dX5_undo_44 : decode cX5_undo 44 = .ok (.aload_n 0, 1) := dk_42 (dk_at dksX5_undo_1 22 rfl rfl)
theorem dX5_undo_45 : decode cX5_undo 45 = .ok (.getfield 107, 3) := dk_180 0 107 (dk_at dksX5_undo_2 0 rfl rfl)
theorem dX5_undo_48 : decode cX5_undo 48 = .ok (.imul, 1) := dk_104 (dk_at dksX5_undo_2 3 rfl rfl)
theorem dX5_undo_49 : decode cX5_undo 49 = .ok (.aload_n 0, 1) := dk_42 (dk_at dksX5_undo_2 4 rfl rfl)
theorem dX5_undo_50 : decode cX5_undo 50 = .ok (.getfield 7, 3) := dk_180 0 7 (dk_at dksX5_undo_2 5 rfl rfl)
theorem dX5_undo_53 : decode cX5_undo 53 = .ok (.iconst 0, 1) := dk_3 (dk_at dksX5_undo_2 8 rfl rfl)
theorem dX5_undo_54 : decode cX5_undo 54 = .ok (.sipush 266, 3) := dk_17 1 10 (dk_at dksX5_undo_2 9 rfl rfl)
theorem dX5_undo_57 : decode cX5_undo 57 = .ok (.invokestatic 110, 3) := dk_184 0 110 (dk_at dksX5_undo_2 12 rfl rfl)
theorem dX5_undo_60 : decode cX5_undo 60 = .ok (.aload_n 0, 1) := dk_42 (dk_at dksX5_undo_2 15 rfl rfl)
theorem dX5_undo_61 : decode cX5_undo 61 = .ok (.getfield 32, 3) := dk_180 0 32 (dk_at dksX5_undo_2 16 rfl rfl)
theorem dX5_undo_64 : decode cX5_undo 64 = .ok (.bipush 48, 2) := dk_16 48 (dk_at dksX5_undo_2 19 rfl rfl)
theorem dX5_undo_66 : decode cX5_undo 66 = .ok (.aload_n 0, 1) := dk_42 (dk_at dksX5_undo_2 21 rfl rfl)
theorem dX5_undo_67 : decode cX5_undo 67 = .ok (.getfield 107, 3) := dk_180 0 107 (dk_at dksX5_undo_3 0 rfl rfl)
theorem dX5_undo_70 : decode cX5_undo 70 = .ok (.imul, 1) := dk_104 (dk_at dksX5_undo_3 3 rfl rfl)
theorem dX5_undo_71 : decode cX5_undo 71 = .ok (.aload_n 0, 1) := dk_42 (dk_at dksX5_undo_3 4 rfl rfl)
theorem dX5_undo_72 : decode cX5_undo 72 = .ok (.getfield 22, 3) := dk_180 0 22 (dk_at dksX5_undo_3 5 rfl rfl)
theorem dX5_undo_75 : decode cX5_undo 75 = .ok (.iconst 0, 1) := dk_3 (dk_at dksX5_undo_3 8 rfl rfl)
theorem dX5_undo_76 : decode cX5_undo 76 = .ok (.bipush 48, 2) := dk_16 48 (dk_at dksX5_undo_3 9 rfl rfl)
theorem dX5_undo_78 : decode cX5_undo 78 = .ok (.invokestatic 114, 3) := dk_184 0 114 (dk_at dksX5_undo_3 11 rfl rfl)
theorem dX5_undo_81 : decode cX5_undo 81 = .ok (.aload_n 0, 1) := dk_42 (dk_at dksX5_undo_3 14 rfl rfl)
theorem dX5_undo_82 : decode cX5_undo 82 = .ok (.getfield 107, 3) := dk_180 0 107 (dk_at dksX5_undo_3 15 rfl rfl)
theorem dX5_undo_85 : decode cX5_undo 85 = .ok (.ireturn, 1) := dk_172 (dk_at dksX5_undo_3 18 rfl rfl)
abbrev cX5_printPage : ByteArray := prog_20_method_153_code
def yX5_printPage : MethodName := ⟨RX5, "printPage", "(I)I"⟩
def dkwX5_printPage_3 : List UInt8 := [182, 2, 24, 132, 2, 1, 167, 255, 197, 42, 180, 2, 21, 172]
abbrev dktX5_printPage_3 : List UInt8 := dkwX5_printPage_3 ++ []
def dkwX5_printPage_2 : List UInt8 := [160, 0, 11, 42, 29, 182, 2, 41, 167, 0, 13, 42, 42, 180, 0, 59, 29, 46, 182, 2, 44, 42, 16, 10]
abbrev dktX5_printPage_2 : List UInt8 := dkwX5_printPage_2 ++ dktX5_printPage_3
def dkwX5_printPage_1 : List UInt8 := [162, 0, 55, 42, 180, 0, 7, 16, 8, 46, 27, 104, 28, 96, 62, 42, 180, 0, 59, 29, 46, 2]
abbrev dktX5_printPage_1 : List UInt8 := dkwX5_printPage_1 ++ dktX5_printPage_2
def dkwX5_printPage_0 : List UInt8 := [42, 27, 182, 1, 247, 153, 0, 5, 3, 172, 42, 3, 181, 2, 21, 3, 61, 28, 42, 180, 0, 68, 27, 46]
abbrev dktX5_printPage_0 : List UInt8 := dkwX5_printPage_0 ++ dktX5_printPage_1
theorem dksX5_printPage_0 : cX5_printPage.data.toList.drop 0 = dktX5_printPage_0 := by decide +kernel
theorem dksX5_printPage_1 : cX5_printPage.data.toList.drop 24 = dktX5_printPage_1 := dk_seg dksX5_printPage_0 24 rfl rfl
theorem dksX5_printPage_2 : cX5_printPage.data.toList.drop 46 = dktX5_printPage_2 := dk_seg dksX5_printPage_1 22 rfl rfl
theorem dksX5_printPage_3 : cX5_printPage.data.toList.drop 70 = dktX5_printPage_3 := dk_seg dksX5_printPage_2 24 rfl rfl
theorem dX5_printPage_0 : decode cX5_printPage 0 = .ok (.aload_n 0, 1) := dk_42 (dk_at dksX5_printPage_0 0 rfl rfl)
theorem dX5_printPage_1 : decode cX5_printPage 1 = .ok (.iload_n 1, 1) := dk_27 (dk_at dksX5_printPage_0 1 rfl rfl)
theorem dX5_printPage_2 : decode cX5_printPage 2 = .ok (.invokevirtual 503, 3) := dk_182 1 247 (dk_at dksX5_printPage_0 2 rfl rfl)
theorem dX5_printPage_5 : decode cX5_printPage 5 = .ok (.ifCond .eq 5, 3) := dk_153 0 5 (dk_at dksX5_printPage_0 5 rfl rfl)
theorem dX5_printPage_8 : decode cX5_printPage 8 = .ok (.iconst 0, 1) := dk_3 (dk_at dksX5_printPage_0 8 rfl rfl)
theorem dX5_printPage_9 : decode cX5_printPage 9 = .ok (.ireturn, 1) := dk_172 (dk_at dksX5_printPage_0 9 rfl rfl)
theorem dX5_printPage_10 : decode cX5_printPage 10 = .ok (.aload_n 0, 1) := dk_42 (dk_at dksX5_printPage_0 10 rfl rfl)
theorem dX5_printPage_11 : decode cX5_printPage 11 = .ok (.iconst 0, 1) := dk_3 (dk_at dksX5_printPage_0 11 rfl rfl)
theorem dX5_printPage_12 : decode cX5_printPage 12 = .ok (.putfield 533, 3) := dk_181 2 21 (dk_at dksX5_printPage_0 12 rfl rfl)
theorem dX5_printPage_15 : decode cX5_printPage 15 = .ok (.iconst 0, 1) := dk_3 (dk_at dksX5_printPage_0 15 rfl rfl)
theorem dX5_printPage_16 : decode cX5_printPage 16 = .ok (.istore_n 2, 1) := dk_61 (dk_at dksX5_printPage_0 16 rfl rfl)
theorem dX5_printPage_17 : decode cX5_printPage 17 = .ok (.iload_n 2, 1) := dk_28 (dk_at dksX5_printPage_0 17 rfl rfl)
theorem dX5_printPage_18 : decode cX5_printPage 18 = .ok (.aload_n 0, 1) := dk_42 (dk_at dksX5_printPage_0 18 rfl rfl)
theorem dX5_printPage_19 : decode cX5_printPage 19 = .ok (.getfield 68, 3) := dk_180 0 68 (dk_at dksX5_printPage_0 19 rfl rfl)
theorem dX5_printPage_22 : decode cX5_printPage 22 = .ok (.iload_n 1, 1) := dk_27 (dk_at dksX5_printPage_0 22 rfl rfl)
theorem dX5_printPage_23 : decode cX5_printPage 23 = .ok (.iaload, 1) := dk_46 (dk_at dksX5_printPage_0 23 rfl rfl)
theorem dX5_printPage_24 : decode cX5_printPage 24 = .ok (.if_icmp .ge 55, 3) := dk_162 0 55 (dk_at dksX5_printPage_1 0 rfl rfl)
theorem dX5_printPage_27 : decode cX5_printPage 27 = .ok (.aload_n 0, 1) := dk_42 (dk_at dksX5_printPage_1 3 rfl rfl)
theorem dX5_printPage_28 : decode cX5_printPage 28 = .ok (.getfield 7, 3) := dk_180 0 7 (dk_at dksX5_printPage_1 4 rfl rfl)
theorem dX5_printPage_31 : decode cX5_printPage 31 = .ok (.bipush 8, 2) := dk_16 8 (dk_at dksX5_printPage_1 7 rfl rfl)
theorem dX5_printPage_33 : decode cX5_printPage 33 = .ok (.iaload, 1) := dk_46 (dk_at dksX5_printPage_1 9 rfl rfl)
theorem dX5_printPage_34 : decode cX5_printPage 34 = .ok (.iload_n 1, 1) := dk_27 (dk_at dksX5_printPage_1 10 rfl rfl)
theorem dX5_printPage_35 : decode cX5_printPage 35 = .ok (.imul, 1) := dk_104 (dk_at dksX5_printPage_1 11 rfl rfl)
theorem dX5_printPage_36 : decode cX5_printPage 36 = .ok (.iload_n 2, 1) := dk_28 (dk_at dksX5_printPage_1 12 rfl rfl)
theorem dX5_printPage_37 : decode cX5_printPage 37 = .ok (.iadd, 1) := dk_96 (dk_at dksX5_printPage_1 13 rfl rfl)
theorem dX5_printPage_38 : decode cX5_printPage 38 = .ok (.istore_n 3, 1) := dk_62 (dk_at dksX5_printPage_1 14 rfl rfl)
theorem dX5_printPage_39 : decode cX5_printPage 39 = .ok (.aload_n 0, 1) := dk_42 (dk_at dksX5_printPage_1 15 rfl rfl)
theorem dX5_printPage_40 : decode cX5_printPage 40 = .ok (.getfield 59, 3) := dk_180 0 59 (dk_at dksX5_printPage_1 16 rfl rfl)
theorem dX5_printPage_43 : decode cX5_printPage 43 = .ok (.iload_n 3, 1) := dk_29 (dk_at dksX5_printPage_1 19 rfl rfl)
theorem dX5_printPage_44 : decode cX5_printPage 44 = .ok (.iaload, 1) := dk_46 (dk_at dksX5_printPage_1 20 rfl rfl)
theorem dX5_printPage_45 : decode cX5_printPage 45 = .ok (.iconst (-1), 1) := dk_2 (dk_at dksX5_printPage_1 21 rfl rfl)
theorem dX5_printPage_46 : decode cX5_printPage 46 = .ok (.if_icmp .ne 11, 3) := dk_160 0 11 (dk_at dksX5_printPage_2 0 rfl rfl)
theorem dX5_printPage_49 : decode cX5_printPage 49 = .ok (.aload_n 0, 1) := dk_42 (dk_at dksX5_printPage_2 3 rfl rfl)
theorem dX5_printPage_50 : decode cX5_printPage 50 = .ok (.iload_n 3, 1) := dk_29 (dk_at dksX5_printPage_2 4 rfl rfl)
theorem dX5_printPage_51 : decode cX5_printPage 51 = .ok (.invokevirtual 553, 3) := dk_182 2 41 (dk_at dksX5_printPage_2 5 rfl rfl)
theorem dX5_printPage_54 : decode cX5_printPage 54 = .ok (.goto 13, 3) := dk_167 0 13 (dk_at dksX5_printPage_2 8 rfl rfl)
theorem dX5_printPage_57 : decode cX5_printPage 57 = .ok (.aload_n 0, 1) := dk_42 (dk_at dksX5_printPage_2 11 rfl rfl)
theorem dX5_printPage_58 : decode cX5_printPage 58 = .ok (.aload_n 0, 1) := dk_42 (dk_at dksX5_printPage_2 12 rfl rfl)
theorem dX5_printPage_59 : decode cX5_printPage 59 = .ok (.getfield 59, 3) := dk_180 0 59 (dk_at dksX5_printPage_2 13 rfl rfl)
theorem dX5_printPage_62 : decode cX5_printPage 62 = .ok (.iload_n 3, 1) := dk_29 (dk_at dksX5_printPage_2 16 rfl rfl)
theorem dX5_printPage_63 : decode cX5_printPage 63 = .ok (.iaload, 1) := dk_46 (dk_at dksX5_printPage_2 17 rfl rfl)
theorem dX5_printPage_64 : decode cX5_printPage 64 = .ok (.invokevirtual 556, 3) := dk_182 2 44 (dk_at dksX5_printPage_2 18 rfl rfl)
theorem dX5_printPage_67 : decode cX5_printPage 67 = .ok (.aload_n 0, 1) := dk_42 (dk_at dksX5_printPage_2 21 rfl rfl)
theorem dX5_printPage_68 : decode cX5_printPage 68 = .ok (.bipush 10, 2) := dk_16 10 (dk_at dksX5_printPage_2 22 rfl rfl)
theorem dX5_printPage_70 : decode cX5_printPage 70 = .ok (.invokevirtual 536, 3) := dk_182 2 24 (dk_at dksX5_printPage_3 0 rfl rfl)
theorem dX5_printPage_73 : decode cX5_printPage 73 = .ok (.iinc 2 1, 3) := dk_132 2 1 (dk_at dksX5_printPage_3 3 rfl rfl)
theorem dX5_printPage_76 : decode cX5_printPage 76 = .ok (.goto (-59), 3) := dk_167 255 197 (dk_at dksX5_printPage_3 6 rfl rfl)
theorem dX5_printPage_79 : decode cX5_printPage 79 = .ok (.aload_n 0, 1) := dk_42 (dk_at dksX5_printPage_3 9 rfl rfl)
theorem dX5_printPage_80 : decode cX5_printPage 80 = .ok (.getfield 533, 3) := dk_180 2 21 (dk_at dksX5_printPage_3 10 rfl rfl)
theorem dX5_printPage_83 : decode cX5_printPage 83 = .ok (.ireturn, 1) := dk_172 (dk_at dksX5_printPage_3 13 rfl rfl)
abbrev cX5_writeHeading : ByteArray := prog_20_method_152_code
def yX5_writeHeading : MethodName := ⟨RX5, "writeHeading", "(I)V"⟩
def dkwX5_writeHeading_1 : List UInt8 := [27, 46, 7, 160, 0, 9, 42, 16, 43, 182, 2, 24, 177]
abbrev dktX5_writeHeading_1 : List UInt8 := dkwX5_writeHeading_1 ++ []
def dkwX5_writeHeading_0 : List UInt8 := [42, 16, 42, 182, 2, 24, 42, 42, 42, 180, 0, 56, 27, 46, 182, 0, 166, 182, 2, 27, 42, 180, 0, 53]
abbrev dktX5_writeHeading_0 : List UInt8 := dkwX5_writeHeading_0 ++ dktX5_writeHeading_1
theorem dksX5_writeHeading_0 : cX5_writeHeading.data.toList.drop 0 = dktX5_writeHeading_0 := by decide +kernel
theorem dksX5_writeHeading_1 : cX5_writeHeading.data.toList.drop 24 = dktX5_writeHeading_1 := dk_seg dksX5_writeHeading_0 24 rfl rfl
theorem dX5_writeHeading_0 : decode cX5_writeHeading 0 = .ok (.aload_n 0, 1) := dk_42 (dk_at dksX5_writeHeading_0 0 rfl rfl)
theorem dX5_writeHeading_1 : decode cX5_writeHeading 1 = .ok (.bipush 42, 2) := dk_16 42 (dk_at dksX5_writeHeading_0 1 rfl rfl)
theorem dX5_writeHeading_3 : decode cX5_writeHeading 3 = .ok (.invokevirtual 536, 3) := dk_182 2 24 (dk_at dksX5_writeHeading_0 3 rfl rfl)
theorem dX5_writeHeading_6 : decode cX5_writeHeading 6 = .ok (.aload_n 0, 1) := dk_42 (dk_at dksX5_writeHeading_0 6 rfl rfl)
theorem dX5_writeHeading_7 : decode cX5_writeHeading 7 = .ok (.aload_n 0, 1) := dk_42 (dk_at dksX5_writeHeading_0 7 rfl rfl)
theorem dX5_writeHeading_8 : decode cX5_writeHeading 8 = .ok (.aload_n 0, 1) := dk_42 (dk_at dksX5_writeHeading_0 8 rfl rfl)
theorem dX5_writeHeading_9 : decode cX5_writeHeading 9 = .ok (.getfield 56, 3) := dk_180 0 56 (dk_at dksX5_writeHeading_0 9 rfl rfl)
theorem dX5_writeHeading_12 : decode cX5_writeHeading 12 = .ok (.iload_n 1, 1) := dk_27 (dk_at dksX5_writeHeading_0 12 rfl rfl)
theorem dX5_writeHeading_13 : decode cX5_writeHeading 13 = .ok (.iaload, 1) := dk_46 (dk_at dksX5_writeHeading_0 13 rfl rfl)
theorem dX5_writeHeading_14 : decode cX5_writeHeading 14 = .ok (.invokevirtual 166, 3) := dk_182 0 166 (dk_at dksX5_writeHeading_0 14 rfl rfl)
theorem dX5_writeHeading_17 : decode cX5_writeHeading 17 = .ok (.invokevirtual 539, 3) := dk_182 2 27 (dk_at dksX5_writeHeading_0 17 rfl rfl)
theorem dX5_writeHeading_20 : decode cX5_writeHeading 20 = .ok (.aload_n 0, 1) := dk_42 (dk_at dksX5_writeHeading_0 20 rfl rfl)
theorem dX5_writeHeading_21 : decode cX5_writeHeading 21 = .ok (.getfield 53, 3) := dk_180 0 53 (dk_at dksX5_writeHeading_0 21 rfl rfl)
theorem dX5_writeHeading_24 : decode cX5_writeHeading 24 = .ok (.iload_n 1, 1) := dk_27 (dk_at dksX5_writeHeading_1 0 rfl rfl)
theorem dX5_writeHeading_25 : decode cX5_writeHeading 25 = .ok (.iaload, 1) := dk_46 (dk_at dksX5_writeHeading_1 1 rfl rfl)
theorem dX5_writeHeading_26 : decode cX5_writeHeading 26 = .ok (.iconst 4, 1) := dk_7 (dk_at dksX5_writeHeading_1 2 rfl rfl)
theorem dX5_writeHeading_27 : decode cX5_writeHeading 27 = .ok (.if_icmp .ne 9, 3) := dk_160 0 9 (dk_at dksX5_writeHeading_1 3 rfl rfl)
theorem dX5_writeHeading_30 : decode cX5_writeHeading 30 = .ok (.aload_n 0, 1) := dk_42 (dk_at dksX5_writeHeading_1 6 rfl rfl)
theorem dX5_writeHeading_31 : decode cX5_writeHeading 31 = .ok (.bipush 43, 2) := dk_16 43 (dk_at dksX5_writeHeading_1 7 rfl rfl)
theorem dX5_writeHeading_33 : decode cX5_writeHeading 33 = .ok (.invokevirtual 536, 3) := dk_182 2 24 (dk_at dksX5_writeHeading_1 9 rfl rfl)
theorem dX5_writeHeading_36 : decode cX5_writeHeading 36 = .ok (.return_, 1) := dk_177 (dk_at dksX5_writeHeading_1 12 rfl rfl)
abbrev cX5_write : ByteArray := prog_20_method_147_code
def yX5_write : MethodName := ⟨RX5, "write", "(I)V"⟩
def dkwX5_write_0 : List UInt8 := [42, 180, 0, 91, 42, 180, 2, 21, 27, 79, 42, 89, 180, 2, 21, 4, 96, 181, 2, 21, 177]
abbrev dktX5_write_0 : List UInt8 := dkwX5_write_0 ++ []
theorem dksX5_write_0 : cX5_write.data.toList.drop 0 = dktX5_write_0 := by decide +kernel
theorem dX5_write_0 : decode cX5_write 0 = .ok (.aload_n 0, 1) := dk_42 (dk_at dksX5_write_0 0 rfl rfl)
theorem dX5_write_1 : decode cX5_write 1 = .ok (.getfield 91, 3) := dk_180 0 91 (dk_at dksX5_write_0 1 rfl rfl)
theorem dX5_write_4 : decode cX5_write 4 = .ok (.aload_n 0, 1) := dk_42 (dk_at dksX5_write_0 4 rfl rfl)
theorem dX5_write_5 : decode cX5_write 5 = .ok (.getfield 533, 3) := dk_180 2 21 (dk_at dksX5_write_0 5 rfl rfl)
theorem dX5_write_8 : decode cX5_write 8 = .ok (.iload_n 1, 1) := dk_27 (dk_at dksX5_write_0 8 rfl rfl)
theorem dX5_write_9 : decode cX5_write 9 = .ok (.iastore, 1) := dk_79 (dk_at dksX5_write_0 9 rfl rfl)
theorem dX5_write_10 : decode cX5_write 10 = .ok (.aload_n 0, 1) := dk_42 (dk_at dksX5_write_0 10 rfl rfl)
theorem dX5_write_11 : decode cX5_write 11 = .ok (.dup, 1) := dk_89 (dk_at dksX5_write_0 11 rfl rfl)
theorem dX5_write_12 : decode cX5_write 12 = .ok (.getfield 533, 3) := dk_180 2 21 (dk_at dksX5_write_0 12 rfl rfl)
theorem dX5_write_15 : decode cX5_write 15 = .ok (.iconst 1, 1) := dk_4 (dk_at dksX5_write_0 15 rfl rfl)
theorem dX5_write_16 : decode cX5_write 16 = .ok (.iadd, 1) := dk_96 (dk_at dksX5_write_0 16 rfl rfl)
theorem dX5_write_17 : decode cX5_write 17 = .ok (.putfield 533, 3) := dk_181 2 21 (dk_at dksX5_write_0 17 rfl rfl)
theorem dX5_write_20 : decode cX5_write 20 = .ok (.return_, 1) := dk_177 (dk_at dksX5_write_0 20 rfl rfl)
abbrev cX5_writeName : ByteArray := prog_20_method_149_code
def yX5_writeName : MethodName := ⟨RX5, "writeName", "(J)V"⟩
def dkwX5_writeName_1 : List UInt8 := [167, 255, 236, 177]
abbrev dktX5_writeName_1 : List UInt8 := dkwX5_writeName_1 ++ []
def dkwX5_writeName_0 : List UInt8 := [3, 62, 29, 31, 184, 1, 219, 162, 0, 18, 42, 31, 29, 184, 1, 223, 182, 2, 24, 132, 3, 1]
abbrev dktX5_writeName_0 : List UInt8 := dkwX5_writeName_0 ++ dktX5_writeName_1
theorem dksX5_writeName_0 : cX5_writeName.data.toList.drop 0 = dktX5_writeName_0 := by decide +kernel
theorem dksX5_writeName_1 : cX5_writeName.data.toList.drop 22 = dktX5_writeName_1 := dk_seg dksX5_writeName_0 22 rfl rfl
theorem dX5_writeName_0 : decode cX5_writeName 0 = .ok (.iconst 0, 1) := dk_3 (dk_at dksX5_writeName_0 0 rfl rfl)
theorem dX5_writeName_1 : decode cX5_writeName 1 = .ok (.istore_n 3, 1) := dk_62 (dk_at dksX5_writeName_0 1 rfl rfl)
theorem dX5_writeName_2 : decode cX5_writeName 2 = .ok (.iload_n 3, 1) := dk_29 (dk_at dksX5_writeName_0 2 rfl rfl)
theorem dX5_writeName_3 : decode cX5_writeName 3 = .ok (.lload_n 1, 1) := dk_31 (dk_at dksX5_writeName_0 3 rfl rfl)
theorem dX5_writeName_4 : decode cX5_writeName 4 = .ok (.invokestatic 475, 3) := dk_184 1 219 (dk_at dksX5_writeName_0 4 rfl rfl)
theorem dX5_writeName_7 : decode cX5_writeName 7 = .ok (.if_icmp .ge 18, 3) := dk_162 0 18 (dk_at dksX5_writeName_0 7 rfl rfl)
theorem dX5_writeName_10 : decode cX5_writeName 10 = .ok (.aload_n 0, 1) := dk_42 (dk_at dksX5_writeName_0 10 rfl rfl)
theorem dX5_writeName_11 : decode cX5_writeName 11 = .ok (.lload_n 1, 1) := dk_31 (dk_at dksX5_writeName_0 11 rfl rfl)
theorem dX5_writeName_12 : decode cX5_writeName 12 = .ok (.iload_n 3, 1) := dk_29 (dk_at dksX5_writeName_0 12 rfl rfl)
theorem dX5_writeName_13 : decode cX5_writeName 13 = .ok (.invokestatic 479, 3) := dk_184 1 223 (dk_at dksX5_writeName_0 13 rfl rfl)
theorem dX5_writeName_16 : decode cX5_writeName 16 = .ok (.invokevirtual 536, 3) := dk_182 2 24 (dk_at dksX5_writeName_0 16 rfl rfl)
theorem dX5_writeName_19 : decode cX5_writeName 19 = .ok (.iinc 3 1, 3) := dk_132 3 1 (dk_at dksX5_writeName_0 19 rfl rfl)
theorem dX5_writeName_22 : decode cX5_writeName 22 = .ok (.goto (-20), 3) := dk_167 255 236 (dk_at dksX5_writeName_1 0 rfl rfl)
theorem dX5_writeName_25 : decode cX5_writeName 25 = .ok (.return_, 1) := dk_177 (dk_at dksX5_writeName_1 3 rfl rfl)
abbrev cX5_writeLine : ByteArray := prog_20_method_151_code
def yX5_writeLine : MethodName := ⟨RX5, "writeLine", "(I)V"⟩
def dkwX5_writeLine_5 : List UInt8 := [182, 2, 27, 177]
abbrev dktX5_writeLine_5 : List UInt8 := dkwX5_writeLine_5 ++ []
def dkwX5_writeLine_4 : List UInt8 := [42, 19, 2, 39, 182, 2, 35, 42, 42, 42, 28, 42, 180, 0, 7, 16, 6, 46, 182, 0, 181, 182, 0, 166]
abbrev dktX5_writeLine_4 : List UInt8 := dkwX5_writeLine_4 ++ dktX5_writeLine_5
def dkwX5_writeLine_3 : List UInt8 := [42, 180, 0, 7, 16, 6, 46, 182, 0, 155, 182, 2, 27, 42, 180, 0, 44, 27, 46, 4, 160, 0, 4, 177]
abbrev dktX5_writeLine_3 : List UInt8 := dkwX5_writeLine_3 ++ dktX5_writeLine_4
def dkwX5_writeLine_2 : List UInt8 := [182, 2, 24, 42, 42, 28, 4, 182, 0, 140, 182, 2, 30, 177, 42, 19, 2, 33, 182, 2, 35, 42, 42, 28]
abbrev dktX5_writeLine_2 : List UInt8 := dkwX5_writeLine_2 ++ dktX5_writeLine_3
def dkwX5_writeLine_1 : List UInt8 := [154, 0, 36, 42, 16, 32, 182, 2, 24, 42, 42, 28, 3, 182, 0, 140, 182, 2, 30, 42, 16, 44]
abbrev dktX5_writeLine_1 : List UInt8 := dkwX5_writeLine_1 ++ dktX5_writeLine_2
def dkwX5_writeLine_0 : List UInt8 := [42, 180, 0, 47, 27, 46, 61, 42, 42, 180, 0, 50, 27, 47, 182, 2, 27, 42, 180, 0, 44, 27, 46]
abbrev dktX5_writeLine_0 : List UInt8 := dkwX5_writeLine_0 ++ dktX5_writeLine_1
theorem dksX5_writeLine_0 : cX5_writeLine.data.toList.drop 0 = dktX5_writeLine_0 := by decide +kernel
theorem dksX5_writeLine_1 : cX5_writeLine.data.toList.drop 23 = dktX5_writeLine_1 := dk_seg dksX5_writeLine_0 23 rfl rfl
theorem dksX5_writeLine_2 : cX5_writeLine.data.toList.drop 45 = dktX5_writeLine_2 := dk_seg dksX5_writeLine_1 22 rfl rfl
theorem dksX5_writeLine_3 : cX5_writeLine.data.toList.drop 69 = dktX5_writeLine_3 := dk_seg dksX5_writeLine_2 24 rfl rfl
theorem dksX5_writeLine_4 : cX5_writeLine.data.toList.drop 93 = dktX5_writeLine_4 := dk_seg dksX5_writeLine_3 24 rfl rfl
theorem dksX5_writeLine_5 : cX5_writeLine.data.toList.drop 117 = dktX5_writeLine_5 := dk_seg dksX5_writeLine_4 24 rfl rfl
theorem dX5_writeLine_0 : decode cX5_writeLine 0 = .ok (.aload_n 0, 1) := dk_42 (dk_at dksX5_writeLine_0 0 rfl rfl)
theorem dX5_writeLine_1 : decode cX5_writeLine 1 = .ok (.getfield 47, 3) := dk_180 0 47 (dk_at dksX5_writeLine_0 1 rfl rfl)
theorem dX5_writeLine_4 : decode cX5_writeLine 4 = .ok (.iload_n 1, 1) := dk_27 (dk_at dksX5_writeLine_0 4 rfl rfl)
theorem dX5_writeLine_5 : decode cX5_writeLine 5 = .ok (.iaload, 1) := dk_46 (dk_at dksX5_writeLine_0 5 rfl rfl)
theorem dX5_writeLine_6 : decode cX5_writeLine 6 = .ok (.istore_n 2, 1) := dk_61 (dk_at dksX5_writeLine_0 6 rfl rfl)
theorem dX5_writeLine_7 : decode cX5_writeLine 7 = .ok (.aload_n 0, 1) := dk_42 (dk_at dksX5_writeLine_0 7 rfl rfl)
theorem dX5_writeLine_8 : decode cX5_writeLine 8 = .ok (.aload_n 0, 1) := dk_42 (dk_at dksX5_writeLine_0 8 rfl rfl)
theorem dX5_writeLine_9 : decode cX5_writeLine 9 = .ok (.getfield 50, 3) := dk_180 0 50 (dk_at dksX5_writeLine_0 9 rfl rfl)
theorem dX5_writeLine_12 : decode cX5_writeLine 12 = .ok (.iload_n 1, 1) := dk_27 (dk_at dksX5_writeLine_0 12 rfl rfl)
theorem dX5_writeLine_13 : decode cX5_writeLine 13 = .ok (.laload, 1) := dk_47 (dk_at dksX5_writeLine_0 13 rfl rfl)
theorem dX5_writeLine_14 : decode cX5_writeLine 14 = .ok (.invokevirtual 539, 3) := dk_182 2 27 (dk_at dksX5_writeLine_0 14 rfl rfl)
theorem dX5_writeLine_17 : decode cX5_writeLine 17 = .ok (.aload_n 0, 1) := dk_42 (dk_at dksX5_writeLine_0 17 rfl rfl)
theorem dX5_writeLine_18 : decode cX5_writeLine 18 = .ok (.getfield 44, 3) := dk_180 0 44 (dk_at dksX5_writeLine_0 18 rfl rfl)
theorem dX5_writeLine_21 : decode cX5_writeLine 21 = .ok (.iload_n 1, 1) := dk_27 (dk_at dksX5_writeLine_0 21 rfl rfl)
theorem dX5_writeLine_22 : decode cX5_writeLine 22 = .ok (.iaload, 1) := dk_46 (dk_at dksX5_writeLine_0 22 rfl rfl)
theorem dX5_writeLine_23 : decode cX5_writeLine 23 = .ok (.ifCond .ne 36, 3) := dk_154 0 36 (dk_at dksX5_writeLine_1 0 rfl rfl)
theorem dX5_writeLine_26 : decode cX5_writeLine 26 = .ok (.aload_n 0, 1) := dk_42 (dk_at dksX5_writeLine_1 3 rfl rfl)
theorem dX5_writeLine_27 : decode cX5_writeLine 27 = .ok (.bipush 32, 2) := dk_16 32 (dk_at dksX5_writeLine_1 4 rfl rfl)
theorem dX5_writeLine_29 : decode cX5_writeLine 29 = .ok (.invokevirtual 536, 3) := dk_182 2 24 (dk_at dksX5_writeLine_1 6 rfl rfl)
theorem dX5_writeLine_32 : decode cX5_writeLine 32 = .ok (.aload_n 0, 1) := dk_42 (dk_at dksX5_writeLine_1 9 rfl rfl)
theorem dX5_writeLine_33 : decode cX5_writeLine 33 = .ok (.aload_n 0, 1) := dk_42 (dk_at dksX5_writeLine_1 10 rfl rfl)
theorem dX5_writeLine_34 : decode cX5_writeLine 34 = .ok (.iload_n 2, 1) := dk_28 (dk_at dksX5_writeLine_1 11 rfl rfl)
theorem dX5_writeLine_35 : decode cX5_writeLine 35 = .ok (.iconst 0, 1) := dk_3 (dk_at dksX5_writeLine_1 12 rfl rfl)
theorem dX5_writeLine_36 : decode cX5_writeLine 36 = .ok (.invokevirtual 140, 3) := dk_182 0 140 (dk_at dksX5_writeLine_1 13 rfl rfl)
theorem dX5_writeLine_39 : decode cX5_writeLine 39 = .ok (.invokevirtual 542, 3) := dk_182 2 30 (dk_at dksX5_writeLine_1 16 rfl rfl)
theorem dX5_writeLine_42 : decode cX5_writeLine 42 = .ok (.aload_n 0, 1) := dk_42 (dk_at dksX5_writeLine_1 19 rfl rfl)
theorem dX5_writeLine_43 : decode cX5_writeLine 43 = .ok (.bipush 44, 2) := dk_16 44 (dk_at dksX5_writeLine_1 20 rfl rfl)
theorem dX5_writeLine_45 : decode cX5_writeLine 45 = .ok (.invokevirtual 536, 3) := dk_182 2 24 (dk_at dksX5_writeLine_2 0 rfl rfl)
theorem dX5_writeLine_48 : decode cX5_writeLine 48 = .ok (.aload_n 0, 1) := dk_42 (dk_at dksX5_writeLine_2 3 rfl rfl)
theorem dX5_writeLine_49 : decode cX5_writeLine 49 = .ok (.aload_n 0, 1) := dk_42 (dk_at dksX5_writeLine_2 4 rfl rfl)
theorem dX5_writeLine_50 : decode cX5_writeLine 50 = .ok (.iload_n 2, 1) := dk_28 (dk_at dksX5_writeLine_2 5 rfl rfl)
theorem dX5_writeLine_51 : decode cX5_writeLine 51 = .ok (.iconst 1, 1) := dk_4 (dk_at dksX5_writeLine_2 6 rfl rfl)
theorem dX5_writeLine_52 : decode cX5_writeLine 52 = .ok (.invokevirtual 140, 3) := dk_182 0 140 (dk_at dksX5_writeLine_2 7 rfl rfl)
theorem dX5_writeLine_55 : decode cX5_writeLine 55 = .ok (.invokevirtual 542, 3) := dk_182 2 30 (dk_at dksX5_writeLine_2 10 rfl rfl)
theorem dX5_writeLine_58 : decode cX5_writeLine 58 = .ok (.return_, 1) := dk_177 (dk_at dksX5_writeLine_2 13 rfl rfl)
theorem dX5_writeLine_59 : decode cX5_writeLine 59 = .ok (.aload_n 0, 1) := dk_42 (dk_at dksX5_writeLine_2 14 rfl rfl)
theorem dX5_writeLine_60 : decode cX5_writeLine 60 = .ok (.ldc_w 545, 3) := dk_19 2 33 (dk_at dksX5_writeLine_2 15 rfl rfl)
theorem dX5_writeLine_63 : decode cX5_writeLine 63 = .ok (.invokevirtual 547, 3) := dk_182 2 35 (dk_at dksX5_writeLine_2 18 rfl rfl)
theorem dX5_writeLine_66 : decode cX5_writeLine 66 = .ok (.aload_n 0, 1) := dk_42 (dk_at dksX5_writeLine_2 21 rfl rfl)
theorem dX5_writeLine_67 : decode cX5_writeLine 67 = .ok (.aload_n 0, 1) := dk_42 (dk_at dksX5_writeLine_2 22 rfl rfl)
theorem dX5_writeLine_68 : decode cX5_writeLine 68 = .ok (.iload_n 2, 1) := dk_28 (dk_at dksX5_writeLine_2 23 rfl rfl)
theorem dX5_writeLine_69 : decode cX5_writeLine 69 = .ok (.aload_n 0, 1) := dk_42 (dk_at dksX5_writeLine_3 0 rfl rfl)
theorem dX5_writeLine_70 : decode cX5_writeLine 70 = .ok (.getfield 7, 3) := dk_180 0 7 (dk_at dksX5_writeLine_3 1 rfl rfl)
theorem dX5_writeLine_73 : decode cX5_writeLine 73 = .ok (.bipush 6, 2) := dk_16 6 (dk_at dksX5_writeLine_3 4 rfl rfl)
theorem dX5_writeLine_75 : decode cX5_writeLine 75 = .ok (.iaload, 1) := dk_46 (dk_at dksX5_writeLine_3 6 rfl rfl)
theorem dX5_writeLine_76 : decode cX5_writeLine 76 = .ok (.invokevirtual 155, 3) := dk_182 0 155 (dk_at dksX5_writeLine_3 7 rfl rfl)
theorem dX5_writeLine_79 : decode cX5_writeLine 79 = .ok (.invokevirtual 539, 3) := dk_182 2 27 (dk_at dksX5_writeLine_3 10 rfl rfl)
theorem dX5_writeLine_82 : decode cX5_writeLine 82 = .ok (.aload_n 0, 1) := dk_42 (dk_at dksX5_writeLine_3 13 rfl rfl)
theorem dX5_writeLine_83 : decode cX5_writeLine 83 = .ok (.getfield 44, 3) := dk_180 0 44 (dk_at dksX5_writeLine_3 14 rfl rfl)
theorem dX5_writeLine_86 : decode cX5_writeLine 86 = .ok (.iload_n 1, 1) := dk_27 (dk_at dksX5_writeLine_3 17 rfl rfl)
theorem dX5_writeLine_87 : decode cX5_writeLine 87 = .ok (.iaload, 1) := dk_46 (dk_at dksX5_writeLine_3 18 rfl rfl)
theorem dX5_writeLine_88 : decode cX5_writeLine 88 = .ok (.iconst 1, 1) := dk_4 (dk_at dksX5_writeLine_3 19 rfl rfl)
theorem dX5_writeLine_89 : decode cX5_writeLine 89 = .ok (.if_icmp .ne 4, 3) := dk_160 0 4 (dk_at dksX5_writeLine_3 20 rfl rfl)
theorem dX5_writeLine_92 : decode cX5_writeLine 92 = .ok (.return_, 1) := dk_177 (dk_at dksX5_writeLine_3 23 rfl rfl)
theorem dX5_writeLine_93 : decode cX5_writeLine 93 = .ok (.aload_n 0, 1) := dk_42 (dk_at dksX5_writeLine_4 0 rfl rfl)
theorem dX5_writeLine_94 : decode cX5_writeLine 94 = .ok (.ldc_w 551, 3) := dk_19 2 39 (dk_at dksX5_writeLine_4 1 rfl rfl)
theorem dX5_writeLine_97 : decode cX5_writeLine 97 = .ok (.invokevirtual 547, 3) := dk_182 2 35 (dk_at dksX5_writeLine_4 4 rfl rfl)
theorem dX5_writeLine_100 : decode cX5_writeLine 100 = .ok (.aload_n 0, 1) := dk_42 (dk_at dksX5_writeLine_4 7 rfl rfl)
theorem dX5_writeLine_101 : decode cX5_writeLine 101 = .ok (.aload_n 0, 1) := dk_42 (dk_at dksX5_writeLine_4 8 rfl rfl)
theorem dX5_writeLine_102 : decode cX5_writeLine 102 = .ok (.aload_n 0, 1) := dk_42 (dk_at dksX5_writeLine_4 9 rfl rfl)
theorem dX5_writeLine_103 : decode cX5_writeLine 103 = .ok (.iload_n 2, 1) := dk_28 (dk_at dksX5_writeLine_4 10 rfl rfl)
theorem dX5_writeLine_104 : decode cX5_writeLine 104 = .ok (.aload_n 0, 1) := dk_42 (dk_at dksX5_writeLine_4 11 rfl rfl)
theorem dX5_writeLine_105 : decode cX5_writeLine 105 = .ok (.getfield 7, 3) := dk_180 0 7 (dk_at dksX5_writeLine_4 12 rfl rfl)
theorem dX5_writeLine_108 : decode cX5_writeLine 108 = .ok (.bipush 6, 2) := dk_16 6 (dk_at dksX5_writeLine_4 15 rfl rfl)
theorem dX5_writeLine_110 : decode cX5_writeLine 110 = .ok (.iaload, 1) := dk_46 (dk_at dksX5_writeLine_4 17 rfl rfl)
theorem dX5_writeLine_111 : decode cX5_writeLine 111 = .ok (.invokevirtual 181, 3) := dk_182 0 181 (dk_at dksX5_writeLine_4 18 rfl rfl)
theorem dX5_writeLine_114 : decode cX5_writeLine 114 = .ok (.invokevirtual 166, 3) := dk_182 0 166 (dk_at dksX5_writeLine_4 21 rfl rfl)
theorem dX5_writeLine_117 : decode cX5_writeLine 117 = .ok (.invokevirtual 539, 3) := dk_182 2 27 (dk_at dksX5_writeLine_5 0 rfl rfl)
theorem dX5_writeLine_120 : decode cX5_writeLine 120 = .ok (.return_, 1) := dk_177 (dk_at dksX5_writeLine_5 3 rfl rfl)
abbrev cX5_writeNumber : ByteArray := prog_20_method_148_code
def yX5_writeNumber : MethodName := ⟨RX5, "writeNumber", "(I)V"⟩
def dkwX5_writeNumber_1 : List UInt8 := [96, 182, 2, 24, 177]
abbrev dktX5_writeNumber_1 : List UInt8 := dkwX5_writeNumber_1 ++ []
def dkwX5_writeNumber_0 : List UInt8 := [27, 16, 9, 164, 0, 14, 42, 16, 48, 27, 16, 10, 108, 96, 182, 2, 24, 42, 16, 48, 27, 16, 10, 112]
abbrev dktX5_writeNumber_0 : List UInt8 := dkwX5_writeNumber_0 ++ dktX5_writeNumber_1
theorem dksX5_writeNumber_0 : cX5_writeNumber.data.toList.drop 0 = dktX5_writeNumber_0 := by decide +kernel
theorem dksX5_writeNumber_1 : cX5_writeNumber.data.toList.drop 24 = dktX5_writeNumber_1 := dk_seg dksX5_writeNumber_0 24 rfl rfl
theorem dX5_writeNumber_0 : decode cX5_writeNumber 0 = .ok (.iload_n 1, 1) := dk_27 (dk_at dksX5_writeNumber_0 0 rfl rfl)
theorem dX5_writeNumber_1 : decode cX5_writeNumber 1 = .ok (.bipush 9, 2) := dk_16 9 (dk_at dksX5_writeNumber_0 1 rfl rfl)
theorem dX5_writeNumber_3 : decode cX5_writeNumber 3 = .ok (.if_icmp .le 14, 3) := dk_164 0 14 (dk_at dksX5_writeNumber_0 3 rfl rfl)
theorem dX5_writeNumber_6 : decode cX5_writeNumber 6 = .ok (.aload_n 0, 1) := dk_42 (dk_at dksX5_writeNumber_0 6 rfl rfl)
theorem dX5_writeNumber_7 : decode cX5_writeNumber 7 = .ok (.bipush 48, 2) := dk_16 48 (dk_at dksX5_writeNumber_0 7 rfl rfl)
theorem dX5_writeNumber_9 : decode cX5_writeNumber 9 = .ok (.iload_n 1, 1) := dk_27 (dk_at dksX5_writeNumber_0 9 rfl rfl)
theorem dX5_writeNumber_10 : decode cX5_writeNumber 10 = .ok (.bipush 10, 2) := dk_16 10 (dk_at dksX5_writeNumber_0 10 rfl rfl)
theorem dX5_writeNumber_12 : decode cX5_writeNumber 12 = .ok (.idiv, 1) := dk_108 (dk_at dksX5_writeNumber_0 12 rfl rfl)
theorem dX5_writeNumber_13 : decode cX5_writeNumber 13 = .ok (.iadd, 1) := dk_96 (dk_at dksX5_writeNumber_0 13 rfl rfl)
theorem dX5_writeNumber_14 : decode cX5_writeNumber 14 = .ok (.invokevirtual 536, 3) := dk_182 2 24 (dk_at dksX5_writeNumber_0 14 rfl rfl)
theorem dX5_writeNumber_17 : decode cX5_writeNumber 17 = .ok (.aload_n 0, 1) := dk_42 (dk_at dksX5_writeNumber_0 17 rfl rfl)
theorem dX5_writeNumber_18 : decode cX5_writeNumber 18 = .ok (.bipush 48, 2) := dk_16 48 (dk_at dksX5_writeNumber_0 18 rfl rfl)
theorem dX5_writeNumber_20 : decode cX5_writeNumber 20 = .ok (.iload_n 1, 1) := dk_27 (dk_at dksX5_writeNumber_0 20 rfl rfl)
theorem dX5_writeNumber_21 : decode cX5_writeNumber 21 = .ok (.bipush 10, 2) := dk_16 10 (dk_at dksX5_writeNumber_0 21 rfl rfl)
theorem dX5_writeNumber_23 : decode cX5_writeNumber 23 = .ok (.irem, 1) := dk_112 (dk_at dksX5_writeNumber_0 23 rfl rfl)
theorem dX5_writeNumber_24 : decode cX5_writeNumber 24 = .ok (.iadd, 1) := dk_96 (dk_at dksX5_writeNumber_1 0 rfl rfl)
theorem dX5_writeNumber_25 : decode cX5_writeNumber 25 = .ok (.invokevirtual 536, 3) := dk_182 2 24 (dk_at dksX5_writeNumber_1 1 rfl rfl)
theorem dX5_writeNumber_28 : decode cX5_writeNumber 28 = .ok (.return_, 1) := dk_177 (dk_at dksX5_writeNumber_1 4 rfl rfl)
abbrev cX5_writeWord : ByteArray := prog_20_method_150_code
def yX5_writeWord : MethodName := ⟨RX5, "writeWord", "(Ljava/lang/String;)V"⟩
def dkwX5_writeWord_1 : List UInt8 := [167, 255, 236, 177]
abbrev dktX5_writeWord_1 : List UInt8 := dkwX5_writeWord_1 ++ []
def dkwX5_writeWord_0 : List UInt8 := [3, 61, 28, 43, 182, 1, 36, 162, 0, 18, 42, 43, 28, 182, 1, 42, 182, 2, 24, 132, 2, 1]
abbrev dktX5_writeWord_0 : List UInt8 := dkwX5_writeWord_0 ++ dktX5_writeWord_1
theorem dksX5_writeWord_0 : cX5_writeWord.data.toList.drop 0 = dktX5_writeWord_0 := by decide +kernel
theorem dksX5_writeWord_1 : cX5_writeWord.data.toList.drop 22 = dktX5_writeWord_1 := dk_seg dksX5_writeWord_0 22 rfl rfl
theorem dX5_writeWord_0 : decode cX5_writeWord 0 = .ok (.iconst 0, 1) := dk_3 (dk_at dksX5_writeWord_0 0 rfl rfl)
theorem dX5_writeWord_1 : decode cX5_writeWord 1 = .ok (.istore_n 2, 1) := dk_61 (dk_at dksX5_writeWord_0 1 rfl rfl)
theorem dX5_writeWord_2 : decode cX5_writeWord 2 = .ok (.iload_n 2, 1) := dk_28 (dk_at dksX5_writeWord_0 2 rfl rfl)
theorem dX5_writeWord_3 : decode cX5_writeWord 3 = .ok (.aload_n 1, 1) := dk_43 (dk_at dksX5_writeWord_0 3 rfl rfl)
theorem dX5_writeWord_4 : decode cX5_writeWord 4 = .ok (.invokevirtual 292, 3) := dk_182 1 36 (dk_at dksX5_writeWord_0 4 rfl rfl)
theorem dX5_writeWord_7 : decode cX5_writeWord 7 = .ok (.if_icmp .ge 18, 3) := dk_162 0 18 (dk_at dksX5_writeWord_0 7 rfl rfl)
theorem dX5_writeWord_10 : decode cX5_writeWord 10 = .ok (.aload_n 0, 1) := dk_42 (dk_at dksX5_writeWord_0 10 rfl rfl)
theorem dX5_writeWord_11 : decode cX5_writeWord 11 = .ok (.aload_n 1, 1) := dk_43 (dk_at dksX5_writeWord_0 11 rfl rfl)
theorem dX5_writeWord_12 : decode cX5_writeWord 12 = .ok (.iload_n 2, 1) := dk_28 (dk_at dksX5_writeWord_0 12 rfl rfl)
theorem dX5_writeWord_13 : decode cX5_writeWord 13 = .ok (.invokevirtual 298, 3) := dk_182 1 42 (dk_at dksX5_writeWord_0 13 rfl rfl)
theorem dX5_writeWord_16 : decode cX5_writeWord 16 = .ok (.invokevirtual 536, 3) := dk_182 2 24 (dk_at dksX5_writeWord_0 16 rfl rfl)
theorem dX5_writeWord_19 : decode cX5_writeWord 19 = .ok (.iinc 2 1, 3) := dk_132 2 1 (dk_at dksX5_writeWord_0 19 rfl rfl)
theorem dX5_writeWord_22 : decode cX5_writeWord 22 = .ok (.goto (-20), 3) := dk_167 255 236 (dk_at dksX5_writeWord_1 0 rfl rfl)
theorem dX5_writeWord_25 : decode cX5_writeWord 25 = .ok (.return_, 1) := dk_177 (dk_at dksX5_writeWord_1 3 rfl rfl)
abbrev cX5_printRow : ByteArray := prog_20_method_154_code
def yX5_printRow : MethodName := ⟨RX5, "printRow", "(II)I"⟩
def dkwX5_printRow_3 : List UInt8 := [182, 0, 143, 96, 182, 2, 24, 132, 3, 1, 167, 255, 229, 42, 180, 2, 21, 172]
abbrev dktX5_printRow_3 : List UInt8 := dkwX5_printRow_3 ++ []
def dkwX5_printRow_2 : List UInt8 := [181, 2, 21, 3, 62, 29, 42, 180, 0, 7, 3, 46, 162, 0, 23, 42, 16, 97, 42, 29, 27, 28]
abbrev dktX5_printRow_2 : List UInt8 := dkwX5_printRow_2 ++ dktX5_printRow_3
def dkwX5_printRow_1 : List UInt8 := [167, 0, 4, 3, 4, 182, 0, 118, 154, 0, 12, 42, 28, 5, 182, 1, 216, 153, 0, 5, 3, 172, 42, 3]
abbrev dktX5_printRow_1 : List UInt8 := dkwX5_printRow_1 ++ dktX5_printRow_2
def dkwX5_printRow_0 : List UInt8 := [42, 182, 0, 208, 42, 27, 3, 42, 180, 0, 7, 4, 46, 4, 100, 184, 0, 103, 154, 0, 7, 4]
abbrev dktX5_printRow_0 : List UInt8 := dkwX5_printRow_0 ++ dktX5_printRow_1
theorem dksX5_printRow_0 : cX5_printRow.data.toList.drop 0 = dktX5_printRow_0 := by decide +kernel
theorem dksX5_printRow_1 : cX5_printRow.data.toList.drop 22 = dktX5_printRow_1 := dk_seg dksX5_printRow_0 22 rfl rfl
theorem dksX5_printRow_2 : cX5_printRow.data.toList.drop 46 = dktX5_printRow_2 := dk_seg dksX5_printRow_1 24 rfl rfl
theorem dksX5_printRow_3 : cX5_printRow.data.toList.drop 68 = dktX5_printRow_3 := dk_seg dksX5_printRow_2 22 rfl rfl
theorem dX5_printRow_0 : decode cX5_printRow 0 = .ok (.aload_n 0, 1) := dk_42 (dk_at dksX5_printRow_0 0 rfl rfl)
theorem dX5_printRow_1 : decode cX5_printRow 1 = .ok (.invokevirtual 208, 3) := dk_182 0 208 (dk_at dksX5_printRow_0 1 rfl rfl)
theorem dX5_printRow_4 : decode cX5_printRow 4 = .ok (.aload_n 0, 1) := dk_42 (dk_at dksX5_printRow_0 4 rfl rfl)
theorem dX5_printRow_5 : decode cX5_printRow 5 = .ok (.iload_n 1, 1) := dk_27 (dk_at dksX5_printRow_0 5 rfl rfl)
theorem dX5_printRow_6 : decode cX5_printRow 6 = .ok (.iconst 0, 1) := dk_3 (dk_at dksX5_printRow_0 6 rfl rfl)
theorem dX5_printRow_7 : decode cX5_printRow 7 = .ok (.aload_n 0, 1) := dk_42 (dk_at dksX5_printRow_0 7 rfl rfl)
theorem dX5_printRow_8 : decode cX5_printRow 8 = .ok (.getfield 7, 3) := dk_180 0 7 (dk_at dksX5_printRow_0 8 rfl rfl)
theorem dX5_printRow_11 : decode cX5_printRow 11 = .ok (.iconst 1, 1) := dk_4 (dk_at dksX5_printRow_0 11 rfl rfl)
theorem dX5_printRow_12 : decode cX5_printRow 12 = .ok (.iaload, 1) := dk_46 (dk_at dksX5_printRow_0 12 rfl rfl)
theorem dX5_printRow_13 : decode cX5_printRow 13 = .ok (.iconst 1, 1) := dk_4 (dk_at dksX5_printRow_0 13 rfl rfl)
theorem dX5_printRow_14 : decode cX5_printRow 14 = .ok (.isub, 1) := dk_100 (dk_at dksX5_printRow_0 14 rfl rfl)
theorem dX5_printRow_15 : decode cX5_printRow 15 = .ok (.invokestatic 103, 3) := dk_184 0 103 (dk_at dksX5_printRow_0 15 rfl rfl)
theorem dX5_printRow_18 : decode cX5_printRow 18 = .ok (.ifCond .ne 7, 3) := dk_154 0 7 (dk_at dksX5_printRow_0 18 rfl rfl)
theorem dX5_printRow_21 : decode cX5_printRow 21 = .ok (.iconst 1, 1) := dk_4 (dk_at dksX5_printRow_0 21 rfl rfl)
theorem dX5_printRow_22 : decode cX5_printRow 22 = .ok (.goto 4, 3) := dk_167 0 4 (dk_at dksX5_printRow_1 0 rfl rfl)
theorem dX5_printRow_25 : decode cX5_printRow 25 = .ok (.iconst 0, 1) := dk_3 (dk_at dksX5_printRow_1 3 rfl rfl)
theorem dX5_printRow_26 : decode cX5_printRow 26 = .ok (.iconst 1, 1) := dk_4 (dk_at dksX5_printRow_1 4 rfl rfl)
theorem dX5_printRow_27 : decode cX5_printRow 27 = .ok (.invokevirtual 118, 3) := dk_182 0 118 (dk_at dksX5_printRow_1 5 rfl rfl)
theorem dX5_printRow_30 : decode cX5_printRow 30 = .ok (.ifCond .ne 12, 3) := dk_154 0 12 (dk_at dksX5_printRow_1 8 rfl rfl)
theorem dX5_printRow_33 : decode cX5_printRow 33 = .ok (.aload_n 0, 1) := dk_42 (dk_at dksX5_printRow_1 11 rfl rfl)
theorem dX5_printRow_34 : decode cX5_printRow 34 = .ok (.iload_n 2, 1) := dk_28 (dk_at dksX5_printRow_1 12 rfl rfl)
theorem dX5_printRow_35 : decode cX5_printRow 35 = .ok (.iconst 2, 1) := dk_5 (dk_at dksX5_printRow_1 13 rfl rfl)
theorem dX5_printRow_36 : decode cX5_printRow 36 = .ok (.invokevirtual 472, 3) := dk_182 1 216 (dk_at dksX5_printRow_1 14 rfl rfl)
theorem dX5_printRow_39 : decode cX5_printRow 39 = .ok (.ifCond .eq 5, 3) := dk_153 0 5 (dk_at dksX5_printRow_1 17 rfl rfl)
theorem dX5_printRow_42 : decode cX5_printRow 42 = .ok (.iconst 0, 1) := dk_3 (dk_at dksX5_printRow_1 20 rfl rfl)
theorem dX5_printRow_43 : decode cX5_printRow 43 = .ok (.ireturn, 1) := dk_172 (dk_at dksX5_printRow_1 21 rfl rfl)
theorem dX5_printRow_44 : decode cX5_printRow 44 = .ok (.aload_n 0, 1) := dk_42 (dk_at dksX5_printRow_1 22 rfl rfl)
theorem dX5_printRow_45 : decode cX5_printRow 45 = .ok (.iconst 0, 1) := dk_3 (dk_at dksX5_printRow_1 23 rfl rfl)
theorem dX5_printRow_46 : decode cX5_printRow 46 = .ok (.putfield 533, 3) := dk_181 2 21 (dk_at dksX5_printRow_2 0 rfl rfl)
theorem dX5_printRow_49 : decode cX5_printRow 49 = .ok (.iconst 0, 1) := dk_3 (dk_at dksX5_printRow_2 3 rfl rfl)
theorem dX5_printRow_50 : decode cX5_printRow 50 = .ok (.istore_n 3, 1) := dk_62 (dk_at dksX5_printRow_2 4 rfl rfl)
theorem dX5_printRow_51 : decode cX5_printRow 51 = .ok (.iload_n 3, 1) := dk_29 (dk_at dksX5_printRow_2 5 rfl rfl)
theorem dX5_printRow_52 : decode cX5_printRow 52 = .ok (.aload_n 0, 1) := dk_42 (dk_at dksX5_printRow_2 6 rfl rfl)
theorem dX5_printRow_53 : decode cX5_printRow 53 = .ok (.getfield 7, 3) := dk_180 0 7 (dk_at dksX5_printRow_2 7 rfl rfl)
theorem dX5_printRow_56 : decode cX5_printRow 56 = .ok (.iconst 0, 1) := dk_3 (dk_at dksX5_printRow_2 10 rfl rfl)
theorem dX5_printRow_57 : decode cX5_printRow 57 = .ok (.iaload, 1) := dk_46 (dk_at dksX5_printRow_2 11 rfl rfl)
theorem dX5_printRow_58 : decode cX5_printRow 58 = .ok (.if_icmp .ge 23, 3) := dk_162 0 23 (dk_at dksX5_printRow_2 12 rfl rfl)
theorem dX5_printRow_61 : decode cX5_printRow 61 = .ok (.aload_n 0, 1) := dk_42 (dk_at dksX5_printRow_2 15 rfl rfl)
theorem dX5_printRow_62 : decode cX5_printRow 62 = .ok (.bipush 97, 2) := dk_16 97 (dk_at dksX5_printRow_2 16 rfl rfl)
theorem dX5_printRow_64 : decode cX5_printRow 64 = .ok (.aload_n 0, 1) := dk_42 (dk_at dksX5_printRow_2 18 rfl rfl)
theorem dX5_printRow_65 : decode cX5_printRow 65 = .ok (.iload_n 3, 1) := dk_29 (dk_at dksX5_printRow_2 19 rfl rfl)
theorem dX5_printRow_66 : decode cX5_printRow 66 = .ok (.iload_n 1, 1) := dk_27 (dk_at dksX5_printRow_2 20 rfl rfl)
theorem dX5_printRow_67 : decode cX5_printRow 67 = .ok (.iload_n 2, 1) := dk_28 (dk_at dksX5_printRow_2 21 rfl rfl)
theorem dX5_printRow_68 : decode cX5_printRow 68 = .ok (.invokevirtual 143, 3) := dk_182 0 143 (dk_at dksX5_printRow_3 0 rfl rfl)
theorem dX5_printRow_71 : decode cX5_printRow 71 = .ok (.iadd, 1) := dk_96 (dk_at dksX5_printRow_3 3 rfl rfl)
theorem dX5_printRow_72 : decode cX5_printRow 72 = .ok (.invokevirtual 536, 3) := dk_182 2 24 (dk_at dksX5_printRow_3 4 rfl rfl)
theorem dX5_printRow_75 : decode cX5_printRow 75 = .ok (.iinc 3 1, 3) := dk_132 3 1 (dk_at dksX5_printRow_3 7 rfl rfl)
theorem dX5_printRow_78 : decode cX5_printRow 78 = .ok (.goto (-27), 3) := dk_167 255 229 (dk_at dksX5_printRow_3 10 rfl rfl)
theorem dX5_printRow_81 : decode cX5_printRow 81 = .ok (.aload_n 0, 1) := dk_42 (dk_at dksX5_printRow_3 13 rfl rfl)
theorem dX5_printRow_82 : decode cX5_printRow 82 = .ok (.getfield 533, 3) := dk_180 2 21 (dk_at dksX5_printRow_3 14 rfl rfl)
theorem dX5_printRow_85 : decode cX5_printRow 85 = .ok (.ireturn, 1) := dk_172 (dk_at dksX5_printRow_3 17 rfl rfl)
abbrev cX5_outputByte : ByteArray := prog_20_method_155_code
def yX5_outputByte : MethodName := ⟨RX5, "outputByte", "(I)I"⟩
def dkwX5_outputByte_1 : List UInt8 := [46, 167, 0, 4, 2, 172]
abbrev dktX5_outputByte_1 : List UInt8 := dkwX5_outputByte_1 ++ []
def dkwX5_outputByte_0 : List UInt8 := [42, 3, 181, 0, 100, 27, 3, 42, 180, 2, 21, 4, 100, 184, 0, 103, 153, 0, 12, 42, 180, 0, 91, 27]
abbrev dktX5_outputByte_0 : List UInt8 := dkwX5_outputByte_0 ++ dktX5_outputByte_1
theorem dksX5_outputByte_0 : cX5_outputByte.data.toList.drop 0 = dktX5_outputByte_0 := by decide +kernel
theorem dksX5_outputByte_1 : cX5_outputByte.data.toList.drop 24 = dktX5_outputByte_1 := dk_seg dksX5_outputByte_0 24 rfl rfl
theorem dX5_outputByte_0 : decode cX5_outputByte 0 = .ok (.aload_n 0, 1) := dk_42 (dk_at dksX5_outputByte_0 0 rfl rfl)
theorem dX5_outputByte_1 : decode cX5_outputByte 1 = .ok (.iconst 0, 1) := dk_3 (dk_at dksX5_outputByte_0 1 rfl rfl)
theorem dX5_outputByte_2 : decode cX5_outputByte 2 = .ok (.putfield 100, 3) := dk_181 0 100 (dk_at dksX5_outputByte_0 2 rfl rfl)
theorem dX5_outputByte_5 : decode cX5_outputByte 5 = .ok (.iload_n 1, 1) := dk_27 (dk_at dksX5_outputByte_0 5 rfl rfl)
theorem dX5_outputByte_6 : decode cX5_outputByte 6 = .ok (.iconst 0, 1) := dk_3 (dk_at dksX5_outputByte_0 6 rfl rfl)
theorem dX5_outputByte_7 : decode cX5_outputByte 7 = .ok (.aload_n 0, 1) := dk_42 (dk_at dksX5_outputByte_0 7 rfl rfl)
theorem dX5_outputByte_8 : decode cX5_outputByte 8 = .ok (.getfield 533, 3) := dk_180 2 21 (dk_at dksX5_outputByte_0 8 rfl rfl)
theorem dX5_outputByte_11 : decode cX5_outputByte 11 = .ok (.iconst 1, 1) := dk_4 (dk_at dksX5_outputByte_0 11 rfl rfl)
theorem dX5_outputByte_12 : decode cX5_outputByte 12 = .ok (.isub, 1) := dk_100 (dk_at dksX5_outputByte_0 12 rfl rfl)
theorem dX5_outputByte_13 : decode cX5_outputByte 13 = .ok (.invokestatic 103, 3) := dk_184 0 103 (dk_at dksX5_outputByte_0 13 rfl rfl)
theorem dX5_outputByte_16 : decode cX5_outputByte 16 = .ok (.ifCond .eq 12, 3) := dk_153 0 12 (dk_at dksX5_outputByte_0 16 rfl rfl)
theorem dX5_outputByte_19 : decode cX5_outputByte 19 = .ok (.aload_n 0, 1) := dk_42 (dk_at dksX5_outputByte_0 19 rfl rfl)
theorem dX5_outputByte_20 : decode cX5_outputByte 20 = .ok (.getfield 91, 3) := dk_180 0 91 (dk_at dksX5_outputByte_0 20 rfl rfl)
theorem dX5_outputByte_23 : decode cX5_outputByte 23 = .ok (.iload_n 1, 1) := dk_27 (dk_at dksX5_outputByte_0 23 rfl rfl)
theorem dX5_outputByte_24 : decode cX5_outputByte 24 = .ok (.iaload, 1) := dk_46 (dk_at dksX5_outputByte_1 0 rfl rfl)
theorem dX5_outputByte_25 : decode cX5_outputByte 25 = .ok (.goto 4, 3) := dk_167 0 4 (dk_at dksX5_outputByte_1 1 rfl rfl)
theorem dX5_outputByte_28 : decode cX5_outputByte 28 = .ok (.iconst (-1), 1) := dk_2 (dk_at dksX5_outputByte_1 4 rfl rfl)
theorem dX5_outputByte_29 : decode cX5_outputByte 29 = .ok (.ireturn, 1) := dk_172 (dk_at dksX5_outputByte_1 5 rfl rfl)
abbrev cX5_saveState : ByteArray := prog_20_method_156_code
def yX5_saveState : MethodName := ⟨RX5, "saveState", "()I"⟩
def dkwX5_saveState_2 : List UInt8 := [16, 6, 46, 172]
abbrev dktX5_saveState_2 : List UInt8 := dkwX5_saveState_2 ++ []
def dkwX5_saveState_1 : List UInt8 := [180, 0, 22, 3, 42, 180, 0, 29, 3, 16, 48, 184, 0, 114, 42, 4, 181, 1, 149, 42, 180, 0, 7]
abbrev dktX5_saveState_1 : List UInt8 := dkwX5_saveState_1 ++ dktX5_saveState_2
def dkwX5_saveState_0 : List UInt8 := [42, 3, 181, 0, 100, 42, 180, 0, 7, 3, 42, 180, 0, 16, 3, 17, 1, 10, 184, 0, 110, 42]
abbrev dktX5_saveState_0 : List UInt8 := dkwX5_saveState_0 ++ dktX5_saveState_1
theorem dksX5_saveState_0 : cX5_saveState.data.toList.drop 0 = dktX5_saveState_0 := by decide +kernel
theorem dksX5_saveState_1 : cX5_saveState.data.toList.drop 22 = dktX5_saveState_1 := dk_seg dksX5_saveState_0 22 rfl rfl
theorem dksX5_saveState_2 : cX5_saveState.data.toList.drop 45 = dktX5_saveState_2 := dk_seg dksX5_saveState_1 23 rfl rfl
theorem dX5_saveState_0 : decode cX5_saveState 0 = .ok (.aload_n 0, 1) := dk_42 (dk_at dksX5_saveState_0 0 rfl rfl)
theorem dX5_saveState_1 : decode cX5_saveState 1 = .ok (.iconst 0, 1) := dk_3 (dk_at dksX5_saveState_0 1 rfl rfl)
theorem dX5_saveState_2 : decode cX5_saveState 2 = .ok (.putfield 100, 3) := dk_181 0 100 (dk_at dksX5_saveState_0 2 rfl rfl)
theorem dX5_saveState_5 : decode cX5_saveState 5 = .ok (.aload_n 0, 1) := dk_42 (dk_at dksX5_saveState_0 5 rfl rfl)
theorem dX5_saveState_6 : decode cX5_saveState 6 = .ok (.getfield 7, 3) := dk_180 0 7 (dk_at dksX5_saveState_0 6 rfl rfl)
theorem dX5_saveState_9 : decode cX5_saveState 9 = .ok (.iconst 0, 1) := dk_3 (dk_at dksX5_saveState_0 9 rfl rfl)
theorem dX5_saveState_10 : decode cX5_saveState 10 = .ok (.aload_n 0, 1) := dk_42 (dk_at dksX5_saveState_0 10 rfl rfl)
theorem dX5_saveState_11 : decode cX5_saveState 11 = .ok (.getfield 16, 3) := dk_180 0 16 (dk_at dksX5_saveState_0 11 rfl rfl)
theorem dX5_saveState_14 : decode cX5_saveState 14 = .ok (.iconst 0, 1) := dk_3 (dk_at dksX5_saveState_0 14 rfl rfl)
theorem dX5_saveState_15 : decode cX5_saveState 15 = .ok (.sipush 266, 3) := dk_17 1 10 (dk_at dksX5_saveState_0 15 rfl rfl)
theorem dX5_saveState_18 : decode cX5_saveState 18 = .ok (.invokestatic 110, 3) := dk_184 0 110 (dk_at dksX5_saveState_0 18 rfl rfl)
theorem dX5_saveState_21 : decode cX5_saveState 21 = .ok (.aload_n 0, 1) := dk_42 (dk_at dksX5_saveState_0 21 rfl rfl)
theorem dX5_saveState_22 : decode cX5_saveState 22 = .ok (.getfield 22, 3) := dk_180 0 22 (dk_at dksX5_saveState_1 0 rfl rfl)
theorem dX5_saveState_25 : decode cX5_saveState 25 = .ok (.iconst 0, 1) := dk_3 (dk_at dksX5_saveState_1 3 rfl rfl)
theorem dX5_saveState_26 : decode cX5_saveState 26 = .ok (.aload_n 0, 1) := dk_42 (dk_at dksX5_saveState_1 4 rfl rfl)
theorem dX5_saveState_27 : decode cX5_saveState 27 = .ok (.getfield 29, 3) := dk_180 0 29 (dk_at dksX5_saveState_1 5 rfl rfl)
theorem dX5_saveState_30 : decode cX5_saveState 30 = .ok (.iconst 0, 1) := dk_3 (dk_at dksX5_saveState_1 8 rfl rfl)
theorem dX5_saveState_31 : decode cX5_saveState 31 = .ok (.bipush 48, 2) := dk_16 48 (dk_at dksX5_saveState_1 9 rfl rfl)
theorem dX5_saveState_33 : decode cX5_saveState 33 = .ok (.invokestatic 114, 3) := dk_184 0 114 (dk_at dksX5_saveState_1 11 rfl rfl)
theorem dX5_saveState_36 : decode cX5_saveState 36 = .ok (.aload_n 0, 1) := dk_42 (dk_at dksX5_saveState_1 14 rfl rfl)
theorem dX5_saveState_37 : decode cX5_saveState 37 = .ok (.iconst 1, 1) := dk_4 (dk_at dksX5_saveState_1 15 rfl rfl)
theorem dX5_saveState_38 : decode cX5_saveState 38 = .ok (.putfield 405, 3) := dk_181 1 149 (dk_at dksX5_saveState_1 16 rfl rfl)
theorem dX5_saveState_41 : decode cX5_saveState 41 = .ok (.aload_n 0, 1) := dk_42 (dk_at dksX5_saveState_1 19 rfl rfl)
theorem dX5_saveState_42 : decode cX5_saveState 42 = .ok (.getfield 7, 3) := dk_180 0 7 (dk_at dksX5_saveState_1 20 rfl rfl)
theorem dX5_saveState_45 : decode cX5_saveState 45 = .ok (.bipush 6, 2) := dk_16 6 (dk_at dksX5_saveState_2 0 rfl rfl)
theorem dX5_saveState_47 : decode cX5_saveState 47 = .ok (.iaload, 1) := dk_46 (dk_at dksX5_saveState_2 2 rfl rfl)
theorem dX5_saveState_48 : decode cX5_saveState 48 = .ok (.ireturn, 1) := dk_172 (dk_at dksX5_saveState_2 3 rfl rfl)
abbrev cX5_restoreState : ByteArray := prog_20_method_157_code
def yX5_restoreState : MethodName := ⟨RX5, "restoreState", "()I"⟩
def dkwX5_restoreState_3 : List UInt8 := [16, 6, 46, 172]
abbrev dktX5_restoreState_3 : List UInt8 := dkwX5_restoreState_3 ++ []
def dkwX5_restoreState_2 : List UInt8 := [180, 0, 29, 3, 42, 180, 0, 22, 3, 16, 48, 184, 0, 114, 42, 3, 181, 0, 107, 42, 180, 0, 7]
abbrev dktX5_restoreState_2 : List UInt8 := dkwX5_restoreState_2 ++ dktX5_restoreState_3
def dkwX5_restoreState_1 : List UInt8 := [153, 0, 5, 3, 172, 42, 180, 0, 16, 3, 42, 180, 0, 7, 3, 17, 1, 10, 184, 0, 110, 42]
abbrev dktX5_restoreState_1 : List UInt8 := dkwX5_restoreState_1 ++ dktX5_restoreState_2
def dkwX5_restoreState_0 : List UInt8 := [42, 3, 181, 0, 100, 42, 42, 180, 1, 149, 154, 0, 7, 4, 167, 0, 4, 3, 4, 182, 0, 118]
abbrev dktX5_restoreState_0 : List UInt8 := dkwX5_restoreState_0 ++ dktX5_restoreState_1
theorem dksX5_restoreState_0 : cX5_restoreState.data.toList.drop 0 = dktX5_restoreState_0 := by decide +kernel
theorem dksX5_restoreState_1 : cX5_restoreState.data.toList.drop 22 = dktX5_restoreState_1 := dk_seg dksX5_restoreState_0 22 rfl rfl
theorem dksX5_restoreState_2 : cX5_restoreState.data.toList.drop 44 = dktX5_restoreState_2 := dk_seg dksX5_restoreState_1 22 rfl rfl
theorem dksX5_restoreState_3 : cX5_restoreState.data.toList.drop 67 = dktX5_restoreState_3 := dk_seg dksX5_restoreState_2 23 rfl rfl
theorem dX5_restoreState_0 : decode cX5_restoreState 0 = .ok (.aload_n 0, 1) := dk_42 (dk_at dksX5_restoreState_0 0 rfl rfl)
theorem dX5_restoreState_1 : decode cX5_restoreState 1 = .ok (.iconst 0, 1) := dk_3 (dk_at dksX5_restoreState_0 1 rfl rfl)
theorem dX5_restoreState_2 : decode cX5_restoreState 2 = .ok (.putfield 100, 3) := dk_181 0 100 (dk_at dksX5_restoreState_0 2 rfl rfl)
theorem dX5_restoreState_5 : decode cX5_restoreState 5 = .ok (.aload_n 0, 1) := dk_42 (dk_at dksX5_restoreState_0 5 rfl rfl)
theorem dX5_restoreState_6 : decode cX5_restoreState 6 = .ok (.aload_n 0, 1) := dk_42 (dk_at dksX5_restoreState_0 6 rfl rfl)
theorem dX5_restoreState_7 : decode cX5_restoreState 7 = .ok (.getfield 405, 3) := dk_180 1 149 (dk_at dksX5_restoreState_0 7 rfl rfl)
theorem dX5_restoreState_10 : decode cX5_restoreState 10 = .ok (.ifCond .ne 7, 3) := dk_154 0 7 (dk_at dksX5_restoreState_0 10 rfl rfl)
theorem dX5_restoreState_13 : decode cX5_restoreState 13 = .ok (.iconst 1, 1) := dk_4 (dk_at dksX5_restoreState_0 13 rfl rfl)
theorem dX5_restoreState_14 : decode cX5_restoreState 14 = .ok (.goto 4, 3) := dk_167 0 4 (dk_at dksX5_restoreState_0 14 rfl rfl)
theorem dX5_restoreState_17 : decode cX5_restoreState 17 = .ok (.iconst 0, 1) := dk_3 (dk_at dksX5_restoreState_0 17 rfl rfl)
theorem dX5_restoreState_18 : decode cX5_restoreState 18 = .ok (.iconst 1, 1) := dk_4 (dk_at dksX5_restoreState_0 18 rfl rfl)
theorem dX5_restoreState_19 : decode cX5_restoreState 19 = .ok (.invokevirtual 118, 3) := dk_182 0 118 (dk_at dksX5_restoreState_0 19 rfl rfl)
theorem dX5_restoreState_22 : decode cX5_restoreState 22 = .ok (.ifCond .eq 5, 3) := dk_153 0 5 (dk_at dksX5_restoreState_1 0 rfl rfl)
theorem dX5_restoreState_25 : decode cX5_restoreState 25 = .ok (.iconst 0, 1) := dk_3 (dk_at dksX5_restoreState_1 3 rfl rfl)
theorem dX5_restoreState_26 : decode cX5_restoreState 26 = .ok (.ireturn, 1) := dk_172 (dk_at dksX5_restoreState_1 4 rfl rfl)
theorem dX5_restoreState_27 : decode cX5_restoreState 27 = .ok (.aload_n 0, 1) := dk_42 (dk_at dksX5_restoreState_1 5 rfl rfl)
theorem dX5_restoreState_28 : decode cX5_restoreState 28 = .ok (.getfield 16, 3) := dk_180 0 16 (dk_at dksX5_restoreState_1 6 rfl rfl)
theorem dX5_restoreState_31 : decode cX5_restoreState 31 = .ok (.iconst 0, 1) := dk_3 (dk_at dksX5_restoreState_1 9 rfl rfl)
theorem dX5_restoreState_32 : decode cX5_restoreState 32 = .ok (.aload_n 0, 1) := dk_42 (dk_at dksX5_restoreState_1 10 rfl rfl)
theorem dX5_restoreState_33 : decode cX5_restoreState 33 = .ok (.getfield 7, 3) := dk_180 0 7 (dk_at dksX5_restoreState_1 11 rfl rfl)
theorem dX5_restoreState_36 : decode cX5_restoreState 36 = .ok (.iconst 0, 1) := dk_3 (dk_at dksX5_restoreState_1 14 rfl rfl)
theorem dX5_restoreState_37 : decode cX5_restoreState 37 = .ok (.sipush 266, 3) := dk_17 1 10 (dk_at dksX5_restoreState_1 15 rfl rfl)
theorem dX5_restoreState_40 : decode cX5_restoreState 40 = .ok (.invokestatic 110, 3) := dk_184 0 110 (dk_at dksX5_restoreState_1 18 rfl rfl)
theorem dX5_restoreState_43 : decode cX5_restoreState 43 = .ok (.aload_n 0, 1) := dk_42 (dk_at dksX5_restoreState_1 21 rfl rfl)
theorem dX5_restoreState_44 : decode cX5_restoreState 44 = .ok (.getfield 29, 3) := dk_180 0 29 (dk_at dksX5_restoreState_2 0 rfl rfl)
theorem dX5_restoreState_47 : decode cX5_restoreState 47 = .ok (.iconst 0, 1) := dk_3 (dk_at dksX5_restoreState_2 3 rfl rfl)
theorem dX5_restoreState_48 : decode cX5_restoreState 48 = .ok (.aload_n 0, 1) := dk_42 (dk_at dksX5_restoreState_2 4 rfl rfl)
theorem dX5_restoreState_49 : decode cX5_restoreState 49 = .ok (.getfield 22, 3) := dk_180 0 22 (dk_at dksX5_restoreState_2 5 rfl rfl)
theorem dX5_restoreState_52 : decode cX5_restoreState 52 = .ok (.iconst 0, 1) := dk_3 (dk_at dksX5_restoreState_2 8 rfl rfl)
theorem dX5_restoreState_53 : decode cX5_restoreState 53 = .ok (.bipush 48, 2) := dk_16 48 (dk_at dksX5_restoreState_2 9 rfl rfl)
theorem dX5_restoreState_55 : decode cX5_restoreState 55 = .ok (.invokestatic 114, 3) := dk_184 0 114 (dk_at dksX5_restoreState_2 11 rfl rfl)
theorem dX5_restoreState_58 : decode cX5_restoreState 58 = .ok (.aload_n 0, 1) := dk_42 (dk_at dksX5_restoreState_2 14 rfl rfl)
theorem dX5_restoreState_59 : decode cX5_restoreState 59 = .ok (.iconst 0, 1) := dk_3 (dk_at dksX5_restoreState_2 15 rfl rfl)
theorem dX5_restoreState_60 : decode cX5_restoreState 60 = .ok (.putfield 107, 3) := dk_181 0 107 (dk_at dksX5_restoreState_2 16 rfl rfl)
theorem dX5_restoreState_63 : decode cX5_restoreState 63 = .ok (.aload_n 0, 1) := dk_42 (dk_at dksX5_restoreState_2 19 rfl rfl)
theorem dX5_restoreState_64 : decode cX5_restoreState 64 = .ok (.getfield 7, 3) := dk_180 0 7 (dk_at dksX5_restoreState_2 20 rfl rfl)
theorem dX5_restoreState_67 : decode cX5_restoreState 67 = .ok (.bipush 6, 2) := dk_16 6 (dk_at dksX5_restoreState_3 0 rfl rfl)
theorem dX5_restoreState_69 : decode cX5_restoreState 69 = .ok (.iaload, 1) := dk_46 (dk_at dksX5_restoreState_3 2 rfl rfl)
theorem dX5_restoreState_70 : decode cX5_restoreState 70 = .ok (.ireturn, 1) := dk_172 (dk_at dksX5_restoreState_3 3 rfl rfl)
theorem q194 : (Jvm.Cond.initialized "CountyGazetteerModel") ∈ lw_all := lw_g (lw_at lw_m1 18 rfl) rfl
theorem q415 : (Jvm.Cond.selects "CountyGazetteerModel" ({ cls := "java/lang/Object", name := "getClass", desc := "()Ljava/lang/Class;" } : Jvm.MethodName) ({ cls := "java/lang/Object", name := "getClass", desc := "()Ljava/lang/Class;" } : Jvm.MethodName)) ∈ lw_all := lw_g (lw_at lw_m1 239 rfl) rfl
theorem q2822 : (Jvm.Cond.selects "CountyGazetteerModel" ({ cls := "java/lang/Object", name := "equals", desc := "(Ljava/lang/Object;)Z" } : Jvm.MethodName) ({ cls := "java/lang/Object", name := "equals", desc := "(Ljava/lang/Object;)Z" } : Jvm.MethodName)) ∈ lw_all := lw_g (lw_at lw_m12 6 rfl) rfl
theorem q3662 : (Jvm.Cond.instantiable "CountyGazetteerModel" (49 : Nat)) ∈ lw_all := lw_g (lw_at lw_m15 126 rfl) rfl
theorem q3664 : (Jvm.Cond.instanceMethod ({ cls := "CountyGazetteerModel", name := "<init>", desc := "()V" } : Jvm.MethodName)) ∈ lw_all := lw_g (lw_at lw_m15 128 rfl) rfl
theorem q3665 : (Jvm.Cond.code ({ cls := "CountyGazetteerModel", name := "<init>", desc := "()V" } : Jvm.MethodName) prog_20_method_1_code (1 : Nat) (Option.none : Option Jvm.ClassFile.FieldType)) ∈ lw_all := lw_g (lw_at lw_m15 129 rfl) rfl
theorem q3666 : (Jvm.Cond.methodLink "CountyGazetteerModel" (1 : Nat) ({ cls := "java/lang/Object", name := "<init>", desc := "()V" } : Jvm.MethodName)) ∈ lw_all := lw_g (lw_at lw_m15 130 rfl) rfl
theorem q3667 : (Jvm.Cond.methodLink "CountyGazetteerModel" (94 : Nat) ({ cls := "CountyGazetteerModel", name := "begins", desc := "(II)V" } : Jvm.MethodName)) ∈ lw_all := lw_g (lw_at lw_m15 131 rfl) rfl
theorem q3668 : (Jvm.Cond.privateMethod ({ cls := "CountyGazetteerModel", name := "begins", desc := "(II)V" } : Jvm.MethodName)) ∈ lw_tbl := lw_at lw_m15 132 rfl
theorem q3669 : (Jvm.Cond.instanceMethod ({ cls := "CountyGazetteerModel", name := "begins", desc := "(II)V" } : Jvm.MethodName)) ∈ lw_all := lw_g (lw_at lw_m15 133 rfl) rfl
theorem q3670 : (Jvm.Cond.code ({ cls := "CountyGazetteerModel", name := "begins", desc := "(II)V" } : Jvm.MethodName) prog_20_method_8_code (4 : Nat) (Option.none : Option Jvm.ClassFile.FieldType)) ∈ lw_all := lw_g (lw_at lw_m15 134 rfl) rfl
theorem q3671 : (Jvm.Cond.constantLong "CountyGazetteerModel" (98 : Nat) (387420489 : Int64)) ∈ lw_all := lw_g (lw_at lw_m15 135 rfl) rfl
theorem q3672 : (Jvm.Cond.fieldLink "CountyGazetteerModel" (7 : Nat) "CountyGazetteerModel" "w" "[I") ∈ lw_all := lw_g (lw_at lw_m15 136 rfl) rfl
theorem q3673 : (Jvm.Cond.fieldLink "CountyGazetteerModel" (13 : Nat) "CountyGazetteerModel" "wKept" "[I") ∈ lw_all := lw_g (lw_at lw_m15 137 rfl) rfl
theorem q3674 : (Jvm.Cond.fieldLink "CountyGazetteerModel" (16 : Nat) "CountyGazetteerModel" "savedRow" "[I") ∈ lw_all := lw_g (lw_at lw_m15 138 rfl) rfl
theorem q3675 : (Jvm.Cond.fieldLink "CountyGazetteerModel" (19 : Nat) "CountyGazetteerModel" "past" "[I") ∈ lw_all := lw_g (lw_at lw_m15 139 rfl) rfl
theorem q3676 : (Jvm.Cond.fieldLink "CountyGazetteerModel" (22 : Nat) "CountyGazetteerModel" "names" "[J") ∈ lw_all := lw_g (lw_at lw_m15 140 rfl) rfl
theorem q3677 : (Jvm.Cond.fieldLink "CountyGazetteerModel" (26 : Nat) "CountyGazetteerModel" "namesKept" "[J") ∈ lw_all := lw_g (lw_at lw_m15 141 rfl) rfl
theorem q3678 : (Jvm.Cond.fieldLink "CountyGazetteerModel" (29 : Nat) "CountyGazetteerModel" "savedNames" "[J") ∈ lw_all := lw_g (lw_at lw_m15 142 rfl) rfl
theorem q3679 : (Jvm.Cond.fieldLink "CountyGazetteerModel" (32 : Nat) "CountyGazetteerModel" "pastNames" "[J") ∈ lw_all := lw_g (lw_at lw_m15 143 rfl) rfl
theorem q3680 : (Jvm.Cond.fieldLink "CountyGazetteerModel" (107 : Nat) "CountyGazetteerModel" "pastMany" "I") ∈ lw_all := lw_g (lw_at lw_m15 144 rfl) rfl
theorem q3681 : (Jvm.Cond.fieldLink "CountyGazetteerModel" (405 : Nat) "CountyGazetteerModel" "isSaved" "Z") ∈ lw_all := lw_g (lw_at lw_m15 145 rfl) rfl
theorem q3682 : (Jvm.Cond.fieldLink "CountyGazetteerModel" (100 : Nat) "CountyGazetteerModel" "thrown" "I") ∈ lw_all := lw_g (lw_at lw_m15 146 rfl) rfl
theorem q3683 : (Jvm.Cond.fieldLink "CountyGazetteerModel" (35 : Nat) "CountyGazetteerModel" "order" "[I") ∈ lw_all := lw_g (lw_at lw_m15 147 rfl) rfl
theorem q3684 : (Jvm.Cond.fieldLink "CountyGazetteerModel" (38 : Nat) "CountyGazetteerModel" "had" "[J") ∈ lw_all := lw_g (lw_at lw_m15 148 rfl) rfl
theorem q3685 : (Jvm.Cond.fieldLink "CountyGazetteerModel" (152 : Nat) "CountyGazetteerModel" "hadMany" "I") ∈ lw_all := lw_g (lw_at lw_m15 149 rfl) rfl
theorem q3686 : (Jvm.Cond.fieldLink "CountyGazetteerModel" (41 : Nat) "CountyGazetteerModel" "lineCounty" "[I") ∈ lw_all := lw_g (lw_at lw_m15 150 rfl) rfl
theorem q3687 : (Jvm.Cond.fieldLink "CountyGazetteerModel" (44 : Nat) "CountyGazetteerModel" "lineSort" "[I") ∈ lw_all := lw_g (lw_at lw_m15 151 rfl) rfl
theorem q3688 : (Jvm.Cond.fieldLink "CountyGazetteerModel" (47 : Nat) "CountyGazetteerModel" "lineVillage" "[I") ∈ lw_all := lw_g (lw_at lw_m15 152 rfl) rfl
theorem q3689 : (Jvm.Cond.fieldLink "CountyGazetteerModel" (50 : Nat) "CountyGazetteerModel" "lineName" "[J") ∈ lw_all := lw_g (lw_at lw_m15 153 rfl) rfl
theorem q3690 : (Jvm.Cond.fieldLink "CountyGazetteerModel" (170 : Nat) "CountyGazetteerModel" "lineMany" "I") ∈ lw_all := lw_g (lw_at lw_m15 154 rfl) rfl
theorem q3691 : (Jvm.Cond.fieldLink "CountyGazetteerModel" (53 : Nat) "CountyGazetteerModel" "placeSort" "[I") ∈ lw_all := lw_g (lw_at lw_m15 155 rfl) rfl
theorem q3692 : (Jvm.Cond.fieldLink "CountyGazetteerModel" (56 : Nat) "CountyGazetteerModel" "placeCounty" "[I") ∈ lw_all := lw_g (lw_at lw_m15 156 rfl) rfl
theorem q3693 : (Jvm.Cond.fieldLink "CountyGazetteerModel" (59 : Nat) "CountyGazetteerModel" "placeLine" "[I") ∈ lw_all := lw_g (lw_at lw_m15 157 rfl) rfl
theorem q3694 : (Jvm.Cond.fieldLink "CountyGazetteerModel" (62 : Nat) "CountyGazetteerModel" "pageOf" "[I") ∈ lw_all := lw_g (lw_at lw_m15 158 rfl) rfl
theorem q3695 : (Jvm.Cond.fieldLink "CountyGazetteerModel" (65 : Nat) "CountyGazetteerModel" "placeOf" "[I") ∈ lw_all := lw_g (lw_at lw_m15 159 rfl) rfl
theorem q3696 : (Jvm.Cond.fieldLink "CountyGazetteerModel" (68 : Nat) "CountyGazetteerModel" "pageUsed" "[I") ∈ lw_all := lw_g (lw_at lw_m15 160 rfl) rfl
theorem q3697 : (Jvm.Cond.fieldLink "CountyGazetteerModel" (194 : Nat) "CountyGazetteerModel" "pages" "I") ∈ lw_all := lw_g (lw_at lw_m15 161 rfl) rfl
theorem q3698 : (Jvm.Cond.fieldLink "CountyGazetteerModel" (71 : Nat) "CountyGazetteerModel" "blockPages" "[I") ∈ lw_all := lw_g (lw_at lw_m15 162 rfl) rfl
theorem q3699 : (Jvm.Cond.fieldLink "CountyGazetteerModel" (218 : Nat) "CountyGazetteerModel" "blockMany" "I") ∈ lw_all := lw_g (lw_at lw_m15 163 rfl) rfl
theorem q3700 : (Jvm.Cond.fieldLink "CountyGazetteerModel" (237 : Nat) "CountyGazetteerModel" "bestSplit" "I") ∈ lw_all := lw_g (lw_at lw_m15 164 rfl) rfl
theorem q3701 : (Jvm.Cond.fieldLink "CountyGazetteerModel" (240 : Nat) "CountyGazetteerModel" "bestMost" "I") ∈ lw_all := lw_g (lw_at lw_m15 165 rfl) rfl
theorem q3702 : (Jvm.Cond.fieldLink "CountyGazetteerModel" (74 : Nat) "CountyGazetteerModel" "input" "[I") ∈ lw_all := lw_g (lw_at lw_m15 166 rfl) rfl
theorem q3703 : (Jvm.Cond.fieldLink "CountyGazetteerModel" (255 : Nat) "CountyGazetteerModel" "inputMany" "I") ∈ lw_all := lw_g (lw_at lw_m15 167 rfl) rfl
theorem q3704 : (Jvm.Cond.fieldLink "CountyGazetteerModel" (402 : Nat) "CountyGazetteerModel" "lastError" "I") ∈ lw_all := lw_g (lw_at lw_m15 168 rfl) rfl
theorem q3705 : (Jvm.Cond.fieldLink "CountyGazetteerModel" (77 : Nat) "CountyGazetteerModel" "lastOffset" "I") ∈ lw_all := lw_g (lw_at lw_m15 169 rfl) rfl
theorem q3706 : (Jvm.Cond.fieldLink "CountyGazetteerModel" (286 : Nat) "CountyGazetteerModel" "error" "I") ∈ lw_all := lw_g (lw_at lw_m15 170 rfl) rfl
theorem q3707 : (Jvm.Cond.fieldLink "CountyGazetteerModel" (289 : Nat) "CountyGazetteerModel" "offset" "I") ∈ lw_all := lw_g (lw_at lw_m15 171 rfl) rfl
theorem q3708 : (Jvm.Cond.fieldLink "CountyGazetteerModel" (264 : Nat) "CountyGazetteerModel" "nextByte" "I") ∈ lw_all := lw_g (lw_at lw_m15 172 rfl) rfl
theorem q3709 : (Jvm.Cond.fieldLink "CountyGazetteerModel" (267 : Nat) "CountyGazetteerModel" "begin" "I") ∈ lw_all := lw_g (lw_at lw_m15 173 rfl) rfl
theorem q3710 : (Jvm.Cond.fieldLink "CountyGazetteerModel" (270 : Nat) "CountyGazetteerModel" "value" "I") ∈ lw_all := lw_g (lw_at lw_m15 174 rfl) rfl
theorem q3711 : (Jvm.Cond.fieldLink "CountyGazetteerModel" (282 : Nat) "CountyGazetteerModel" "letters" "J") ∈ lw_all := lw_g (lw_at lw_m15 175 rfl) rfl
theorem q3712 : (Jvm.Cond.fieldLink "CountyGazetteerModel" (273 : Nat) "CountyGazetteerModel" "token" "I") ∈ lw_all := lw_g (lw_at lw_m15 176 rfl) rfl
theorem q3713 : (Jvm.Cond.fieldLink "CountyGazetteerModel" (305 : Nat) "CountyGazetteerModel" "got" "I") ∈ lw_all := lw_g (lw_at lw_m15 177 rfl) rfl
theorem q3714 : (Jvm.Cond.fieldLink "CountyGazetteerModel" (311 : Nat) "CountyGazetteerModel" "gotName" "J") ∈ lw_all := lw_g (lw_at lw_m15 178 rfl) rfl
theorem q3715 : (Jvm.Cond.fieldLink "CountyGazetteerModel" (334 : Nat) "CountyGazetteerModel" "toldSet" "I") ∈ lw_all := lw_g (lw_at lw_m15 179 rfl) rfl
theorem q3716 : (Jvm.Cond.fieldLink "CountyGazetteerModel" (81 : Nat) "CountyGazetteerModel" "owners" "[I") ∈ lw_all := lw_g (lw_at lw_m15 180 rfl) rfl
theorem q3717 : (Jvm.Cond.fieldLink "CountyGazetteerModel" (84 : Nat) "CountyGazetteerModel" "met" "[Z") ∈ lw_all := lw_g (lw_at lw_m15 181 rfl) rfl
theorem q3718 : (Jvm.Cond.fieldLink "CountyGazetteerModel" (88 : Nat) "CountyGazetteerModel" "waiting" "[I") ∈ lw_all := lw_g (lw_at lw_m15 182 rfl) rfl
theorem q3719 : (Jvm.Cond.fieldLink "CountyGazetteerModel" (91 : Nat) "CountyGazetteerModel" "output" "[I") ∈ lw_all := lw_g (lw_at lw_m15 183 rfl) rfl
theorem q3720 : (Jvm.Cond.fieldLink "CountyGazetteerModel" (533 : Nat) "CountyGazetteerModel" "outputMany" "I") ∈ lw_all := lw_g (lw_at lw_m15 184 rfl) rfl
theorem q3721 : (Jvm.Cond.laysFinal "CountyGazetteerModel" "CountyGazetteerModel" "w" "[I") ∈ lw_all := lw_g (lw_at lw_m15 185 rfl) rfl
theorem q3722 : (Jvm.Cond.soleField "CountyGazetteerModel" "w") ∈ lw_all := lw_g (lw_at lw_m15 186 rfl) rfl
theorem q3723 : (Jvm.Cond.laysFinal "CountyGazetteerModel" "CountyGazetteerModel" "wKept" "[I") ∈ lw_all := lw_g (lw_at lw_m15 187 rfl) rfl
theorem q3724 : (Jvm.Cond.soleField "CountyGazetteerModel" "wKept") ∈ lw_all := lw_g (lw_at lw_m15 188 rfl) rfl
theorem q3725 : (Jvm.Cond.laysFinal "CountyGazetteerModel" "CountyGazetteerModel" "savedRow" "[I") ∈ lw_all := lw_g (lw_at lw_m15 189 rfl) rfl
theorem q3726 : (Jvm.Cond.soleField "CountyGazetteerModel" "savedRow") ∈ lw_all := lw_g (lw_at lw_m15 190 rfl) rfl
theorem q3727 : (Jvm.Cond.laysFinal "CountyGazetteerModel" "CountyGazetteerModel" "past" "[I") ∈ lw_all := lw_g (lw_at lw_m15 191 rfl) rfl
theorem q3728 : (Jvm.Cond.soleField "CountyGazetteerModel" "past") ∈ lw_all := lw_g (lw_at lw_m15 192 rfl) rfl
theorem q3729 : (Jvm.Cond.laysFinal "CountyGazetteerModel" "CountyGazetteerModel" "names" "[J") ∈ lw_all := lw_g (lw_at lw_m15 193 rfl) rfl
theorem q3730 : (Jvm.Cond.soleField "CountyGazetteerModel" "names") ∈ lw_all := lw_g (lw_at lw_m15 194 rfl) rfl
theorem q3731 : (Jvm.Cond.laysFinal "CountyGazetteerModel" "CountyGazetteerModel" "namesKept" "[J") ∈ lw_all := lw_g (lw_at lw_m15 195 rfl) rfl
theorem q3732 : (Jvm.Cond.soleField "CountyGazetteerModel" "namesKept") ∈ lw_all := lw_g (lw_at lw_m15 196 rfl) rfl
theorem q3733 : (Jvm.Cond.laysFinal "CountyGazetteerModel" "CountyGazetteerModel" "savedNames" "[J") ∈ lw_all := lw_g (lw_at lw_m15 197 rfl) rfl
theorem q3734 : (Jvm.Cond.soleField "CountyGazetteerModel" "savedNames") ∈ lw_all := lw_g (lw_at lw_m15 198 rfl) rfl
theorem q3735 : (Jvm.Cond.laysFinal "CountyGazetteerModel" "CountyGazetteerModel" "pastNames" "[J") ∈ lw_all := lw_g (lw_at lw_m15 199 rfl) rfl
theorem q3736 : (Jvm.Cond.soleField "CountyGazetteerModel" "pastNames") ∈ lw_all := lw_g (lw_at lw_m15 200 rfl) rfl
theorem q3737 : (Jvm.Cond.lays "CountyGazetteerModel" "CountyGazetteerModel" "pastMany" "I") ∈ lw_all := lw_g (lw_at lw_m15 201 rfl) rfl
theorem q3738 : (Jvm.Cond.soleField "CountyGazetteerModel" "pastMany") ∈ lw_all := lw_g (lw_at lw_m15 202 rfl) rfl
theorem q3739 : (Jvm.Cond.lays "CountyGazetteerModel" "CountyGazetteerModel" "isSaved" "Z") ∈ lw_all := lw_g (lw_at lw_m15 203 rfl) rfl
theorem q3740 : (Jvm.Cond.soleField "CountyGazetteerModel" "isSaved") ∈ lw_all := lw_g (lw_at lw_m15 204 rfl) rfl
theorem q3741 : (Jvm.Cond.lays "CountyGazetteerModel" "CountyGazetteerModel" "thrown" "I") ∈ lw_all := lw_g (lw_at lw_m15 205 rfl) rfl
theorem q3742 : (Jvm.Cond.soleField "CountyGazetteerModel" "thrown") ∈ lw_all := lw_g (lw_at lw_m15 206 rfl) rfl
theorem q3743 : (Jvm.Cond.laysFinal "CountyGazetteerModel" "CountyGazetteerModel" "order" "[I") ∈ lw_all := lw_g (lw_at lw_m15 207 rfl) rfl
theorem q3744 : (Jvm.Cond.soleField "CountyGazetteerModel" "order") ∈ lw_all := lw_g (lw_at lw_m15 208 rfl) rfl
theorem q3745 : (Jvm.Cond.laysFinal "CountyGazetteerModel" "CountyGazetteerModel" "had" "[J") ∈ lw_all := lw_g (lw_at lw_m15 209 rfl) rfl
theorem q3746 : (Jvm.Cond.soleField "CountyGazetteerModel" "had") ∈ lw_all := lw_g (lw_at lw_m15 210 rfl) rfl
theorem q3747 : (Jvm.Cond.lays "CountyGazetteerModel" "CountyGazetteerModel" "hadMany" "I") ∈ lw_all := lw_g (lw_at lw_m15 211 rfl) rfl
theorem q3748 : (Jvm.Cond.soleField "CountyGazetteerModel" "hadMany") ∈ lw_all := lw_g (lw_at lw_m15 212 rfl) rfl
theorem q3749 : (Jvm.Cond.laysFinal "CountyGazetteerModel" "CountyGazetteerModel" "lineCounty" "[I") ∈ lw_all := lw_g (lw_at lw_m15 213 rfl) rfl
theorem q3750 : (Jvm.Cond.soleField "CountyGazetteerModel" "lineCounty") ∈ lw_all := lw_g (lw_at lw_m15 214 rfl) rfl
theorem q3751 : (Jvm.Cond.laysFinal "CountyGazetteerModel" "CountyGazetteerModel" "lineSort" "[I") ∈ lw_all := lw_g (lw_at lw_m15 215 rfl) rfl
theorem q3752 : (Jvm.Cond.soleField "CountyGazetteerModel" "lineSort") ∈ lw_all := lw_g (lw_at lw_m15 216 rfl) rfl
theorem q3753 : (Jvm.Cond.laysFinal "CountyGazetteerModel" "CountyGazetteerModel" "lineVillage" "[I") ∈ lw_all := lw_g (lw_at lw_m15 217 rfl) rfl
theorem q3754 : (Jvm.Cond.soleField "CountyGazetteerModel" "lineVillage") ∈ lw_all := lw_g (lw_at lw_m15 218 rfl) rfl
theorem q3755 : (Jvm.Cond.laysFinal "CountyGazetteerModel" "CountyGazetteerModel" "lineName" "[J") ∈ lw_all := lw_g (lw_at lw_m15 219 rfl) rfl
theorem q3756 : (Jvm.Cond.soleField "CountyGazetteerModel" "lineName") ∈ lw_all := lw_g (lw_at lw_m15 220 rfl) rfl
theorem q3757 : (Jvm.Cond.lays "CountyGazetteerModel" "CountyGazetteerModel" "lineMany" "I") ∈ lw_all := lw_g (lw_at lw_m15 221 rfl) rfl
theorem q3758 : (Jvm.Cond.soleField "CountyGazetteerModel" "lineMany") ∈ lw_all := lw_g (lw_at lw_m15 222 rfl) rfl
theorem q3759 : (Jvm.Cond.laysFinal "CountyGazetteerModel" "CountyGazetteerModel" "placeSort" "[I") ∈ lw_all := lw_g (lw_at lw_m15 223 rfl) rfl
theorem q3760 : (Jvm.Cond.soleField "CountyGazetteerModel" "placeSort") ∈ lw_all := lw_g (lw_at lw_m15 224 rfl) rfl
theorem q3761 : (Jvm.Cond.laysFinal "CountyGazetteerModel" "CountyGazetteerModel" "placeCounty" "[I") ∈ lw_all := lw_g (lw_at lw_m15 225 rfl) rfl
theorem q3762 : (Jvm.Cond.soleField "CountyGazetteerModel" "placeCounty") ∈ lw_all := lw_g (lw_at lw_m15 226 rfl) rfl
theorem q3763 : (Jvm.Cond.laysFinal "CountyGazetteerModel" "CountyGazetteerModel" "placeLine" "[I") ∈ lw_all := lw_g (lw_at lw_m15 227 rfl) rfl
theorem q3764 : (Jvm.Cond.soleField "CountyGazetteerModel" "placeLine") ∈ lw_all := lw_g (lw_at lw_m15 228 rfl) rfl
theorem q3765 : (Jvm.Cond.laysFinal "CountyGazetteerModel" "CountyGazetteerModel" "pageOf" "[I") ∈ lw_all := lw_g (lw_at lw_m15 229 rfl) rfl
theorem q3766 : (Jvm.Cond.soleField "CountyGazetteerModel" "pageOf") ∈ lw_all := lw_g (lw_at lw_m15 230 rfl) rfl
theorem q3767 : (Jvm.Cond.laysFinal "CountyGazetteerModel" "CountyGazetteerModel" "placeOf" "[I") ∈ lw_all := lw_g (lw_at lw_m15 231 rfl) rfl
theorem q3768 : (Jvm.Cond.soleField "CountyGazetteerModel" "placeOf") ∈ lw_all := lw_g (lw_at lw_m15 232 rfl) rfl
theorem q3769 : (Jvm.Cond.laysFinal "CountyGazetteerModel" "CountyGazetteerModel" "pageUsed" "[I") ∈ lw_all := lw_g (lw_at lw_m15 233 rfl) rfl
theorem q3770 : (Jvm.Cond.soleField "CountyGazetteerModel" "pageUsed") ∈ lw_all := lw_g (lw_at lw_m15 234 rfl) rfl
theorem q3771 : (Jvm.Cond.lays "CountyGazetteerModel" "CountyGazetteerModel" "pages" "I") ∈ lw_all := lw_g (lw_at lw_m15 235 rfl) rfl
theorem q3772 : (Jvm.Cond.soleField "CountyGazetteerModel" "pages") ∈ lw_all := lw_g (lw_at lw_m15 236 rfl) rfl
theorem q3773 : (Jvm.Cond.laysFinal "CountyGazetteerModel" "CountyGazetteerModel" "blockPages" "[I") ∈ lw_all := lw_g (lw_at lw_m15 237 rfl) rfl
theorem q3774 : (Jvm.Cond.soleField "CountyGazetteerModel" "blockPages") ∈ lw_all := lw_g (lw_at lw_m15 238 rfl) rfl
theorem q3775 : (Jvm.Cond.lays "CountyGazetteerModel" "CountyGazetteerModel" "blockMany" "I") ∈ lw_all := lw_g (lw_at lw_m15 239 rfl) rfl
theorem q3776 : (Jvm.Cond.soleField "CountyGazetteerModel" "blockMany") ∈ lw_all := lw_g (lw_at lw_m16 0 rfl) rfl
theorem q3777 : (Jvm.Cond.lays "CountyGazetteerModel" "CountyGazetteerModel" "bestSplit" "I") ∈ lw_all := lw_g (lw_at lw_m16 1 rfl) rfl
theorem q3778 : (Jvm.Cond.soleField "CountyGazetteerModel" "bestSplit") ∈ lw_all := lw_g (lw_at lw_m16 2 rfl) rfl
theorem q3779 : (Jvm.Cond.lays "CountyGazetteerModel" "CountyGazetteerModel" "bestMost" "I") ∈ lw_all := lw_g (lw_at lw_m16 3 rfl) rfl
theorem q3780 : (Jvm.Cond.soleField "CountyGazetteerModel" "bestMost") ∈ lw_all := lw_g (lw_at lw_m16 4 rfl) rfl
theorem q3781 : (Jvm.Cond.laysFinal "CountyGazetteerModel" "CountyGazetteerModel" "input" "[I") ∈ lw_all := lw_g (lw_at lw_m16 5 rfl) rfl
theorem q3782 : (Jvm.Cond.soleField "CountyGazetteerModel" "input") ∈ lw_all := lw_g (lw_at lw_m16 6 rfl) rfl
theorem q3783 : (Jvm.Cond.lays "CountyGazetteerModel" "CountyGazetteerModel" "inputMany" "I") ∈ lw_all := lw_g (lw_at lw_m16 7 rfl) rfl
theorem q3784 : (Jvm.Cond.soleField "CountyGazetteerModel" "inputMany") ∈ lw_all := lw_g (lw_at lw_m16 8 rfl) rfl
theorem q3785 : (Jvm.Cond.lays "CountyGazetteerModel" "CountyGazetteerModel" "lastError" "I") ∈ lw_all := lw_g (lw_at lw_m16 9 rfl) rfl
theorem q3786 : (Jvm.Cond.soleField "CountyGazetteerModel" "lastError") ∈ lw_all := lw_g (lw_at lw_m16 10 rfl) rfl
theorem q3787 : (Jvm.Cond.lays "CountyGazetteerModel" "CountyGazetteerModel" "lastOffset" "I") ∈ lw_all := lw_g (lw_at lw_m16 11 rfl) rfl
theorem q3788 : (Jvm.Cond.soleField "CountyGazetteerModel" "lastOffset") ∈ lw_all := lw_g (lw_at lw_m16 12 rfl) rfl
theorem q3789 : (Jvm.Cond.lays "CountyGazetteerModel" "CountyGazetteerModel" "error" "I") ∈ lw_all := lw_g (lw_at lw_m16 13 rfl) rfl
theorem q3790 : (Jvm.Cond.soleField "CountyGazetteerModel" "error") ∈ lw_all := lw_g (lw_at lw_m16 14 rfl) rfl
theorem q3791 : (Jvm.Cond.lays "CountyGazetteerModel" "CountyGazetteerModel" "offset" "I") ∈ lw_all := lw_g (lw_at lw_m16 15 rfl) rfl
theorem q3792 : (Jvm.Cond.soleField "CountyGazetteerModel" "offset") ∈ lw_all := lw_g (lw_at lw_m16 16 rfl) rfl
theorem q3793 : (Jvm.Cond.lays "CountyGazetteerModel" "CountyGazetteerModel" "nextByte" "I") ∈ lw_all := lw_g (lw_at lw_m16 17 rfl) rfl
theorem q3794 : (Jvm.Cond.soleField "CountyGazetteerModel" "nextByte") ∈ lw_all := lw_g (lw_at lw_m16 18 rfl) rfl
theorem q3795 : (Jvm.Cond.lays "CountyGazetteerModel" "CountyGazetteerModel" "begin" "I") ∈ lw_all := lw_g (lw_at lw_m16 19 rfl) rfl
theorem q3796 : (Jvm.Cond.soleField "CountyGazetteerModel" "begin") ∈ lw_all := lw_g (lw_at lw_m16 20 rfl) rfl
theorem q3797 : (Jvm.Cond.lays "CountyGazetteerModel" "CountyGazetteerModel" "value" "I") ∈ lw_all := lw_g (lw_at lw_m16 21 rfl) rfl
theorem q3798 : (Jvm.Cond.soleField "CountyGazetteerModel" "value") ∈ lw_all := lw_g (lw_at lw_m16 22 rfl) rfl
theorem q3799 : (Jvm.Cond.lays "CountyGazetteerModel" "CountyGazetteerModel" "letters" "J") ∈ lw_all := lw_g (lw_at lw_m16 23 rfl) rfl
theorem q3800 : (Jvm.Cond.soleField "CountyGazetteerModel" "letters") ∈ lw_all := lw_g (lw_at lw_m16 24 rfl) rfl
theorem q3801 : (Jvm.Cond.lays "CountyGazetteerModel" "CountyGazetteerModel" "token" "I") ∈ lw_all := lw_g (lw_at lw_m16 25 rfl) rfl
theorem q3802 : (Jvm.Cond.soleField "CountyGazetteerModel" "token") ∈ lw_all := lw_g (lw_at lw_m16 26 rfl) rfl
theorem q3803 : (Jvm.Cond.lays "CountyGazetteerModel" "CountyGazetteerModel" "got" "I") ∈ lw_all := lw_g (lw_at lw_m16 27 rfl) rfl
theorem q3804 : (Jvm.Cond.soleField "CountyGazetteerModel" "got") ∈ lw_all := lw_g (lw_at lw_m16 28 rfl) rfl
theorem q3805 : (Jvm.Cond.lays "CountyGazetteerModel" "CountyGazetteerModel" "gotName" "J") ∈ lw_all := lw_g (lw_at lw_m16 29 rfl) rfl
theorem q3806 : (Jvm.Cond.soleField "CountyGazetteerModel" "gotName") ∈ lw_all := lw_g (lw_at lw_m16 30 rfl) rfl
theorem q3807 : (Jvm.Cond.lays "CountyGazetteerModel" "CountyGazetteerModel" "toldSet" "I") ∈ lw_all := lw_g (lw_at lw_m16 31 rfl) rfl
theorem q3808 : (Jvm.Cond.soleField "CountyGazetteerModel" "toldSet") ∈ lw_all := lw_g (lw_at lw_m16 32 rfl) rfl
theorem q3809 : (Jvm.Cond.laysFinal "CountyGazetteerModel" "CountyGazetteerModel" "owners" "[I") ∈ lw_all := lw_g (lw_at lw_m16 33 rfl) rfl
theorem q3810 : (Jvm.Cond.soleField "CountyGazetteerModel" "owners") ∈ lw_all := lw_g (lw_at lw_m16 34 rfl) rfl
theorem q3811 : (Jvm.Cond.laysFinal "CountyGazetteerModel" "CountyGazetteerModel" "met" "[Z") ∈ lw_all := lw_g (lw_at lw_m16 35 rfl) rfl
theorem q3812 : (Jvm.Cond.soleField "CountyGazetteerModel" "met") ∈ lw_all := lw_g (lw_at lw_m16 36 rfl) rfl
theorem q3813 : (Jvm.Cond.laysFinal "CountyGazetteerModel" "CountyGazetteerModel" "waiting" "[I") ∈ lw_all := lw_g (lw_at lw_m16 37 rfl) rfl
theorem q3814 : (Jvm.Cond.soleField "CountyGazetteerModel" "waiting") ∈ lw_all := lw_g (lw_at lw_m16 38 rfl) rfl
theorem q3815 : (Jvm.Cond.laysFinal "CountyGazetteerModel" "CountyGazetteerModel" "output" "[I") ∈ lw_all := lw_g (lw_at lw_m16 39 rfl) rfl
theorem q3816 : (Jvm.Cond.soleField "CountyGazetteerModel" "output") ∈ lw_all := lw_g (lw_at lw_m16 40 rfl) rfl
theorem q3817 : (Jvm.Cond.lays "CountyGazetteerModel" "CountyGazetteerModel" "outputMany" "I") ∈ lw_all := lw_g (lw_at lw_m16 41 rfl) rfl
theorem q3818 : (Jvm.Cond.soleField "CountyGazetteerModel" "outputMany") ∈ lw_all := lw_g (lw_at lw_m16 42 rfl) rfl
theorem q3819 : (Jvm.Cond.superclass "CountyGazetteerModel" "java/lang/Object") ∈ lw_all := lw_g (lw_at lw_m16 43 rfl) rfl
theorem q3822 : (Jvm.Cond.instanceMethod ({ cls := "CountyGazetteerModel", name := "thrown", desc := "()I" } : Jvm.MethodName)) ∈ lw_all := lw_g (lw_at lw_m16 46 rfl) rfl
theorem q3823 : (Jvm.Cond.selects "CountyGazetteerModel" ({ cls := "CountyGazetteerModel", name := "thrown", desc := "()I" } : Jvm.MethodName) ({ cls := "CountyGazetteerModel", name := "thrown", desc := "()I" } : Jvm.MethodName)) ∈ lw_all := lw_g (lw_at lw_m16 47 rfl) rfl
theorem q3824 : (Jvm.Cond.code ({ cls := "CountyGazetteerModel", name := "thrown", desc := "()I" } : Jvm.MethodName) prog_20_method_2_code (1 : Nat) (Option.some Jvm.ClassFile.FieldType.int)) ∈ lw_all := lw_g (lw_at lw_m16 48 rfl) rfl
theorem q3826 : (Jvm.Cond.instanceMethod ({ cls := "CountyGazetteerModel", name := "appendInput", desc := "(IIIII)I" } : Jvm.MethodName)) ∈ lw_all := lw_g (lw_at lw_m16 50 rfl) rfl
theorem q3827 : (Jvm.Cond.selects "CountyGazetteerModel" ({ cls := "CountyGazetteerModel", name := "appendInput", desc := "(IIIII)I" } : Jvm.MethodName) ({ cls := "CountyGazetteerModel", name := "appendInput", desc := "(IIIII)I" } : Jvm.MethodName)) ∈ lw_all := lw_g (lw_at lw_m16 51 rfl) rfl
theorem q3828 : (Jvm.Cond.code ({ cls := "CountyGazetteerModel", name := "appendInput", desc := "(IIIII)I" } : Jvm.MethodName) prog_20_method_54_code (6 : Nat) (Option.some Jvm.ClassFile.FieldType.int)) ∈ lw_all := lw_g (lw_at lw_m16 52 rfl) rfl
theorem q3829 : (Jvm.Cond.methodLink "CountyGazetteerModel" (258 : Nat) ({ cls := "CountyGazetteerModel", name := "appendWord", desc := "(I)V" } : Jvm.MethodName)) ∈ lw_all := lw_g (lw_at lw_m16 53 rfl) rfl
theorem q3830 : (Jvm.Cond.privateMethod ({ cls := "CountyGazetteerModel", name := "appendWord", desc := "(I)V" } : Jvm.MethodName)) ∈ lw_tbl := lw_at lw_m16 54 rfl
theorem q3831 : (Jvm.Cond.instanceMethod ({ cls := "CountyGazetteerModel", name := "appendWord", desc := "(I)V" } : Jvm.MethodName)) ∈ lw_all := lw_g (lw_at lw_m16 55 rfl) rfl
theorem q3832 : (Jvm.Cond.code ({ cls := "CountyGazetteerModel", name := "appendWord", desc := "(I)V" } : Jvm.MethodName) prog_20_method_53_code (3 : Nat) (Option.none : Option Jvm.ClassFile.FieldType)) ∈ lw_all := lw_g (lw_at lw_m16 56 rfl) rfl
theorem q3834 : (Jvm.Cond.instanceMethod ({ cls := "CountyGazetteerModel", name := "truncateInput", desc := "(I)Z" } : Jvm.MethodName)) ∈ lw_all := lw_g (lw_at lw_m16 58 rfl) rfl
theorem q3835 : (Jvm.Cond.selects "CountyGazetteerModel" ({ cls := "CountyGazetteerModel", name := "truncateInput", desc := "(I)Z" } : Jvm.MethodName) ({ cls := "CountyGazetteerModel", name := "truncateInput", desc := "(I)Z" } : Jvm.MethodName)) ∈ lw_all := lw_g (lw_at lw_m16 59 rfl) rfl
theorem q3836 : (Jvm.Cond.code ({ cls := "CountyGazetteerModel", name := "truncateInput", desc := "(I)Z" } : Jvm.MethodName) prog_20_method_55_code (2 : Nat) (Option.some Jvm.ClassFile.FieldType.boolean)) ∈ lw_all := lw_g (lw_at lw_m16 60 rfl) rfl
theorem q3837 : (Jvm.Cond.methodLink "CountyGazetteerModel" (103 : Nat) ({ cls := "CountyGazetteerModel", name := "inRange", desc := "(III)Z" } : Jvm.MethodName)) ∈ lw_all := lw_g (lw_at lw_m16 61 rfl) rfl
theorem q3838 : (Jvm.Cond.static ({ cls := "CountyGazetteerModel", name := "inRange", desc := "(III)Z" } : Jvm.MethodName)) ∈ lw_all := lw_g (lw_at lw_m16 62 rfl) rfl
theorem q3839 : (Jvm.Cond.code ({ cls := "CountyGazetteerModel", name := "inRange", desc := "(III)Z" } : Jvm.MethodName) prog_20_method_3_code (3 : Nat) (Option.some Jvm.ClassFile.FieldType.boolean)) ∈ lw_all := lw_g (lw_at lw_m16 63 rfl) rfl
theorem q3841 : (Jvm.Cond.instanceMethod ({ cls := "CountyGazetteerModel", name := "loadMap", desc := "()I" } : Jvm.MethodName)) ∈ lw_all := lw_g (lw_at lw_m16 65 rfl) rfl
theorem q3842 : (Jvm.Cond.selects "CountyGazetteerModel" ({ cls := "CountyGazetteerModel", name := "loadMap", desc := "()I" } : Jvm.MethodName) ({ cls := "CountyGazetteerModel", name := "loadMap", desc := "()I" } : Jvm.MethodName)) ∈ lw_all := lw_g (lw_at lw_m16 66 rfl) rfl
theorem q3843 : (Jvm.Cond.code ({ cls := "CountyGazetteerModel", name := "loadMap", desc := "()I" } : Jvm.MethodName) prog_20_method_81_code (2 : Nat) (Option.some Jvm.ClassFile.FieldType.int)) ∈ lw_all := lw_g (lw_at lw_m16 67 rfl) rfl
theorem q3844 : (Jvm.Cond.methodLink "CountyGazetteerModel" (110 : Nat) ({ cls := "CountyGazetteerModel", name := "copies", desc := "([II[III)V" } : Jvm.MethodName)) ∈ lw_all := lw_g (lw_at lw_m16 68 rfl) rfl
theorem q3845 : (Jvm.Cond.static ({ cls := "CountyGazetteerModel", name := "copies", desc := "([II[III)V" } : Jvm.MethodName)) ∈ lw_all := lw_g (lw_at lw_m16 69 rfl) rfl
theorem q3846 : (Jvm.Cond.code ({ cls := "CountyGazetteerModel", name := "copies", desc := "([II[III)V" } : Jvm.MethodName) prog_20_method_6_code (6 : Nat) (Option.none : Option Jvm.ClassFile.FieldType)) ∈ lw_all := lw_g (lw_at lw_m16 70 rfl) rfl
theorem q3847 : (Jvm.Cond.methodLink "CountyGazetteerModel" (114 : Nat) ({ cls := "CountyGazetteerModel", name := "copiesNames", desc := "([JI[JII)V" } : Jvm.MethodName)) ∈ lw_all := lw_g (lw_at lw_m16 71 rfl) rfl
theorem q3848 : (Jvm.Cond.static ({ cls := "CountyGazetteerModel", name := "copiesNames", desc := "([JI[JII)V" } : Jvm.MethodName)) ∈ lw_all := lw_g (lw_at lw_m16 72 rfl) rfl
theorem q3849 : (Jvm.Cond.code ({ cls := "CountyGazetteerModel", name := "copiesNames", desc := "([JI[JII)V" } : Jvm.MethodName) prog_20_method_7_code (6 : Nat) (Option.none : Option Jvm.ClassFile.FieldType)) ∈ lw_all := lw_g (lw_at lw_m16 73 rfl) rfl
theorem q3850 : (Jvm.Cond.methodLink "CountyGazetteerModel" (308 : Nat) ({ cls := "CountyGazetteerModel", name := "advanceToken", desc := "()V" } : Jvm.MethodName)) ∈ lw_all := lw_g (lw_at lw_m16 74 rfl) rfl
theorem q3851 : (Jvm.Cond.privateMethod ({ cls := "CountyGazetteerModel", name := "advanceToken", desc := "()V" } : Jvm.MethodName)) ∈ lw_tbl := lw_at lw_m16 75 rfl
theorem q3852 : (Jvm.Cond.instanceMethod ({ cls := "CountyGazetteerModel", name := "advanceToken", desc := "()V" } : Jvm.MethodName)) ∈ lw_all := lw_g (lw_at lw_m16 76 rfl) rfl
theorem q3853 : (Jvm.Cond.code ({ cls := "CountyGazetteerModel", name := "advanceToken", desc := "()V" } : Jvm.MethodName) prog_20_method_58_code (2 : Nat) (Option.none : Option Jvm.ClassFile.FieldType)) ∈ lw_all := lw_g (lw_at lw_m16 77 rfl) rfl
theorem q3854 : (Jvm.Cond.methodLink "CountyGazetteerModel" (261 : Nat) ({ cls := "CountyGazetteerModel", name := "byteAt", desc := "(I)I" } : Jvm.MethodName)) ∈ lw_all := lw_g (lw_at lw_m16 78 rfl) rfl
theorem q3855 : (Jvm.Cond.privateMethod ({ cls := "CountyGazetteerModel", name := "byteAt", desc := "(I)I" } : Jvm.MethodName)) ∈ lw_tbl := lw_at lw_m16 79 rfl
theorem q3856 : (Jvm.Cond.instanceMethod ({ cls := "CountyGazetteerModel", name := "byteAt", desc := "(I)I" } : Jvm.MethodName)) ∈ lw_all := lw_g (lw_at lw_m16 80 rfl) rfl
theorem q3857 : (Jvm.Cond.code ({ cls := "CountyGazetteerModel", name := "byteAt", desc := "(I)I" } : Jvm.MethodName) prog_20_method_56_code (2 : Nat) (Option.some Jvm.ClassFile.FieldType.int)) ∈ lw_all := lw_g (lw_at lw_m16 81 rfl) rfl
theorem q3858 : (Jvm.Cond.methodLink "CountyGazetteerModel" (276 : Nat) ({ cls := "CountyGazetteerModel", name := "isLetter", desc := "(I)Z" } : Jvm.MethodName)) ∈ lw_all := lw_g (lw_at lw_m16 82 rfl) rfl
theorem q3859 : (Jvm.Cond.privateMethod ({ cls := "CountyGazetteerModel", name := "isLetter", desc := "(I)Z" } : Jvm.MethodName)) ∈ lw_tbl := lw_at lw_m16 83 rfl
theorem q3860 : (Jvm.Cond.instanceMethod ({ cls := "CountyGazetteerModel", name := "isLetter", desc := "(I)Z" } : Jvm.MethodName)) ∈ lw_all := lw_g (lw_at lw_m16 84 rfl) rfl
theorem q3861 : (Jvm.Cond.code ({ cls := "CountyGazetteerModel", name := "isLetter", desc := "(I)Z" } : Jvm.MethodName) prog_20_method_57_code (2 : Nat) (Option.some Jvm.ClassFile.FieldType.boolean)) ∈ lw_all := lw_g (lw_at lw_m16 85 rfl) rfl
theorem q3862 : (Jvm.Cond.methodLink "CountyGazetteerModel" (279 : Nat) ({ cls := "CountyGazetteerModel", name := "nameAt", desc := "(II)J" } : Jvm.MethodName)) ∈ lw_all := lw_g (lw_at lw_m16 86 rfl) rfl
theorem q3863 : (Jvm.Cond.privateMethod ({ cls := "CountyGazetteerModel", name := "nameAt", desc := "(II)J" } : Jvm.MethodName)) ∈ lw_tbl := lw_at lw_m16 87 rfl
theorem q3864 : (Jvm.Cond.instanceMethod ({ cls := "CountyGazetteerModel", name := "nameAt", desc := "(II)J" } : Jvm.MethodName)) ∈ lw_all := lw_g (lw_at lw_m16 88 rfl) rfl
theorem q3865 : (Jvm.Cond.code ({ cls := "CountyGazetteerModel", name := "nameAt", desc := "(II)J" } : Jvm.MethodName) prog_20_method_59_code (6 : Nat) (Option.some Jvm.ClassFile.FieldType.long)) ∈ lw_all := lw_g (lw_at lw_m16 89 rfl) rfl
theorem q3866 : (Jvm.Cond.constantLong "CountyGazetteerModel" (150 : Nat) (27 : Int64)) ∈ lw_all := lw_g (lw_at lw_m16 90 rfl) rfl
theorem q3867 : (Jvm.Cond.methodLink "CountyGazetteerModel" (399 : Nat) ({ cls := "CountyGazetteerModel", name := "readText", desc := "()Z" } : Jvm.MethodName)) ∈ lw_all := lw_g (lw_at lw_m16 91 rfl) rfl
theorem q3868 : (Jvm.Cond.privateMethod ({ cls := "CountyGazetteerModel", name := "readText", desc := "()Z" } : Jvm.MethodName)) ∈ lw_tbl := lw_at lw_m16 92 rfl
theorem q3869 : (Jvm.Cond.instanceMethod ({ cls := "CountyGazetteerModel", name := "readText", desc := "()Z" } : Jvm.MethodName)) ∈ lw_all := lw_g (lw_at lw_m16 93 rfl) rfl
theorem q3870 : (Jvm.Cond.code ({ cls := "CountyGazetteerModel", name := "readText", desc := "()Z" } : Jvm.MethodName) prog_20_method_80_code (1 : Nat) (Option.some Jvm.ClassFile.FieldType.boolean)) ∈ lw_all := lw_g (lw_at lw_m16 94 rfl) rfl
theorem q3871 : (Jvm.Cond.methodLink "CountyGazetteerModel" (390 : Nat) ({ cls := "CountyGazetteerModel", name := "readMap", desc := "()Z" } : Jvm.MethodName)) ∈ lw_all := lw_g (lw_at lw_m16 95 rfl) rfl
theorem q3872 : (Jvm.Cond.privateMethod ({ cls := "CountyGazetteerModel", name := "readMap", desc := "()Z" } : Jvm.MethodName)) ∈ lw_tbl := lw_at lw_m16 96 rfl
theorem q3873 : (Jvm.Cond.instanceMethod ({ cls := "CountyGazetteerModel", name := "readMap", desc := "()Z" } : Jvm.MethodName)) ∈ lw_all := lw_g (lw_at lw_m16 97 rfl) rfl
theorem q3874 : (Jvm.Cond.code ({ cls := "CountyGazetteerModel", name := "readMap", desc := "()Z" } : Jvm.MethodName) prog_20_method_68_code (2 : Nat) (Option.some Jvm.ClassFile.FieldType.boolean)) ∈ lw_all := lw_g (lw_at lw_m16 98 rfl) rfl
theorem q3875 : (Jvm.Cond.stringRef "CountyGazetteerModel" (325 : Nat) "map") ∈ lw_tbl := lw_at lw_m16 99 rfl
theorem q3876 : (Jvm.Cond.methodLink "CountyGazetteerModel" (327 : Nat) ({ cls := "CountyGazetteerModel", name := "isWord", desc := "(Ljava/lang/String;)Z" } : Jvm.MethodName)) ∈ lw_all := lw_g (lw_at lw_m16 100 rfl) rfl
theorem q3877 : (Jvm.Cond.privateMethod ({ cls := "CountyGazetteerModel", name := "isWord", desc := "(Ljava/lang/String;)Z" } : Jvm.MethodName)) ∈ lw_tbl := lw_at lw_m16 101 rfl
theorem q3878 : (Jvm.Cond.instanceMethod ({ cls := "CountyGazetteerModel", name := "isWord", desc := "(Ljava/lang/String;)Z" } : Jvm.MethodName)) ∈ lw_all := lw_g (lw_at lw_m16 102 rfl) rfl
theorem q3879 : (Jvm.Cond.code ({ cls := "CountyGazetteerModel", name := "isWord", desc := "(Ljava/lang/String;)Z" } : Jvm.MethodName) prog_20_method_61_code (3 : Nat) (Option.some Jvm.ClassFile.FieldType.boolean)) ∈ lw_all := lw_g (lw_at lw_m16 103 rfl) rfl
theorem q3880 : (Jvm.Cond.methodLink "CountyGazetteerModel" (292 : Nat) ({ cls := "java/lang/String", name := "length", desc := "()I" } : Jvm.MethodName)) ∈ lw_all := lw_g (lw_at lw_m16 104 rfl) rfl
theorem q3881 : (Jvm.Cond.methodLink "CountyGazetteerModel" (298 : Nat) ({ cls := "java/lang/String", name := "charAt", desc := "(I)C" } : Jvm.MethodName)) ∈ lw_all := lw_g (lw_at lw_m16 105 rfl) rfl
theorem q3882 : (Jvm.Cond.methodLink "CountyGazetteerModel" (302 : Nat) ({ cls := "CountyGazetteerModel", name := "failsAt", desc := "(I)Z" } : Jvm.MethodName)) ∈ lw_all := lw_g (lw_at lw_m16 106 rfl) rfl
theorem q3883 : (Jvm.Cond.privateMethod ({ cls := "CountyGazetteerModel", name := "failsAt", desc := "(I)Z" } : Jvm.MethodName)) ∈ lw_tbl := lw_at lw_m16 107 rfl
theorem q3884 : (Jvm.Cond.instanceMethod ({ cls := "CountyGazetteerModel", name := "failsAt", desc := "(I)Z" } : Jvm.MethodName)) ∈ lw_all := lw_g (lw_at lw_m16 108 rfl) rfl
theorem q3885 : (Jvm.Cond.code ({ cls := "CountyGazetteerModel", name := "failsAt", desc := "(I)Z" } : Jvm.MethodName) prog_20_method_60_code (2 : Nat) (Option.some Jvm.ClassFile.FieldType.boolean)) ∈ lw_all := lw_g (lw_at lw_m16 109 rfl) rfl
theorem q3886 : (Jvm.Cond.methodLink "CountyGazetteerModel" (331 : Nat) ({ cls := "CountyGazetteerModel", name := "reads", desc := "(II)Z" } : Jvm.MethodName)) ∈ lw_all := lw_g (lw_at lw_m16 110 rfl) rfl
theorem q3887 : (Jvm.Cond.privateMethod ({ cls := "CountyGazetteerModel", name := "reads", desc := "(II)Z" } : Jvm.MethodName)) ∈ lw_tbl := lw_at lw_m16 111 rfl
theorem q3888 : (Jvm.Cond.instanceMethod ({ cls := "CountyGazetteerModel", name := "reads", desc := "(II)Z" } : Jvm.MethodName)) ∈ lw_all := lw_g (lw_at lw_m16 112 rfl) rfl
theorem q3889 : (Jvm.Cond.code ({ cls := "CountyGazetteerModel", name := "reads", desc := "(II)Z" } : Jvm.MethodName) prog_20_method_62_code (3 : Nat) (Option.some Jvm.ClassFile.FieldType.boolean)) ∈ lw_all := lw_g (lw_at lw_m16 113 rfl) rfl
theorem q3890 : (Jvm.Cond.methodLink "CountyGazetteerModel" (393 : Nat) ({ cls := "CountyGazetteerModel", name := "readEnd", desc := "()Z" } : Jvm.MethodName)) ∈ lw_all := lw_g (lw_at lw_m16 114 rfl) rfl
theorem q3891 : (Jvm.Cond.privateMethod ({ cls := "CountyGazetteerModel", name := "readEnd", desc := "()Z" } : Jvm.MethodName)) ∈ lw_tbl := lw_at lw_m16 115 rfl
theorem q3892 : (Jvm.Cond.instanceMethod ({ cls := "CountyGazetteerModel", name := "readEnd", desc := "()Z" } : Jvm.MethodName)) ∈ lw_all := lw_g (lw_at lw_m16 116 rfl) rfl
theorem q3893 : (Jvm.Cond.code ({ cls := "CountyGazetteerModel", name := "readEnd", desc := "()Z" } : Jvm.MethodName) prog_20_method_79_code (1 : Nat) (Option.some Jvm.ClassFile.FieldType.boolean)) ∈ lw_all := lw_g (lw_at lw_m16 117 rfl) rfl
theorem q3894 : (Jvm.Cond.methodLink "CountyGazetteerModel" (396 : Nat) ({ cls := "CountyGazetteerModel", name := "readStatement", desc := "()Z" } : Jvm.MethodName)) ∈ lw_all := lw_g (lw_at lw_m16 118 rfl) rfl
theorem q3895 : (Jvm.Cond.privateMethod ({ cls := "CountyGazetteerModel", name := "readStatement", desc := "()Z" } : Jvm.MethodName)) ∈ lw_tbl := lw_at lw_m16 119 rfl
theorem q3896 : (Jvm.Cond.instanceMethod ({ cls := "CountyGazetteerModel", name := "readStatement", desc := "()Z" } : Jvm.MethodName)) ∈ lw_all := lw_g (lw_at lw_m16 120 rfl) rfl
theorem q3897 : (Jvm.Cond.code ({ cls := "CountyGazetteerModel", name := "readStatement", desc := "()Z" } : Jvm.MethodName) prog_20_method_78_code (1 : Nat) (Option.some Jvm.ClassFile.FieldType.boolean)) ∈ lw_all := lw_g (lw_at lw_m16 121 rfl) rfl
theorem q3898 : (Jvm.Cond.stringRef "CountyGazetteerModel" (355 : Nat) "lines") ∈ lw_tbl := lw_at lw_m16 122 rfl
theorem q3899 : (Jvm.Cond.methodLink "CountyGazetteerModel" (357 : Nat) ({ cls := "CountyGazetteerModel", name := "readOnce", desc := "(IIII)Z" } : Jvm.MethodName)) ∈ lw_all := lw_g (lw_at lw_m16 123 rfl) rfl
theorem q3900 : (Jvm.Cond.privateMethod ({ cls := "CountyGazetteerModel", name := "readOnce", desc := "(IIII)Z" } : Jvm.MethodName)) ∈ lw_tbl := lw_at lw_m16 124 rfl
theorem q3901 : (Jvm.Cond.instanceMethod ({ cls := "CountyGazetteerModel", name := "readOnce", desc := "(IIII)Z" } : Jvm.MethodName)) ∈ lw_all := lw_g (lw_at lw_m16 125 rfl) rfl
theorem q3902 : (Jvm.Cond.code ({ cls := "CountyGazetteerModel", name := "readOnce", desc := "(IIII)Z" } : Jvm.MethodName) prog_20_method_69_code (5 : Nat) (Option.some Jvm.ClassFile.FieldType.boolean)) ∈ lw_all := lw_g (lw_at lw_m16 126 rfl) rfl
theorem q3903 : (Jvm.Cond.stringRef "CountyGazetteerModel" (361 : Nat) "year") ∈ lw_tbl := lw_at lw_m16 127 rfl
theorem q3904 : (Jvm.Cond.stringRef "CountyGazetteerModel" (363 : Nat) "fresh") ∈ lw_tbl := lw_at lw_m16 128 rfl
theorem q3905 : (Jvm.Cond.stringRef "CountyGazetteerModel" (365 : Nat) "county") ∈ lw_tbl := lw_at lw_m16 129 rfl
theorem q3906 : (Jvm.Cond.methodLink "CountyGazetteerModel" (367 : Nat) ({ cls := "CountyGazetteerModel", name := "readCounty", desc := "()Z" } : Jvm.MethodName)) ∈ lw_all := lw_g (lw_at lw_m16 130 rfl) rfl
theorem q3907 : (Jvm.Cond.privateMethod ({ cls := "CountyGazetteerModel", name := "readCounty", desc := "()Z" } : Jvm.MethodName)) ∈ lw_tbl := lw_at lw_m16 131 rfl
theorem q3908 : (Jvm.Cond.instanceMethod ({ cls := "CountyGazetteerModel", name := "readCounty", desc := "()Z" } : Jvm.MethodName)) ∈ lw_all := lw_g (lw_at lw_m16 132 rfl) rfl
theorem q3909 : (Jvm.Cond.code ({ cls := "CountyGazetteerModel", name := "readCounty", desc := "()Z" } : Jvm.MethodName) prog_20_method_70_code (1 : Nat) (Option.some Jvm.ClassFile.FieldType.boolean)) ∈ lw_all := lw_g (lw_at lw_m16 133 rfl) rfl
theorem q3910 : (Jvm.Cond.methodLink "CountyGazetteerModel" (337 : Nat) ({ cls := "CountyGazetteerModel", name := "readsNew", desc := "(II)Z" } : Jvm.MethodName)) ∈ lw_all := lw_g (lw_at lw_m16 134 rfl) rfl
theorem q3911 : (Jvm.Cond.privateMethod ({ cls := "CountyGazetteerModel", name := "readsNew", desc := "(II)Z" } : Jvm.MethodName)) ∈ lw_tbl := lw_at lw_m16 135 rfl
theorem q3912 : (Jvm.Cond.instanceMethod ({ cls := "CountyGazetteerModel", name := "readsNew", desc := "(II)Z" } : Jvm.MethodName)) ∈ lw_all := lw_g (lw_at lw_m16 136 rfl) rfl
theorem q3913 : (Jvm.Cond.code ({ cls := "CountyGazetteerModel", name := "readsNew", desc := "(II)Z" } : Jvm.MethodName) prog_20_method_65_code (3 : Nat) (Option.some Jvm.ClassFile.FieldType.boolean)) ∈ lw_all := lw_g (lw_at lw_m16 137 rfl) rfl
theorem q3914 : (Jvm.Cond.methodLink "CountyGazetteerModel" (314 : Nat) ({ cls := "CountyGazetteerModel", name := "seesName", desc := "()Z" } : Jvm.MethodName)) ∈ lw_all := lw_g (lw_at lw_m16 138 rfl) rfl
theorem q3915 : (Jvm.Cond.privateMethod ({ cls := "CountyGazetteerModel", name := "seesName", desc := "()Z" } : Jvm.MethodName)) ∈ lw_tbl := lw_at lw_m16 139 rfl
theorem q3916 : (Jvm.Cond.instanceMethod ({ cls := "CountyGazetteerModel", name := "seesName", desc := "()Z" } : Jvm.MethodName)) ∈ lw_all := lw_g (lw_at lw_m16 140 rfl) rfl
theorem q3917 : (Jvm.Cond.code ({ cls := "CountyGazetteerModel", name := "seesName", desc := "()Z" } : Jvm.MethodName) prog_20_method_63_code (1 : Nat) (Option.some Jvm.ClassFile.FieldType.boolean)) ∈ lw_all := lw_g (lw_at lw_m16 141 rfl) rfl
theorem q3918 : (Jvm.Cond.methodLink "CountyGazetteerModel" (318 : Nat) ({ cls := "CountyGazetteerModel", name := "found", desc := "(IIJ)I" } : Jvm.MethodName)) ∈ lw_all := lw_g (lw_at lw_m16 142 rfl) rfl
theorem q3919 : (Jvm.Cond.privateMethod ({ cls := "CountyGazetteerModel", name := "found", desc := "(IIJ)I" } : Jvm.MethodName)) ∈ lw_tbl := lw_at lw_m16 143 rfl
theorem q3920 : (Jvm.Cond.instanceMethod ({ cls := "CountyGazetteerModel", name := "found", desc := "(IIJ)I" } : Jvm.MethodName)) ∈ lw_all := lw_g (lw_at lw_m16 144 rfl) rfl
theorem q3921 : (Jvm.Cond.code ({ cls := "CountyGazetteerModel", name := "found", desc := "(IIJ)I" } : Jvm.MethodName) prog_20_method_64_code (6 : Nat) (Option.some Jvm.ClassFile.FieldType.int)) ∈ lw_all := lw_g (lw_at lw_m16 145 rfl) rfl
theorem q3922 : (Jvm.Cond.stringRef "CountyGazetteerModel" (370 : Nat) "village") ∈ lw_tbl := lw_at lw_m16 146 rfl
theorem q3923 : (Jvm.Cond.methodLink "CountyGazetteerModel" (372 : Nat) ({ cls := "CountyGazetteerModel", name := "readVillage", desc := "()Z" } : Jvm.MethodName)) ∈ lw_all := lw_g (lw_at lw_m16 147 rfl) rfl
theorem q3924 : (Jvm.Cond.privateMethod ({ cls := "CountyGazetteerModel", name := "readVillage", desc := "()Z" } : Jvm.MethodName)) ∈ lw_tbl := lw_at lw_m16 148 rfl
theorem q3925 : (Jvm.Cond.instanceMethod ({ cls := "CountyGazetteerModel", name := "readVillage", desc := "()Z" } : Jvm.MethodName)) ∈ lw_all := lw_g (lw_at lw_m16 149 rfl) rfl
theorem q3926 : (Jvm.Cond.code ({ cls := "CountyGazetteerModel", name := "readVillage", desc := "()Z" } : Jvm.MethodName) prog_20_method_71_code (2 : Nat) (Option.some Jvm.ClassFile.FieldType.boolean)) ∈ lw_all := lw_g (lw_at lw_m16 150 rfl) rfl
theorem q3927 : (Jvm.Cond.stringRef "CountyGazetteerModel" (340 : Nat) "gone") ∈ lw_tbl := lw_at lw_m16 151 rfl
theorem q3928 : (Jvm.Cond.stringRef "CountyGazetteerModel" (375 : Nat) "redraw") ∈ lw_tbl := lw_at lw_m16 152 rfl
theorem q3929 : (Jvm.Cond.methodLink "CountyGazetteerModel" (377 : Nat) ({ cls := "CountyGazetteerModel", name := "readRedraw", desc := "()Z" } : Jvm.MethodName)) ∈ lw_all := lw_g (lw_at lw_m16 153 rfl) rfl
theorem q3930 : (Jvm.Cond.privateMethod ({ cls := "CountyGazetteerModel", name := "readRedraw", desc := "()Z" } : Jvm.MethodName)) ∈ lw_tbl := lw_at lw_m16 154 rfl
theorem q3931 : (Jvm.Cond.instanceMethod ({ cls := "CountyGazetteerModel", name := "readRedraw", desc := "()Z" } : Jvm.MethodName)) ∈ lw_all := lw_g (lw_at lw_m16 155 rfl) rfl
theorem q3932 : (Jvm.Cond.code ({ cls := "CountyGazetteerModel", name := "readRedraw", desc := "()Z" } : Jvm.MethodName) prog_20_method_74_code (5 : Nat) (Option.some Jvm.ClassFile.FieldType.boolean)) ∈ lw_all := lw_g (lw_at lw_m16 156 rfl) rfl
theorem q3933 : (Jvm.Cond.methodLink "CountyGazetteerModel" (342 : Nat) ({ cls := "CountyGazetteerModel", name := "putsFrame", desc := "(IIII)V" } : Jvm.MethodName)) ∈ lw_all := lw_g (lw_at lw_m16 157 rfl) rfl
theorem q3934 : (Jvm.Cond.privateMethod ({ cls := "CountyGazetteerModel", name := "putsFrame", desc := "(IIII)V" } : Jvm.MethodName)) ∈ lw_tbl := lw_at lw_m16 158 rfl
theorem q3935 : (Jvm.Cond.instanceMethod ({ cls := "CountyGazetteerModel", name := "putsFrame", desc := "(IIII)V" } : Jvm.MethodName)) ∈ lw_all := lw_g (lw_at lw_m16 159 rfl) rfl
theorem q3936 : (Jvm.Cond.code ({ cls := "CountyGazetteerModel", name := "putsFrame", desc := "(IIII)V" } : Jvm.MethodName) prog_20_method_73_code (6 : Nat) (Option.none : Option Jvm.ClassFile.FieldType)) ∈ lw_all := lw_g (lw_at lw_m16 160 rfl) rfl
theorem q3937 : (Jvm.Cond.methodLink "CountyGazetteerModel" (345 : Nat) ({ cls := "CountyGazetteerModel", name := "readsKnown", desc := "(II)Z" } : Jvm.MethodName)) ∈ lw_all := lw_g (lw_at lw_m16 161 rfl) rfl
theorem q3938 : (Jvm.Cond.privateMethod ({ cls := "CountyGazetteerModel", name := "readsKnown", desc := "(II)Z" } : Jvm.MethodName)) ∈ lw_tbl := lw_at lw_m16 162 rfl
theorem q3939 : (Jvm.Cond.instanceMethod ({ cls := "CountyGazetteerModel", name := "readsKnown", desc := "(II)Z" } : Jvm.MethodName)) ∈ lw_all := lw_g (lw_at lw_m16 163 rfl) rfl
theorem q3940 : (Jvm.Cond.code ({ cls := "CountyGazetteerModel", name := "readsKnown", desc := "(II)Z" } : Jvm.MethodName) prog_20_method_67_code (3 : Nat) (Option.some Jvm.ClassFile.FieldType.boolean)) ∈ lw_all := lw_g (lw_at lw_m16 164 rfl) rfl
theorem q3941 : (Jvm.Cond.methodLink "CountyGazetteerModel" (322 : Nat) ({ cls := "CountyGazetteerModel", name := "seesKnown", desc := "(II)Z" } : Jvm.MethodName)) ∈ lw_all := lw_g (lw_at lw_m16 165 rfl) rfl
theorem q3942 : (Jvm.Cond.privateMethod ({ cls := "CountyGazetteerModel", name := "seesKnown", desc := "(II)Z" } : Jvm.MethodName)) ∈ lw_tbl := lw_at lw_m16 166 rfl
theorem q3943 : (Jvm.Cond.instanceMethod ({ cls := "CountyGazetteerModel", name := "seesKnown", desc := "(II)Z" } : Jvm.MethodName)) ∈ lw_all := lw_g (lw_at lw_m16 167 rfl) rfl
theorem q3944 : (Jvm.Cond.code ({ cls := "CountyGazetteerModel", name := "seesKnown", desc := "(II)Z" } : Jvm.MethodName) prog_20_method_66_code (3 : Nat) (Option.some Jvm.ClassFile.FieldType.boolean)) ∈ lw_all := lw_g (lw_at lw_m16 168 rfl) rfl
theorem q3945 : (Jvm.Cond.methodLink "CountyGazetteerModel" (348 : Nat) ({ cls := "CountyGazetteerModel", name := "putsReform", desc := "(IIII)V" } : Jvm.MethodName)) ∈ lw_all := lw_g (lw_at lw_m16 169 rfl) rfl
theorem q3946 : (Jvm.Cond.privateMethod ({ cls := "CountyGazetteerModel", name := "putsReform", desc := "(IIII)V" } : Jvm.MethodName)) ∈ lw_tbl := lw_at lw_m16 170 rfl
theorem q3947 : (Jvm.Cond.instanceMethod ({ cls := "CountyGazetteerModel", name := "putsReform", desc := "(IIII)V" } : Jvm.MethodName)) ∈ lw_all := lw_g (lw_at lw_m16 171 rfl) rfl
theorem q3948 : (Jvm.Cond.code ({ cls := "CountyGazetteerModel", name := "putsReform", desc := "(IIII)V" } : Jvm.MethodName) prog_20_method_72_code (6 : Nat) (Option.none : Option Jvm.ClassFile.FieldType)) ∈ lw_all := lw_g (lw_at lw_m16 172 rfl) rfl
theorem q3949 : (Jvm.Cond.stringRef "CountyGazetteerModel" (380 : Nat) "join") ∈ lw_tbl := lw_at lw_m16 173 rfl
theorem q3950 : (Jvm.Cond.methodLink "CountyGazetteerModel" (382 : Nat) ({ cls := "CountyGazetteerModel", name := "readJoin", desc := "()Z" } : Jvm.MethodName)) ∈ lw_all := lw_g (lw_at lw_m16 174 rfl) rfl
theorem q3951 : (Jvm.Cond.privateMethod ({ cls := "CountyGazetteerModel", name := "readJoin", desc := "()Z" } : Jvm.MethodName)) ∈ lw_tbl := lw_at lw_m16 175 rfl
theorem q3952 : (Jvm.Cond.instanceMethod ({ cls := "CountyGazetteerModel", name := "readJoin", desc := "()Z" } : Jvm.MethodName)) ∈ lw_all := lw_g (lw_at lw_m16 176 rfl) rfl
theorem q3953 : (Jvm.Cond.code ({ cls := "CountyGazetteerModel", name := "readJoin", desc := "()Z" } : Jvm.MethodName) prog_20_method_75_code (3 : Nat) (Option.some Jvm.ClassFile.FieldType.boolean)) ∈ lw_all := lw_g (lw_at lw_m16 177 rfl) rfl
theorem q3954 : (Jvm.Cond.stringRef "CountyGazetteerModel" (385 : Nat) "rename") ∈ lw_tbl := lw_at lw_m16 178 rfl
theorem q3955 : (Jvm.Cond.methodLink "CountyGazetteerModel" (387 : Nat) ({ cls := "CountyGazetteerModel", name := "readRename", desc := "()Z" } : Jvm.MethodName)) ∈ lw_all := lw_g (lw_at lw_m16 179 rfl) rfl
theorem q3956 : (Jvm.Cond.privateMethod ({ cls := "CountyGazetteerModel", name := "readRename", desc := "()Z" } : Jvm.MethodName)) ∈ lw_tbl := lw_at lw_m16 180 rfl
theorem q3957 : (Jvm.Cond.instanceMethod ({ cls := "CountyGazetteerModel", name := "readRename", desc := "()Z" } : Jvm.MethodName)) ∈ lw_all := lw_g (lw_at lw_m16 181 rfl) rfl
theorem q3958 : (Jvm.Cond.code ({ cls := "CountyGazetteerModel", name := "readRename", desc := "()Z" } : Jvm.MethodName) prog_20_method_77_code (3 : Nat) (Option.some Jvm.ClassFile.FieldType.boolean)) ∈ lw_all := lw_g (lw_at lw_m16 182 rfl) rfl
theorem q3959 : (Jvm.Cond.methodLink "CountyGazetteerModel" (351 : Nat) ({ cls := "CountyGazetteerModel", name := "putsRename", desc := "(IIJ)V" } : Jvm.MethodName)) ∈ lw_all := lw_g (lw_at lw_m16 183 rfl) rfl
theorem q3960 : (Jvm.Cond.privateMethod ({ cls := "CountyGazetteerModel", name := "putsRename", desc := "(IIJ)V" } : Jvm.MethodName)) ∈ lw_tbl := lw_at lw_m16 184 rfl
theorem q3961 : (Jvm.Cond.instanceMethod ({ cls := "CountyGazetteerModel", name := "putsRename", desc := "(IIJ)V" } : Jvm.MethodName)) ∈ lw_all := lw_g (lw_at lw_m16 185 rfl) rfl
theorem q3962 : (Jvm.Cond.code ({ cls := "CountyGazetteerModel", name := "putsRename", desc := "(IIJ)V" } : Jvm.MethodName) prog_20_method_76_code (5 : Nat) (Option.none : Option Jvm.ClassFile.FieldType)) ∈ lw_all := lw_g (lw_at lw_m16 186 rfl) rfl
theorem q3964 : (Jvm.Cond.instanceMethod ({ cls := "CountyGazetteerModel", name := "errorCode", desc := "()I" } : Jvm.MethodName)) ∈ lw_all := lw_g (lw_at lw_m16 188 rfl) rfl
theorem q3965 : (Jvm.Cond.selects "CountyGazetteerModel" ({ cls := "CountyGazetteerModel", name := "errorCode", desc := "()I" } : Jvm.MethodName) ({ cls := "CountyGazetteerModel", name := "errorCode", desc := "()I" } : Jvm.MethodName)) ∈ lw_all := lw_g (lw_at lw_m16 189 rfl) rfl
theorem q3966 : (Jvm.Cond.code ({ cls := "CountyGazetteerModel", name := "errorCode", desc := "()I" } : Jvm.MethodName) prog_20_method_82_code (1 : Nat) (Option.some Jvm.ClassFile.FieldType.int)) ∈ lw_all := lw_g (lw_at lw_m16 190 rfl) rfl
theorem q3968 : (Jvm.Cond.instanceMethod ({ cls := "CountyGazetteerModel", name := "errorOffset", desc := "()I" } : Jvm.MethodName)) ∈ lw_all := lw_g (lw_at lw_m16 192 rfl) rfl
theorem q3969 : (Jvm.Cond.selects "CountyGazetteerModel" ({ cls := "CountyGazetteerModel", name := "errorOffset", desc := "()I" } : Jvm.MethodName) ({ cls := "CountyGazetteerModel", name := "errorOffset", desc := "()I" } : Jvm.MethodName)) ∈ lw_all := lw_g (lw_at lw_m16 193 rfl) rfl
theorem q3970 : (Jvm.Cond.code ({ cls := "CountyGazetteerModel", name := "errorOffset", desc := "()I" } : Jvm.MethodName) prog_20_method_83_code (1 : Nat) (Option.some Jvm.ClassFile.FieldType.int)) ∈ lw_all := lw_g (lw_at lw_m16 194 rfl) rfl
theorem q3972 : (Jvm.Cond.instanceMethod ({ cls := "CountyGazetteerModel", name := "count", desc := "(I)I" } : Jvm.MethodName)) ∈ lw_all := lw_g (lw_at lw_m16 196 rfl) rfl
theorem q3973 : (Jvm.Cond.selects "CountyGazetteerModel" ({ cls := "CountyGazetteerModel", name := "count", desc := "(I)I" } : Jvm.MethodName) ({ cls := "CountyGazetteerModel", name := "count", desc := "(I)I" } : Jvm.MethodName)) ∈ lw_all := lw_g (lw_at lw_m16 197 rfl) rfl
theorem q3974 : (Jvm.Cond.code ({ cls := "CountyGazetteerModel", name := "count", desc := "(I)I" } : Jvm.MethodName) prog_20_method_86_code (2 : Nat) (Option.some Jvm.ClassFile.FieldType.int)) ∈ lw_all := lw_g (lw_at lw_m16 198 rfl) rfl
theorem q3975 : (Jvm.Cond.methodLink "CountyGazetteerModel" (418 : Nat) ({ cls := "CountyGazetteerModel", name := "livingIn", desc := "(I)I" } : Jvm.MethodName)) ∈ lw_all := lw_g (lw_at lw_m16 199 rfl) rfl
theorem q3976 : (Jvm.Cond.privateMethod ({ cls := "CountyGazetteerModel", name := "livingIn", desc := "(I)I" } : Jvm.MethodName)) ∈ lw_tbl := lw_at lw_m16 200 rfl
theorem q3977 : (Jvm.Cond.instanceMethod ({ cls := "CountyGazetteerModel", name := "livingIn", desc := "(I)I" } : Jvm.MethodName)) ∈ lw_all := lw_g (lw_at lw_m16 201 rfl) rfl
theorem q3978 : (Jvm.Cond.code ({ cls := "CountyGazetteerModel", name := "livingIn", desc := "(I)I" } : Jvm.MethodName) prog_20_method_84_code (4 : Nat) (Option.some Jvm.ClassFile.FieldType.int)) ∈ lw_all := lw_g (lw_at lw_m16 202 rfl) rfl
theorem q3979 : (Jvm.Cond.methodLink "CountyGazetteerModel" (177 : Nat) ({ cls := "CountyGazetteerModel", name := "lives", desc := "(II)Z" } : Jvm.MethodName)) ∈ lw_all := lw_g (lw_at lw_m16 203 rfl) rfl
theorem q3980 : (Jvm.Cond.privateMethod ({ cls := "CountyGazetteerModel", name := "lives", desc := "(II)Z" } : Jvm.MethodName)) ∈ lw_tbl := lw_at lw_m16 204 rfl
theorem q3981 : (Jvm.Cond.instanceMethod ({ cls := "CountyGazetteerModel", name := "lives", desc := "(II)Z" } : Jvm.MethodName)) ∈ lw_all := lw_g (lw_at lw_m16 205 rfl) rfl
theorem q3982 : (Jvm.Cond.code ({ cls := "CountyGazetteerModel", name := "lives", desc := "(II)Z" } : Jvm.MethodName) prog_20_method_22_code (3 : Nat) (Option.some Jvm.ClassFile.FieldType.boolean)) ∈ lw_all := lw_g (lw_at lw_m16 206 rfl) rfl
theorem q3983 : (Jvm.Cond.methodLink "CountyGazetteerModel" (140 : Nat) ({ cls := "CountyGazetteerModel", name := "ofVillage", desc := "(II)I" } : Jvm.MethodName)) ∈ lw_all := lw_g (lw_at lw_m16 207 rfl) rfl
theorem q3984 : (Jvm.Cond.privateMethod ({ cls := "CountyGazetteerModel", name := "ofVillage", desc := "(II)I" } : Jvm.MethodName)) ∈ lw_tbl := lw_at lw_m16 208 rfl
theorem q3985 : (Jvm.Cond.instanceMethod ({ cls := "CountyGazetteerModel", name := "ofVillage", desc := "(II)I" } : Jvm.MethodName)) ∈ lw_all := lw_g (lw_at lw_m16 209 rfl) rfl
theorem q3986 : (Jvm.Cond.code ({ cls := "CountyGazetteerModel", name := "ofVillage", desc := "(II)I" } : Jvm.MethodName) prog_20_method_10_code (3 : Nat) (Option.some Jvm.ClassFile.FieldType.int)) ∈ lw_all := lw_g (lw_at lw_m16 210 rfl) rfl
theorem q3987 : (Jvm.Cond.methodLink "CountyGazetteerModel" (421 : Nat) ({ cls := "CountyGazetteerModel", name := "countOfLines", desc := "(I)I" } : Jvm.MethodName)) ∈ lw_all := lw_g (lw_at lw_m16 211 rfl) rfl
theorem q3988 : (Jvm.Cond.privateMethod ({ cls := "CountyGazetteerModel", name := "countOfLines", desc := "(I)I" } : Jvm.MethodName)) ∈ lw_tbl := lw_at lw_m16 212 rfl
theorem q3989 : (Jvm.Cond.instanceMethod ({ cls := "CountyGazetteerModel", name := "countOfLines", desc := "(I)I" } : Jvm.MethodName)) ∈ lw_all := lw_g (lw_at lw_m16 213 rfl) rfl
theorem q3990 : (Jvm.Cond.code ({ cls := "CountyGazetteerModel", name := "countOfLines", desc := "(I)I" } : Jvm.MethodName) prog_20_method_85_code (2 : Nat) (Option.some Jvm.ClassFile.FieldType.int)) ∈ lw_all := lw_g (lw_at lw_m16 214 rfl) rfl
theorem q3991 : (Jvm.Cond.methodLink "CountyGazetteerModel" (409 : Nat) ({ cls := "CountyGazetteerModel", name := "laysAll", desc := "()V" } : Jvm.MethodName)) ∈ lw_all := lw_g (lw_at lw_m16 215 rfl) rfl
theorem q3992 : (Jvm.Cond.privateMethod ({ cls := "CountyGazetteerModel", name := "laysAll", desc := "()V" } : Jvm.MethodName)) ∈ lw_tbl := lw_at lw_m16 216 rfl
theorem q3993 : (Jvm.Cond.instanceMethod ({ cls := "CountyGazetteerModel", name := "laysAll", desc := "()V" } : Jvm.MethodName)) ∈ lw_all := lw_g (lw_at lw_m16 217 rfl) rfl
theorem q3994 : (Jvm.Cond.code ({ cls := "CountyGazetteerModel", name := "laysAll", desc := "()V" } : Jvm.MethodName) prog_20_method_44_code (1 : Nat) (Option.none : Option Jvm.ClassFile.FieldType)) ∈ lw_all := lw_g (lw_at lw_m16 218 rfl) rfl
theorem q3995 : (Jvm.Cond.methodLink "CountyGazetteerModel" (208 : Nat) ({ cls := "CountyGazetteerModel", name := "asks", desc := "()V" } : Jvm.MethodName)) ∈ lw_all := lw_g (lw_at lw_m16 219 rfl) rfl
theorem q3996 : (Jvm.Cond.privateMethod ({ cls := "CountyGazetteerModel", name := "asks", desc := "()V" } : Jvm.MethodName)) ∈ lw_tbl := lw_at lw_m16 220 rfl
theorem q3997 : (Jvm.Cond.instanceMethod ({ cls := "CountyGazetteerModel", name := "asks", desc := "()V" } : Jvm.MethodName)) ∈ lw_all := lw_g (lw_at lw_m16 221 rfl) rfl
theorem q3998 : (Jvm.Cond.code ({ cls := "CountyGazetteerModel", name := "asks", desc := "()V" } : Jvm.MethodName) prog_20_method_17_code (1 : Nat) (Option.none : Option Jvm.ClassFile.FieldType)) ∈ lw_all := lw_g (lw_at lw_m16 222 rfl) rfl
theorem q3999 : (Jvm.Cond.methodLink "CountyGazetteerModel" (130 : Nat) ({ cls := "CountyGazetteerModel", name := "laysOrder", desc := "()V" } : Jvm.MethodName)) ∈ lw_all := lw_g (lw_at lw_m16 223 rfl) rfl
theorem q4000 : (Jvm.Cond.privateMethod ({ cls := "CountyGazetteerModel", name := "laysOrder", desc := "()V" } : Jvm.MethodName)) ∈ lw_tbl := lw_at lw_m16 224 rfl
theorem q4001 : (Jvm.Cond.instanceMethod ({ cls := "CountyGazetteerModel", name := "laysOrder", desc := "()V" } : Jvm.MethodName)) ∈ lw_all := lw_g (lw_at lw_m16 225 rfl) rfl
theorem q4002 : (Jvm.Cond.code ({ cls := "CountyGazetteerModel", name := "laysOrder", desc := "()V" } : Jvm.MethodName) prog_20_method_16_code (3 : Nat) (Option.none : Option Jvm.ClassFile.FieldType)) ∈ lw_all := lw_g (lw_at lw_m16 226 rfl) rfl
theorem q4003 : (Jvm.Cond.methodLink "CountyGazetteerModel" (126 : Nat) ({ cls := "CountyGazetteerModel", name := "ofReform", desc := "(II)I" } : Jvm.MethodName)) ∈ lw_all := lw_g (lw_at lw_m16 227 rfl) rfl
theorem q4004 : (Jvm.Cond.privateMethod ({ cls := "CountyGazetteerModel", name := "ofReform", desc := "(II)I" } : Jvm.MethodName)) ∈ lw_tbl := lw_at lw_m16 228 rfl
theorem q4005 : (Jvm.Cond.instanceMethod ({ cls := "CountyGazetteerModel", name := "ofReform", desc := "(II)I" } : Jvm.MethodName)) ∈ lw_all := lw_g (lw_at lw_m16 229 rfl) rfl
theorem q4006 : (Jvm.Cond.code ({ cls := "CountyGazetteerModel", name := "ofReform", desc := "(II)I" } : Jvm.MethodName) prog_20_method_11_code (3 : Nat) (Option.some Jvm.ClassFile.FieldType.int)) ∈ lw_all := lw_g (lw_at lw_m16 230 rfl) rfl
theorem q4007 : (Jvm.Cond.methodLink "CountyGazetteerModel" (211 : Nat) ({ cls := "CountyGazetteerModel", name := "laysLines", desc := "(II)V" } : Jvm.MethodName)) ∈ lw_all := lw_g (lw_at lw_m16 231 rfl) rfl
theorem q4008 : (Jvm.Cond.privateMethod ({ cls := "CountyGazetteerModel", name := "laysLines", desc := "(II)V" } : Jvm.MethodName)) ∈ lw_tbl := lw_at lw_m16 232 rfl
theorem q4009 : (Jvm.Cond.instanceMethod ({ cls := "CountyGazetteerModel", name := "laysLines", desc := "(II)V" } : Jvm.MethodName)) ∈ lw_all := lw_g (lw_at lw_m16 233 rfl) rfl
theorem q4010 : (Jvm.Cond.code ({ cls := "CountyGazetteerModel", name := "laysLines", desc := "(II)V" } : Jvm.MethodName) prog_20_method_34_code (8 : Nat) (Option.none : Option Jvm.ClassFile.FieldType)) ∈ lw_all := lw_g (lw_at lw_m16 234 rfl) rfl
theorem q4011 : (Jvm.Cond.methodLink "CountyGazetteerModel" (181 : Nat) ({ cls := "CountyGazetteerModel", name := "countyAt", desc := "(II)I" } : Jvm.MethodName)) ∈ lw_all := lw_g (lw_at lw_m16 235 rfl) rfl
theorem q4012 : (Jvm.Cond.privateMethod ({ cls := "CountyGazetteerModel", name := "countyAt", desc := "(II)I" } : Jvm.MethodName)) ∈ lw_tbl := lw_at lw_m16 236 rfl
theorem q4013 : (Jvm.Cond.instanceMethod ({ cls := "CountyGazetteerModel", name := "countyAt", desc := "(II)I" } : Jvm.MethodName)) ∈ lw_all := lw_g (lw_at lw_m16 237 rfl) rfl
theorem q4014 : (Jvm.Cond.code ({ cls := "CountyGazetteerModel", name := "countyAt", desc := "(II)I" } : Jvm.MethodName) prog_20_method_21_code (3 : Nat) (Option.some Jvm.ClassFile.FieldType.int)) ∈ lw_all := lw_g (lw_at lw_m16 238 rfl) rfl
theorem q4015 : (Jvm.Cond.methodLink "CountyGazetteerModel" (143 : Nat) ({ cls := "CountyGazetteerModel", name := "ownerAt", desc := "(III)I" } : Jvm.MethodName)) ∈ lw_all := lw_g (lw_at lw_m16 239 rfl) rfl
theorem q4016 : (Jvm.Cond.privateMethod ({ cls := "CountyGazetteerModel", name := "ownerAt", desc := "(III)I" } : Jvm.MethodName)) ∈ lw_tbl := lw_at lw_m17 0 rfl
theorem q4017 : (Jvm.Cond.instanceMethod ({ cls := "CountyGazetteerModel", name := "ownerAt", desc := "(III)I" } : Jvm.MethodName)) ∈ lw_all := lw_g (lw_at lw_m17 1 rfl) rfl
theorem q4018 : (Jvm.Cond.code ({ cls := "CountyGazetteerModel", name := "ownerAt", desc := "(III)I" } : Jvm.MethodName) prog_20_method_20_code (6 : Nat) (Option.some Jvm.ClassFile.FieldType.int)) ∈ lw_all := lw_g (lw_at lw_m17 2 rfl) rfl
theorem q4019 : (Jvm.Cond.methodLink "CountyGazetteerModel" (136 : Nat) ({ cls := "CountyGazetteerModel", name := "behind", desc := "(IIII)I" } : Jvm.MethodName)) ∈ lw_all := lw_g (lw_at lw_m17 3 rfl) rfl
theorem q4020 : (Jvm.Cond.privateMethod ({ cls := "CountyGazetteerModel", name := "behind", desc := "(IIII)I" } : Jvm.MethodName)) ∈ lw_tbl := lw_at lw_m17 4 rfl
theorem q4021 : (Jvm.Cond.instanceMethod ({ cls := "CountyGazetteerModel", name := "behind", desc := "(IIII)I" } : Jvm.MethodName)) ∈ lw_all := lw_g (lw_at lw_m17 5 rfl) rfl
theorem q4022 : (Jvm.Cond.code ({ cls := "CountyGazetteerModel", name := "behind", desc := "(IIII)I" } : Jvm.MethodName) prog_20_method_19_code (6 : Nat) (Option.some Jvm.ClassFile.FieldType.int)) ∈ lw_all := lw_g (lw_at lw_m17 6 rfl) rfl
theorem q4023 : (Jvm.Cond.methodLink "CountyGazetteerModel" (133 : Nat) ({ cls := "CountyGazetteerModel", name := "isWithin", desc := "(III)Z" } : Jvm.MethodName)) ∈ lw_all := lw_g (lw_at lw_m17 7 rfl) rfl
theorem q4024 : (Jvm.Cond.privateMethod ({ cls := "CountyGazetteerModel", name := "isWithin", desc := "(III)Z" } : Jvm.MethodName)) ∈ lw_tbl := lw_at lw_m17 8 rfl
theorem q4025 : (Jvm.Cond.instanceMethod ({ cls := "CountyGazetteerModel", name := "isWithin", desc := "(III)Z" } : Jvm.MethodName)) ∈ lw_all := lw_g (lw_at lw_m17 9 rfl) rfl
theorem q4026 : (Jvm.Cond.code ({ cls := "CountyGazetteerModel", name := "isWithin", desc := "(III)Z" } : Jvm.MethodName) prog_20_method_18_code (4 : Nat) (Option.some Jvm.ClassFile.FieldType.boolean)) ∈ lw_all := lw_g (lw_at lw_m17 10 rfl) rfl
theorem q4027 : (Jvm.Cond.methodLink "CountyGazetteerModel" (155 : Nat) ({ cls := "CountyGazetteerModel", name := "nameIn", desc := "(II)J" } : Jvm.MethodName)) ∈ lw_all := lw_g (lw_at lw_m17 11 rfl) rfl
theorem q4028 : (Jvm.Cond.privateMethod ({ cls := "CountyGazetteerModel", name := "nameIn", desc := "(II)J" } : Jvm.MethodName)) ∈ lw_tbl := lw_at lw_m17 12 rfl
theorem q4029 : (Jvm.Cond.instanceMethod ({ cls := "CountyGazetteerModel", name := "nameIn", desc := "(II)J" } : Jvm.MethodName)) ∈ lw_all := lw_g (lw_at lw_m17 13 rfl) rfl
theorem q4030 : (Jvm.Cond.code ({ cls := "CountyGazetteerModel", name := "nameIn", desc := "(II)J" } : Jvm.MethodName) prog_20_method_24_code (8 : Nat) (Option.some Jvm.ClassFile.FieldType.long)) ∈ lw_all := lw_g (lw_at lw_m17 14 rfl) rfl
theorem q4031 : (Jvm.Cond.methodLink "CountyGazetteerModel" (147 : Nat) ({ cls := "CountyGazetteerModel", name := "ofRename", desc := "(II)I" } : Jvm.MethodName)) ∈ lw_all := lw_g (lw_at lw_m17 15 rfl) rfl
theorem q4032 : (Jvm.Cond.privateMethod ({ cls := "CountyGazetteerModel", name := "ofRename", desc := "(II)I" } : Jvm.MethodName)) ∈ lw_tbl := lw_at lw_m17 16 rfl
theorem q4033 : (Jvm.Cond.instanceMethod ({ cls := "CountyGazetteerModel", name := "ofRename", desc := "(II)I" } : Jvm.MethodName)) ∈ lw_all := lw_g (lw_at lw_m17 17 rfl) rfl
theorem q4034 : (Jvm.Cond.code ({ cls := "CountyGazetteerModel", name := "ofRename", desc := "(II)I" } : Jvm.MethodName) prog_20_method_12_code (3 : Nat) (Option.some Jvm.ClassFile.FieldType.int)) ∈ lw_all := lw_g (lw_at lw_m17 18 rfl) rfl
theorem q4035 : (Jvm.Cond.methodLink "CountyGazetteerModel" (184 : Nat) ({ cls := "CountyGazetteerModel", name := "addsLine", desc := "(IJII)V" } : Jvm.MethodName)) ∈ lw_all := lw_g (lw_at lw_m17 19 rfl) rfl
theorem q4036 : (Jvm.Cond.privateMethod ({ cls := "CountyGazetteerModel", name := "addsLine", desc := "(IJII)V" } : Jvm.MethodName)) ∈ lw_tbl := lw_at lw_m17 20 rfl
theorem q4037 : (Jvm.Cond.instanceMethod ({ cls := "CountyGazetteerModel", name := "addsLine", desc := "(IJII)V" } : Jvm.MethodName)) ∈ lw_all := lw_g (lw_at lw_m17 21 rfl) rfl
theorem q4038 : (Jvm.Cond.code ({ cls := "CountyGazetteerModel", name := "addsLine", desc := "(IJII)V" } : Jvm.MethodName) prog_20_method_32_code (7 : Nat) (Option.none : Option Jvm.ClassFile.FieldType)) ∈ lw_all := lw_g (lw_at lw_m17 22 rfl) rfl
theorem q4039 : (Jvm.Cond.methodLink "CountyGazetteerModel" (173 : Nat) ({ cls := "CountyGazetteerModel", name := "comesAhead", desc := "(IJIII)Z" } : Jvm.MethodName)) ∈ lw_all := lw_g (lw_at lw_m17 23 rfl) rfl
theorem q4040 : (Jvm.Cond.privateMethod ({ cls := "CountyGazetteerModel", name := "comesAhead", desc := "(IJIII)Z" } : Jvm.MethodName)) ∈ lw_tbl := lw_at lw_m17 24 rfl
theorem q4041 : (Jvm.Cond.instanceMethod ({ cls := "CountyGazetteerModel", name := "comesAhead", desc := "(IJIII)Z" } : Jvm.MethodName)) ∈ lw_all := lw_g (lw_at lw_m17 25 rfl) rfl
theorem q4042 : (Jvm.Cond.code ({ cls := "CountyGazetteerModel", name := "comesAhead", desc := "(IJIII)Z" } : Jvm.MethodName) prog_20_method_31_code (7 : Nat) (Option.some Jvm.ClassFile.FieldType.boolean)) ∈ lw_all := lw_g (lw_at lw_m17 26 rfl) rfl
theorem q4043 : (Jvm.Cond.methodLink "CountyGazetteerModel" (166 : Nat) ({ cls := "CountyGazetteerModel", name := "nameOfCounty", desc := "(I)J" } : Jvm.MethodName)) ∈ lw_all := lw_g (lw_at lw_m17 27 rfl) rfl
theorem q4044 : (Jvm.Cond.privateMethod ({ cls := "CountyGazetteerModel", name := "nameOfCounty", desc := "(I)J" } : Jvm.MethodName)) ∈ lw_tbl := lw_at lw_m17 28 rfl
theorem q4045 : (Jvm.Cond.instanceMethod ({ cls := "CountyGazetteerModel", name := "nameOfCounty", desc := "(I)J" } : Jvm.MethodName)) ∈ lw_all := lw_g (lw_at lw_m17 29 rfl) rfl
theorem q4046 : (Jvm.Cond.code ({ cls := "CountyGazetteerModel", name := "nameOfCounty", desc := "(I)J" } : Jvm.MethodName) prog_20_method_30_code (2 : Nat) (Option.some Jvm.ClassFile.FieldType.long)) ∈ lw_all := lw_g (lw_at lw_m17 30 rfl) rfl
theorem q4047 : (Jvm.Cond.methodLink "CountyGazetteerModel" (163 : Nat) ({ cls := "CountyGazetteerModel", name := "laysHad", desc := "(II)V" } : Jvm.MethodName)) ∈ lw_all := lw_g (lw_at lw_m17 31 rfl) rfl
theorem q4048 : (Jvm.Cond.privateMethod ({ cls := "CountyGazetteerModel", name := "laysHad", desc := "(II)V" } : Jvm.MethodName)) ∈ lw_tbl := lw_at lw_m17 32 rfl
theorem q4049 : (Jvm.Cond.instanceMethod ({ cls := "CountyGazetteerModel", name := "laysHad", desc := "(II)V" } : Jvm.MethodName)) ∈ lw_all := lw_g (lw_at lw_m17 33 rfl) rfl
theorem q4050 : (Jvm.Cond.code ({ cls := "CountyGazetteerModel", name := "laysHad", desc := "(II)V" } : Jvm.MethodName) prog_20_method_28_code (6 : Nat) (Option.none : Option Jvm.ClassFile.FieldType)) ∈ lw_all := lw_g (lw_at lw_m17 34 rfl) rfl
theorem q4051 : (Jvm.Cond.methodLink "CountyGazetteerModel" (159 : Nat) ({ cls := "CountyGazetteerModel", name := "addsHad", desc := "(J)V" } : Jvm.MethodName)) ∈ lw_all := lw_g (lw_at lw_m17 35 rfl) rfl
theorem q4052 : (Jvm.Cond.privateMethod ({ cls := "CountyGazetteerModel", name := "addsHad", desc := "(J)V" } : Jvm.MethodName)) ∈ lw_tbl := lw_at lw_m17 36 rfl
theorem q4053 : (Jvm.Cond.instanceMethod ({ cls := "CountyGazetteerModel", name := "addsHad", desc := "(J)V" } : Jvm.MethodName)) ∈ lw_all := lw_g (lw_at lw_m17 37 rfl) rfl
theorem q4054 : (Jvm.Cond.code ({ cls := "CountyGazetteerModel", name := "addsHad", desc := "(J)V" } : Jvm.MethodName) prog_20_method_27_code (4 : Nat) (Option.none : Option Jvm.ClassFile.FieldType)) ∈ lw_all := lw_g (lw_at lw_m17 38 rfl) rfl
theorem q4055 : (Jvm.Cond.methodLink "CountyGazetteerModel" (188 : Nat) ({ cls := "CountyGazetteerModel", name := "isMoved", desc := "(III)Z" } : Jvm.MethodName)) ∈ lw_all := lw_g (lw_at lw_m17 39 rfl) rfl
theorem q4056 : (Jvm.Cond.privateMethod ({ cls := "CountyGazetteerModel", name := "isMoved", desc := "(III)Z" } : Jvm.MethodName)) ∈ lw_tbl := lw_at lw_m17 40 rfl
theorem q4057 : (Jvm.Cond.instanceMethod ({ cls := "CountyGazetteerModel", name := "isMoved", desc := "(III)Z" } : Jvm.MethodName)) ∈ lw_all := lw_g (lw_at lw_m17 41 rfl) rfl
theorem q4058 : (Jvm.Cond.code ({ cls := "CountyGazetteerModel", name := "isMoved", desc := "(III)Z" } : Jvm.MethodName) prog_20_method_33_code (4 : Nat) (Option.some Jvm.ClassFile.FieldType.boolean)) ∈ lw_all := lw_g (lw_at lw_m17 42 rfl) rfl
theorem q4059 : (Jvm.Cond.methodLink "CountyGazetteerModel" (214 : Nat) ({ cls := "CountyGazetteerModel", name := "laysPages", desc := "(I)V" } : Jvm.MethodName)) ∈ lw_all := lw_g (lw_at lw_m17 43 rfl) rfl
theorem q4060 : (Jvm.Cond.privateMethod ({ cls := "CountyGazetteerModel", name := "laysPages", desc := "(I)V" } : Jvm.MethodName)) ∈ lw_tbl := lw_at lw_m17 44 rfl
theorem q4061 : (Jvm.Cond.instanceMethod ({ cls := "CountyGazetteerModel", name := "laysPages", desc := "(I)V" } : Jvm.MethodName)) ∈ lw_all := lw_g (lw_at lw_m17 45 rfl) rfl
theorem q4062 : (Jvm.Cond.code ({ cls := "CountyGazetteerModel", name := "laysPages", desc := "(I)V" } : Jvm.MethodName) prog_20_method_43_code (4 : Nat) (Option.none : Option Jvm.ClassFile.FieldType)) ∈ lw_all := lw_g (lw_at lw_m17 46 rfl) rfl
theorem q4063 : (Jvm.Cond.methodLink "CountyGazetteerModel" (191 : Nat) ({ cls := "CountyGazetteerModel", name := "isFirst", desc := "(I)Z" } : Jvm.MethodName)) ∈ lw_all := lw_g (lw_at lw_m17 47 rfl) rfl
theorem q4064 : (Jvm.Cond.privateMethod ({ cls := "CountyGazetteerModel", name := "isFirst", desc := "(I)Z" } : Jvm.MethodName)) ∈ lw_tbl := lw_at lw_m17 48 rfl
theorem q4065 : (Jvm.Cond.instanceMethod ({ cls := "CountyGazetteerModel", name := "isFirst", desc := "(I)Z" } : Jvm.MethodName)) ∈ lw_all := lw_g (lw_at lw_m17 49 rfl) rfl
theorem q4066 : (Jvm.Cond.code ({ cls := "CountyGazetteerModel", name := "isFirst", desc := "(I)Z" } : Jvm.MethodName) prog_20_method_36_code (2 : Nat) (Option.some Jvm.ClassFile.FieldType.boolean)) ∈ lw_all := lw_g (lw_at lw_m17 50 rfl) rfl
theorem q4067 : (Jvm.Cond.methodLink "CountyGazetteerModel" (197 : Nat) ({ cls := "CountyGazetteerModel", name := "left", desc := "(I)I" } : Jvm.MethodName)) ∈ lw_all := lw_g (lw_at lw_m17 51 rfl) rfl
theorem q4068 : (Jvm.Cond.privateMethod ({ cls := "CountyGazetteerModel", name := "left", desc := "(I)I" } : Jvm.MethodName)) ∈ lw_tbl := lw_at lw_m17 52 rfl
theorem q4069 : (Jvm.Cond.instanceMethod ({ cls := "CountyGazetteerModel", name := "left", desc := "(I)I" } : Jvm.MethodName)) ∈ lw_all := lw_g (lw_at lw_m17 53 rfl) rfl
theorem q4070 : (Jvm.Cond.code ({ cls := "CountyGazetteerModel", name := "left", desc := "(I)I" } : Jvm.MethodName) prog_20_method_41_code (2 : Nat) (Option.some Jvm.ClassFile.FieldType.int)) ∈ lw_all := lw_g (lw_at lw_m17 54 rfl) rfl
theorem q4071 : (Jvm.Cond.methodLink "CountyGazetteerModel" (201 : Nat) ({ cls := "CountyGazetteerModel", name := "turns", desc := "()V" } : Jvm.MethodName)) ∈ lw_all := lw_g (lw_at lw_m17 55 rfl) rfl
theorem q4072 : (Jvm.Cond.privateMethod ({ cls := "CountyGazetteerModel", name := "turns", desc := "()V" } : Jvm.MethodName)) ∈ lw_tbl := lw_at lw_m17 56 rfl
theorem q4073 : (Jvm.Cond.instanceMethod ({ cls := "CountyGazetteerModel", name := "turns", desc := "()V" } : Jvm.MethodName)) ∈ lw_all := lw_g (lw_at lw_m17 57 rfl) rfl
theorem q4074 : (Jvm.Cond.code ({ cls := "CountyGazetteerModel", name := "turns", desc := "()V" } : Jvm.MethodName) prog_20_method_40_code (1 : Nat) (Option.none : Option Jvm.ClassFile.FieldType)) ∈ lw_all := lw_g (lw_at lw_m17 58 rfl) rfl
theorem q4075 : (Jvm.Cond.methodLink "CountyGazetteerModel" (204 : Nat) ({ cls := "CountyGazetteerModel", name := "takes", desc := "(IIII)V" } : Jvm.MethodName)) ∈ lw_all := lw_g (lw_at lw_m17 59 rfl) rfl
theorem q4076 : (Jvm.Cond.privateMethod ({ cls := "CountyGazetteerModel", name := "takes", desc := "(IIII)V" } : Jvm.MethodName)) ∈ lw_tbl := lw_at lw_m17 60 rfl
theorem q4077 : (Jvm.Cond.instanceMethod ({ cls := "CountyGazetteerModel", name := "takes", desc := "(IIII)V" } : Jvm.MethodName)) ∈ lw_all := lw_g (lw_at lw_m17 61 rfl) rfl
theorem q4078 : (Jvm.Cond.code ({ cls := "CountyGazetteerModel", name := "takes", desc := "(IIII)V" } : Jvm.MethodName) prog_20_method_42_code (6 : Nat) (Option.none : Option Jvm.ClassFile.FieldType)) ∈ lw_all := lw_g (lw_at lw_m17 62 rfl) rfl
theorem q4079 : (Jvm.Cond.methodLink "CountyGazetteerModel" (412 : Nat) ({ cls := "CountyGazetteerModel", name := "blocks", desc := "()I" } : Jvm.MethodName)) ∈ lw_all := lw_g (lw_at lw_m17 63 rfl) rfl
theorem q4080 : (Jvm.Cond.privateMethod ({ cls := "CountyGazetteerModel", name := "blocks", desc := "()I" } : Jvm.MethodName)) ∈ lw_tbl := lw_at lw_m17 64 rfl
theorem q4081 : (Jvm.Cond.instanceMethod ({ cls := "CountyGazetteerModel", name := "blocks", desc := "()I" } : Jvm.MethodName)) ∈ lw_all := lw_g (lw_at lw_m17 65 rfl) rfl
theorem q4082 : (Jvm.Cond.code ({ cls := "CountyGazetteerModel", name := "blocks", desc := "()I" } : Jvm.MethodName) prog_20_method_39_code (3 : Nat) (Option.some Jvm.ClassFile.FieldType.int)) ∈ lw_all := lw_g (lw_at lw_m17 66 rfl) rfl
theorem q4083 : (Jvm.Cond.methodLink "CountyGazetteerModel" (415 : Nat) ({ cls := "CountyGazetteerModel", name := "linesOf", desc := "(I)I" } : Jvm.MethodName)) ∈ lw_all := lw_g (lw_at lw_m17 67 rfl) rfl
theorem q4084 : (Jvm.Cond.privateMethod ({ cls := "CountyGazetteerModel", name := "linesOf", desc := "(I)I" } : Jvm.MethodName)) ∈ lw_tbl := lw_at lw_m17 68 rfl
theorem q4085 : (Jvm.Cond.instanceMethod ({ cls := "CountyGazetteerModel", name := "linesOf", desc := "(I)I" } : Jvm.MethodName)) ∈ lw_all := lw_g (lw_at lw_m17 69 rfl) rfl
theorem q4086 : (Jvm.Cond.code ({ cls := "CountyGazetteerModel", name := "linesOf", desc := "(I)I" } : Jvm.MethodName) prog_20_method_35_code (4 : Nat) (Option.some Jvm.ClassFile.FieldType.int)) ∈ lw_all := lw_g (lw_at lw_m17 70 rfl) rfl
theorem q4088 : (Jvm.Cond.instanceMethod ({ cls := "CountyGazetteerModel", name := "village", desc := "(II)I" } : Jvm.MethodName)) ∈ lw_all := lw_g (lw_at lw_m17 72 rfl) rfl
theorem q4089 : (Jvm.Cond.selects "CountyGazetteerModel" ({ cls := "CountyGazetteerModel", name := "village", desc := "(II)I" } : Jvm.MethodName) ({ cls := "CountyGazetteerModel", name := "village", desc := "(II)I" } : Jvm.MethodName)) ∈ lw_all := lw_g (lw_at lw_m17 73 rfl) rfl
theorem q4090 : (Jvm.Cond.code ({ cls := "CountyGazetteerModel", name := "village", desc := "(II)I" } : Jvm.MethodName) prog_20_method_89_code (3 : Nat) (Option.some Jvm.ClassFile.FieldType.int)) ∈ lw_all := lw_g (lw_at lw_m17 74 rfl) rfl
theorem q4091 : (Jvm.Cond.methodLink "CountyGazetteerModel" (424 : Nat) ({ cls := "CountyGazetteerModel", name := "noVillage", desc := "(I)Z" } : Jvm.MethodName)) ∈ lw_all := lw_g (lw_at lw_m17 75 rfl) rfl
theorem q4092 : (Jvm.Cond.privateMethod ({ cls := "CountyGazetteerModel", name := "noVillage", desc := "(I)Z" } : Jvm.MethodName)) ∈ lw_tbl := lw_at lw_m17 76 rfl
theorem q4093 : (Jvm.Cond.instanceMethod ({ cls := "CountyGazetteerModel", name := "noVillage", desc := "(I)Z" } : Jvm.MethodName)) ∈ lw_all := lw_g (lw_at lw_m17 77 rfl) rfl
theorem q4094 : (Jvm.Cond.code ({ cls := "CountyGazetteerModel", name := "noVillage", desc := "(I)Z" } : Jvm.MethodName) prog_20_method_13_code (2 : Nat) (Option.some Jvm.ClassFile.FieldType.boolean)) ∈ lw_all := lw_g (lw_at lw_m17 78 rfl) rfl
theorem q4095 : (Jvm.Cond.methodLink "CountyGazetteerModel" (118 : Nat) ({ cls := "CountyGazetteerModel", name := "fails", desc := "(ZI)Z" } : Jvm.MethodName)) ∈ lw_all := lw_g (lw_at lw_m17 79 rfl) rfl
theorem q4096 : (Jvm.Cond.privateMethod ({ cls := "CountyGazetteerModel", name := "fails", desc := "(ZI)Z" } : Jvm.MethodName)) ∈ lw_tbl := lw_at lw_m17 80 rfl
theorem q4097 : (Jvm.Cond.instanceMethod ({ cls := "CountyGazetteerModel", name := "fails", desc := "(ZI)Z" } : Jvm.MethodName)) ∈ lw_all := lw_g (lw_at lw_m17 81 rfl) rfl
theorem q4098 : (Jvm.Cond.code ({ cls := "CountyGazetteerModel", name := "fails", desc := "(ZI)Z" } : Jvm.MethodName) prog_20_method_5_code (3 : Nat) (Option.some Jvm.ClassFile.FieldType.boolean)) ∈ lw_all := lw_g (lw_at lw_m17 82 rfl) rfl
theorem q4099 : (Jvm.Cond.methodLink "CountyGazetteerModel" (427 : Nat) ({ cls := "CountyGazetteerModel", name := "renamesOf", desc := "(I)I" } : Jvm.MethodName)) ∈ lw_all := lw_g (lw_at lw_m17 83 rfl) rfl
theorem q4100 : (Jvm.Cond.privateMethod ({ cls := "CountyGazetteerModel", name := "renamesOf", desc := "(I)I" } : Jvm.MethodName)) ∈ lw_tbl := lw_at lw_m17 84 rfl
theorem q4101 : (Jvm.Cond.instanceMethod ({ cls := "CountyGazetteerModel", name := "renamesOf", desc := "(I)I" } : Jvm.MethodName)) ∈ lw_all := lw_g (lw_at lw_m17 85 rfl) rfl
theorem q4102 : (Jvm.Cond.code ({ cls := "CountyGazetteerModel", name := "renamesOf", desc := "(I)I" } : Jvm.MethodName) prog_20_method_87_code (4 : Nat) (Option.some Jvm.ClassFile.FieldType.int)) ∈ lw_all := lw_g (lw_at lw_m17 86 rfl) rfl
theorem q4103 : (Jvm.Cond.methodLink "CountyGazetteerModel" (430 : Nat) ({ cls := "CountyGazetteerModel", name := "oldNames", desc := "(II)I" } : Jvm.MethodName)) ∈ lw_all := lw_g (lw_at lw_m17 87 rfl) rfl
theorem q4104 : (Jvm.Cond.privateMethod ({ cls := "CountyGazetteerModel", name := "oldNames", desc := "(II)I" } : Jvm.MethodName)) ∈ lw_tbl := lw_at lw_m17 88 rfl
theorem q4105 : (Jvm.Cond.instanceMethod ({ cls := "CountyGazetteerModel", name := "oldNames", desc := "(II)I" } : Jvm.MethodName)) ∈ lw_all := lw_g (lw_at lw_m17 89 rfl) rfl
theorem q4106 : (Jvm.Cond.code ({ cls := "CountyGazetteerModel", name := "oldNames", desc := "(II)I" } : Jvm.MethodName) prog_20_method_29_code (5 : Nat) (Option.some Jvm.ClassFile.FieldType.int)) ∈ lw_all := lw_g (lw_at lw_m17 90 rfl) rfl
theorem q4107 : (Jvm.Cond.methodLink "CountyGazetteerModel" (433 : Nat) ({ cls := "CountyGazetteerModel", name := "pageOfName", desc := "(I)I" } : Jvm.MethodName)) ∈ lw_all := lw_g (lw_at lw_m17 91 rfl) rfl
theorem q4108 : (Jvm.Cond.privateMethod ({ cls := "CountyGazetteerModel", name := "pageOfName", desc := "(I)I" } : Jvm.MethodName)) ∈ lw_tbl := lw_at lw_m17 92 rfl
theorem q4109 : (Jvm.Cond.instanceMethod ({ cls := "CountyGazetteerModel", name := "pageOfName", desc := "(I)I" } : Jvm.MethodName)) ∈ lw_all := lw_g (lw_at lw_m17 93 rfl) rfl
theorem q4110 : (Jvm.Cond.code ({ cls := "CountyGazetteerModel", name := "pageOfName", desc := "(I)I" } : Jvm.MethodName) prog_20_method_88_code (3 : Nat) (Option.some Jvm.ClassFile.FieldType.int)) ∈ lw_all := lw_g (lw_at lw_m17 94 rfl) rfl
theorem q4112 : (Jvm.Cond.instanceMethod ({ cls := "CountyGazetteerModel", name := "county", desc := "(II)I" } : Jvm.MethodName)) ∈ lw_all := lw_g (lw_at lw_m17 96 rfl) rfl
theorem q4113 : (Jvm.Cond.selects "CountyGazetteerModel" ({ cls := "CountyGazetteerModel", name := "county", desc := "(II)I" } : Jvm.MethodName) ({ cls := "CountyGazetteerModel", name := "county", desc := "(II)I" } : Jvm.MethodName)) ∈ lw_all := lw_g (lw_at lw_m17 97 rfl) rfl
theorem q4114 : (Jvm.Cond.code ({ cls := "CountyGazetteerModel", name := "county", desc := "(II)I" } : Jvm.MethodName) prog_20_method_98_code (4 : Nat) (Option.some Jvm.ClassFile.FieldType.int)) ∈ lw_all := lw_g (lw_at lw_m17 98 rfl) rfl
theorem q4115 : (Jvm.Cond.methodLink "CountyGazetteerModel" (442 : Nat) ({ cls := "CountyGazetteerModel", name := "noCounty", desc := "(I)Z" } : Jvm.MethodName)) ∈ lw_all := lw_g (lw_at lw_m17 99 rfl) rfl
theorem q4116 : (Jvm.Cond.privateMethod ({ cls := "CountyGazetteerModel", name := "noCounty", desc := "(I)Z" } : Jvm.MethodName)) ∈ lw_tbl := lw_at lw_m17 100 rfl
theorem q4117 : (Jvm.Cond.instanceMethod ({ cls := "CountyGazetteerModel", name := "noCounty", desc := "(I)Z" } : Jvm.MethodName)) ∈ lw_all := lw_g (lw_at lw_m17 101 rfl) rfl
theorem q4118 : (Jvm.Cond.code ({ cls := "CountyGazetteerModel", name := "noCounty", desc := "(I)Z" } : Jvm.MethodName) prog_20_method_14_code (2 : Nat) (Option.some Jvm.ClassFile.FieldType.boolean)) ∈ lw_all := lw_g (lw_at lw_m17 102 rfl) rfl
theorem q4119 : (Jvm.Cond.methodLink "CountyGazetteerModel" (445 : Nat) ({ cls := "CountyGazetteerModel", name := "laysOwners", desc := "(I)V" } : Jvm.MethodName)) ∈ lw_all := lw_g (lw_at lw_m17 103 rfl) rfl
theorem q4120 : (Jvm.Cond.privateMethod ({ cls := "CountyGazetteerModel", name := "laysOwners", desc := "(I)V" } : Jvm.MethodName)) ∈ lw_tbl := lw_at lw_m17 104 rfl
theorem q4121 : (Jvm.Cond.instanceMethod ({ cls := "CountyGazetteerModel", name := "laysOwners", desc := "(I)V" } : Jvm.MethodName)) ∈ lw_all := lw_g (lw_at lw_m17 105 rfl) rfl
theorem q4122 : (Jvm.Cond.code ({ cls := "CountyGazetteerModel", name := "laysOwners", desc := "(I)V" } : Jvm.MethodName) prog_20_method_90_code (3 : Nat) (Option.none : Option Jvm.ClassFile.FieldType)) ∈ lw_all := lw_g (lw_at lw_m17 106 rfl) rfl
theorem q4123 : (Jvm.Cond.methodLink "CountyGazetteerModel" (448 : Nat) ({ cls := "CountyGazetteerModel", name := "firstIn", desc := "(I)I" } : Jvm.MethodName)) ∈ lw_all := lw_g (lw_at lw_m17 107 rfl) rfl
theorem q4124 : (Jvm.Cond.privateMethod ({ cls := "CountyGazetteerModel", name := "firstIn", desc := "(I)I" } : Jvm.MethodName)) ∈ lw_tbl := lw_at lw_m17 108 rfl
theorem q4125 : (Jvm.Cond.instanceMethod ({ cls := "CountyGazetteerModel", name := "firstIn", desc := "(I)I" } : Jvm.MethodName)) ∈ lw_all := lw_g (lw_at lw_m17 109 rfl) rfl
theorem q4126 : (Jvm.Cond.code ({ cls := "CountyGazetteerModel", name := "firstIn", desc := "(I)I" } : Jvm.MethodName) prog_20_method_38_code (3 : Nat) (Option.some Jvm.ClassFile.FieldType.int)) ∈ lw_all := lw_g (lw_at lw_m17 110 rfl) rfl
theorem q4127 : (Jvm.Cond.methodLink "CountyGazetteerModel" (451 : Nat) ({ cls := "CountyGazetteerModel", name := "cellsOf", desc := "(I)I" } : Jvm.MethodName)) ∈ lw_all := lw_g (lw_at lw_m17 111 rfl) rfl
theorem q4128 : (Jvm.Cond.privateMethod ({ cls := "CountyGazetteerModel", name := "cellsOf", desc := "(I)I" } : Jvm.MethodName)) ∈ lw_tbl := lw_at lw_m17 112 rfl
theorem q4129 : (Jvm.Cond.instanceMethod ({ cls := "CountyGazetteerModel", name := "cellsOf", desc := "(I)I" } : Jvm.MethodName)) ∈ lw_all := lw_g (lw_at lw_m17 113 rfl) rfl
theorem q4130 : (Jvm.Cond.code ({ cls := "CountyGazetteerModel", name := "cellsOf", desc := "(I)I" } : Jvm.MethodName) prog_20_method_91_code (4 : Nat) (Option.some Jvm.ClassFile.FieldType.int)) ∈ lw_all := lw_g (lw_at lw_m17 114 rfl) rfl
theorem q4131 : (Jvm.Cond.methodLink "CountyGazetteerModel" (454 : Nat) ({ cls := "CountyGazetteerModel", name := "setIn", desc := "(II)I" } : Jvm.MethodName)) ∈ lw_all := lw_g (lw_at lw_m17 115 rfl) rfl
theorem q4132 : (Jvm.Cond.privateMethod ({ cls := "CountyGazetteerModel", name := "setIn", desc := "(II)I" } : Jvm.MethodName)) ∈ lw_tbl := lw_at lw_m17 116 rfl
theorem q4133 : (Jvm.Cond.instanceMethod ({ cls := "CountyGazetteerModel", name := "setIn", desc := "(II)I" } : Jvm.MethodName)) ∈ lw_all := lw_g (lw_at lw_m17 117 rfl) rfl
theorem q4134 : (Jvm.Cond.code ({ cls := "CountyGazetteerModel", name := "setIn", desc := "(II)I" } : Jvm.MethodName) prog_20_method_97_code (5 : Nat) (Option.some Jvm.ClassFile.FieldType.int)) ∈ lw_all := lw_g (lw_at lw_m17 118 rfl) rfl
theorem q4135 : (Jvm.Cond.methodLink "CountyGazetteerModel" (232 : Nat) ({ cls := "java/lang/Integer", name := "bitCount", desc := "(I)I" } : Jvm.MethodName)) ∈ lw_all := lw_g (lw_at lw_m17 119 rfl) rfl
theorem q4136 : (Jvm.Cond.methodLink "CountyGazetteerModel" (221 : Nat) ({ cls := "CountyGazetteerModel", name := "linesIn", desc := "(I)I" } : Jvm.MethodName)) ∈ lw_all := lw_g (lw_at lw_m17 120 rfl) rfl
theorem q4137 : (Jvm.Cond.privateMethod ({ cls := "CountyGazetteerModel", name := "linesIn", desc := "(I)I" } : Jvm.MethodName)) ∈ lw_tbl := lw_at lw_m17 121 rfl
theorem q4138 : (Jvm.Cond.instanceMethod ({ cls := "CountyGazetteerModel", name := "linesIn", desc := "(I)I" } : Jvm.MethodName)) ∈ lw_all := lw_g (lw_at lw_m17 122 rfl) rfl
theorem q4139 : (Jvm.Cond.code ({ cls := "CountyGazetteerModel", name := "linesIn", desc := "(I)I" } : Jvm.MethodName) prog_20_method_37_code (4 : Nat) (Option.some Jvm.ClassFile.FieldType.int)) ∈ lw_all := lw_g (lw_at lw_m17 123 rfl) rfl
theorem q4140 : (Jvm.Cond.methodLink "CountyGazetteerModel" (457 : Nat) ({ cls := "CountyGazetteerModel", name := "pagesOf", desc := "(I)I" } : Jvm.MethodName)) ∈ lw_all := lw_g (lw_at lw_m17 124 rfl) rfl
theorem q4141 : (Jvm.Cond.privateMethod ({ cls := "CountyGazetteerModel", name := "pagesOf", desc := "(I)I" } : Jvm.MethodName)) ∈ lw_tbl := lw_at lw_m17 125 rfl
theorem q4142 : (Jvm.Cond.instanceMethod ({ cls := "CountyGazetteerModel", name := "pagesOf", desc := "(I)I" } : Jvm.MethodName)) ∈ lw_all := lw_g (lw_at lw_m17 126 rfl) rfl
theorem q4143 : (Jvm.Cond.code ({ cls := "CountyGazetteerModel", name := "pagesOf", desc := "(I)I" } : Jvm.MethodName) prog_20_method_96_code (5 : Nat) (Option.some Jvm.ClassFile.FieldType.int)) ∈ lw_all := lw_g (lw_at lw_m17 127 rfl) rfl
theorem q4144 : (Jvm.Cond.methodLink "CountyGazetteerModel" (460 : Nat) ({ cls := "CountyGazetteerModel", name := "partsOf", desc := "(I)I" } : Jvm.MethodName)) ∈ lw_all := lw_g (lw_at lw_m17 128 rfl) rfl
theorem q4145 : (Jvm.Cond.privateMethod ({ cls := "CountyGazetteerModel", name := "partsOf", desc := "(I)I" } : Jvm.MethodName)) ∈ lw_tbl := lw_at lw_m17 129 rfl
theorem q4146 : (Jvm.Cond.instanceMethod ({ cls := "CountyGazetteerModel", name := "partsOf", desc := "(I)I" } : Jvm.MethodName)) ∈ lw_all := lw_g (lw_at lw_m17 130 rfl) rfl
theorem q4147 : (Jvm.Cond.code ({ cls := "CountyGazetteerModel", name := "partsOf", desc := "(I)I" } : Jvm.MethodName) prog_20_method_94_code (4 : Nat) (Option.some Jvm.ClassFile.FieldType.int)) ∈ lw_all := lw_g (lw_at lw_m17 131 rfl) rfl
theorem q4148 : (Jvm.Cond.methodLink "CountyGazetteerModel" (439 : Nat) ({ cls := "CountyGazetteerModel", name := "meets", desc := "(I)V" } : Jvm.MethodName)) ∈ lw_all := lw_g (lw_at lw_m17 132 rfl) rfl
theorem q4149 : (Jvm.Cond.privateMethod ({ cls := "CountyGazetteerModel", name := "meets", desc := "(I)V" } : Jvm.MethodName)) ∈ lw_tbl := lw_at lw_m17 133 rfl
theorem q4150 : (Jvm.Cond.instanceMethod ({ cls := "CountyGazetteerModel", name := "meets", desc := "(I)V" } : Jvm.MethodName)) ∈ lw_all := lw_g (lw_at lw_m17 134 rfl) rfl
theorem q4151 : (Jvm.Cond.code ({ cls := "CountyGazetteerModel", name := "meets", desc := "(I)V" } : Jvm.MethodName) prog_20_method_93_code (6 : Nat) (Option.none : Option Jvm.ClassFile.FieldType)) ∈ lw_all := lw_g (lw_at lw_m17 135 rfl) rfl
theorem q4152 : (Jvm.Cond.methodLink "CountyGazetteerModel" (436 : Nat) ({ cls := "CountyGazetteerModel", name := "beside", desc := "(II)I" } : Jvm.MethodName)) ∈ lw_all := lw_g (lw_at lw_m17 136 rfl) rfl
theorem q4153 : (Jvm.Cond.privateMethod ({ cls := "CountyGazetteerModel", name := "beside", desc := "(II)I" } : Jvm.MethodName)) ∈ lw_tbl := lw_at lw_m17 137 rfl
theorem q4154 : (Jvm.Cond.instanceMethod ({ cls := "CountyGazetteerModel", name := "beside", desc := "(II)I" } : Jvm.MethodName)) ∈ lw_all := lw_g (lw_at lw_m17 138 rfl) rfl
theorem q4155 : (Jvm.Cond.code ({ cls := "CountyGazetteerModel", name := "beside", desc := "(II)I" } : Jvm.MethodName) prog_20_method_92_code (5 : Nat) (Option.some Jvm.ClassFile.FieldType.int)) ∈ lw_all := lw_g (lw_at lw_m17 139 rfl) rfl
theorem q4156 : (Jvm.Cond.methodLink "CountyGazetteerModel" (463 : Nat) ({ cls := "CountyGazetteerModel", name := "neighboursOf", desc := "(I)I" } : Jvm.MethodName)) ∈ lw_all := lw_g (lw_at lw_m17 140 rfl) rfl
theorem q4157 : (Jvm.Cond.privateMethod ({ cls := "CountyGazetteerModel", name := "neighboursOf", desc := "(I)I" } : Jvm.MethodName)) ∈ lw_tbl := lw_at lw_m17 141 rfl
theorem q4158 : (Jvm.Cond.instanceMethod ({ cls := "CountyGazetteerModel", name := "neighboursOf", desc := "(I)I" } : Jvm.MethodName)) ∈ lw_all := lw_g (lw_at lw_m17 142 rfl) rfl
theorem q4159 : (Jvm.Cond.code ({ cls := "CountyGazetteerModel", name := "neighboursOf", desc := "(I)I" } : Jvm.MethodName) prog_20_method_95_code (6 : Nat) (Option.some Jvm.ClassFile.FieldType.int)) ∈ lw_all := lw_g (lw_at lw_m17 143 rfl) rfl
theorem q4161 : (Jvm.Cond.instanceMethod ({ cls := "CountyGazetteerModel", name := "reform", desc := "(II)I" } : Jvm.MethodName)) ∈ lw_all := lw_g (lw_at lw_m17 145 rfl) rfl
theorem q4162 : (Jvm.Cond.selects "CountyGazetteerModel" ({ cls := "CountyGazetteerModel", name := "reform", desc := "(II)I" } : Jvm.MethodName) ({ cls := "CountyGazetteerModel", name := "reform", desc := "(II)I" } : Jvm.MethodName)) ∈ lw_all := lw_g (lw_at lw_m17 146 rfl) rfl
theorem q4163 : (Jvm.Cond.code ({ cls := "CountyGazetteerModel", name := "reform", desc := "(II)I" } : Jvm.MethodName) prog_20_method_100_code (3 : Nat) (Option.some Jvm.ClassFile.FieldType.int)) ∈ lw_all := lw_g (lw_at lw_m17 147 rfl) rfl
theorem q4164 : (Jvm.Cond.methodLink "CountyGazetteerModel" (466 : Nat) ({ cls := "CountyGazetteerModel", name := "noReform", desc := "(I)Z" } : Jvm.MethodName)) ∈ lw_all := lw_g (lw_at lw_m17 148 rfl) rfl
theorem q4165 : (Jvm.Cond.privateMethod ({ cls := "CountyGazetteerModel", name := "noReform", desc := "(I)Z" } : Jvm.MethodName)) ∈ lw_tbl := lw_at lw_m17 149 rfl
theorem q4166 : (Jvm.Cond.instanceMethod ({ cls := "CountyGazetteerModel", name := "noReform", desc := "(I)Z" } : Jvm.MethodName)) ∈ lw_all := lw_g (lw_at lw_m17 150 rfl) rfl
theorem q4167 : (Jvm.Cond.code ({ cls := "CountyGazetteerModel", name := "noReform", desc := "(I)Z" } : Jvm.MethodName) prog_20_method_99_code (2 : Nat) (Option.some Jvm.ClassFile.FieldType.boolean)) ∈ lw_all := lw_g (lw_at lw_m17 151 rfl) rfl
theorem q4168 : (Jvm.Cond.methodLink "CountyGazetteerModel" (469 : Nat) ({ cls := "CountyGazetteerModel", name := "changedBy", desc := "(I)I" } : Jvm.MethodName)) ∈ lw_all := lw_g (lw_at lw_m17 152 rfl) rfl
theorem q4169 : (Jvm.Cond.privateMethod ({ cls := "CountyGazetteerModel", name := "changedBy", desc := "(I)I" } : Jvm.MethodName)) ∈ lw_tbl := lw_at lw_m17 153 rfl
theorem q4170 : (Jvm.Cond.instanceMethod ({ cls := "CountyGazetteerModel", name := "changedBy", desc := "(I)I" } : Jvm.MethodName)) ∈ lw_all := lw_g (lw_at lw_m17 154 rfl) rfl
theorem q4171 : (Jvm.Cond.code ({ cls := "CountyGazetteerModel", name := "changedBy", desc := "(I)I" } : Jvm.MethodName) prog_20_method_23_code (7 : Nat) (Option.some Jvm.ClassFile.FieldType.int)) ∈ lw_all := lw_g (lw_at lw_m17 155 rfl) rfl
theorem q4173 : (Jvm.Cond.instanceMethod ({ cls := "CountyGazetteerModel", name := "ownerOf", desc := "(III)I" } : Jvm.MethodName)) ∈ lw_all := lw_g (lw_at lw_m17 157 rfl) rfl
theorem q4174 : (Jvm.Cond.selects "CountyGazetteerModel" ({ cls := "CountyGazetteerModel", name := "ownerOf", desc := "(III)I" } : Jvm.MethodName) ({ cls := "CountyGazetteerModel", name := "ownerOf", desc := "(III)I" } : Jvm.MethodName)) ∈ lw_all := lw_g (lw_at lw_m17 158 rfl) rfl
theorem q4175 : (Jvm.Cond.code ({ cls := "CountyGazetteerModel", name := "ownerOf", desc := "(III)I" } : Jvm.MethodName) prog_20_method_101_code (5 : Nat) (Option.some Jvm.ClassFile.FieldType.int)) ∈ lw_all := lw_g (lw_at lw_m17 159 rfl) rfl
theorem q4176 : (Jvm.Cond.methodLink "CountyGazetteerModel" (122 : Nat) ({ cls := "CountyGazetteerModel", name := "isYear", desc := "(I)Z" } : Jvm.MethodName)) ∈ lw_all := lw_g (lw_at lw_m17 160 rfl) rfl
theorem q4177 : (Jvm.Cond.static ({ cls := "CountyGazetteerModel", name := "isYear", desc := "(I)Z" } : Jvm.MethodName)) ∈ lw_all := lw_g (lw_at lw_m17 161 rfl) rfl
theorem q4178 : (Jvm.Cond.code ({ cls := "CountyGazetteerModel", name := "isYear", desc := "(I)Z" } : Jvm.MethodName) prog_20_method_4_code (1 : Nat) (Option.some Jvm.ClassFile.FieldType.boolean)) ∈ lw_all := lw_g (lw_at lw_m17 162 rfl) rfl
theorem q4180 : (Jvm.Cond.instanceMethod ({ cls := "CountyGazetteerModel", name := "countyIn", desc := "(II)I" } : Jvm.MethodName)) ∈ lw_all := lw_g (lw_at lw_m17 164 rfl) rfl
theorem q4181 : (Jvm.Cond.selects "CountyGazetteerModel" ({ cls := "CountyGazetteerModel", name := "countyIn", desc := "(II)I" } : Jvm.MethodName) ({ cls := "CountyGazetteerModel", name := "countyIn", desc := "(II)I" } : Jvm.MethodName)) ∈ lw_all := lw_g (lw_at lw_m17 165 rfl) rfl
theorem q4182 : (Jvm.Cond.code ({ cls := "CountyGazetteerModel", name := "countyIn", desc := "(II)I" } : Jvm.MethodName) prog_20_method_102_code (3 : Nat) (Option.some Jvm.ClassFile.FieldType.int)) ∈ lw_all := lw_g (lw_at lw_m17 166 rfl) rfl
theorem q4183 : (Jvm.Cond.methodLink "CountyGazetteerModel" (472 : Nat) ({ cls := "CountyGazetteerModel", name := "noYear", desc := "(II)Z" } : Jvm.MethodName)) ∈ lw_all := lw_g (lw_at lw_m17 167 rfl) rfl
theorem q4184 : (Jvm.Cond.privateMethod ({ cls := "CountyGazetteerModel", name := "noYear", desc := "(II)Z" } : Jvm.MethodName)) ∈ lw_tbl := lw_at lw_m17 168 rfl
theorem q4185 : (Jvm.Cond.instanceMethod ({ cls := "CountyGazetteerModel", name := "noYear", desc := "(II)Z" } : Jvm.MethodName)) ∈ lw_all := lw_g (lw_at lw_m17 169 rfl) rfl
theorem q4186 : (Jvm.Cond.code ({ cls := "CountyGazetteerModel", name := "noYear", desc := "(II)Z" } : Jvm.MethodName) prog_20_method_15_code (3 : Nat) (Option.some Jvm.ClassFile.FieldType.boolean)) ∈ lw_all := lw_g (lw_at lw_m17 170 rfl) rfl
theorem q4188 : (Jvm.Cond.instanceMethod ({ cls := "CountyGazetteerModel", name := "nameLength", desc := "(II)I" } : Jvm.MethodName)) ∈ lw_all := lw_g (lw_at lw_m17 172 rfl) rfl
theorem q4189 : (Jvm.Cond.selects "CountyGazetteerModel" ({ cls := "CountyGazetteerModel", name := "nameLength", desc := "(II)I" } : Jvm.MethodName) ({ cls := "CountyGazetteerModel", name := "nameLength", desc := "(II)I" } : Jvm.MethodName)) ∈ lw_all := lw_g (lw_at lw_m17 173 rfl) rfl
theorem q4190 : (Jvm.Cond.code ({ cls := "CountyGazetteerModel", name := "nameLength", desc := "(II)I" } : Jvm.MethodName) prog_20_method_103_code (3 : Nat) (Option.some Jvm.ClassFile.FieldType.int)) ∈ lw_all := lw_g (lw_at lw_m17 174 rfl) rfl
theorem q4191 : (Jvm.Cond.methodLink "CountyGazetteerModel" (475 : Nat) ({ cls := "CountyGazetteerModel", name := "lettersOf", desc := "(J)I" } : Jvm.MethodName)) ∈ lw_all := lw_g (lw_at lw_m17 175 rfl) rfl
theorem q4192 : (Jvm.Cond.static ({ cls := "CountyGazetteerModel", name := "lettersOf", desc := "(J)I" } : Jvm.MethodName)) ∈ lw_all := lw_g (lw_at lw_m17 176 rfl) rfl
theorem q4193 : (Jvm.Cond.code ({ cls := "CountyGazetteerModel", name := "lettersOf", desc := "(J)I" } : Jvm.MethodName) prog_20_method_25_code (5 : Nat) (Option.some Jvm.ClassFile.FieldType.int)) ∈ lw_all := lw_g (lw_at lw_m17 177 rfl) rfl
theorem q4195 : (Jvm.Cond.instanceMethod ({ cls := "CountyGazetteerModel", name := "nameLetter", desc := "(III)I" } : Jvm.MethodName)) ∈ lw_all := lw_g (lw_at lw_m17 179 rfl) rfl
theorem q4196 : (Jvm.Cond.selects "CountyGazetteerModel" ({ cls := "CountyGazetteerModel", name := "nameLetter", desc := "(III)I" } : Jvm.MethodName) ({ cls := "CountyGazetteerModel", name := "nameLetter", desc := "(III)I" } : Jvm.MethodName)) ∈ lw_all := lw_g (lw_at lw_m17 180 rfl) rfl
theorem q4197 : (Jvm.Cond.code ({ cls := "CountyGazetteerModel", name := "nameLetter", desc := "(III)I" } : Jvm.MethodName) prog_20_method_104_code (4 : Nat) (Option.some Jvm.ClassFile.FieldType.int)) ∈ lw_all := lw_g (lw_at lw_m17 181 rfl) rfl
theorem q4198 : (Jvm.Cond.methodLink "CountyGazetteerModel" (479 : Nat) ({ cls := "CountyGazetteerModel", name := "letterOf", desc := "(JI)I" } : Jvm.MethodName)) ∈ lw_all := lw_g (lw_at lw_m17 182 rfl) rfl
theorem q4199 : (Jvm.Cond.static ({ cls := "CountyGazetteerModel", name := "letterOf", desc := "(JI)I" } : Jvm.MethodName)) ∈ lw_all := lw_g (lw_at lw_m17 183 rfl) rfl
theorem q4200 : (Jvm.Cond.code ({ cls := "CountyGazetteerModel", name := "letterOf", desc := "(JI)I" } : Jvm.MethodName) prog_20_method_26_code (6 : Nat) (Option.some Jvm.ClassFile.FieldType.int)) ∈ lw_all := lw_g (lw_at lw_m17 184 rfl) rfl
theorem q4202 : (Jvm.Cond.instanceMethod ({ cls := "CountyGazetteerModel", name := "movesOf", desc := "(I)I" } : Jvm.MethodName)) ∈ lw_all := lw_g (lw_at lw_m17 186 rfl) rfl
theorem q4203 : (Jvm.Cond.selects "CountyGazetteerModel" ({ cls := "CountyGazetteerModel", name := "movesOf", desc := "(I)I" } : Jvm.MethodName) ({ cls := "CountyGazetteerModel", name := "movesOf", desc := "(I)I" } : Jvm.MethodName)) ∈ lw_all := lw_g (lw_at lw_m17 187 rfl) rfl
theorem q4204 : (Jvm.Cond.code ({ cls := "CountyGazetteerModel", name := "movesOf", desc := "(I)I" } : Jvm.MethodName) prog_20_method_107_code (4 : Nat) (Option.some Jvm.ClassFile.FieldType.int)) ∈ lw_all := lw_g (lw_at lw_m17 188 rfl) rfl
theorem q4205 : (Jvm.Cond.methodLink "CountyGazetteerModel" (486 : Nat) ({ cls := "CountyGazetteerModel", name := "lastLived", desc := "(I)I" } : Jvm.MethodName)) ∈ lw_all := lw_g (lw_at lw_m17 189 rfl) rfl
theorem q4206 : (Jvm.Cond.privateMethod ({ cls := "CountyGazetteerModel", name := "lastLived", desc := "(I)I" } : Jvm.MethodName)) ∈ lw_tbl := lw_at lw_m17 190 rfl
theorem q4207 : (Jvm.Cond.instanceMethod ({ cls := "CountyGazetteerModel", name := "lastLived", desc := "(I)I" } : Jvm.MethodName)) ∈ lw_all := lw_g (lw_at lw_m17 191 rfl) rfl
theorem q4208 : (Jvm.Cond.code ({ cls := "CountyGazetteerModel", name := "lastLived", desc := "(I)I" } : Jvm.MethodName) prog_20_method_106_code (2 : Nat) (Option.some Jvm.ClassFile.FieldType.int)) ∈ lw_all := lw_g (lw_at lw_m17 192 rfl) rfl
theorem q4209 : (Jvm.Cond.methodLink "CountyGazetteerModel" (483 : Nat) ({ cls := "java/lang/Math", name := "min", desc := "(II)I" } : Jvm.MethodName)) ∈ lw_all := lw_g (lw_at lw_m17 193 rfl) rfl
theorem q4210 : (Jvm.Cond.methodLink "CountyGazetteerModel" (489 : Nat) ({ cls := "CountyGazetteerModel", name := "movesIn", desc := "(II)Z" } : Jvm.MethodName)) ∈ lw_all := lw_g (lw_at lw_m17 194 rfl) rfl
theorem q4211 : (Jvm.Cond.privateMethod ({ cls := "CountyGazetteerModel", name := "movesIn", desc := "(II)Z" } : Jvm.MethodName)) ∈ lw_tbl := lw_at lw_m17 195 rfl
theorem q4212 : (Jvm.Cond.instanceMethod ({ cls := "CountyGazetteerModel", name := "movesIn", desc := "(II)Z" } : Jvm.MethodName)) ∈ lw_all := lw_g (lw_at lw_m17 196 rfl) rfl
theorem q4213 : (Jvm.Cond.code ({ cls := "CountyGazetteerModel", name := "movesIn", desc := "(II)Z" } : Jvm.MethodName) prog_20_method_105_code (3 : Nat) (Option.some Jvm.ClassFile.FieldType.boolean)) ∈ lw_all := lw_g (lw_at lw_m17 197 rfl) rfl
theorem q4215 : (Jvm.Cond.instanceMethod ({ cls := "CountyGazetteerModel", name := "lastMove", desc := "(I)I" } : Jvm.MethodName)) ∈ lw_all := lw_g (lw_at lw_m17 199 rfl) rfl
theorem q4216 : (Jvm.Cond.selects "CountyGazetteerModel" ({ cls := "CountyGazetteerModel", name := "lastMove", desc := "(I)I" } : Jvm.MethodName) ({ cls := "CountyGazetteerModel", name := "lastMove", desc := "(I)I" } : Jvm.MethodName)) ∈ lw_all := lw_g (lw_at lw_m17 200 rfl) rfl
theorem q4217 : (Jvm.Cond.code ({ cls := "CountyGazetteerModel", name := "lastMove", desc := "(I)I" } : Jvm.MethodName) prog_20_method_108_code (3 : Nat) (Option.some Jvm.ClassFile.FieldType.int)) ∈ lw_all := lw_g (lw_at lw_m17 201 rfl) rfl
theorem q4219 : (Jvm.Cond.instanceMethod ({ cls := "CountyGazetteerModel", name := "villagesIn", desc := "(II)I" } : Jvm.MethodName)) ∈ lw_all := lw_g (lw_at lw_m17 203 rfl) rfl
theorem q4220 : (Jvm.Cond.selects "CountyGazetteerModel" ({ cls := "CountyGazetteerModel", name := "villagesIn", desc := "(II)I" } : Jvm.MethodName) ({ cls := "CountyGazetteerModel", name := "villagesIn", desc := "(II)I" } : Jvm.MethodName)) ∈ lw_all := lw_g (lw_at lw_m17 204 rfl) rfl
theorem q4221 : (Jvm.Cond.code ({ cls := "CountyGazetteerModel", name := "villagesIn", desc := "(II)I" } : Jvm.MethodName) prog_20_method_109_code (3 : Nat) (Option.some Jvm.ClassFile.FieldType.int)) ∈ lw_all := lw_g (lw_at lw_m17 205 rfl) rfl
theorem q4223 : (Jvm.Cond.instanceMethod ({ cls := "CountyGazetteerModel", name := "movedBetween", desc := "(II)I" } : Jvm.MethodName)) ∈ lw_all := lw_g (lw_at lw_m17 207 rfl) rfl
theorem q4224 : (Jvm.Cond.selects "CountyGazetteerModel" ({ cls := "CountyGazetteerModel", name := "movedBetween", desc := "(II)I" } : Jvm.MethodName) ({ cls := "CountyGazetteerModel", name := "movedBetween", desc := "(II)I" } : Jvm.MethodName)) ∈ lw_all := lw_g (lw_at lw_m17 208 rfl) rfl
theorem q4225 : (Jvm.Cond.code ({ cls := "CountyGazetteerModel", name := "movedBetween", desc := "(II)I" } : Jvm.MethodName) prog_20_method_110_code (5 : Nat) (Option.some Jvm.ClassFile.FieldType.int)) ∈ lw_all := lw_g (lw_at lw_m17 209 rfl) rfl
theorem q4227 : (Jvm.Cond.instanceMethod ({ cls := "CountyGazetteerModel", name := "nextMove", desc := "(I)I" } : Jvm.MethodName)) ∈ lw_all := lw_g (lw_at lw_m17 211 rfl) rfl
theorem q4228 : (Jvm.Cond.selects "CountyGazetteerModel" ({ cls := "CountyGazetteerModel", name := "nextMove", desc := "(I)I" } : Jvm.MethodName) ({ cls := "CountyGazetteerModel", name := "nextMove", desc := "(I)I" } : Jvm.MethodName)) ∈ lw_all := lw_g (lw_at lw_m17 212 rfl) rfl
theorem q4229 : (Jvm.Cond.code ({ cls := "CountyGazetteerModel", name := "nextMove", desc := "(I)I" } : Jvm.MethodName) prog_20_method_111_code (3 : Nat) (Option.some Jvm.ClassFile.FieldType.int)) ∈ lw_all := lw_g (lw_at lw_m17 213 rfl) rfl
theorem q4231 : (Jvm.Cond.instanceMethod ({ cls := "CountyGazetteerModel", name := "named", desc := "()I" } : Jvm.MethodName)) ∈ lw_all := lw_g (lw_at lw_m17 215 rfl) rfl
theorem q4232 : (Jvm.Cond.selects "CountyGazetteerModel" ({ cls := "CountyGazetteerModel", name := "named", desc := "()I" } : Jvm.MethodName) ({ cls := "CountyGazetteerModel", name := "named", desc := "()I" } : Jvm.MethodName)) ∈ lw_all := lw_g (lw_at lw_m17 216 rfl) rfl
theorem q4233 : (Jvm.Cond.code ({ cls := "CountyGazetteerModel", name := "named", desc := "()I" } : Jvm.MethodName) prog_20_method_113_code (5 : Nat) (Option.some Jvm.ClassFile.FieldType.int)) ∈ lw_all := lw_g (lw_at lw_m17 217 rfl) rfl
theorem q4234 : (Jvm.Cond.methodLink "CountyGazetteerModel" (492 : Nat) ({ cls := "CountyGazetteerModel", name := "nameHeld", desc := "()J" } : Jvm.MethodName)) ∈ lw_all := lw_g (lw_at lw_m17 218 rfl) rfl
theorem q4235 : (Jvm.Cond.privateMethod ({ cls := "CountyGazetteerModel", name := "nameHeld", desc := "()J" } : Jvm.MethodName)) ∈ lw_tbl := lw_at lw_m17 219 rfl
theorem q4236 : (Jvm.Cond.instanceMethod ({ cls := "CountyGazetteerModel", name := "nameHeld", desc := "()J" } : Jvm.MethodName)) ∈ lw_all := lw_g (lw_at lw_m17 220 rfl) rfl
theorem q4237 : (Jvm.Cond.code ({ cls := "CountyGazetteerModel", name := "nameHeld", desc := "()J" } : Jvm.MethodName) prog_20_method_112_code (2 : Nat) (Option.some Jvm.ClassFile.FieldType.long)) ∈ lw_all := lw_g (lw_at lw_m17 221 rfl) rfl
theorem q4239 : (Jvm.Cond.instanceMethod ({ cls := "CountyGazetteerModel", name := "everNamed", desc := "()I" } : Jvm.MethodName)) ∈ lw_all := lw_g (lw_at lw_m17 223 rfl) rfl
theorem q4240 : (Jvm.Cond.selects "CountyGazetteerModel" ({ cls := "CountyGazetteerModel", name := "everNamed", desc := "()I" } : Jvm.MethodName) ({ cls := "CountyGazetteerModel", name := "everNamed", desc := "()I" } : Jvm.MethodName)) ∈ lw_all := lw_g (lw_at lw_m17 224 rfl) rfl
theorem q4241 : (Jvm.Cond.code ({ cls := "CountyGazetteerModel", name := "everNamed", desc := "()I" } : Jvm.MethodName) prog_20_method_115_code (5 : Nat) (Option.some Jvm.ClassFile.FieldType.int)) ∈ lw_all := lw_g (lw_at lw_m17 225 rfl) rfl
theorem q4242 : (Jvm.Cond.methodLink "CountyGazetteerModel" (496 : Nat) ({ cls := "CountyGazetteerModel", name := "wasNamed", desc := "(IJ)Z" } : Jvm.MethodName)) ∈ lw_all := lw_g (lw_at lw_m17 226 rfl) rfl
theorem q4243 : (Jvm.Cond.privateMethod ({ cls := "CountyGazetteerModel", name := "wasNamed", desc := "(IJ)Z" } : Jvm.MethodName)) ∈ lw_tbl := lw_at lw_m17 227 rfl
theorem q4244 : (Jvm.Cond.instanceMethod ({ cls := "CountyGazetteerModel", name := "wasNamed", desc := "(IJ)Z" } : Jvm.MethodName)) ∈ lw_all := lw_g (lw_at lw_m17 228 rfl) rfl
theorem q4245 : (Jvm.Cond.code ({ cls := "CountyGazetteerModel", name := "wasNamed", desc := "(IJ)Z" } : Jvm.MethodName) prog_20_method_114_code (5 : Nat) (Option.some Jvm.ClassFile.FieldType.boolean)) ∈ lw_all := lw_g (lw_at lw_m17 229 rfl) rfl
theorem q4247 : (Jvm.Cond.instanceMethod ({ cls := "CountyGazetteerModel", name := "countyNamed", desc := "()I" } : Jvm.MethodName)) ∈ lw_all := lw_g (lw_at lw_m17 231 rfl) rfl
theorem q4248 : (Jvm.Cond.selects "CountyGazetteerModel" ({ cls := "CountyGazetteerModel", name := "countyNamed", desc := "()I" } : Jvm.MethodName) ({ cls := "CountyGazetteerModel", name := "countyNamed", desc := "()I" } : Jvm.MethodName)) ∈ lw_all := lw_g (lw_at lw_m17 232 rfl) rfl
theorem q4249 : (Jvm.Cond.code ({ cls := "CountyGazetteerModel", name := "countyNamed", desc := "()I" } : Jvm.MethodName) prog_20_method_116_code (1 : Nat) (Option.some Jvm.ClassFile.FieldType.int)) ∈ lw_all := lw_g (lw_at lw_m17 233 rfl) rfl
theorem q4251 : (Jvm.Cond.instanceMethod ({ cls := "CountyGazetteerModel", name := "entry", desc := "(III)I" } : Jvm.MethodName)) ∈ lw_all := lw_g (lw_at lw_m17 235 rfl) rfl
theorem q4252 : (Jvm.Cond.selects "CountyGazetteerModel" ({ cls := "CountyGazetteerModel", name := "entry", desc := "(III)I" } : Jvm.MethodName) ({ cls := "CountyGazetteerModel", name := "entry", desc := "(III)I" } : Jvm.MethodName)) ∈ lw_all := lw_g (lw_at lw_m17 236 rfl) rfl
theorem q4253 : (Jvm.Cond.code ({ cls := "CountyGazetteerModel", name := "entry", desc := "(III)I" } : Jvm.MethodName) prog_20_method_118_code (5 : Nat) (Option.some Jvm.ClassFile.FieldType.int)) ∈ lw_all := lw_g (lw_at lw_m17 237 rfl) rfl
theorem q4254 : (Jvm.Cond.methodLink "CountyGazetteerModel" (500 : Nat) ({ cls := "CountyGazetteerModel", name := "lineAt", desc := "(II)I" } : Jvm.MethodName)) ∈ lw_all := lw_g (lw_at lw_m17 238 rfl) rfl
theorem q4255 : (Jvm.Cond.privateMethod ({ cls := "CountyGazetteerModel", name := "lineAt", desc := "(II)I" } : Jvm.MethodName)) ∈ lw_tbl := lw_at lw_m17 239 rfl
theorem q4256 : (Jvm.Cond.instanceMethod ({ cls := "CountyGazetteerModel", name := "lineAt", desc := "(II)I" } : Jvm.MethodName)) ∈ lw_all := lw_g (lw_at lw_m18 0 rfl) rfl
theorem q4257 : (Jvm.Cond.code ({ cls := "CountyGazetteerModel", name := "lineAt", desc := "(II)I" } : Jvm.MethodName) prog_20_method_117_code (3 : Nat) (Option.some Jvm.ClassFile.FieldType.int)) ∈ lw_all := lw_g (lw_at lw_m18 1 rfl) rfl
theorem q4259 : (Jvm.Cond.instanceMethod ({ cls := "CountyGazetteerModel", name := "entryLetter", desc := "(III)I" } : Jvm.MethodName)) ∈ lw_all := lw_g (lw_at lw_m18 3 rfl) rfl
theorem q4260 : (Jvm.Cond.selects "CountyGazetteerModel" ({ cls := "CountyGazetteerModel", name := "entryLetter", desc := "(III)I" } : Jvm.MethodName) ({ cls := "CountyGazetteerModel", name := "entryLetter", desc := "(III)I" } : Jvm.MethodName)) ∈ lw_all := lw_g (lw_at lw_m18 4 rfl) rfl
theorem q4261 : (Jvm.Cond.code ({ cls := "CountyGazetteerModel", name := "entryLetter", desc := "(III)I" } : Jvm.MethodName) prog_20_method_119_code (5 : Nat) (Option.some Jvm.ClassFile.FieldType.int)) ∈ lw_all := lw_g (lw_at lw_m18 5 rfl) rfl
theorem q4263 : (Jvm.Cond.instanceMethod ({ cls := "CountyGazetteerModel", name := "block", desc := "(I)I" } : Jvm.MethodName)) ∈ lw_all := lw_g (lw_at lw_m18 7 rfl) rfl
theorem q4264 : (Jvm.Cond.selects "CountyGazetteerModel" ({ cls := "CountyGazetteerModel", name := "block", desc := "(I)I" } : Jvm.MethodName) ({ cls := "CountyGazetteerModel", name := "block", desc := "(I)I" } : Jvm.MethodName)) ∈ lw_all := lw_g (lw_at lw_m18 8 rfl) rfl
theorem q4265 : (Jvm.Cond.code ({ cls := "CountyGazetteerModel", name := "block", desc := "(I)I" } : Jvm.MethodName) prog_20_method_120_code (4 : Nat) (Option.some Jvm.ClassFile.FieldType.int)) ∈ lw_all := lw_g (lw_at lw_m18 9 rfl) rfl
theorem q4267 : (Jvm.Cond.instanceMethod ({ cls := "CountyGazetteerModel", name := "used", desc := "(I)I" } : Jvm.MethodName)) ∈ lw_all := lw_g (lw_at lw_m18 11 rfl) rfl
theorem q4268 : (Jvm.Cond.selects "CountyGazetteerModel" ({ cls := "CountyGazetteerModel", name := "used", desc := "(I)I" } : Jvm.MethodName) ({ cls := "CountyGazetteerModel", name := "used", desc := "(I)I" } : Jvm.MethodName)) ∈ lw_all := lw_g (lw_at lw_m18 12 rfl) rfl
theorem q4269 : (Jvm.Cond.code ({ cls := "CountyGazetteerModel", name := "used", desc := "(I)I" } : Jvm.MethodName) prog_20_method_122_code (2 : Nat) (Option.some Jvm.ClassFile.FieldType.int)) ∈ lw_all := lw_g (lw_at lw_m18 13 rfl) rfl
theorem q4270 : (Jvm.Cond.methodLink "CountyGazetteerModel" (503 : Nat) ({ cls := "CountyGazetteerModel", name := "noPage", desc := "(I)Z" } : Jvm.MethodName)) ∈ lw_all := lw_g (lw_at lw_m18 14 rfl) rfl
theorem q4271 : (Jvm.Cond.privateMethod ({ cls := "CountyGazetteerModel", name := "noPage", desc := "(I)Z" } : Jvm.MethodName)) ∈ lw_tbl := lw_at lw_m18 15 rfl
theorem q4272 : (Jvm.Cond.instanceMethod ({ cls := "CountyGazetteerModel", name := "noPage", desc := "(I)Z" } : Jvm.MethodName)) ∈ lw_all := lw_g (lw_at lw_m18 16 rfl) rfl
theorem q4273 : (Jvm.Cond.code ({ cls := "CountyGazetteerModel", name := "noPage", desc := "(I)Z" } : Jvm.MethodName) prog_20_method_121_code (2 : Nat) (Option.some Jvm.ClassFile.FieldType.boolean)) ∈ lw_all := lw_g (lw_at lw_m18 17 rfl) rfl
theorem q4275 : (Jvm.Cond.instanceMethod ({ cls := "CountyGazetteerModel", name := "line", desc := "(III)I" } : Jvm.MethodName)) ∈ lw_all := lw_g (lw_at lw_m18 19 rfl) rfl
theorem q4276 : (Jvm.Cond.selects "CountyGazetteerModel" ({ cls := "CountyGazetteerModel", name := "line", desc := "(III)I" } : Jvm.MethodName) ({ cls := "CountyGazetteerModel", name := "line", desc := "(III)I" } : Jvm.MethodName)) ∈ lw_all := lw_g (lw_at lw_m18 20 rfl) rfl
theorem q4277 : (Jvm.Cond.code ({ cls := "CountyGazetteerModel", name := "line", desc := "(III)I" } : Jvm.MethodName) prog_20_method_123_code (5 : Nat) (Option.some Jvm.ClassFile.FieldType.int)) ∈ lw_all := lw_g (lw_at lw_m18 21 rfl) rfl
theorem q4279 : (Jvm.Cond.instanceMethod ({ cls := "CountyGazetteerModel", name := "waste", desc := "()I" } : Jvm.MethodName)) ∈ lw_all := lw_g (lw_at lw_m18 23 rfl) rfl
theorem q4280 : (Jvm.Cond.selects "CountyGazetteerModel" ({ cls := "CountyGazetteerModel", name := "waste", desc := "()I" } : Jvm.MethodName) ({ cls := "CountyGazetteerModel", name := "waste", desc := "()I" } : Jvm.MethodName)) ∈ lw_all := lw_g (lw_at lw_m18 24 rfl) rfl
theorem q4281 : (Jvm.Cond.code ({ cls := "CountyGazetteerModel", name := "waste", desc := "()I" } : Jvm.MethodName) prog_20_method_124_code (3 : Nat) (Option.some Jvm.ClassFile.FieldType.int)) ∈ lw_all := lw_g (lw_at lw_m18 25 rfl) rfl
theorem q4283 : (Jvm.Cond.instanceMethod ({ cls := "CountyGazetteerModel", name := "linesFor", desc := "(I)I" } : Jvm.MethodName)) ∈ lw_all := lw_g (lw_at lw_m18 27 rfl) rfl
theorem q4284 : (Jvm.Cond.selects "CountyGazetteerModel" ({ cls := "CountyGazetteerModel", name := "linesFor", desc := "(I)I" } : Jvm.MethodName) ({ cls := "CountyGazetteerModel", name := "linesFor", desc := "(I)I" } : Jvm.MethodName)) ∈ lw_all := lw_g (lw_at lw_m18 28 rfl) rfl
theorem q4285 : (Jvm.Cond.code ({ cls := "CountyGazetteerModel", name := "linesFor", desc := "(I)I" } : Jvm.MethodName) prog_20_method_126_code (3 : Nat) (Option.some Jvm.ClassFile.FieldType.int)) ∈ lw_all := lw_g (lw_at lw_m18 29 rfl) rfl
theorem q4286 : (Jvm.Cond.methodLink "CountyGazetteerModel" (506 : Nat) ({ cls := "CountyGazetteerModel", name := "arePages", desc := "(I)Z" } : Jvm.MethodName)) ∈ lw_all := lw_g (lw_at lw_m18 30 rfl) rfl
theorem q4287 : (Jvm.Cond.static ({ cls := "CountyGazetteerModel", name := "arePages", desc := "(I)Z" } : Jvm.MethodName)) ∈ lw_all := lw_g (lw_at lw_m18 31 rfl) rfl
theorem q4288 : (Jvm.Cond.code ({ cls := "CountyGazetteerModel", name := "arePages", desc := "(I)Z" } : Jvm.MethodName) prog_20_method_125_code (1 : Nat) (Option.some Jvm.ClassFile.FieldType.boolean)) ∈ lw_all := lw_g (lw_at lw_m18 32 rfl) rfl
theorem q4290 : (Jvm.Cond.instanceMethod ({ cls := "CountyGazetteerModel", name := "volumes", desc := "(I)I" } : Jvm.MethodName)) ∈ lw_all := lw_g (lw_at lw_m18 34 rfl) rfl
theorem q4291 : (Jvm.Cond.selects "CountyGazetteerModel" ({ cls := "CountyGazetteerModel", name := "volumes", desc := "(I)I" } : Jvm.MethodName) ({ cls := "CountyGazetteerModel", name := "volumes", desc := "(I)I" } : Jvm.MethodName)) ∈ lw_all := lw_g (lw_at lw_m18 35 rfl) rfl
theorem q4292 : (Jvm.Cond.code ({ cls := "CountyGazetteerModel", name := "volumes", desc := "(I)I" } : Jvm.MethodName) prog_20_method_127_code (2 : Nat) (Option.some Jvm.ClassFile.FieldType.int)) ∈ lw_all := lw_g (lw_at lw_m18 36 rfl) rfl
theorem q4293 : (Jvm.Cond.methodLink "CountyGazetteerModel" (509 : Nat) ({ cls := "CountyGazetteerModel", name := "splits", desc := "(I)I" } : Jvm.MethodName)) ∈ lw_all := lw_g (lw_at lw_m18 37 rfl) rfl
theorem q4294 : (Jvm.Cond.privateMethod ({ cls := "CountyGazetteerModel", name := "splits", desc := "(I)I" } : Jvm.MethodName)) ∈ lw_tbl := lw_at lw_m18 38 rfl
theorem q4295 : (Jvm.Cond.instanceMethod ({ cls := "CountyGazetteerModel", name := "splits", desc := "(I)I" } : Jvm.MethodName)) ∈ lw_all := lw_g (lw_at lw_m18 39 rfl) rfl
theorem q4296 : (Jvm.Cond.code ({ cls := "CountyGazetteerModel", name := "splits", desc := "(I)I" } : Jvm.MethodName) prog_20_method_50_code (4 : Nat) (Option.some Jvm.ClassFile.FieldType.int)) ∈ lw_all := lw_g (lw_at lw_m18 40 rfl) rfl
theorem q4297 : (Jvm.Cond.methodLink "CountyGazetteerModel" (246 : Nat) ({ cls := "CountyGazetteerModel", name := "laysBlocks", desc := "()V" } : Jvm.MethodName)) ∈ lw_all := lw_g (lw_at lw_m18 41 rfl) rfl
theorem q4298 : (Jvm.Cond.privateMethod ({ cls := "CountyGazetteerModel", name := "laysBlocks", desc := "()V" } : Jvm.MethodName)) ∈ lw_tbl := lw_at lw_m18 42 rfl
theorem q4299 : (Jvm.Cond.instanceMethod ({ cls := "CountyGazetteerModel", name := "laysBlocks", desc := "()V" } : Jvm.MethodName)) ∈ lw_all := lw_g (lw_at lw_m18 43 rfl) rfl
theorem q4300 : (Jvm.Cond.code ({ cls := "CountyGazetteerModel", name := "laysBlocks", desc := "()V" } : Jvm.MethodName) prog_20_method_45_code (2 : Nat) (Option.none : Option Jvm.ClassFile.FieldType)) ∈ lw_all := lw_g (lw_at lw_m18 44 rfl) rfl
theorem q4301 : (Jvm.Cond.methodLink "CountyGazetteerModel" (249 : Nat) ({ cls := "CountyGazetteerModel", name := "mostOf", desc := "(I)I" } : Jvm.MethodName)) ∈ lw_all := lw_g (lw_at lw_m18 45 rfl) rfl
theorem q4302 : (Jvm.Cond.privateMethod ({ cls := "CountyGazetteerModel", name := "mostOf", desc := "(I)I" } : Jvm.MethodName)) ∈ lw_tbl := lw_at lw_m18 46 rfl
theorem q4303 : (Jvm.Cond.instanceMethod ({ cls := "CountyGazetteerModel", name := "mostOf", desc := "(I)I" } : Jvm.MethodName)) ∈ lw_all := lw_g (lw_at lw_m18 47 rfl) rfl
theorem q4304 : (Jvm.Cond.code ({ cls := "CountyGazetteerModel", name := "mostOf", desc := "(I)I" } : Jvm.MethodName) prog_20_method_47_code (5 : Nat) (Option.some Jvm.ClassFile.FieldType.int)) ∈ lw_all := lw_g (lw_at lw_m18 48 rfl) rfl
theorem q4305 : (Jvm.Cond.methodLink "CountyGazetteerModel" (224 : Nat) ({ cls := "java/lang/Math", name := "max", desc := "(II)I" } : Jvm.MethodName)) ∈ lw_all := lw_g (lw_at lw_m18 49 rfl) rfl
theorem q4306 : (Jvm.Cond.methodLink "CountyGazetteerModel" (229 : Nat) ({ cls := "CountyGazetteerModel", name := "ends", desc := "(II)Z" } : Jvm.MethodName)) ∈ lw_all := lw_g (lw_at lw_m18 50 rfl) rfl
theorem q4307 : (Jvm.Cond.static ({ cls := "CountyGazetteerModel", name := "ends", desc := "(II)Z" } : Jvm.MethodName)) ∈ lw_all := lw_g (lw_at lw_m18 51 rfl) rfl
theorem q4308 : (Jvm.Cond.code ({ cls := "CountyGazetteerModel", name := "ends", desc := "(II)Z" } : Jvm.MethodName) prog_20_method_46_code (2 : Nat) (Option.some Jvm.ClassFile.FieldType.boolean)) ∈ lw_all := lw_g (lw_at lw_m18 52 rfl) rfl
theorem q4309 : (Jvm.Cond.methodLink "CountyGazetteerModel" (252 : Nat) ({ cls := "CountyGazetteerModel", name := "isBetter", desc := "(II)Z" } : Jvm.MethodName)) ∈ lw_all := lw_g (lw_at lw_m18 53 rfl) rfl
theorem q4310 : (Jvm.Cond.privateMethod ({ cls := "CountyGazetteerModel", name := "isBetter", desc := "(II)Z" } : Jvm.MethodName)) ∈ lw_tbl := lw_at lw_m18 54 rfl
theorem q4311 : (Jvm.Cond.instanceMethod ({ cls := "CountyGazetteerModel", name := "isBetter", desc := "(II)Z" } : Jvm.MethodName)) ∈ lw_all := lw_g (lw_at lw_m18 55 rfl) rfl
theorem q4312 : (Jvm.Cond.code ({ cls := "CountyGazetteerModel", name := "isBetter", desc := "(II)Z" } : Jvm.MethodName) prog_20_method_49_code (4 : Nat) (Option.some Jvm.ClassFile.FieldType.boolean)) ∈ lw_all := lw_g (lw_at lw_m18 56 rfl) rfl
theorem q4313 : (Jvm.Cond.methodLink "CountyGazetteerModel" (243 : Nat) ({ cls := "CountyGazetteerModel", name := "endsLater", desc := "(II)Z" } : Jvm.MethodName)) ∈ lw_all := lw_g (lw_at lw_m18 57 rfl) rfl
theorem q4314 : (Jvm.Cond.static ({ cls := "CountyGazetteerModel", name := "endsLater", desc := "(II)Z" } : Jvm.MethodName)) ∈ lw_all := lw_g (lw_at lw_m18 58 rfl) rfl
theorem q4315 : (Jvm.Cond.code ({ cls := "CountyGazetteerModel", name := "endsLater", desc := "(II)Z" } : Jvm.MethodName) prog_20_method_48_code (3 : Nat) (Option.some Jvm.ClassFile.FieldType.boolean)) ∈ lw_all := lw_g (lw_at lw_m18 59 rfl) rfl
theorem q4317 : (Jvm.Cond.instanceMethod ({ cls := "CountyGazetteerModel", name := "volume", desc := "(III)I" } : Jvm.MethodName)) ∈ lw_all := lw_g (lw_at lw_m18 61 rfl) rfl
theorem q4318 : (Jvm.Cond.selects "CountyGazetteerModel" ({ cls := "CountyGazetteerModel", name := "volume", desc := "(III)I" } : Jvm.MethodName) ({ cls := "CountyGazetteerModel", name := "volume", desc := "(III)I" } : Jvm.MethodName)) ∈ lw_all := lw_g (lw_at lw_m18 62 rfl) rfl
theorem q4319 : (Jvm.Cond.code ({ cls := "CountyGazetteerModel", name := "volume", desc := "(III)I" } : Jvm.MethodName) prog_20_method_129_code (6 : Nat) (Option.some Jvm.ClassFile.FieldType.int)) ∈ lw_all := lw_g (lw_at lw_m18 63 rfl) rfl
theorem q4320 : (Jvm.Cond.methodLink "CountyGazetteerModel" (512 : Nat) ({ cls := "CountyGazetteerModel", name := "firstOfVolume", desc := "(I)I" } : Jvm.MethodName)) ∈ lw_all := lw_g (lw_at lw_m18 64 rfl) rfl
theorem q4321 : (Jvm.Cond.privateMethod ({ cls := "CountyGazetteerModel", name := "firstOfVolume", desc := "(I)I" } : Jvm.MethodName)) ∈ lw_tbl := lw_at lw_m18 65 rfl
theorem q4322 : (Jvm.Cond.instanceMethod ({ cls := "CountyGazetteerModel", name := "firstOfVolume", desc := "(I)I" } : Jvm.MethodName)) ∈ lw_all := lw_g (lw_at lw_m18 66 rfl) rfl
theorem q4323 : (Jvm.Cond.code ({ cls := "CountyGazetteerModel", name := "firstOfVolume", desc := "(I)I" } : Jvm.MethodName) prog_20_method_51_code (4 : Nat) (Option.some Jvm.ClassFile.FieldType.int)) ∈ lw_all := lw_g (lw_at lw_m18 67 rfl) rfl
theorem q4324 : (Jvm.Cond.methodLink "CountyGazetteerModel" (515 : Nat) ({ cls := "CountyGazetteerModel", name := "blocksOf", desc := "(I)I" } : Jvm.MethodName)) ∈ lw_all := lw_g (lw_at lw_m18 68 rfl) rfl
theorem q4325 : (Jvm.Cond.privateMethod ({ cls := "CountyGazetteerModel", name := "blocksOf", desc := "(I)I" } : Jvm.MethodName)) ∈ lw_tbl := lw_at lw_m18 69 rfl
theorem q4326 : (Jvm.Cond.instanceMethod ({ cls := "CountyGazetteerModel", name := "blocksOf", desc := "(I)I" } : Jvm.MethodName)) ∈ lw_all := lw_g (lw_at lw_m18 70 rfl) rfl
theorem q4327 : (Jvm.Cond.code ({ cls := "CountyGazetteerModel", name := "blocksOf", desc := "(I)I" } : Jvm.MethodName) prog_20_method_52_code (3 : Nat) (Option.some Jvm.ClassFile.FieldType.int)) ∈ lw_all := lw_g (lw_at lw_m18 71 rfl) rfl
theorem q4328 : (Jvm.Cond.methodLink "CountyGazetteerModel" (518 : Nat) ({ cls := "CountyGazetteerModel", name := "pagesFrom", desc := "(II)I" } : Jvm.MethodName)) ∈ lw_all := lw_g (lw_at lw_m18 72 rfl) rfl
theorem q4329 : (Jvm.Cond.privateMethod ({ cls := "CountyGazetteerModel", name := "pagesFrom", desc := "(II)I" } : Jvm.MethodName)) ∈ lw_tbl := lw_at lw_m18 73 rfl
theorem q4330 : (Jvm.Cond.instanceMethod ({ cls := "CountyGazetteerModel", name := "pagesFrom", desc := "(II)I" } : Jvm.MethodName)) ∈ lw_all := lw_g (lw_at lw_m18 74 rfl) rfl
theorem q4331 : (Jvm.Cond.code ({ cls := "CountyGazetteerModel", name := "pagesFrom", desc := "(II)I" } : Jvm.MethodName) prog_20_method_128_code (5 : Nat) (Option.some Jvm.ClassFile.FieldType.int)) ∈ lw_all := lw_g (lw_at lw_m18 75 rfl) rfl
theorem q4333 : (Jvm.Cond.instanceMethod ({ cls := "CountyGazetteerModel", name := "movedIf", desc := "(I)I" } : Jvm.MethodName)) ∈ lw_all := lw_g (lw_at lw_m18 77 rfl) rfl
theorem q4334 : (Jvm.Cond.selects "CountyGazetteerModel" ({ cls := "CountyGazetteerModel", name := "movedIf", desc := "(I)I" } : Jvm.MethodName) ({ cls := "CountyGazetteerModel", name := "movedIf", desc := "(I)I" } : Jvm.MethodName)) ∈ lw_all := lw_g (lw_at lw_m18 78 rfl) rfl
theorem q4335 : (Jvm.Cond.code ({ cls := "CountyGazetteerModel", name := "movedIf", desc := "(I)I" } : Jvm.MethodName) prog_20_method_131_code (2 : Nat) (Option.some Jvm.ClassFile.FieldType.int)) ∈ lw_all := lw_g (lw_at lw_m18 79 rfl) rfl
theorem q4336 : (Jvm.Cond.methodLink "CountyGazetteerModel" (521 : Nat) ({ cls := "CountyGazetteerModel", name := "noNext", desc := "(I)Z" } : Jvm.MethodName)) ∈ lw_all := lw_g (lw_at lw_m18 80 rfl) rfl
theorem q4337 : (Jvm.Cond.privateMethod ({ cls := "CountyGazetteerModel", name := "noNext", desc := "(I)Z" } : Jvm.MethodName)) ∈ lw_tbl := lw_at lw_m18 81 rfl
theorem q4338 : (Jvm.Cond.instanceMethod ({ cls := "CountyGazetteerModel", name := "noNext", desc := "(I)Z" } : Jvm.MethodName)) ∈ lw_all := lw_g (lw_at lw_m18 82 rfl) rfl
theorem q4339 : (Jvm.Cond.code ({ cls := "CountyGazetteerModel", name := "noNext", desc := "(I)Z" } : Jvm.MethodName) prog_20_method_130_code (2 : Nat) (Option.some Jvm.ClassFile.FieldType.boolean)) ∈ lw_all := lw_g (lw_at lw_m18 83 rfl) rfl
theorem q4341 : (Jvm.Cond.instanceMethod ({ cls := "CountyGazetteerModel", name := "pagesIf", desc := "(I)I" } : Jvm.MethodName)) ∈ lw_all := lw_g (lw_at lw_m18 85 rfl) rfl
theorem q4342 : (Jvm.Cond.selects "CountyGazetteerModel" ({ cls := "CountyGazetteerModel", name := "pagesIf", desc := "(I)I" } : Jvm.MethodName) ({ cls := "CountyGazetteerModel", name := "pagesIf", desc := "(I)I" } : Jvm.MethodName)) ∈ lw_all := lw_g (lw_at lw_m18 86 rfl) rfl
theorem q4343 : (Jvm.Cond.code ({ cls := "CountyGazetteerModel", name := "pagesIf", desc := "(I)I" } : Jvm.MethodName) prog_20_method_132_code (2 : Nat) (Option.some Jvm.ClassFile.FieldType.int)) ∈ lw_all := lw_g (lw_at lw_m18 87 rfl) rfl
theorem q4345 : (Jvm.Cond.instanceMethod ({ cls := "CountyGazetteerModel", name := "fullest", desc := "()I" } : Jvm.MethodName)) ∈ lw_all := lw_g (lw_at lw_m18 89 rfl) rfl
theorem q4346 : (Jvm.Cond.selects "CountyGazetteerModel" ({ cls := "CountyGazetteerModel", name := "fullest", desc := "()I" } : Jvm.MethodName) ({ cls := "CountyGazetteerModel", name := "fullest", desc := "()I" } : Jvm.MethodName)) ∈ lw_all := lw_g (lw_at lw_m18 90 rfl) rfl
theorem q4347 : (Jvm.Cond.code ({ cls := "CountyGazetteerModel", name := "fullest", desc := "()I" } : Jvm.MethodName) prog_20_method_133_code (5 : Nat) (Option.some Jvm.ClassFile.FieldType.int)) ∈ lw_all := lw_g (lw_at lw_m18 91 rfl) rfl
theorem q4349 : (Jvm.Cond.instanceMethod ({ cls := "CountyGazetteerModel", name := "meanVillages", desc := "()D" } : Jvm.MethodName)) ∈ lw_all := lw_g (lw_at lw_m18 93 rfl) rfl
theorem q4350 : (Jvm.Cond.selects "CountyGazetteerModel" ({ cls := "CountyGazetteerModel", name := "meanVillages", desc := "()D" } : Jvm.MethodName) ({ cls := "CountyGazetteerModel", name := "meanVillages", desc := "()D" } : Jvm.MethodName)) ∈ lw_all := lw_g (lw_at lw_m18 94 rfl) rfl
theorem q4351 : (Jvm.Cond.code ({ cls := "CountyGazetteerModel", name := "meanVillages", desc := "()D" } : Jvm.MethodName) prog_20_method_134_code (2 : Nat) (Option.some Jvm.ClassFile.FieldType.double)) ∈ lw_all := lw_g (lw_at lw_m18 95 rfl) rfl
theorem q4353 : (Jvm.Cond.instanceMethod ({ cls := "CountyGazetteerModel", name := "seeShare", desc := "()F" } : Jvm.MethodName)) ∈ lw_all := lw_g (lw_at lw_m18 97 rfl) rfl
theorem q4354 : (Jvm.Cond.selects "CountyGazetteerModel" ({ cls := "CountyGazetteerModel", name := "seeShare", desc := "()F" } : Jvm.MethodName) ({ cls := "CountyGazetteerModel", name := "seeShare", desc := "()F" } : Jvm.MethodName)) ∈ lw_all := lw_g (lw_at lw_m18 98 rfl) rfl
theorem q4355 : (Jvm.Cond.code ({ cls := "CountyGazetteerModel", name := "seeShare", desc := "()F" } : Jvm.MethodName) prog_20_method_135_code (2 : Nat) (Option.some Jvm.ClassFile.FieldType.float)) ∈ lw_all := lw_g (lw_at lw_m18 99 rfl) rfl
theorem q4357 : (Jvm.Cond.instanceMethod ({ cls := "CountyGazetteerModel", name := "publish", desc := "(I)I" } : Jvm.MethodName)) ∈ lw_all := lw_g (lw_at lw_m18 101 rfl) rfl
theorem q4358 : (Jvm.Cond.selects "CountyGazetteerModel" ({ cls := "CountyGazetteerModel", name := "publish", desc := "(I)I" } : Jvm.MethodName) ({ cls := "CountyGazetteerModel", name := "publish", desc := "(I)I" } : Jvm.MethodName)) ∈ lw_all := lw_g (lw_at lw_m18 102 rfl) rfl
theorem q4359 : (Jvm.Cond.code ({ cls := "CountyGazetteerModel", name := "publish", desc := "(I)I" } : Jvm.MethodName) prog_20_method_136_code (2 : Nat) (Option.some Jvm.ClassFile.FieldType.int)) ∈ lw_all := lw_g (lw_at lw_m18 103 rfl) rfl
theorem q4360 : (Jvm.Cond.methodLink "CountyGazetteerModel" (524 : Nat) ({ cls := "CountyGazetteerModel", name := "remembers", desc := "()V" } : Jvm.MethodName)) ∈ lw_all := lw_g (lw_at lw_m18 104 rfl) rfl
theorem q4361 : (Jvm.Cond.privateMethod ({ cls := "CountyGazetteerModel", name := "remembers", desc := "()V" } : Jvm.MethodName)) ∈ lw_tbl := lw_at lw_m18 105 rfl
theorem q4362 : (Jvm.Cond.instanceMethod ({ cls := "CountyGazetteerModel", name := "remembers", desc := "()V" } : Jvm.MethodName)) ∈ lw_all := lw_g (lw_at lw_m18 106 rfl) rfl
theorem q4363 : (Jvm.Cond.code ({ cls := "CountyGazetteerModel", name := "remembers", desc := "()V" } : Jvm.MethodName) prog_20_method_9_code (1 : Nat) (Option.none : Option Jvm.ClassFile.FieldType)) ∈ lw_all := lw_g (lw_at lw_m18 107 rfl) rfl
theorem q4365 : (Jvm.Cond.instanceMethod ({ cls := "CountyGazetteerModel", name := "redraw", desc := "(IIIIII)I" } : Jvm.MethodName)) ∈ lw_all := lw_g (lw_at lw_m18 109 rfl) rfl
theorem q4366 : (Jvm.Cond.selects "CountyGazetteerModel" ({ cls := "CountyGazetteerModel", name := "redraw", desc := "(IIIIII)I" } : Jvm.MethodName) ({ cls := "CountyGazetteerModel", name := "redraw", desc := "(IIIIII)I" } : Jvm.MethodName)) ∈ lw_all := lw_g (lw_at lw_m18 110 rfl) rfl
theorem q4367 : (Jvm.Cond.code ({ cls := "CountyGazetteerModel", name := "redraw", desc := "(IIIIII)I" } : Jvm.MethodName) prog_20_method_139_code (7 : Nat) (Option.some Jvm.ClassFile.FieldType.int)) ∈ lw_all := lw_g (lw_at lw_m18 111 rfl) rfl
theorem q4368 : (Jvm.Cond.methodLink "CountyGazetteerModel" (527 : Nat) ({ cls := "CountyGazetteerModel", name := "isFrame", desc := "(IIII)Z" } : Jvm.MethodName)) ∈ lw_all := lw_g (lw_at lw_m18 112 rfl) rfl
theorem q4369 : (Jvm.Cond.privateMethod ({ cls := "CountyGazetteerModel", name := "isFrame", desc := "(IIII)Z" } : Jvm.MethodName)) ∈ lw_tbl := lw_at lw_m18 113 rfl
theorem q4370 : (Jvm.Cond.instanceMethod ({ cls := "CountyGazetteerModel", name := "isFrame", desc := "(IIII)Z" } : Jvm.MethodName)) ∈ lw_all := lw_g (lw_at lw_m18 114 rfl) rfl
theorem q4371 : (Jvm.Cond.code ({ cls := "CountyGazetteerModel", name := "isFrame", desc := "(IIII)Z" } : Jvm.MethodName) prog_20_method_137_code (5 : Nat) (Option.some Jvm.ClassFile.FieldType.boolean)) ∈ lw_all := lw_g (lw_at lw_m18 115 rfl) rfl
theorem q4372 : (Jvm.Cond.methodLink "CountyGazetteerModel" (530 : Nat) ({ cls := "CountyGazetteerModel", name := "isFull", desc := "()Z" } : Jvm.MethodName)) ∈ lw_all := lw_g (lw_at lw_m18 116 rfl) rfl
theorem q4373 : (Jvm.Cond.privateMethod ({ cls := "CountyGazetteerModel", name := "isFull", desc := "()Z" } : Jvm.MethodName)) ∈ lw_tbl := lw_at lw_m18 117 rfl
theorem q4374 : (Jvm.Cond.instanceMethod ({ cls := "CountyGazetteerModel", name := "isFull", desc := "()Z" } : Jvm.MethodName)) ∈ lw_all := lw_g (lw_at lw_m18 118 rfl) rfl
theorem q4375 : (Jvm.Cond.code ({ cls := "CountyGazetteerModel", name := "isFull", desc := "()Z" } : Jvm.MethodName) prog_20_method_138_code (1 : Nat) (Option.some Jvm.ClassFile.FieldType.boolean)) ∈ lw_all := lw_g (lw_at lw_m18 119 rfl) rfl
theorem q4377 : (Jvm.Cond.instanceMethod ({ cls := "CountyGazetteerModel", name := "join", desc := "(III)I" } : Jvm.MethodName)) ∈ lw_all := lw_g (lw_at lw_m18 121 rfl) rfl
theorem q4378 : (Jvm.Cond.selects "CountyGazetteerModel" ({ cls := "CountyGazetteerModel", name := "join", desc := "(III)I" } : Jvm.MethodName) ({ cls := "CountyGazetteerModel", name := "join", desc := "(III)I" } : Jvm.MethodName)) ∈ lw_all := lw_g (lw_at lw_m18 122 rfl) rfl
theorem q4379 : (Jvm.Cond.code ({ cls := "CountyGazetteerModel", name := "join", desc := "(III)I" } : Jvm.MethodName) prog_20_method_140_code (4 : Nat) (Option.some Jvm.ClassFile.FieldType.int)) ∈ lw_all := lw_g (lw_at lw_m18 123 rfl) rfl
theorem q4381 : (Jvm.Cond.instanceMethod ({ cls := "CountyGazetteerModel", name := "dropReform", desc := "(I)I" } : Jvm.MethodName)) ∈ lw_all := lw_g (lw_at lw_m18 125 rfl) rfl
theorem q4382 : (Jvm.Cond.selects "CountyGazetteerModel" ({ cls := "CountyGazetteerModel", name := "dropReform", desc := "(I)I" } : Jvm.MethodName) ({ cls := "CountyGazetteerModel", name := "dropReform", desc := "(I)I" } : Jvm.MethodName)) ∈ lw_all := lw_g (lw_at lw_m18 126 rfl) rfl
theorem q4383 : (Jvm.Cond.code ({ cls := "CountyGazetteerModel", name := "dropReform", desc := "(I)I" } : Jvm.MethodName) prog_20_method_141_code (2 : Nat) (Option.some Jvm.ClassFile.FieldType.int)) ∈ lw_all := lw_g (lw_at lw_m18 127 rfl) rfl
theorem q4385 : (Jvm.Cond.instanceMethod ({ cls := "CountyGazetteerModel", name := "rename", desc := "(II)I" } : Jvm.MethodName)) ∈ lw_all := lw_g (lw_at lw_m18 129 rfl) rfl
theorem q4386 : (Jvm.Cond.selects "CountyGazetteerModel" ({ cls := "CountyGazetteerModel", name := "rename", desc := "(II)I" } : Jvm.MethodName) ({ cls := "CountyGazetteerModel", name := "rename", desc := "(II)I" } : Jvm.MethodName)) ∈ lw_all := lw_g (lw_at lw_m18 130 rfl) rfl
theorem q4387 : (Jvm.Cond.code ({ cls := "CountyGazetteerModel", name := "rename", desc := "(II)I" } : Jvm.MethodName) prog_20_method_142_code (5 : Nat) (Option.some Jvm.ClassFile.FieldType.int)) ∈ lw_all := lw_g (lw_at lw_m18 131 rfl) rfl
theorem q4389 : (Jvm.Cond.instanceMethod ({ cls := "CountyGazetteerModel", name := "setGone", desc := "(II)I" } : Jvm.MethodName)) ∈ lw_all := lw_g (lw_at lw_m18 133 rfl) rfl
theorem q4390 : (Jvm.Cond.selects "CountyGazetteerModel" ({ cls := "CountyGazetteerModel", name := "setGone", desc := "(II)I" } : Jvm.MethodName) ({ cls := "CountyGazetteerModel", name := "setGone", desc := "(II)I" } : Jvm.MethodName)) ∈ lw_all := lw_g (lw_at lw_m18 134 rfl) rfl
theorem q4391 : (Jvm.Cond.code ({ cls := "CountyGazetteerModel", name := "setGone", desc := "(II)I" } : Jvm.MethodName) prog_20_method_143_code (4 : Nat) (Option.some Jvm.ClassFile.FieldType.int)) ∈ lw_all := lw_g (lw_at lw_m18 135 rfl) rfl
theorem q4393 : (Jvm.Cond.instanceMethod ({ cls := "CountyGazetteerModel", name := "setLines", desc := "(I)I" } : Jvm.MethodName)) ∈ lw_all := lw_g (lw_at lw_m18 137 rfl) rfl
theorem q4394 : (Jvm.Cond.selects "CountyGazetteerModel" ({ cls := "CountyGazetteerModel", name := "setLines", desc := "(I)I" } : Jvm.MethodName) ({ cls := "CountyGazetteerModel", name := "setLines", desc := "(I)I" } : Jvm.MethodName)) ∈ lw_all := lw_g (lw_at lw_m18 138 rfl) rfl
theorem q4395 : (Jvm.Cond.code ({ cls := "CountyGazetteerModel", name := "setLines", desc := "(I)I" } : Jvm.MethodName) prog_20_method_144_code (3 : Nat) (Option.some Jvm.ClassFile.FieldType.int)) ∈ lw_all := lw_g (lw_at lw_m18 139 rfl) rfl
theorem q4397 : (Jvm.Cond.instanceMethod ({ cls := "CountyGazetteerModel", name := "setFresh", desc := "(Z)Z" } : Jvm.MethodName)) ∈ lw_all := lw_g (lw_at lw_m18 141 rfl) rfl
theorem q4398 : (Jvm.Cond.selects "CountyGazetteerModel" ({ cls := "CountyGazetteerModel", name := "setFresh", desc := "(Z)Z" } : Jvm.MethodName) ({ cls := "CountyGazetteerModel", name := "setFresh", desc := "(Z)Z" } : Jvm.MethodName)) ∈ lw_all := lw_g (lw_at lw_m18 142 rfl) rfl
theorem q4399 : (Jvm.Cond.code ({ cls := "CountyGazetteerModel", name := "setFresh", desc := "(Z)Z" } : Jvm.MethodName) prog_20_method_145_code (3 : Nat) (Option.some Jvm.ClassFile.FieldType.boolean)) ∈ lw_all := lw_g (lw_at lw_m18 143 rfl) rfl
theorem q4401 : (Jvm.Cond.instanceMethod ({ cls := "CountyGazetteerModel", name := "undo", desc := "()I" } : Jvm.MethodName)) ∈ lw_all := lw_g (lw_at lw_m18 145 rfl) rfl
theorem q4402 : (Jvm.Cond.selects "CountyGazetteerModel" ({ cls := "CountyGazetteerModel", name := "undo", desc := "()I" } : Jvm.MethodName) ({ cls := "CountyGazetteerModel", name := "undo", desc := "()I" } : Jvm.MethodName)) ∈ lw_all := lw_g (lw_at lw_m18 146 rfl) rfl
theorem q4403 : (Jvm.Cond.code ({ cls := "CountyGazetteerModel", name := "undo", desc := "()I" } : Jvm.MethodName) prog_20_method_146_code (1 : Nat) (Option.some Jvm.ClassFile.FieldType.int)) ∈ lw_all := lw_g (lw_at lw_m18 147 rfl) rfl
theorem q4405 : (Jvm.Cond.instanceMethod ({ cls := "CountyGazetteerModel", name := "printPage", desc := "(I)I" } : Jvm.MethodName)) ∈ lw_all := lw_g (lw_at lw_m18 149 rfl) rfl
theorem q4406 : (Jvm.Cond.selects "CountyGazetteerModel" ({ cls := "CountyGazetteerModel", name := "printPage", desc := "(I)I" } : Jvm.MethodName) ({ cls := "CountyGazetteerModel", name := "printPage", desc := "(I)I" } : Jvm.MethodName)) ∈ lw_all := lw_g (lw_at lw_m18 150 rfl) rfl
theorem q4407 : (Jvm.Cond.code ({ cls := "CountyGazetteerModel", name := "printPage", desc := "(I)I" } : Jvm.MethodName) prog_20_method_153_code (4 : Nat) (Option.some Jvm.ClassFile.FieldType.int)) ∈ lw_all := lw_g (lw_at lw_m18 151 rfl) rfl
theorem q4408 : (Jvm.Cond.methodLink "CountyGazetteerModel" (553 : Nat) ({ cls := "CountyGazetteerModel", name := "writeHeading", desc := "(I)V" } : Jvm.MethodName)) ∈ lw_all := lw_g (lw_at lw_m18 152 rfl) rfl
theorem q4409 : (Jvm.Cond.privateMethod ({ cls := "CountyGazetteerModel", name := "writeHeading", desc := "(I)V" } : Jvm.MethodName)) ∈ lw_tbl := lw_at lw_m18 153 rfl
theorem q4410 : (Jvm.Cond.instanceMethod ({ cls := "CountyGazetteerModel", name := "writeHeading", desc := "(I)V" } : Jvm.MethodName)) ∈ lw_all := lw_g (lw_at lw_m18 154 rfl) rfl
theorem q4411 : (Jvm.Cond.code ({ cls := "CountyGazetteerModel", name := "writeHeading", desc := "(I)V" } : Jvm.MethodName) prog_20_method_152_code (2 : Nat) (Option.none : Option Jvm.ClassFile.FieldType)) ∈ lw_all := lw_g (lw_at lw_m18 155 rfl) rfl
theorem q4412 : (Jvm.Cond.methodLink "CountyGazetteerModel" (536 : Nat) ({ cls := "CountyGazetteerModel", name := "write", desc := "(I)V" } : Jvm.MethodName)) ∈ lw_all := lw_g (lw_at lw_m18 156 rfl) rfl
theorem q4413 : (Jvm.Cond.privateMethod ({ cls := "CountyGazetteerModel", name := "write", desc := "(I)V" } : Jvm.MethodName)) ∈ lw_tbl := lw_at lw_m18 157 rfl
theorem q4414 : (Jvm.Cond.instanceMethod ({ cls := "CountyGazetteerModel", name := "write", desc := "(I)V" } : Jvm.MethodName)) ∈ lw_all := lw_g (lw_at lw_m18 158 rfl) rfl
theorem q4415 : (Jvm.Cond.code ({ cls := "CountyGazetteerModel", name := "write", desc := "(I)V" } : Jvm.MethodName) prog_20_method_147_code (2 : Nat) (Option.none : Option Jvm.ClassFile.FieldType)) ∈ lw_all := lw_g (lw_at lw_m18 159 rfl) rfl
theorem q4416 : (Jvm.Cond.methodLink "CountyGazetteerModel" (539 : Nat) ({ cls := "CountyGazetteerModel", name := "writeName", desc := "(J)V" } : Jvm.MethodName)) ∈ lw_all := lw_g (lw_at lw_m18 160 rfl) rfl
theorem q4417 : (Jvm.Cond.privateMethod ({ cls := "CountyGazetteerModel", name := "writeName", desc := "(J)V" } : Jvm.MethodName)) ∈ lw_tbl := lw_at lw_m18 161 rfl
theorem q4418 : (Jvm.Cond.instanceMethod ({ cls := "CountyGazetteerModel", name := "writeName", desc := "(J)V" } : Jvm.MethodName)) ∈ lw_all := lw_g (lw_at lw_m18 162 rfl) rfl
theorem q4419 : (Jvm.Cond.code ({ cls := "CountyGazetteerModel", name := "writeName", desc := "(J)V" } : Jvm.MethodName) prog_20_method_149_code (4 : Nat) (Option.none : Option Jvm.ClassFile.FieldType)) ∈ lw_all := lw_g (lw_at lw_m18 163 rfl) rfl
theorem q4420 : (Jvm.Cond.methodLink "CountyGazetteerModel" (556 : Nat) ({ cls := "CountyGazetteerModel", name := "writeLine", desc := "(I)V" } : Jvm.MethodName)) ∈ lw_all := lw_g (lw_at lw_m18 164 rfl) rfl
theorem q4421 : (Jvm.Cond.privateMethod ({ cls := "CountyGazetteerModel", name := "writeLine", desc := "(I)V" } : Jvm.MethodName)) ∈ lw_tbl := lw_at lw_m18 165 rfl
theorem q4422 : (Jvm.Cond.instanceMethod ({ cls := "CountyGazetteerModel", name := "writeLine", desc := "(I)V" } : Jvm.MethodName)) ∈ lw_all := lw_g (lw_at lw_m18 166 rfl) rfl
theorem q4423 : (Jvm.Cond.code ({ cls := "CountyGazetteerModel", name := "writeLine", desc := "(I)V" } : Jvm.MethodName) prog_20_method_151_code (3 : Nat) (Option.none : Option Jvm.ClassFile.FieldType)) ∈ lw_all := lw_g (lw_at lw_m18 167 rfl) rfl
theorem q4424 : (Jvm.Cond.methodLink "CountyGazetteerModel" (542 : Nat) ({ cls := "CountyGazetteerModel", name := "writeNumber", desc := "(I)V" } : Jvm.MethodName)) ∈ lw_all := lw_g (lw_at lw_m18 168 rfl) rfl
theorem q4425 : (Jvm.Cond.privateMethod ({ cls := "CountyGazetteerModel", name := "writeNumber", desc := "(I)V" } : Jvm.MethodName)) ∈ lw_tbl := lw_at lw_m18 169 rfl
theorem q4426 : (Jvm.Cond.instanceMethod ({ cls := "CountyGazetteerModel", name := "writeNumber", desc := "(I)V" } : Jvm.MethodName)) ∈ lw_all := lw_g (lw_at lw_m18 170 rfl) rfl
theorem q4427 : (Jvm.Cond.code ({ cls := "CountyGazetteerModel", name := "writeNumber", desc := "(I)V" } : Jvm.MethodName) prog_20_method_148_code (2 : Nat) (Option.none : Option Jvm.ClassFile.FieldType)) ∈ lw_all := lw_g (lw_at lw_m18 171 rfl) rfl
theorem q4428 : (Jvm.Cond.stringRef "CountyGazetteerModel" (545 : Nat) " see ") ∈ lw_tbl := lw_at lw_m18 172 rfl
theorem q4429 : (Jvm.Cond.methodLink "CountyGazetteerModel" (547 : Nat) ({ cls := "CountyGazetteerModel", name := "writeWord", desc := "(Ljava/lang/String;)V" } : Jvm.MethodName)) ∈ lw_all := lw_g (lw_at lw_m18 173 rfl) rfl
theorem q4430 : (Jvm.Cond.privateMethod ({ cls := "CountyGazetteerModel", name := "writeWord", desc := "(Ljava/lang/String;)V" } : Jvm.MethodName)) ∈ lw_tbl := lw_at lw_m18 174 rfl
theorem q4431 : (Jvm.Cond.instanceMethod ({ cls := "CountyGazetteerModel", name := "writeWord", desc := "(Ljava/lang/String;)V" } : Jvm.MethodName)) ∈ lw_all := lw_g (lw_at lw_m18 175 rfl) rfl
theorem q4432 : (Jvm.Cond.code ({ cls := "CountyGazetteerModel", name := "writeWord", desc := "(Ljava/lang/String;)V" } : Jvm.MethodName) prog_20_method_150_code (3 : Nat) (Option.none : Option Jvm.ClassFile.FieldType)) ∈ lw_all := lw_g (lw_at lw_m18 176 rfl) rfl
theorem q4433 : (Jvm.Cond.stringRef "CountyGazetteerModel" (551 : Nat) " under ") ∈ lw_tbl := lw_at lw_m18 177 rfl
theorem q4435 : (Jvm.Cond.instanceMethod ({ cls := "CountyGazetteerModel", name := "printRow", desc := "(II)I" } : Jvm.MethodName)) ∈ lw_all := lw_g (lw_at lw_m18 179 rfl) rfl
theorem q4436 : (Jvm.Cond.selects "CountyGazetteerModel" ({ cls := "CountyGazetteerModel", name := "printRow", desc := "(II)I" } : Jvm.MethodName) ({ cls := "CountyGazetteerModel", name := "printRow", desc := "(II)I" } : Jvm.MethodName)) ∈ lw_all := lw_g (lw_at lw_m18 180 rfl) rfl
theorem q4437 : (Jvm.Cond.code ({ cls := "CountyGazetteerModel", name := "printRow", desc := "(II)I" } : Jvm.MethodName) prog_20_method_154_code (4 : Nat) (Option.some Jvm.ClassFile.FieldType.int)) ∈ lw_all := lw_g (lw_at lw_m18 181 rfl) rfl
theorem q4439 : (Jvm.Cond.instanceMethod ({ cls := "CountyGazetteerModel", name := "outputByte", desc := "(I)I" } : Jvm.MethodName)) ∈ lw_all := lw_g (lw_at lw_m18 183 rfl) rfl
theorem q4440 : (Jvm.Cond.selects "CountyGazetteerModel" ({ cls := "CountyGazetteerModel", name := "outputByte", desc := "(I)I" } : Jvm.MethodName) ({ cls := "CountyGazetteerModel", name := "outputByte", desc := "(I)I" } : Jvm.MethodName)) ∈ lw_all := lw_g (lw_at lw_m18 184 rfl) rfl
theorem q4441 : (Jvm.Cond.code ({ cls := "CountyGazetteerModel", name := "outputByte", desc := "(I)I" } : Jvm.MethodName) prog_20_method_155_code (2 : Nat) (Option.some Jvm.ClassFile.FieldType.int)) ∈ lw_all := lw_g (lw_at lw_m18 185 rfl) rfl
theorem q4443 : (Jvm.Cond.instanceMethod ({ cls := "CountyGazetteerModel", name := "saveState", desc := "()I" } : Jvm.MethodName)) ∈ lw_all := lw_g (lw_at lw_m18 187 rfl) rfl
theorem q4444 : (Jvm.Cond.selects "CountyGazetteerModel" ({ cls := "CountyGazetteerModel", name := "saveState", desc := "()I" } : Jvm.MethodName) ({ cls := "CountyGazetteerModel", name := "saveState", desc := "()I" } : Jvm.MethodName)) ∈ lw_all := lw_g (lw_at lw_m18 188 rfl) rfl
theorem q4445 : (Jvm.Cond.code ({ cls := "CountyGazetteerModel", name := "saveState", desc := "()I" } : Jvm.MethodName) prog_20_method_156_code (1 : Nat) (Option.some Jvm.ClassFile.FieldType.int)) ∈ lw_all := lw_g (lw_at lw_m18 189 rfl) rfl
theorem q4447 : (Jvm.Cond.instanceMethod ({ cls := "CountyGazetteerModel", name := "restoreState", desc := "()I" } : Jvm.MethodName)) ∈ lw_all := lw_g (lw_at lw_m18 191 rfl) rfl
theorem q4448 : (Jvm.Cond.selects "CountyGazetteerModel" ({ cls := "CountyGazetteerModel", name := "restoreState", desc := "()I" } : Jvm.MethodName) ({ cls := "CountyGazetteerModel", name := "restoreState", desc := "()I" } : Jvm.MethodName)) ∈ lw_all := lw_g (lw_at lw_m18 192 rfl) rfl
theorem q4449 : (Jvm.Cond.code ({ cls := "CountyGazetteerModel", name := "restoreState", desc := "()I" } : Jvm.MethodName) prog_20_method_157_code (1 : Nat) (Option.some Jvm.ClassFile.FieldType.int)) ∈ lw_all := lw_g (lw_at lw_m18 193 rfl) rfl
theorem q4487 : (Jvm.Cond.castable "CountyGazetteerModel" "java/lang/Object") ∈ lw_tbl := lw_at lw_m18 231 rfl
theorem in_X5 : ∀ w ∈ wsX50, w ∈ lw_all := lw_in wsX50 [3721, 3723, 3725, 3727, 3729, 3731, 3733, 3735, 3737, 3739, 3741, 3743, 3745, 3747, 3749, 3751, 3753, 3755, 3757, 3759, 3761, 3763, 3765, 3767, 3769, 3771, 3773, 3775, 3777, 3779, 3781, 3783, 3785, 3787, 3789, 3791, 3793, 3795, 3797, 3799, 3801, 3803, 3805, 3807, 3809, 3811, 3813, 3815, 3817] (by decide +kernel) (by decide +kernel)
