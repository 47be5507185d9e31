/-! java/lang/StringUTF16 -/
set_option maxRecDepth 100000
def RJ11 : String := "java/lang/StringUTF16"
abbrev cJ11_newBytesFor : ByteArray := prog_43_method_2_code
def yJ11_newBytesFor : MethodName := ⟨RJ11, "newBytesFor", "(I)[B"⟩
def dkwJ11_newBytesFor_0 : List UInt8 := [26, 184, 0, 11, 188, 8, 176]
abbrev dktJ11_newBytesFor_0 : List UInt8 := dkwJ11_newBytesFor_0 ++ []
theorem dksJ11_newBytesFor_0 : cJ11_newBytesFor.data.toList.drop 0 = dktJ11_newBytesFor_0 := by decide +kernel
theorem dJ11_newBytesFor_0 : decode cJ11_newBytesFor 0 = .ok (.iload_n 0, 1) := dk_26 (dk_at dksJ11_newBytesFor_0 0 rfl rfl)
theorem dJ11_newBytesFor_1 : decode cJ11_newBytesFor 1 = .ok (.invokestatic 11, 3) := dk_184 0 11 (dk_at dksJ11_newBytesFor_0 1 rfl rfl)
theorem dJ11_newBytesFor_4 : decode cJ11_newBytesFor 4 = .ok (.newarray .byte, 2) := dk_188_8 (dk_at dksJ11_newBytesFor_0 4 rfl rfl)
theorem dJ11_newBytesFor_6 : decode cJ11_newBytesFor 6 = .ok (.areturn, 1) := dk_176 (dk_at dksJ11_newBytesFor_0 6 rfl rfl)
abbrev cJ11_newBytesLength : ByteArray := prog_43_method_3_code
def yJ11_newBytesLength : MethodName := ⟨RJ11, "newBytesLength", "(I)I"⟩
def dkwJ11_newBytesLength_2 : List UInt8 := [182, 0, 32, 182, 0, 37, 183, 0, 41, 191, 26, 4, 120, 172]
abbrev dktJ11_newBytesLength_2 : List UInt8 := dkwJ11_newBytesLength_2 ++ []
def dkwJ11_newBytesLength_1 : List UInt8 := [187, 0, 23, 89, 183, 0, 25, 18, 26, 182, 0, 28, 26, 182, 0, 32, 18, 35, 182, 0, 28, 18, 20]
abbrev dktJ11_newBytesLength_1 : List UInt8 := dkwJ11_newBytesLength_1 ++ dktJ11_newBytesLength_2
def dkwJ11_newBytesLength_0 : List UInt8 := [26, 156, 0, 11, 187, 0, 17, 89, 183, 0, 19, 191, 26, 18, 20, 161, 0, 40, 187, 0, 21, 89]
abbrev dktJ11_newBytesLength_0 : List UInt8 := dkwJ11_newBytesLength_0 ++ dktJ11_newBytesLength_1
theorem dksJ11_newBytesLength_0 : cJ11_newBytesLength.data.toList.drop 0 = dktJ11_newBytesLength_0 := by decide +kernel
theorem dksJ11_newBytesLength_1 : cJ11_newBytesLength.data.toList.drop 22 = dktJ11_newBytesLength_1 := dk_seg dksJ11_newBytesLength_0 22 rfl rfl
theorem dksJ11_newBytesLength_2 : cJ11_newBytesLength.data.toList.drop 45 = dktJ11_newBytesLength_2 := dk_seg dksJ11_newBytesLength_1 23 rfl rfl
theorem dJ11_newBytesLength_0 : decode cJ11_newBytesLength 0 = .ok (.iload_n 0, 1) := dk_26 (dk_at dksJ11_newBytesLength_0 0 rfl rfl)
theorem dJ11_newBytesLength_1 : decode cJ11_newBytesLength 1 = .ok (.ifCond .ge 11, 3) := dk_156 0 11 (dk_at dksJ11_newBytesLength_0 1 rfl rfl)
theorem dJ11_newBytesLength_4 : decode cJ11_newBytesLength 4 = .ok (.new 17, 3) := dk_187 0 17 (dk_at dksJ11_newBytesLength_0 4 rfl rfl)
theorem dJ11_newBytesLength_7 : decode cJ11_newBytesLength 7 = .ok (.dup, 1) := dk_89 (dk_at dksJ11_newBytesLength_0 7 rfl rfl)
theorem dJ11_newBytesLength_8 : decode cJ11_newBytesLength 8 = .ok (.invokespecial 19, 3) := dk_183 0 19 (dk_at dksJ11_newBytesLength_0 8 rfl rfl)
theorem dJ11_newBytesLength_11 : decode cJ11_newBytesLength 11 = .ok (.athrow, 1) := dk_191 (dk_at dksJ11_newBytesLength_0 11 rfl rfl)
theorem dJ11_newBytesLength_12 : decode cJ11_newBytesLength 12 = .ok (.iload_n 0, 1) := dk_26 (dk_at dksJ11_newBytesLength_0 12 rfl rfl)
theorem dJ11_newBytesLength_13 : decode cJ11_newBytesLength 13 = .ok (.ldc 20, 2) := dk_18 20 (dk_at dksJ11_newBytesLength_0 13 rfl rfl)
theorem dJ11_newBytesLength_15 : decode cJ11_newBytesLength 15 = .ok (.if_icmp .lt 40, 3) := dk_161 0 40 (dk_at dksJ11_newBytesLength_0 15 rfl rfl)
theorem dJ11_newBytesLength_18 : decode cJ11_newBytesLength 18 = .ok (.new 21, 3) := dk_187 0 21 (dk_at dksJ11_newBytesLength_0 18 rfl rfl)
theorem dJ11_newBytesLength_21 : decode cJ11_newBytesLength 21 = .ok (.dup, 1) := dk_89 (dk_at dksJ11_newBytesLength_0 21 rfl rfl)
theorem dJ11_newBytesLength_22 : decode cJ11_newBytesLength 22 = .ok (.new 23, 3) := dk_187 0 23 (dk_at dksJ11_newBytesLength_1 0 rfl rfl)
theorem dJ11_newBytesLength_25 : decode cJ11_newBytesLength 25 = .ok (.dup, 1) := dk_89 (dk_at dksJ11_newBytesLength_1 3 rfl rfl)
theorem dJ11_newBytesLength_26 : decode cJ11_newBytesLength 26 = .ok (.invokespecial 25, 3) := dk_183 0 25 (dk_at dksJ11_newBytesLength_1 4 rfl rfl)
theorem dJ11_newBytesLength_29 : decode cJ11_newBytesLength 29 = .ok (.ldc 26, 2) := dk_18 26 (dk_at dksJ11_newBytesLength_1 7 rfl rfl)
theorem dJ11_newBytesLength_31 : decode cJ11_newBytesLength 31 = .ok (.invokevirtual 28, 3) := dk_182 0 28 (dk_at dksJ11_newBytesLength_1 9 rfl rfl)
theorem dJ11_newBytesLength_34 : decode cJ11_newBytesLength 34 = .ok (.iload_n 0, 1) := dk_26 (dk_at dksJ11_newBytesLength_1 12 rfl rfl)
theorem dJ11_newBytesLength_35 : decode cJ11_newBytesLength 35 = .ok (.invokevirtual 32, 3) := dk_182 0 32 (dk_at dksJ11_newBytesLength_1 13 rfl rfl)
theorem dJ11_newBytesLength_38 : decode cJ11_newBytesLength 38 = .ok (.ldc 35, 2) := dk_18 35 (dk_at dksJ11_newBytesLength_1 16 rfl rfl)
theorem dJ11_newBytesLength_40 : decode cJ11_newBytesLength 40 = .ok (.invokevirtual 28, 3) := dk_182 0 28 (dk_at dksJ11_newBytesLength_1 18 rfl rfl)
theorem dJ11_newBytesLength_43 : decode cJ11_newBytesLength 43 = .ok (.ldc 20, 2) := dk_18 20 (dk_at dksJ11_newBytesLength_1 21 rfl rfl)
theorem dJ11_newBytesLength_45 : decode cJ11_newBytesLength 45 = .ok (.invokevirtual 32, 3) := dk_182 0 32 (dk_at dksJ11_newBytesLength_2 0 rfl rfl)
theorem dJ11_newBytesLength_48 : decode cJ11_newBytesLength 48 = .ok (.invokevirtual 37, 3) := dk_182 0 37 (dk_at dksJ11_newBytesLength_2 3 rfl rfl)
theorem dJ11_newBytesLength_51 : decode cJ11_newBytesLength 51 = .ok (.invokespecial 41, 3) := dk_183 0 41 (dk_at dksJ11_newBytesLength_2 6 rfl rfl)
theorem dJ11_newBytesLength_54 : decode cJ11_newBytesLength 54 = .ok (.athrow, 1) := dk_191 (dk_at dksJ11_newBytesLength_2 9 rfl rfl)
theorem dJ11_newBytesLength_55 : decode cJ11_newBytesLength 55 = .ok (.iload_n 0, 1) := dk_26 (dk_at dksJ11_newBytesLength_2 10 rfl rfl)
theorem dJ11_newBytesLength_56 : decode cJ11_newBytesLength 56 = .ok (.iconst 1, 1) := dk_4 (dk_at dksJ11_newBytesLength_2 11 rfl rfl)
theorem dJ11_newBytesLength_57 : decode cJ11_newBytesLength 57 = .ok (.ishl, 1) := dk_120 (dk_at dksJ11_newBytesLength_2 12 rfl rfl)
theorem dJ11_newBytesLength_58 : decode cJ11_newBytesLength 58 = .ok (.ireturn, 1) := dk_172 (dk_at dksJ11_newBytesLength_2 13 rfl rfl)
abbrev cJ11_inflate : ByteArray := prog_43_method_86_code
def yJ11_inflate : MethodName := ⟨RJ11, "inflate", "([BI[BII)V"⟩
def dkwJ11_inflate_1 : List UInt8 := [132, 1, 1, 51, 17, 0, 255, 126, 184, 0, 111, 132, 5, 1, 167, 255, 228, 177]
abbrev dktJ11_inflate_1 : List UInt8 := dkwJ11_inflate_1 ++ []
def dkwJ11_inflate_0 : List UInt8 := [29, 21, 4, 44, 184, 0, 173, 3, 54, 5, 21, 5, 21, 4, 162, 0, 27, 44, 29, 132, 3, 1, 42, 27]
abbrev dktJ11_inflate_0 : List UInt8 := dkwJ11_inflate_0 ++ dktJ11_inflate_1
theorem dksJ11_inflate_0 : cJ11_inflate.data.toList.drop 0 = dktJ11_inflate_0 := by decide +kernel
theorem dksJ11_inflate_1 : cJ11_inflate.data.toList.drop 24 = dktJ11_inflate_1 := dk_seg dksJ11_inflate_0 24 rfl rfl
theorem dJ11_inflate_0 : decode cJ11_inflate 0 = .ok (.iload_n 3, 1) := dk_29 (dk_at dksJ11_inflate_0 0 rfl rfl)
theorem dJ11_inflate_1 : decode cJ11_inflate 1 = .ok (.iload 4, 2) := dk_21 4 (dk_at dksJ11_inflate_0 1 rfl rfl)
theorem dJ11_inflate_3 : decode cJ11_inflate 3 = .ok (.aload_n 2, 1) := dk_44 (dk_at dksJ11_inflate_0 3 rfl rfl)
theorem dJ11_inflate_4 : decode cJ11_inflate 4 = .ok (.invokestatic 173, 3) := dk_184 0 173 (dk_at dksJ11_inflate_0 4 rfl rfl)
theorem dJ11_inflate_7 : decode cJ11_inflate 7 = .ok (.iconst 0, 1) := dk_3 (dk_at dksJ11_inflate_0 7 rfl rfl)
theorem dJ11_inflate_8 : decode cJ11_inflate 8 = .ok (.istore 5, 2) := dk_54 5 (dk_at dksJ11_inflate_0 8 rfl rfl)
theorem dJ11_inflate_10 : decode cJ11_inflate 10 = .ok (.iload 5, 2) := dk_21 5 (dk_at dksJ11_inflate_0 10 rfl rfl)
theorem dJ11_inflate_12 : decode cJ11_inflate 12 = .ok (.iload 4, 2) := dk_21 4 (dk_at dksJ11_inflate_0 12 rfl rfl)
theorem dJ11_inflate_14 : decode cJ11_inflate 14 = .ok (.if_icmp .ge 27, 3) := dk_162 0 27 (dk_at dksJ11_inflate_0 14 rfl rfl)
theorem dJ11_inflate_17 : decode cJ11_inflate 17 = .ok (.aload_n 2, 1) := dk_44 (dk_at dksJ11_inflate_0 17 rfl rfl)
theorem dJ11_inflate_18 : decode cJ11_inflate 18 = .ok (.iload_n 3, 1) := dk_29 (dk_at dksJ11_inflate_0 18 rfl rfl)
theorem dJ11_inflate_19 : decode cJ11_inflate 19 = .ok (.iinc 3 1, 3) := dk_132 3 1 (dk_at dksJ11_inflate_0 19 rfl rfl)
theorem dJ11_inflate_22 : decode cJ11_inflate 22 = .ok (.aload_n 0, 1) := dk_42 (dk_at dksJ11_inflate_0 22 rfl rfl)
theorem dJ11_inflate_23 : decode cJ11_inflate 23 = .ok (.iload_n 1, 1) := dk_27 (dk_at dksJ11_inflate_0 23 rfl rfl)
theorem dJ11_inflate_24 : decode cJ11_inflate 24 = .ok (.iinc 1 1, 3) := dk_132 1 1 (dk_at dksJ11_inflate_1 0 rfl rfl)
theorem dJ11_inflate_27 : decode cJ11_inflate 27 = .ok (.baload, 1) := dk_51 (dk_at dksJ11_inflate_1 3 rfl rfl)
theorem dJ11_inflate_28 : decode cJ11_inflate 28 = .ok (.sipush 255, 3) := dk_17 0 255 (dk_at dksJ11_inflate_1 4 rfl rfl)
theorem dJ11_inflate_31 : decode cJ11_inflate 31 = .ok (.iand, 1) := dk_126 (dk_at dksJ11_inflate_1 7 rfl rfl)
theorem dJ11_inflate_32 : decode cJ11_inflate 32 = .ok (.invokestatic 111, 3) := dk_184 0 111 (dk_at dksJ11_inflate_1 8 rfl rfl)
theorem dJ11_inflate_35 : decode cJ11_inflate 35 = .ok (.iinc 5 1, 3) := dk_132 5 1 (dk_at dksJ11_inflate_1 11 rfl rfl)
theorem dJ11_inflate_38 : decode cJ11_inflate 38 = .ok (.goto (-28), 3) := dk_167 255 228 (dk_at dksJ11_inflate_1 14 rfl rfl)
theorem dJ11_inflate_41 : decode cJ11_inflate 41 = .ok (.return_, 1) := dk_177 (dk_at dksJ11_inflate_1 17 rfl rfl)
abbrev cJ11_checkBoundsOffCount : ByteArray := prog_43_method_94_code
def yJ11_checkBoundsOffCount : MethodName := ⟨RJ11, "checkBoundsOffCount", "(II[B)V"⟩
def dkwJ11_checkBoundsOffCount_0 : List UInt8 := [26, 27, 44, 184, 0, 48, 184, 1, 163, 87, 177]
abbrev dktJ11_checkBoundsOffCount_0 : List UInt8 := dkwJ11_checkBoundsOffCount_0 ++ []
theorem dksJ11_checkBoundsOffCount_0 : cJ11_checkBoundsOffCount.data.toList.drop 0 = dktJ11_checkBoundsOffCount_0 := by decide +kernel
theorem dJ11_checkBoundsOffCount_0 : decode cJ11_checkBoundsOffCount 0 = .ok (.iload_n 0, 1) := dk_26 (dk_at dksJ11_checkBoundsOffCount_0 0 rfl rfl)
theorem dJ11_checkBoundsOffCount_1 : decode cJ11_checkBoundsOffCount 1 = .ok (.iload_n 1, 1) := dk_27 (dk_at dksJ11_checkBoundsOffCount_0 1 rfl rfl)
theorem dJ11_checkBoundsOffCount_2 : decode cJ11_checkBoundsOffCount 2 = .ok (.aload_n 2, 1) := dk_44 (dk_at dksJ11_checkBoundsOffCount_0 2 rfl rfl)
theorem dJ11_checkBoundsOffCount_3 : decode cJ11_checkBoundsOffCount 3 = .ok (.invokestatic 48, 3) := dk_184 0 48 (dk_at dksJ11_checkBoundsOffCount_0 3 rfl rfl)
theorem dJ11_checkBoundsOffCount_6 : decode cJ11_checkBoundsOffCount 6 = .ok (.invokestatic 419, 3) := dk_184 1 163 (dk_at dksJ11_checkBoundsOffCount_0 6 rfl rfl)
theorem dJ11_checkBoundsOffCount_9 : decode cJ11_checkBoundsOffCount 9 = .ok (.pop, 1) := dk_87 (dk_at dksJ11_checkBoundsOffCount_0 9 rfl rfl)
theorem dJ11_checkBoundsOffCount_10 : decode cJ11_checkBoundsOffCount 10 = .ok (.return_, 1) := dk_177 (dk_at dksJ11_checkBoundsOffCount_0 10 rfl rfl)
abbrev cJ11_length : ByteArray := prog_43_method_6_code
def yJ11_length : MethodName := ⟨RJ11, "length", "([B)I"⟩
def dkwJ11_length_0 : List UInt8 := [42, 190, 4, 122, 172]
abbrev dktJ11_length_0 : List UInt8 := dkwJ11_length_0 ++ []
theorem dksJ11_length_0 : cJ11_length.data.toList.drop 0 = dktJ11_length_0 := by decide +kernel
theorem dJ11_length_0 : decode cJ11_length 0 = .ok (.aload_n 0, 1) := dk_42 (dk_at dksJ11_length_0 0 rfl rfl)
theorem dJ11_length_1 : decode cJ11_length 1 = .ok (.arraylength, 1) := dk_190 (dk_at dksJ11_length_0 1 rfl rfl)
theorem dJ11_length_2 : decode cJ11_length 2 = .ok (.iconst 1, 1) := dk_4 (dk_at dksJ11_length_0 2 rfl rfl)
theorem dJ11_length_3 : decode cJ11_length 3 = .ok (.ishr, 1) := dk_122 (dk_at dksJ11_length_0 3 rfl rfl)
theorem dJ11_length_4 : decode cJ11_length 4 = .ok (.ireturn, 1) := dk_172 (dk_at dksJ11_length_0 4 rfl rfl)
abbrev cJ11_putChar : ByteArray := prog_43_method_4_code
def yJ11_putChar : MethodName := ⟨RJ11, "putChar", "([BII)V"⟩
def dkwJ11_putChar_2 : List UInt8 := [178, 0, 63, 122, 145, 84, 177]
abbrev dktJ11_putChar_2 : List UInt8 := dkwJ11_putChar_2 ++ []
def dkwJ11_putChar_1 : List UInt8 := [183, 0, 56, 191, 27, 4, 120, 60, 42, 27, 132, 1, 1, 28, 178, 0, 59, 122, 145, 84, 42, 27, 28]
abbrev dktJ11_putChar_1 : List UInt8 := dkwJ11_putChar_1 ++ dktJ11_putChar_2
def dkwJ11_putChar_0 : List UInt8 := [178, 0, 44, 154, 0, 25, 27, 155, 0, 11, 27, 42, 184, 0, 48, 161, 0, 13, 187, 0, 52, 89, 18, 54]
abbrev dktJ11_putChar_0 : List UInt8 := dkwJ11_putChar_0 ++ dktJ11_putChar_1
theorem dksJ11_putChar_0 : cJ11_putChar.data.toList.drop 0 = dktJ11_putChar_0 := by decide +kernel
theorem dksJ11_putChar_1 : cJ11_putChar.data.toList.drop 24 = dktJ11_putChar_1 := dk_seg dksJ11_putChar_0 24 rfl rfl
theorem dksJ11_putChar_2 : cJ11_putChar.data.toList.drop 47 = dktJ11_putChar_2 := dk_seg dksJ11_putChar_1 23 rfl rfl
theorem dJ11_putChar_0 : decode cJ11_putChar 0 = .ok (.getstatic 44, 3) := dk_178 0 44 (dk_at dksJ11_putChar_0 0 rfl rfl)
theorem dJ11_putChar_3 : decode cJ11_putChar 3 = .ok (.ifCond .ne 25, 3) := dk_154 0 25 (dk_at dksJ11_putChar_0 3 rfl rfl)
theorem dJ11_putChar_6 : decode cJ11_putChar 6 = .ok (.iload_n 1, 1) := dk_27 (dk_at dksJ11_putChar_0 6 rfl rfl)
theorem dJ11_putChar_7 : decode cJ11_putChar 7 = .ok (.ifCond .lt 11, 3) := dk_155 0 11 (dk_at dksJ11_putChar_0 7 rfl rfl)
theorem dJ11_putChar_10 : decode cJ11_putChar 10 = .ok (.iload_n 1, 1) := dk_27 (dk_at dksJ11_putChar_0 10 rfl rfl)
theorem dJ11_putChar_11 : decode cJ11_putChar 11 = .ok (.aload_n 0, 1) := dk_42 (dk_at dksJ11_putChar_0 11 rfl rfl)
theorem dJ11_putChar_12 : decode cJ11_putChar 12 = .ok (.invokestatic 48, 3) := dk_184 0 48 (dk_at dksJ11_putChar_0 12 rfl rfl)
theorem dJ11_putChar_15 : decode cJ11_putChar 15 = .ok (.if_icmp .lt 13, 3) := dk_161 0 13 (dk_at dksJ11_putChar_0 15 rfl rfl)
theorem dJ11_putChar_18 : decode cJ11_putChar 18 = .ok (.new 52, 3) := dk_187 0 52 (dk_at dksJ11_putChar_0 18 rfl rfl)
theorem dJ11_putChar_21 : decode cJ11_putChar 21 = .ok (.dup, 1) := dk_89 (dk_at dksJ11_putChar_0 21 rfl rfl)
theorem dJ11_putChar_22 : decode cJ11_putChar 22 = .ok (.ldc 54, 2) := dk_18 54 (dk_at dksJ11_putChar_0 22 rfl rfl)
theorem dJ11_putChar_24 : decode cJ11_putChar 24 = .ok (.invokespecial 56, 3) := dk_183 0 56 (dk_at dksJ11_putChar_1 0 rfl rfl)
theorem dJ11_putChar_27 : decode cJ11_putChar 27 = .ok (.athrow, 1) := dk_191 (dk_at dksJ11_putChar_1 3 rfl rfl)
theorem dJ11_putChar_28 : decode cJ11_putChar 28 = .ok (.iload_n 1, 1) := dk_27 (dk_at dksJ11_putChar_1 4 rfl rfl)
theorem dJ11_putChar_29 : decode cJ11_putChar 29 = .ok (.iconst 1, 1) := dk_4 (dk_at dksJ11_putChar_1 5 rfl rfl)
theorem dJ11_putChar_30 : decode cJ11_putChar 30 = .ok (.ishl, 1) := dk_120 (dk_at dksJ11_putChar_1 6 rfl rfl)
theorem dJ11_putChar_31 : decode cJ11_putChar 31 = .ok (.istore_n 1, 1) := dk_60 (dk_at dksJ11_putChar_1 7 rfl rfl)
theorem dJ11_putChar_32 : decode cJ11_putChar 32 = .ok (.aload_n 0, 1) := dk_42 (dk_at dksJ11_putChar_1 8 rfl rfl)
theorem dJ11_putChar_33 : decode cJ11_putChar 33 = .ok (.iload_n 1, 1) := dk_27 (dk_at dksJ11_putChar_1 9 rfl rfl)
theorem dJ11_putChar_34 : decode cJ11_putChar 34 = .ok (.iinc 1 1, 3) := dk_132 1 1 (dk_at dksJ11_putChar_1 10 rfl rfl)
theorem dJ11_putChar_37 : decode cJ11_putChar 37 = .ok (.iload_n 2, 1) := dk_28 (dk_at dksJ11_putChar_1 13 rfl rfl)
theorem dJ11_putChar_38 : decode cJ11_putChar 38 = .ok (.getstatic 59, 3) := dk_178 0 59 (dk_at dksJ11_putChar_1 14 rfl rfl)
theorem dJ11_putChar_41 : decode cJ11_putChar 41 = .ok (.ishr, 1) := dk_122 (dk_at dksJ11_putChar_1 17 rfl rfl)
theorem dJ11_putChar_42 : decode cJ11_putChar 42 = .ok (.i2b, 1) := dk_145 (dk_at dksJ11_putChar_1 18 rfl rfl)
theorem dJ11_putChar_43 : decode cJ11_putChar 43 = .ok (.bastore, 1) := dk_84 (dk_at dksJ11_putChar_1 19 rfl rfl)
theorem dJ11_putChar_44 : decode cJ11_putChar 44 = .ok (.aload_n 0, 1) := dk_42 (dk_at dksJ11_putChar_1 20 rfl rfl)
theorem dJ11_putChar_45 : decode cJ11_putChar 45 = .ok (.iload_n 1, 1) := dk_27 (dk_at dksJ11_putChar_1 21 rfl rfl)
theorem dJ11_putChar_46 : decode cJ11_putChar 46 = .ok (.iload_n 2, 1) := dk_28 (dk_at dksJ11_putChar_1 22 rfl rfl)
theorem dJ11_putChar_47 : decode cJ11_putChar 47 = .ok (.getstatic 63, 3) := dk_178 0 63 (dk_at dksJ11_putChar_2 0 rfl rfl)
theorem dJ11_putChar_50 : decode cJ11_putChar 50 = .ok (.ishr, 1) := dk_122 (dk_at dksJ11_putChar_2 3 rfl rfl)
theorem dJ11_putChar_51 : decode cJ11_putChar 51 = .ok (.i2b, 1) := dk_145 (dk_at dksJ11_putChar_2 4 rfl rfl)
theorem dJ11_putChar_52 : decode cJ11_putChar 52 = .ok (.bastore, 1) := dk_84 (dk_at dksJ11_putChar_2 5 rfl rfl)
theorem dJ11_putChar_53 : decode cJ11_putChar 53 = .ok (.return_, 1) := dk_177 (dk_at dksJ11_putChar_2 6 rfl rfl)
abbrev cJ11_putCharSB : ByteArray := prog_43_method_71_code
def yJ11_putCharSB : MethodName := ⟨RJ11, "putCharSB", "([BII)V"⟩
def dkwJ11_putCharSB_0 : List UInt8 := [27, 42, 184, 0, 67, 42, 27, 28, 184, 0, 111, 177]
abbrev dktJ11_putCharSB_0 : List UInt8 := dkwJ11_putCharSB_0 ++ []
theorem dksJ11_putCharSB_0 : cJ11_putCharSB.data.toList.drop 0 = dktJ11_putCharSB_0 := by decide +kernel
theorem dJ11_putCharSB_0 : decode cJ11_putCharSB 0 = .ok (.iload_n 1, 1) := dk_27 (dk_at dksJ11_putCharSB_0 0 rfl rfl)
theorem dJ11_putCharSB_1 : decode cJ11_putCharSB 1 = .ok (.aload_n 0, 1) := dk_42 (dk_at dksJ11_putCharSB_0 1 rfl rfl)
theorem dJ11_putCharSB_2 : decode cJ11_putCharSB 2 = .ok (.invokestatic 67, 3) := dk_184 0 67 (dk_at dksJ11_putCharSB_0 2 rfl rfl)
theorem dJ11_putCharSB_5 : decode cJ11_putCharSB 5 = .ok (.aload_n 0, 1) := dk_42 (dk_at dksJ11_putCharSB_0 5 rfl rfl)
theorem dJ11_putCharSB_6 : decode cJ11_putCharSB 6 = .ok (.iload_n 1, 1) := dk_27 (dk_at dksJ11_putCharSB_0 6 rfl rfl)
theorem dJ11_putCharSB_7 : decode cJ11_putCharSB 7 = .ok (.iload_n 2, 1) := dk_28 (dk_at dksJ11_putCharSB_0 7 rfl rfl)
theorem dJ11_putCharSB_8 : decode cJ11_putCharSB 8 = .ok (.invokestatic 111, 3) := dk_184 0 111 (dk_at dksJ11_putCharSB_0 8 rfl rfl)
theorem dJ11_putCharSB_11 : decode cJ11_putCharSB 11 = .ok (.return_, 1) := dk_177 (dk_at dksJ11_putCharSB_0 11 rfl rfl)
abbrev cJ11_checkIndex : ByteArray := prog_43_method_91_code
def yJ11_checkIndex : MethodName := ⟨RJ11, "checkIndex", "(I[B)V"⟩
def dkwJ11_checkIndex_0 : List UInt8 := [26, 43, 184, 0, 48, 184, 1, 158, 177]
abbrev dktJ11_checkIndex_0 : List UInt8 := dkwJ11_checkIndex_0 ++ []
theorem dksJ11_checkIndex_0 : cJ11_checkIndex.data.toList.drop 0 = dktJ11_checkIndex_0 := by decide +kernel
theorem dJ11_checkIndex_0 : decode cJ11_checkIndex 0 = .ok (.iload_n 0, 1) := dk_26 (dk_at dksJ11_checkIndex_0 0 rfl rfl)
theorem dJ11_checkIndex_1 : decode cJ11_checkIndex 1 = .ok (.aload_n 1, 1) := dk_43 (dk_at dksJ11_checkIndex_0 1 rfl rfl)
theorem dJ11_checkIndex_2 : decode cJ11_checkIndex 2 = .ok (.invokestatic 48, 3) := dk_184 0 48 (dk_at dksJ11_checkIndex_0 2 rfl rfl)
theorem dJ11_checkIndex_5 : decode cJ11_checkIndex 5 = .ok (.invokestatic 414, 3) := dk_184 1 158 (dk_at dksJ11_checkIndex_0 5 rfl rfl)
theorem dJ11_checkIndex_8 : decode cJ11_checkIndex 8 = .ok (.return_, 1) := dk_177 (dk_at dksJ11_checkIndex_0 8 rfl rfl)
abbrev cJ11_getChars : ByteArray := prog_43_method_77_code
def yJ11_getChars : MethodName := ⟨RJ11, "getChars", "(III[B)I"⟩
def dkwJ11_getChars_1 : List UInt8 := [159, 0, 11, 187, 0, 52, 89, 183, 0, 66, 191, 21, 4, 172]
abbrev dktJ11_getChars_1 : List UInt8 := dkwJ11_getChars_1 ++ []
def dkwJ11_getChars_0 : List UInt8 := [27, 28, 45, 184, 0, 96, 26, 28, 45, 184, 1, 137, 54, 4, 178, 0, 44, 154, 0, 17, 27, 21, 4]
abbrev dktJ11_getChars_0 : List UInt8 := dkwJ11_getChars_0 ++ dktJ11_getChars_1
theorem dksJ11_getChars_0 : cJ11_getChars.data.toList.drop 0 = dktJ11_getChars_0 := by decide +kernel
theorem dksJ11_getChars_1 : cJ11_getChars.data.toList.drop 23 = dktJ11_getChars_1 := dk_seg dksJ11_getChars_0 23 rfl rfl
theorem dJ11_getChars_0 : decode cJ11_getChars 0 = .ok (.iload_n 1, 1) := dk_27 (dk_at dksJ11_getChars_0 0 rfl rfl)
theorem dJ11_getChars_1 : decode cJ11_getChars 1 = .ok (.iload_n 2, 1) := dk_28 (dk_at dksJ11_getChars_0 1 rfl rfl)
theorem dJ11_getChars_2 : decode cJ11_getChars 2 = .ok (.aload_n 3, 1) := dk_45 (dk_at dksJ11_getChars_0 2 rfl rfl)
theorem dJ11_getChars_3 : decode cJ11_getChars 3 = .ok (.invokestatic 96, 3) := dk_184 0 96 (dk_at dksJ11_getChars_0 3 rfl rfl)
theorem dJ11_getChars_6 : decode cJ11_getChars 6 = .ok (.iload_n 0, 1) := dk_26 (dk_at dksJ11_getChars_0 6 rfl rfl)
theorem dJ11_getChars_7 : decode cJ11_getChars 7 = .ok (.iload_n 2, 1) := dk_28 (dk_at dksJ11_getChars_0 7 rfl rfl)
theorem dJ11_getChars_8 : decode cJ11_getChars 8 = .ok (.aload_n 3, 1) := dk_45 (dk_at dksJ11_getChars_0 8 rfl rfl)
theorem dJ11_getChars_9 : decode cJ11_getChars 9 = .ok (.invokestatic 393, 3) := dk_184 1 137 (dk_at dksJ11_getChars_0 9 rfl rfl)
theorem dJ11_getChars_12 : decode cJ11_getChars 12 = .ok (.istore 4, 2) := dk_54 4 (dk_at dksJ11_getChars_0 12 rfl rfl)
theorem dJ11_getChars_14 : decode cJ11_getChars 14 = .ok (.getstatic 44, 3) := dk_178 0 44 (dk_at dksJ11_getChars_0 14 rfl rfl)
theorem dJ11_getChars_17 : decode cJ11_getChars 17 = .ok (.ifCond .ne 17, 3) := dk_154 0 17 (dk_at dksJ11_getChars_0 17 rfl rfl)
theorem dJ11_getChars_20 : decode cJ11_getChars 20 = .ok (.iload_n 1, 1) := dk_27 (dk_at dksJ11_getChars_0 20 rfl rfl)
theorem dJ11_getChars_21 : decode cJ11_getChars 21 = .ok (.iload 4, 2) := dk_21 4 (dk_at dksJ11_getChars_0 21 rfl rfl)
theorem dJ11_getChars_23 : decode cJ11_getChars 23 = .ok (.if_icmp .eq 11, 3) := dk_159 0 11 (dk_at dksJ11_getChars_1 0 rfl rfl)
theorem dJ11_getChars_26 : decode cJ11_getChars 26 = .ok (.new 52, 3) := dk_187 0 52 (dk_at dksJ11_getChars_1 3 rfl rfl)
theorem dJ11_getChars_29 : decode cJ11_getChars 29 = .ok (.dup, 1) := dk_89 (dk_at dksJ11_getChars_1 6 rfl rfl)
theorem dJ11_getChars_30 : decode cJ11_getChars 30 = .ok (.invokespecial 66, 3) := dk_183 0 66 (dk_at dksJ11_getChars_1 7 rfl rfl)
theorem dJ11_getChars_33 : decode cJ11_getChars 33 = .ok (.athrow, 1) := dk_191 (dk_at dksJ11_getChars_1 10 rfl rfl)
theorem dJ11_getChars_34 : decode cJ11_getChars 34 = .ok (.iload 4, 2) := dk_21 4 (dk_at dksJ11_getChars_1 11 rfl rfl)
theorem dJ11_getChars_36 : decode cJ11_getChars 36 = .ok (.ireturn, 1) := dk_172 (dk_at dksJ11_getChars_1 13 rfl rfl)
abbrev cJ11_checkBoundsBeginEnd : ByteArray := prog_43_method_93_code
def yJ11_checkBoundsBeginEnd : MethodName := ⟨RJ11, "checkBoundsBeginEnd", "(II[B)V"⟩
def dkwJ11_checkBoundsBeginEnd_0 : List UInt8 := [26, 27, 44, 184, 0, 48, 184, 0, 241, 177]
abbrev dktJ11_checkBoundsBeginEnd_0 : List UInt8 := dkwJ11_checkBoundsBeginEnd_0 ++ []
theorem dksJ11_checkBoundsBeginEnd_0 : cJ11_checkBoundsBeginEnd.data.toList.drop 0 = dktJ11_checkBoundsBeginEnd_0 := by decide +kernel
theorem dJ11_checkBoundsBeginEnd_0 : decode cJ11_checkBoundsBeginEnd 0 = .ok (.iload_n 0, 1) := dk_26 (dk_at dksJ11_checkBoundsBeginEnd_0 0 rfl rfl)
theorem dJ11_checkBoundsBeginEnd_1 : decode cJ11_checkBoundsBeginEnd 1 = .ok (.iload_n 1, 1) := dk_27 (dk_at dksJ11_checkBoundsBeginEnd_0 1 rfl rfl)
theorem dJ11_checkBoundsBeginEnd_2 : decode cJ11_checkBoundsBeginEnd 2 = .ok (.aload_n 2, 1) := dk_44 (dk_at dksJ11_checkBoundsBeginEnd_0 2 rfl rfl)
theorem dJ11_checkBoundsBeginEnd_3 : decode cJ11_checkBoundsBeginEnd 3 = .ok (.invokestatic 48, 3) := dk_184 0 48 (dk_at dksJ11_checkBoundsBeginEnd_0 3 rfl rfl)
theorem dJ11_checkBoundsBeginEnd_6 : decode cJ11_checkBoundsBeginEnd 6 = .ok (.invokestatic 241, 3) := dk_184 0 241 (dk_at dksJ11_checkBoundsBeginEnd_0 6 rfl rfl)
theorem dJ11_checkBoundsBeginEnd_9 : decode cJ11_checkBoundsBeginEnd 9 = .ok (.return_, 1) := dk_177 (dk_at dksJ11_checkBoundsBeginEnd_0 9 rfl rfl)
abbrev cJ11_getChars_2 : ByteArray := prog_43_method_89_code
def yJ11_getChars_2 : MethodName := ⟨RJ11, "getChars", "(II[B)I"⟩
def dkwJ11_getChars_2_5 : List UInt8 := [132, 5, 255, 21, 5, 16, 45, 184, 0, 111, 21, 5, 172]
abbrev dktJ11_getChars_2_5 : List UInt8 := dkwJ11_getChars_2_5 ++ []
def dkwJ11_getChars_2_4 : List UInt8 := [162, 0, 18, 44, 132, 5, 255, 21, 5, 178, 1, 151, 26, 116, 51, 184, 0, 111, 21, 6, 153, 0, 14, 44]
abbrev dktJ11_getChars_2_4 : List UInt8 := dkwJ11_getChars_2_4 ++ dktJ11_getChars_2_5
def dkwJ11_getChars_2_3 : List UInt8 := [184, 0, 111, 167, 255, 205, 44, 132, 5, 255, 21, 5, 178, 1, 147, 26, 116, 51, 184, 0, 111, 26, 16, 247]
abbrev dktJ11_getChars_2_3 : List UInt8 := dkwJ11_getChars_2_3 ++ dktJ11_getChars_2_4
def dkwJ11_getChars_2_2 : List UInt8 := [21, 5, 178, 1, 147, 21, 4, 51, 184, 0, 111, 44, 132, 5, 255, 21, 5, 178, 1, 151, 21, 4, 51]
abbrev dktJ11_getChars_2_2 : List UInt8 := dkwJ11_getChars_2_2 ++ dktJ11_getChars_2_3
def dkwJ11_getChars_2_1 : List UInt8 := [16, 156, 163, 0, 51, 26, 16, 100, 108, 62, 29, 16, 100, 104, 26, 100, 54, 4, 29, 59, 44, 132, 5, 255]
abbrev dktJ11_getChars_2_1 : List UInt8 := dkwJ11_getChars_2_1 ++ dktJ11_getChars_2_2
def dkwJ11_getChars_2_0 : List UInt8 := [27, 54, 5, 26, 156, 0, 7, 4, 167, 0, 4, 3, 54, 6, 21, 6, 154, 0, 6, 26, 116, 59, 26]
abbrev dktJ11_getChars_2_0 : List UInt8 := dkwJ11_getChars_2_0 ++ dktJ11_getChars_2_1
theorem dksJ11_getChars_2_0 : cJ11_getChars_2.data.toList.drop 0 = dktJ11_getChars_2_0 := by decide +kernel
theorem dksJ11_getChars_2_1 : cJ11_getChars_2.data.toList.drop 23 = dktJ11_getChars_2_1 := dk_seg dksJ11_getChars_2_0 23 rfl rfl
theorem dksJ11_getChars_2_2 : cJ11_getChars_2.data.toList.drop 47 = dktJ11_getChars_2_2 := dk_seg dksJ11_getChars_2_1 24 rfl rfl
theorem dksJ11_getChars_2_3 : cJ11_getChars_2.data.toList.drop 70 = dktJ11_getChars_2_3 := dk_seg dksJ11_getChars_2_2 23 rfl rfl
theorem dksJ11_getChars_2_4 : cJ11_getChars_2.data.toList.drop 94 = dktJ11_getChars_2_4 := dk_seg dksJ11_getChars_2_3 24 rfl rfl
theorem dksJ11_getChars_2_5 : cJ11_getChars_2.data.toList.drop 118 = dktJ11_getChars_2_5 := dk_seg dksJ11_getChars_2_4 24 rfl rfl
theorem dJ11_getChars_2_0 : decode cJ11_getChars_2 0 = .ok (.iload_n 1, 1) := dk_27 (dk_at dksJ11_getChars_2_0 0 rfl rfl)
theorem dJ11_getChars_2_1 : decode cJ11_getChars_2 1 = .ok (.istore 5, 2) := dk_54 5 (dk_at dksJ11_getChars_2_0 1 rfl rfl)
theorem dJ11_getChars_2_3 : decode cJ11_getChars_2 3 = .ok (.iload_n 0, 1) := dk_26 (dk_at dksJ11_getChars_2_0 3 rfl rfl)
theorem dJ11_getChars_2_4 : decode cJ11_getChars_2 4 = .ok (.ifCond .ge 7, 3) := dk_156 0 7 (dk_at dksJ11_getChars_2_0 4 rfl rfl)
theorem dJ11_getChars_2_7 : decode cJ11_getChars_2 7 = .ok (.iconst 1, 1) := dk_4 (dk_at dksJ11_getChars_2_0 7 rfl rfl)
theorem dJ11_getChars_2_8 : decode cJ11_getChars_2 8 = .ok (.goto 4, 3) := dk_167 0 4 (dk_at dksJ11_getChars_2_0 8 rfl rfl)
theorem dJ11_getChars_2_11 : decode cJ11_getChars_2 11 = .ok (.iconst 0, 1) := dk_3 (dk_at dksJ11_getChars_2_0 11 rfl rfl)
theorem dJ11_getChars_2_12 : decode cJ11_getChars_2 12 = .ok (.istore 6, 2) := dk_54 6 (dk_at dksJ11_getChars_2_0 12 rfl rfl)
theorem dJ11_getChars_2_14 : decode cJ11_getChars_2 14 = .ok (.iload 6, 2) := dk_21 6 (dk_at dksJ11_getChars_2_0 14 rfl rfl)
theorem dJ11_getChars_2_16 : decode cJ11_getChars_2 16 = .ok (.ifCond .ne 6, 3) := dk_154 0 6 (dk_at dksJ11_getChars_2_0 16 rfl rfl)
theorem dJ11_getChars_2_19 : decode cJ11_getChars_2 19 = .ok (.iload_n 0, 1) := dk_26 (dk_at dksJ11_getChars_2_0 19 rfl rfl)
theorem dJ11_getChars_2_20 : decode cJ11_getChars_2 20 = .ok (.ineg, 1) := dk_116 (dk_at dksJ11_getChars_2_0 20 rfl rfl)
theorem dJ11_getChars_2_21 : decode cJ11_getChars_2 21 = .ok (.istore_n 0, 1) := dk_59 (dk_at dksJ11_getChars_2_0 21 rfl rfl)
theorem dJ11_getChars_2_22 : decode cJ11_getChars_2 22 = .ok (.iload_n 0, 1) := dk_26 (dk_at dksJ11_getChars_2_0 22 rfl rfl)
theorem dJ11_getChars_2_23 : decode cJ11_getChars_2 23 = .ok (.bipush (-100), 2) := dk_16 156 (dk_at dksJ11_getChars_2_1 0 rfl rfl)
theorem dJ11_getChars_2_25 : decode cJ11_getChars_2 25 = .ok (.if_icmp .gt 51, 3) := dk_163 0 51 (dk_at dksJ11_getChars_2_1 2 rfl rfl)
theorem dJ11_getChars_2_28 : decode cJ11_getChars_2 28 = .ok (.iload_n 0, 1) := dk_26 (dk_at dksJ11_getChars_2_1 5 rfl rfl)
theorem dJ11_getChars_2_29 : decode cJ11_getChars_2 29 = .ok (.bipush 100, 2) := dk_16 100 (dk_at dksJ11_getChars_2_1 6 rfl rfl)
theorem dJ11_getChars_2_31 : decode cJ11_getChars_2 31 = .ok (.idiv, 1) := dk_108 (dk_at dksJ11_getChars_2_1 8 rfl rfl)
theorem dJ11_getChars_2_32 : decode cJ11_getChars_2 32 = .ok (.istore_n 3, 1) := dk_62 (dk_at dksJ11_getChars_2_1 9 rfl rfl)
theorem dJ11_getChars_2_33 : decode cJ11_getChars_2 33 = .ok (.iload_n 3, 1) := dk_29 (dk_at dksJ11_getChars_2_1 10 rfl rfl)
theorem dJ11_getChars_2_34 : decode cJ11_getChars_2 34 = .ok (.bipush 100, 2) := dk_16 100 (dk_at dksJ11_getChars_2_1 11 rfl rfl)
theorem dJ11_getChars_2_36 : decode cJ11_getChars_2 36 = .ok (.imul, 1) := dk_104 (dk_at dksJ11_getChars_2_1 13 rfl rfl)
theorem dJ11_getChars_2_37 : decode cJ11_getChars_2 37 = .ok (.iload_n 0, 1) := dk_26 (dk_at dksJ11_getChars_2_1 14 rfl rfl)
theorem dJ11_getChars_2_38 : decode cJ11_getChars_2 38 = .ok (.isub, 1) := dk_100 (dk_at dksJ11_getChars_2_1 15 rfl rfl)
theorem dJ11_getChars_2_39 : decode cJ11_getChars_2 39 = .ok (.istore 4, 2) := dk_54 4 (dk_at dksJ11_getChars_2_1 16 rfl rfl)
theorem dJ11_getChars_2_41 : decode cJ11_getChars_2 41 = .ok (.iload_n 3, 1) := dk_29 (dk_at dksJ11_getChars_2_1 18 rfl rfl)
theorem dJ11_getChars_2_42 : decode cJ11_getChars_2 42 = .ok (.istore_n 0, 1) := dk_59 (dk_at dksJ11_getChars_2_1 19 rfl rfl)
theorem dJ11_getChars_2_43 : decode cJ11_getChars_2 43 = .ok (.aload_n 2, 1) := dk_44 (dk_at dksJ11_getChars_2_1 20 rfl rfl)
theorem dJ11_getChars_2_44 : decode cJ11_getChars_2 44 = .ok (.iinc 5 (-1), 3) := dk_132 5 255 (dk_at dksJ11_getChars_2_1 21 rfl rfl)
theorem dJ11_getChars_2_47 : decode cJ11_getChars_2 47 = .ok (.iload 5, 2) := dk_21 5 (dk_at dksJ11_getChars_2_2 0 rfl rfl)
theorem dJ11_getChars_2_49 : decode cJ11_getChars_2 49 = .ok (.getstatic 403, 3) := dk_178 1 147 (dk_at dksJ11_getChars_2_2 2 rfl rfl)
theorem dJ11_getChars_2_52 : decode cJ11_getChars_2 52 = .ok (.iload 4, 2) := dk_21 4 (dk_at dksJ11_getChars_2_2 5 rfl rfl)
theorem dJ11_getChars_2_54 : decode cJ11_getChars_2 54 = .ok (.baload, 1) := dk_51 (dk_at dksJ11_getChars_2_2 7 rfl rfl)
theorem dJ11_getChars_2_55 : decode cJ11_getChars_2 55 = .ok (.invokestatic 111, 3) := dk_184 0 111 (dk_at dksJ11_getChars_2_2 8 rfl rfl)
theorem dJ11_getChars_2_58 : decode cJ11_getChars_2 58 = .ok (.aload_n 2, 1) := dk_44 (dk_at dksJ11_getChars_2_2 11 rfl rfl)
theorem dJ11_getChars_2_59 : decode cJ11_getChars_2 59 = .ok (.iinc 5 (-1), 3) := dk_132 5 255 (dk_at dksJ11_getChars_2_2 12 rfl rfl)
theorem dJ11_getChars_2_62 : decode cJ11_getChars_2 62 = .ok (.iload 5, 2) := dk_21 5 (dk_at dksJ11_getChars_2_2 15 rfl rfl)
theorem dJ11_getChars_2_64 : decode cJ11_getChars_2 64 = .ok (.getstatic 407, 3) := dk_178 1 151 (dk_at dksJ11_getChars_2_2 17 rfl rfl)
theorem dJ11_getChars_2_67 : decode cJ11_getChars_2 67 = .ok (.iload 4, 2) := dk_21 4 (dk_at dksJ11_getChars_2_2 20 rfl rfl)
theorem dJ11_getChars_2_69 : decode cJ11_getChars_2 69 = .ok (.baload, 1) := dk_51 (dk_at dksJ11_getChars_2_2 22 rfl rfl)
theorem dJ11_getChars_2_70 : decode cJ11_getChars_2 70 = .ok (.invokestatic 111, 3) := dk_184 0 111 (dk_at dksJ11_getChars_2_3 0 rfl rfl)
theorem dJ11_getChars_2_73 : decode cJ11_getChars_2 73 = .ok (.goto (-51), 3) := dk_167 255 205 (dk_at dksJ11_getChars_2_3 3 rfl rfl)
theorem dJ11_getChars_2_76 : decode cJ11_getChars_2 76 = .ok (.aload_n 2, 1) := dk_44 (dk_at dksJ11_getChars_2_3 6 rfl rfl)
theorem dJ11_getChars_2_77 : decode cJ11_getChars_2 77 = .ok (.iinc 5 (-1), 3) := dk_132 5 255 (dk_at dksJ11_getChars_2_3 7 rfl rfl)
theorem dJ11_getChars_2_80 : decode cJ11_getChars_2 80 = .ok (.iload 5, 2) := dk_21 5 (dk_at dksJ11_getChars_2_3 10 rfl rfl)
theorem dJ11_getChars_2_82 : decode cJ11_getChars_2 82 = .ok (.getstatic 403, 3) := dk_178 1 147 (dk_at dksJ11_getChars_2_3 12 rfl rfl)
theorem dJ11_getChars_2_85 : decode cJ11_getChars_2 85 = .ok (.iload_n 0, 1) := dk_26 (dk_at dksJ11_getChars_2_3 15 rfl rfl)
theorem dJ11_getChars_2_86 : decode cJ11_getChars_2 86 = .ok (.ineg, 1) := dk_116 (dk_at dksJ11_getChars_2_3 16 rfl rfl)
theorem dJ11_getChars_2_87 : decode cJ11_getChars_2 87 = .ok (.baload, 1) := dk_51 (dk_at dksJ11_getChars_2_3 17 rfl rfl)
theorem dJ11_getChars_2_88 : decode cJ11_getChars_2 88 = .ok (.invokestatic 111, 3) := dk_184 0 111 (dk_at dksJ11_getChars_2_3 18 rfl rfl)
theorem dJ11_getChars_2_91 : decode cJ11_getChars_2 91 = .ok (.iload_n 0, 1) := dk_26 (dk_at dksJ11_getChars_2_3 21 rfl rfl)
theorem dJ11_getChars_2_92 : decode cJ11_getChars_2 92 = .ok (.bipush (-9), 2) := dk_16 247 (dk_at dksJ11_getChars_2_3 22 rfl rfl)
theorem dJ11_getChars_2_94 : decode cJ11_getChars_2 94 = .ok (.if_icmp .ge 18, 3) := dk_162 0 18 (dk_at dksJ11_getChars_2_4 0 rfl rfl)
theorem dJ11_getChars_2_97 : decode cJ11_getChars_2 97 = .ok (.aload_n 2, 1) := dk_44 (dk_at dksJ11_getChars_2_4 3 rfl rfl)
theorem dJ11_getChars_2_98 : decode cJ11_getChars_2 98 = .ok (.iinc 5 (-1), 3) := dk_132 5 255 (dk_at dksJ11_getChars_2_4 4 rfl rfl)
theorem dJ11_getChars_2_101 : decode cJ11_getChars_2 101 = .ok (.iload 5, 2) := dk_21 5 (dk_at dksJ11_getChars_2_4 7 rfl rfl)
theorem dJ11_getChars_2_103 : decode cJ11_getChars_2 103 = .ok (.getstatic 407, 3) := dk_178 1 151 (dk_at dksJ11_getChars_2_4 9 rfl rfl)
theorem dJ11_getChars_2_106 : decode cJ11_getChars_2 106 = .ok (.iload_n 0, 1) := dk_26 (dk_at dksJ11_getChars_2_4 12 rfl rfl)
theorem dJ11_getChars_2_107 : decode cJ11_getChars_2 107 = .ok (.ineg, 1) := dk_116 (dk_at dksJ11_getChars_2_4 13 rfl rfl)
theorem dJ11_getChars_2_108 : decode cJ11_getChars_2 108 = .ok (.baload, 1) := dk_51 (dk_at dksJ11_getChars_2_4 14 rfl rfl)
theorem dJ11_getChars_2_109 : decode cJ11_getChars_2 109 = .ok (.invokestatic 111, 3) := dk_184 0 111 (dk_at dksJ11_getChars_2_4 15 rfl rfl)
theorem dJ11_getChars_2_112 : decode cJ11_getChars_2 112 = .ok (.iload 6, 2) := dk_21 6 (dk_at dksJ11_getChars_2_4 18 rfl rfl)
theorem dJ11_getChars_2_114 : decode cJ11_getChars_2 114 = .ok (.ifCond .eq 14, 3) := dk_153 0 14 (dk_at dksJ11_getChars_2_4 20 rfl rfl)
theorem dJ11_getChars_2_117 : decode cJ11_getChars_2 117 = .ok (.aload_n 2, 1) := dk_44 (dk_at dksJ11_getChars_2_4 23 rfl rfl)
theorem dJ11_getChars_2_118 : decode cJ11_getChars_2 118 = .ok (.iinc 5 (-1), 3) := dk_132 5 255 (dk_at dksJ11_getChars_2_5 0 rfl rfl)
theorem dJ11_getChars_2_121 : decode cJ11_getChars_2 121 = .ok (.iload 5, 2) := dk_21 5 (dk_at dksJ11_getChars_2_5 3 rfl rfl)
theorem dJ11_getChars_2_123 : decode cJ11_getChars_2 123 = .ok (.bipush 45, 2) := dk_16 45 (dk_at dksJ11_getChars_2_5 5 rfl rfl)
theorem dJ11_getChars_2_125 : decode cJ11_getChars_2 125 = .ok (.invokestatic 111, 3) := dk_184 0 111 (dk_at dksJ11_getChars_2_5 7 rfl rfl)
theorem dJ11_getChars_2_128 : decode cJ11_getChars_2 128 = .ok (.iload 5, 2) := dk_21 5 (dk_at dksJ11_getChars_2_5 10 rfl rfl)
theorem dJ11_getChars_2_130 : decode cJ11_getChars_2 130 = .ok (.ireturn, 1) := dk_172 (dk_at dksJ11_getChars_2_5 12 rfl rfl)
abbrev cJ11_putCharsAt : ByteArray := prog_43_method_81_code
def yJ11_putCharsAt : MethodName := ⟨RJ11, "putCharsAt", "([BICCCC)I"⟩
def dkwJ11_putCharsAt_3 : List UInt8 := [21, 6, 172]
abbrev dktJ11_putCharsAt_3 : List UInt8 := dkwJ11_putCharsAt_3 ++ []
def dkwJ11_putCharsAt_2 : List UInt8 := [184, 0, 111, 178, 0, 44, 154, 0, 17, 27, 21, 6, 159, 0, 11, 187, 0, 52, 89, 183, 0, 66, 191]
abbrev dktJ11_putCharsAt_2 : List UInt8 := dkwJ11_putCharsAt_2 ++ dktJ11_putCharsAt_3
def dkwJ11_putCharsAt_1 : List UInt8 := [132, 1, 1, 29, 184, 0, 111, 42, 27, 132, 1, 1, 21, 4, 184, 0, 111, 42, 27, 132, 1, 1, 21, 5]
abbrev dktJ11_putCharsAt_1 : List UInt8 := dkwJ11_putCharsAt_1 ++ dktJ11_putCharsAt_2
def dkwJ11_putCharsAt_0 : List UInt8 := [27, 7, 96, 54, 6, 27, 21, 6, 42, 184, 0, 96, 42, 27, 132, 1, 1, 28, 184, 0, 111, 42, 27]
abbrev dktJ11_putCharsAt_0 : List UInt8 := dkwJ11_putCharsAt_0 ++ dktJ11_putCharsAt_1
theorem dksJ11_putCharsAt_0 : cJ11_putCharsAt.data.toList.drop 0 = dktJ11_putCharsAt_0 := by decide +kernel
theorem dksJ11_putCharsAt_1 : cJ11_putCharsAt.data.toList.drop 23 = dktJ11_putCharsAt_1 := dk_seg dksJ11_putCharsAt_0 23 rfl rfl
theorem dksJ11_putCharsAt_2 : cJ11_putCharsAt.data.toList.drop 47 = dktJ11_putCharsAt_2 := dk_seg dksJ11_putCharsAt_1 24 rfl rfl
theorem dksJ11_putCharsAt_3 : cJ11_putCharsAt.data.toList.drop 70 = dktJ11_putCharsAt_3 := dk_seg dksJ11_putCharsAt_2 23 rfl rfl
theorem dJ11_putCharsAt_0 : decode cJ11_putCharsAt 0 = .ok (.iload_n 1, 1) := dk_27 (dk_at dksJ11_putCharsAt_0 0 rfl rfl)
theorem dJ11_putCharsAt_1 : decode cJ11_putCharsAt 1 = .ok (.iconst 4, 1) := dk_7 (dk_at dksJ11_putCharsAt_0 1 rfl rfl)
theorem dJ11_putCharsAt_2 : decode cJ11_putCharsAt 2 = .ok (.iadd, 1) := dk_96 (dk_at dksJ11_putCharsAt_0 2 rfl rfl)
theorem dJ11_putCharsAt_3 : decode cJ11_putCharsAt 3 = .ok (.istore 6, 2) := dk_54 6 (dk_at dksJ11_putCharsAt_0 3 rfl rfl)
theorem dJ11_putCharsAt_5 : decode cJ11_putCharsAt 5 = .ok (.iload_n 1, 1) := dk_27 (dk_at dksJ11_putCharsAt_0 5 rfl rfl)
theorem dJ11_putCharsAt_6 : decode cJ11_putCharsAt 6 = .ok (.iload 6, 2) := dk_21 6 (dk_at dksJ11_putCharsAt_0 6 rfl rfl)
theorem dJ11_putCharsAt_8 : decode cJ11_putCharsAt 8 = .ok (.aload_n 0, 1) := dk_42 (dk_at dksJ11_putCharsAt_0 8 rfl rfl)
theorem dJ11_putCharsAt_9 : decode cJ11_putCharsAt 9 = .ok (.invokestatic 96, 3) := dk_184 0 96 (dk_at dksJ11_putCharsAt_0 9 rfl rfl)
theorem dJ11_putCharsAt_12 : decode cJ11_putCharsAt 12 = .ok (.aload_n 0, 1) := dk_42 (dk_at dksJ11_putCharsAt_0 12 rfl rfl)
theorem dJ11_putCharsAt_13 : decode cJ11_putCharsAt 13 = .ok (.iload_n 1, 1) := dk_27 (dk_at dksJ11_putCharsAt_0 13 rfl rfl)
theorem dJ11_putCharsAt_14 : decode cJ11_putCharsAt 14 = .ok (.iinc 1 1, 3) := dk_132 1 1 (dk_at dksJ11_putCharsAt_0 14 rfl rfl)
theorem dJ11_putCharsAt_17 : decode cJ11_putCharsAt 17 = .ok (.iload_n 2, 1) := dk_28 (dk_at dksJ11_putCharsAt_0 17 rfl rfl)
theorem dJ11_putCharsAt_18 : decode cJ11_putCharsAt 18 = .ok (.invokestatic 111, 3) := dk_184 0 111 (dk_at dksJ11_putCharsAt_0 18 rfl rfl)
theorem dJ11_putCharsAt_21 : decode cJ11_putCharsAt 21 = .ok (.aload_n 0, 1) := dk_42 (dk_at dksJ11_putCharsAt_0 21 rfl rfl)
theorem dJ11_putCharsAt_22 : decode cJ11_putCharsAt 22 = .ok (.iload_n 1, 1) := dk_27 (dk_at dksJ11_putCharsAt_0 22 rfl rfl)
theorem dJ11_putCharsAt_23 : decode cJ11_putCharsAt 23 = .ok (.iinc 1 1, 3) := dk_132 1 1 (dk_at dksJ11_putCharsAt_1 0 rfl rfl)
theorem dJ11_putCharsAt_26 : decode cJ11_putCharsAt 26 = .ok (.iload_n 3, 1) := dk_29 (dk_at dksJ11_putCharsAt_1 3 rfl rfl)
theorem dJ11_putCharsAt_27 : decode cJ11_putCharsAt 27 = .ok (.invokestatic 111, 3) := dk_184 0 111 (dk_at dksJ11_putCharsAt_1 4 rfl rfl)
theorem dJ11_putCharsAt_30 : decode cJ11_putCharsAt 30 = .ok (.aload_n 0, 1) := dk_42 (dk_at dksJ11_putCharsAt_1 7 rfl rfl)
theorem dJ11_putCharsAt_31 : decode cJ11_putCharsAt 31 = .ok (.iload_n 1, 1) := dk_27 (dk_at dksJ11_putCharsAt_1 8 rfl rfl)
theorem dJ11_putCharsAt_32 : decode cJ11_putCharsAt 32 = .ok (.iinc 1 1, 3) := dk_132 1 1 (dk_at dksJ11_putCharsAt_1 9 rfl rfl)
theorem dJ11_putCharsAt_35 : decode cJ11_putCharsAt 35 = .ok (.iload 4, 2) := dk_21 4 (dk_at dksJ11_putCharsAt_1 12 rfl rfl)
theorem dJ11_putCharsAt_37 : decode cJ11_putCharsAt 37 = .ok (.invokestatic 111, 3) := dk_184 0 111 (dk_at dksJ11_putCharsAt_1 14 rfl rfl)
theorem dJ11_putCharsAt_40 : decode cJ11_putCharsAt 40 = .ok (.aload_n 0, 1) := dk_42 (dk_at dksJ11_putCharsAt_1 17 rfl rfl)
theorem dJ11_putCharsAt_41 : decode cJ11_putCharsAt 41 = .ok (.iload_n 1, 1) := dk_27 (dk_at dksJ11_putCharsAt_1 18 rfl rfl)
theorem dJ11_putCharsAt_42 : decode cJ11_putCharsAt 42 = .ok (.iinc 1 1, 3) := dk_132 1 1 (dk_at dksJ11_putCharsAt_1 19 rfl rfl)
theorem dJ11_putCharsAt_45 : decode cJ11_putCharsAt 45 = .ok (.iload 5, 2) := dk_21 5 (dk_at dksJ11_putCharsAt_1 22 rfl rfl)
theorem dJ11_putCharsAt_47 : decode cJ11_putCharsAt 47 = .ok (.invokestatic 111, 3) := dk_184 0 111 (dk_at dksJ11_putCharsAt_2 0 rfl rfl)
theorem dJ11_putCharsAt_50 : decode cJ11_putCharsAt 50 = .ok (.getstatic 44, 3) := dk_178 0 44 (dk_at dksJ11_putCharsAt_2 3 rfl rfl)
theorem dJ11_putCharsAt_53 : decode cJ11_putCharsAt 53 = .ok (.ifCond .ne 17, 3) := dk_154 0 17 (dk_at dksJ11_putCharsAt_2 6 rfl rfl)
theorem dJ11_putCharsAt_56 : decode cJ11_putCharsAt 56 = .ok (.iload_n 1, 1) := dk_27 (dk_at dksJ11_putCharsAt_2 9 rfl rfl)
theorem dJ11_putCharsAt_57 : decode cJ11_putCharsAt 57 = .ok (.iload 6, 2) := dk_21 6 (dk_at dksJ11_putCharsAt_2 10 rfl rfl)
theorem dJ11_putCharsAt_59 : decode cJ11_putCharsAt 59 = .ok (.if_icmp .eq 11, 3) := dk_159 0 11 (dk_at dksJ11_putCharsAt_2 12 rfl rfl)
theorem dJ11_putCharsAt_62 : decode cJ11_putCharsAt 62 = .ok (.new 52, 3) := dk_187 0 52 (dk_at dksJ11_putCharsAt_2 15 rfl rfl)
theorem dJ11_putCharsAt_65 : decode cJ11_putCharsAt 65 = .ok (.dup, 1) := dk_89 (dk_at dksJ11_putCharsAt_2 18 rfl rfl)
theorem dJ11_putCharsAt_66 : decode cJ11_putCharsAt 66 = .ok (.invokespecial 66, 3) := dk_183 0 66 (dk_at dksJ11_putCharsAt_2 19 rfl rfl)
theorem dJ11_putCharsAt_69 : decode cJ11_putCharsAt 69 = .ok (.athrow, 1) := dk_191 (dk_at dksJ11_putCharsAt_2 22 rfl rfl)
theorem dJ11_putCharsAt_70 : decode cJ11_putCharsAt 70 = .ok (.iload 6, 2) := dk_21 6 (dk_at dksJ11_putCharsAt_3 0 rfl rfl)
theorem dJ11_putCharsAt_72 : decode cJ11_putCharsAt 72 = .ok (.ireturn, 1) := dk_172 (dk_at dksJ11_putCharsAt_3 2 rfl rfl)
abbrev cJ11_compress : ByteArray := prog_43_method_17_code
def yJ11_compress : MethodName := ⟨RJ11, "compress", "([BII)[B"⟩
def dkwJ11_compress_2 : List UInt8 := [25, 5, 3, 45, 3, 28, 184, 0, 123, 28, 159, 0, 6, 25, 5, 176, 45, 176]
abbrev dktJ11_compress_2 : List UInt8 := dkwJ11_compress_2 ++ []
def dkwJ11_compress_1 : List UInt8 := [27, 28, 96, 184, 0, 11, 184, 0, 126, 58, 5, 25, 5, 21, 4, 184, 0, 71, 17, 0, 255, 163, 0, 16]
abbrev dktJ11_compress_1 : List UInt8 := dkwJ11_compress_1 ++ dktJ11_compress_2
def dkwJ11_compress_0 : List UInt8 := [28, 188, 8, 78, 42, 27, 45, 3, 28, 184, 0, 123, 54, 4, 21, 4, 28, 159, 0, 47, 42, 27, 4, 120]
abbrev dktJ11_compress_0 : List UInt8 := dkwJ11_compress_0 ++ dktJ11_compress_1
theorem dksJ11_compress_0 : cJ11_compress.data.toList.drop 0 = dktJ11_compress_0 := by decide +kernel
theorem dksJ11_compress_1 : cJ11_compress.data.toList.drop 24 = dktJ11_compress_1 := dk_seg dksJ11_compress_0 24 rfl rfl
theorem dksJ11_compress_2 : cJ11_compress.data.toList.drop 48 = dktJ11_compress_2 := dk_seg dksJ11_compress_1 24 rfl rfl
theorem dJ11_compress_0 : decode cJ11_compress 0 = .ok (.iload_n 2, 1) := dk_28 (dk_at dksJ11_compress_0 0 rfl rfl)
theorem dJ11_compress_1 : decode cJ11_compress 1 = .ok (.newarray .byte, 2) := dk_188_8 (dk_at dksJ11_compress_0 1 rfl rfl)
theorem dJ11_compress_3 : decode cJ11_compress 3 = .ok (.astore_n 3, 1) := dk_78 (dk_at dksJ11_compress_0 3 rfl rfl)
theorem dJ11_compress_4 : decode cJ11_compress 4 = .ok (.aload_n 0, 1) := dk_42 (dk_at dksJ11_compress_0 4 rfl rfl)
theorem dJ11_compress_5 : decode cJ11_compress 5 = .ok (.iload_n 1, 1) := dk_27 (dk_at dksJ11_compress_0 5 rfl rfl)
theorem dJ11_compress_6 : decode cJ11_compress 6 = .ok (.aload_n 3, 1) := dk_45 (dk_at dksJ11_compress_0 6 rfl rfl)
theorem dJ11_compress_7 : decode cJ11_compress 7 = .ok (.iconst 0, 1) := dk_3 (dk_at dksJ11_compress_0 7 rfl rfl)
theorem dJ11_compress_8 : decode cJ11_compress 8 = .ok (.iload_n 2, 1) := dk_28 (dk_at dksJ11_compress_0 8 rfl rfl)
theorem dJ11_compress_9 : decode cJ11_compress 9 = .ok (.invokestatic 123, 3) := dk_184 0 123 (dk_at dksJ11_compress_0 9 rfl rfl)
theorem dJ11_compress_12 : decode cJ11_compress 12 = .ok (.istore 4, 2) := dk_54 4 (dk_at dksJ11_compress_0 12 rfl rfl)
theorem dJ11_compress_14 : decode cJ11_compress 14 = .ok (.iload 4, 2) := dk_21 4 (dk_at dksJ11_compress_0 14 rfl rfl)
theorem dJ11_compress_16 : decode cJ11_compress 16 = .ok (.iload_n 2, 1) := dk_28 (dk_at dksJ11_compress_0 16 rfl rfl)
theorem dJ11_compress_17 : decode cJ11_compress 17 = .ok (.if_icmp .eq 47, 3) := dk_159 0 47 (dk_at dksJ11_compress_0 17 rfl rfl)
theorem dJ11_compress_20 : decode cJ11_compress 20 = .ok (.aload_n 0, 1) := dk_42 (dk_at dksJ11_compress_0 20 rfl rfl)
theorem dJ11_compress_21 : decode cJ11_compress 21 = .ok (.iload_n 1, 1) := dk_27 (dk_at dksJ11_compress_0 21 rfl rfl)
theorem dJ11_compress_22 : decode cJ11_compress 22 = .ok (.iconst 1, 1) := dk_4 (dk_at dksJ11_compress_0 22 rfl rfl)
theorem dJ11_compress_23 : decode cJ11_compress 23 = .ok (.ishl, 1) := dk_120 (dk_at dksJ11_compress_0 23 rfl rfl)
theorem dJ11_compress_24 : decode cJ11_compress 24 = .ok (.iload_n 1, 1) := dk_27 (dk_at dksJ11_compress_1 0 rfl rfl)
theorem dJ11_compress_25 : decode cJ11_compress 25 = .ok (.iload_n 2, 1) := dk_28 (dk_at dksJ11_compress_1 1 rfl rfl)
theorem dJ11_compress_26 : decode cJ11_compress 26 = .ok (.iadd, 1) := dk_96 (dk_at dksJ11_compress_1 2 rfl rfl)
theorem dJ11_compress_27 : decode cJ11_compress 27 = .ok (.invokestatic 11, 3) := dk_184 0 11 (dk_at dksJ11_compress_1 3 rfl rfl)
theorem dJ11_compress_30 : decode cJ11_compress 30 = .ok (.invokestatic 126, 3) := dk_184 0 126 (dk_at dksJ11_compress_1 6 rfl rfl)
theorem dJ11_compress_33 : decode cJ11_compress 33 = .ok (.astore 5, 2) := dk_58 5 (dk_at dksJ11_compress_1 9 rfl rfl)
theorem dJ11_compress_35 : decode cJ11_compress 35 = .ok (.aload 5, 2) := dk_25 5 (dk_at dksJ11_compress_1 11 rfl rfl)
theorem dJ11_compress_37 : decode cJ11_compress 37 = .ok (.iload 4, 2) := dk_21 4 (dk_at dksJ11_compress_1 13 rfl rfl)
theorem dJ11_compress_39 : decode cJ11_compress 39 = .ok (.invokestatic 71, 3) := dk_184 0 71 (dk_at dksJ11_compress_1 15 rfl rfl)
theorem dJ11_compress_42 : decode cJ11_compress 42 = .ok (.sipush 255, 3) := dk_17 0 255 (dk_at dksJ11_compress_1 18 rfl rfl)
theorem dJ11_compress_45 : decode cJ11_compress 45 = .ok (.if_icmp .gt 16, 3) := dk_163 0 16 (dk_at dksJ11_compress_1 21 rfl rfl)
theorem dJ11_compress_48 : decode cJ11_compress 48 = .ok (.aload 5, 2) := dk_25 5 (dk_at dksJ11_compress_2 0 rfl rfl)
theorem dJ11_compress_50 : decode cJ11_compress 50 = .ok (.iconst 0, 1) := dk_3 (dk_at dksJ11_compress_2 2 rfl rfl)
theorem dJ11_compress_51 : decode cJ11_compress 51 = .ok (.aload_n 3, 1) := dk_45 (dk_at dksJ11_compress_2 3 rfl rfl)
theorem dJ11_compress_52 : decode cJ11_compress 52 = .ok (.iconst 0, 1) := dk_3 (dk_at dksJ11_compress_2 4 rfl rfl)
theorem dJ11_compress_53 : decode cJ11_compress 53 = .ok (.iload_n 2, 1) := dk_28 (dk_at dksJ11_compress_2 5 rfl rfl)
theorem dJ11_compress_54 : decode cJ11_compress 54 = .ok (.invokestatic 123, 3) := dk_184 0 123 (dk_at dksJ11_compress_2 6 rfl rfl)
theorem dJ11_compress_57 : decode cJ11_compress 57 = .ok (.iload_n 2, 1) := dk_28 (dk_at dksJ11_compress_2 9 rfl rfl)
theorem dJ11_compress_58 : decode cJ11_compress 58 = .ok (.if_icmp .eq 6, 3) := dk_159 0 6 (dk_at dksJ11_compress_2 10 rfl rfl)
theorem dJ11_compress_61 : decode cJ11_compress 61 = .ok (.aload 5, 2) := dk_25 5 (dk_at dksJ11_compress_2 13 rfl rfl)
theorem dJ11_compress_63 : decode cJ11_compress 63 = .ok (.areturn, 1) := dk_176 (dk_at dksJ11_compress_2 15 rfl rfl)
theorem dJ11_compress_64 : decode cJ11_compress 64 = .ok (.aload_n 3, 1) := dk_45 (dk_at dksJ11_compress_2 16 rfl rfl)
theorem dJ11_compress_65 : decode cJ11_compress 65 = .ok (.areturn, 1) := dk_176 (dk_at dksJ11_compress_2 17 rfl rfl)
abbrev cJ11_compress_2 : ByteArray := prog_43_method_22_code
def yJ11_compress_2 : MethodName := ⟨RJ11, "compress", "([BI[BII)I"⟩
def dkwJ11_compress_2_2 : List UInt8 := [132, 5, 1, 167, 255, 216, 21, 4, 172]
abbrev dktJ11_compress_2_2 : List UInt8 := dkwJ11_compress_2_2 ++ []
def dkwJ11_compress_2_1 : List UInt8 := [21, 6, 17, 0, 255, 164, 0, 6, 21, 5, 172, 44, 29, 21, 6, 145, 84, 132, 1, 1, 132, 3, 1]
abbrev dktJ11_compress_2_1 : List UInt8 := dkwJ11_compress_2_1 ++ dktJ11_compress_2_2
def dkwJ11_compress_2_0 : List UInt8 := [27, 21, 4, 42, 184, 0, 173, 3, 54, 5, 21, 5, 21, 4, 162, 0, 39, 42, 27, 184, 0, 71, 54, 6]
abbrev dktJ11_compress_2_0 : List UInt8 := dkwJ11_compress_2_0 ++ dktJ11_compress_2_1
theorem dksJ11_compress_2_0 : cJ11_compress_2.data.toList.drop 0 = dktJ11_compress_2_0 := by decide +kernel
theorem dksJ11_compress_2_1 : cJ11_compress_2.data.toList.drop 24 = dktJ11_compress_2_1 := dk_seg dksJ11_compress_2_0 24 rfl rfl
theorem dksJ11_compress_2_2 : cJ11_compress_2.data.toList.drop 47 = dktJ11_compress_2_2 := dk_seg dksJ11_compress_2_1 23 rfl rfl
theorem dJ11_compress_2_0 : decode cJ11_compress_2 0 = .ok (.iload_n 1, 1) := dk_27 (dk_at dksJ11_compress_2_0 0 rfl rfl)
theorem dJ11_compress_2_1 : decode cJ11_compress_2 1 = .ok (.iload 4, 2) := dk_21 4 (dk_at dksJ11_compress_2_0 1 rfl rfl)
theorem dJ11_compress_2_3 : decode cJ11_compress_2 3 = .ok (.aload_n 0, 1) := dk_42 (dk_at dksJ11_compress_2_0 3 rfl rfl)
theorem dJ11_compress_2_4 : decode cJ11_compress_2 4 = .ok (.invokestatic 173, 3) := dk_184 0 173 (dk_at dksJ11_compress_2_0 4 rfl rfl)
theorem dJ11_compress_2_7 : decode cJ11_compress_2 7 = .ok (.iconst 0, 1) := dk_3 (dk_at dksJ11_compress_2_0 7 rfl rfl)
theorem dJ11_compress_2_8 : decode cJ11_compress_2 8 = .ok (.istore 5, 2) := dk_54 5 (dk_at dksJ11_compress_2_0 8 rfl rfl)
theorem dJ11_compress_2_10 : decode cJ11_compress_2 10 = .ok (.iload 5, 2) := dk_21 5 (dk_at dksJ11_compress_2_0 10 rfl rfl)
theorem dJ11_compress_2_12 : decode cJ11_compress_2 12 = .ok (.iload 4, 2) := dk_21 4 (dk_at dksJ11_compress_2_0 12 rfl rfl)
theorem dJ11_compress_2_14 : decode cJ11_compress_2 14 = .ok (.if_icmp .ge 39, 3) := dk_162 0 39 (dk_at dksJ11_compress_2_0 14 rfl rfl)
theorem dJ11_compress_2_17 : decode cJ11_compress_2 17 = .ok (.aload_n 0, 1) := dk_42 (dk_at dksJ11_compress_2_0 17 rfl rfl)
theorem dJ11_compress_2_18 : decode cJ11_compress_2 18 = .ok (.iload_n 1, 1) := dk_27 (dk_at dksJ11_compress_2_0 18 rfl rfl)
theorem dJ11_compress_2_19 : decode cJ11_compress_2 19 = .ok (.invokestatic 71, 3) := dk_184 0 71 (dk_at dksJ11_compress_2_0 19 rfl rfl)
theorem dJ11_compress_2_22 : decode cJ11_compress_2 22 = .ok (.istore 6, 2) := dk_54 6 (dk_at dksJ11_compress_2_0 22 rfl rfl)
theorem dJ11_compress_2_24 : decode cJ11_compress_2 24 = .ok (.iload 6, 2) := dk_21 6 (dk_at dksJ11_compress_2_1 0 rfl rfl)
theorem dJ11_compress_2_26 : decode cJ11_compress_2 26 = .ok (.sipush 255, 3) := dk_17 0 255 (dk_at dksJ11_compress_2_1 2 rfl rfl)
theorem dJ11_compress_2_29 : decode cJ11_compress_2 29 = .ok (.if_icmp .le 6, 3) := dk_164 0 6 (dk_at dksJ11_compress_2_1 5 rfl rfl)
theorem dJ11_compress_2_32 : decode cJ11_compress_2 32 = .ok (.iload 5, 2) := dk_21 5 (dk_at dksJ11_compress_2_1 8 rfl rfl)
theorem dJ11_compress_2_34 : decode cJ11_compress_2 34 = .ok (.ireturn, 1) := dk_172 (dk_at dksJ11_compress_2_1 10 rfl rfl)
theorem dJ11_compress_2_35 : decode cJ11_compress_2 35 = .ok (.aload_n 2, 1) := dk_44 (dk_at dksJ11_compress_2_1 11 rfl rfl)
theorem dJ11_compress_2_36 : decode cJ11_compress_2 36 = .ok (.iload_n 3, 1) := dk_29 (dk_at dksJ11_compress_2_1 12 rfl rfl)
theorem dJ11_compress_2_37 : decode cJ11_compress_2 37 = .ok (.iload 6, 2) := dk_21 6 (dk_at dksJ11_compress_2_1 13 rfl rfl)
theorem dJ11_compress_2_39 : decode cJ11_compress_2 39 = .ok (.i2b, 1) := dk_145 (dk_at dksJ11_compress_2_1 15 rfl rfl)
theorem dJ11_compress_2_40 : decode cJ11_compress_2 40 = .ok (.bastore, 1) := dk_84 (dk_at dksJ11_compress_2_1 16 rfl rfl)
theorem dJ11_compress_2_41 : decode cJ11_compress_2 41 = .ok (.iinc 1 1, 3) := dk_132 1 1 (dk_at dksJ11_compress_2_1 17 rfl rfl)
theorem dJ11_compress_2_44 : decode cJ11_compress_2 44 = .ok (.iinc 3 1, 3) := dk_132 3 1 (dk_at dksJ11_compress_2_1 20 rfl rfl)
theorem dJ11_compress_2_47 : decode cJ11_compress_2 47 = .ok (.iinc 5 1, 3) := dk_132 5 1 (dk_at dksJ11_compress_2_2 0 rfl rfl)
theorem dJ11_compress_2_50 : decode cJ11_compress_2 50 = .ok (.goto (-40), 3) := dk_167 255 216 (dk_at dksJ11_compress_2_2 3 rfl rfl)
theorem dJ11_compress_2_53 : decode cJ11_compress_2 53 = .ok (.iload 4, 2) := dk_21 4 (dk_at dksJ11_compress_2_2 6 rfl rfl)
theorem dJ11_compress_2_55 : decode cJ11_compress_2 55 = .ok (.ireturn, 1) := dk_172 (dk_at dksJ11_compress_2_2 8 rfl rfl)
abbrev cJ11_getChar : ByteArray := prog_43_method_5_code
def yJ11_getChar : MethodName := ⟨RJ11, "getChar", "([BI)C"⟩
def dkwJ11_getChar_2 : List UInt8 := [51, 17, 0, 255, 126, 178, 0, 63, 120, 128, 146, 172]
abbrev dktJ11_getChar_2 : List UInt8 := dkwJ11_getChar_2 ++ []
def dkwJ11_getChar_1 : List UInt8 := [183, 0, 56, 191, 27, 4, 120, 60, 42, 27, 132, 1, 1, 51, 17, 0, 255, 126, 178, 0, 59, 120, 42, 27]
abbrev dktJ11_getChar_1 : List UInt8 := dkwJ11_getChar_1 ++ dktJ11_getChar_2
def dkwJ11_getChar_0 : List UInt8 := [178, 0, 44, 154, 0, 25, 27, 155, 0, 11, 27, 42, 184, 0, 48, 161, 0, 13, 187, 0, 52, 89, 18, 54]
abbrev dktJ11_getChar_0 : List UInt8 := dkwJ11_getChar_0 ++ dktJ11_getChar_1
theorem dksJ11_getChar_0 : cJ11_getChar.data.toList.drop 0 = dktJ11_getChar_0 := by decide +kernel
theorem dksJ11_getChar_1 : cJ11_getChar.data.toList.drop 24 = dktJ11_getChar_1 := dk_seg dksJ11_getChar_0 24 rfl rfl
theorem dksJ11_getChar_2 : cJ11_getChar.data.toList.drop 48 = dktJ11_getChar_2 := dk_seg dksJ11_getChar_1 24 rfl rfl
theorem dJ11_getChar_0 : decode cJ11_getChar 0 = .ok (.getstatic 44, 3) := dk_178 0 44 (dk_at dksJ11_getChar_0 0 rfl rfl)
theorem dJ11_getChar_3 : decode cJ11_getChar 3 = .ok (.ifCond .ne 25, 3) := dk_154 0 25 (dk_at dksJ11_getChar_0 3 rfl rfl)
theorem dJ11_getChar_6 : decode cJ11_getChar 6 = .ok (.iload_n 1, 1) := dk_27 (dk_at dksJ11_getChar_0 6 rfl rfl)
theorem dJ11_getChar_7 : decode cJ11_getChar 7 = .ok (.ifCond .lt 11, 3) := dk_155 0 11 (dk_at dksJ11_getChar_0 7 rfl rfl)
theorem dJ11_getChar_10 : decode cJ11_getChar 10 = .ok (.iload_n 1, 1) := dk_27 (dk_at dksJ11_getChar_0 10 rfl rfl)
theorem dJ11_getChar_11 : decode cJ11_getChar 11 = .ok (.aload_n 0, 1) := dk_42 (dk_at dksJ11_getChar_0 11 rfl rfl)
theorem dJ11_getChar_12 : decode cJ11_getChar 12 = .ok (.invokestatic 48, 3) := dk_184 0 48 (dk_at dksJ11_getChar_0 12 rfl rfl)
theorem dJ11_getChar_15 : decode cJ11_getChar 15 = .ok (.if_icmp .lt 13, 3) := dk_161 0 13 (dk_at dksJ11_getChar_0 15 rfl rfl)
theorem dJ11_getChar_18 : decode cJ11_getChar 18 = .ok (.new 52, 3) := dk_187 0 52 (dk_at dksJ11_getChar_0 18 rfl rfl)
theorem dJ11_getChar_21 : decode cJ11_getChar 21 = .ok (.dup, 1) := dk_89 (dk_at dksJ11_getChar_0 21 rfl rfl)
theorem dJ11_getChar_22 : decode cJ11_getChar 22 = .ok (.ldc 54, 2) := dk_18 54 (dk_at dksJ11_getChar_0 22 rfl rfl)
theorem dJ11_getChar_24 : decode cJ11_getChar 24 = .ok (.invokespecial 56, 3) := dk_183 0 56 (dk_at dksJ11_getChar_1 0 rfl rfl)
theorem dJ11_getChar_27 : decode cJ11_getChar 27 = .ok (.athrow, 1) := dk_191 (dk_at dksJ11_getChar_1 3 rfl rfl)
theorem dJ11_getChar_28 : decode cJ11_getChar 28 = .ok (.iload_n 1, 1) := dk_27 (dk_at dksJ11_getChar_1 4 rfl rfl)
theorem dJ11_getChar_29 : decode cJ11_getChar 29 = .ok (.iconst 1, 1) := dk_4 (dk_at dksJ11_getChar_1 5 rfl rfl)
theorem dJ11_getChar_30 : decode cJ11_getChar 30 = .ok (.ishl, 1) := dk_120 (dk_at dksJ11_getChar_1 6 rfl rfl)
theorem dJ11_getChar_31 : decode cJ11_getChar 31 = .ok (.istore_n 1, 1) := dk_60 (dk_at dksJ11_getChar_1 7 rfl rfl)
theorem dJ11_getChar_32 : decode cJ11_getChar 32 = .ok (.aload_n 0, 1) := dk_42 (dk_at dksJ11_getChar_1 8 rfl rfl)
theorem dJ11_getChar_33 : decode cJ11_getChar 33 = .ok (.iload_n 1, 1) := dk_27 (dk_at dksJ11_getChar_1 9 rfl rfl)
theorem dJ11_getChar_34 : decode cJ11_getChar 34 = .ok (.iinc 1 1, 3) := dk_132 1 1 (dk_at dksJ11_getChar_1 10 rfl rfl)
theorem dJ11_getChar_37 : decode cJ11_getChar 37 = .ok (.baload, 1) := dk_51 (dk_at dksJ11_getChar_1 13 rfl rfl)
theorem dJ11_getChar_38 : decode cJ11_getChar 38 = .ok (.sipush 255, 3) := dk_17 0 255 (dk_at dksJ11_getChar_1 14 rfl rfl)
theorem dJ11_getChar_41 : decode cJ11_getChar 41 = .ok (.iand, 1) := dk_126 (dk_at dksJ11_getChar_1 17 rfl rfl)
theorem dJ11_getChar_42 : decode cJ11_getChar 42 = .ok (.getstatic 59, 3) := dk_178 0 59 (dk_at dksJ11_getChar_1 18 rfl rfl)
theorem dJ11_getChar_45 : decode cJ11_getChar 45 = .ok (.ishl, 1) := dk_120 (dk_at dksJ11_getChar_1 21 rfl rfl)
theorem dJ11_getChar_46 : decode cJ11_getChar 46 = .ok (.aload_n 0, 1) := dk_42 (dk_at dksJ11_getChar_1 22 rfl rfl)
theorem dJ11_getChar_47 : decode cJ11_getChar 47 = .ok (.iload_n 1, 1) := dk_27 (dk_at dksJ11_getChar_1 23 rfl rfl)
theorem dJ11_getChar_48 : decode cJ11_getChar 48 = .ok (.baload, 1) := dk_51 (dk_at dksJ11_getChar_2 0 rfl rfl)
theorem dJ11_getChar_49 : decode cJ11_getChar 49 = .ok (.sipush 255, 3) := dk_17 0 255 (dk_at dksJ11_getChar_2 1 rfl rfl)
theorem dJ11_getChar_52 : decode cJ11_getChar 52 = .ok (.iand, 1) := dk_126 (dk_at dksJ11_getChar_2 4 rfl rfl)
theorem dJ11_getChar_53 : decode cJ11_getChar 53 = .ok (.getstatic 63, 3) := dk_178 0 63 (dk_at dksJ11_getChar_2 5 rfl rfl)
theorem dJ11_getChar_56 : decode cJ11_getChar 56 = .ok (.ishl, 1) := dk_120 (dk_at dksJ11_getChar_2 8 rfl rfl)
theorem dJ11_getChar_57 : decode cJ11_getChar 57 = .ok (.ior, 1) := dk_128 (dk_at dksJ11_getChar_2 9 rfl rfl)
theorem dJ11_getChar_58 : decode cJ11_getChar 58 = .ok (.i2c, 1) := dk_146 (dk_at dksJ11_getChar_2 10 rfl rfl)
theorem dJ11_getChar_59 : decode cJ11_getChar 59 = .ok (.ireturn, 1) := dk_172 (dk_at dksJ11_getChar_2 11 rfl rfl)
abbrev cJ11_coderFromArrayLen : ByteArray := prog_43_method_15_code
def yJ11_coderFromArrayLen : MethodName := ⟨RJ11, "coderFromArrayLen", "([BI)B"⟩
def dkwJ11_coderFromArrayLen_0 : List UInt8 := [27, 42, 190, 100, 16, 31, 124, 145, 172]
abbrev dktJ11_coderFromArrayLen_0 : List UInt8 := dkwJ11_coderFromArrayLen_0 ++ []
theorem dksJ11_coderFromArrayLen_0 : cJ11_coderFromArrayLen.data.toList.drop 0 = dktJ11_coderFromArrayLen_0 := by decide +kernel
theorem dJ11_coderFromArrayLen_0 : decode cJ11_coderFromArrayLen 0 = .ok (.iload_n 1, 1) := dk_27 (dk_at dksJ11_coderFromArrayLen_0 0 rfl rfl)
theorem dJ11_coderFromArrayLen_1 : decode cJ11_coderFromArrayLen 1 = .ok (.aload_n 0, 1) := dk_42 (dk_at dksJ11_coderFromArrayLen_0 1 rfl rfl)
theorem dJ11_coderFromArrayLen_2 : decode cJ11_coderFromArrayLen 2 = .ok (.arraylength, 1) := dk_190 (dk_at dksJ11_coderFromArrayLen_0 2 rfl rfl)
theorem dJ11_coderFromArrayLen_3 : decode cJ11_coderFromArrayLen 3 = .ok (.isub, 1) := dk_100 (dk_at dksJ11_coderFromArrayLen_0 3 rfl rfl)
theorem dJ11_coderFromArrayLen_4 : decode cJ11_coderFromArrayLen 4 = .ok (.bipush 31, 2) := dk_16 31 (dk_at dksJ11_coderFromArrayLen_0 4 rfl rfl)
theorem dJ11_coderFromArrayLen_6 : decode cJ11_coderFromArrayLen 6 = .ok (.iushr, 1) := dk_124 (dk_at dksJ11_coderFromArrayLen_0 6 rfl rfl)
theorem dJ11_coderFromArrayLen_7 : decode cJ11_coderFromArrayLen 7 = .ok (.i2b, 1) := dk_145 (dk_at dksJ11_coderFromArrayLen_0 7 rfl rfl)
theorem dJ11_coderFromArrayLen_8 : decode cJ11_coderFromArrayLen 8 = .ok (.ireturn, 1) := dk_172 (dk_at dksJ11_coderFromArrayLen_0 8 rfl rfl)
abbrev cJ11_hashCode : ByteArray := prog_43_method_39_code
def yJ11_hashCode : MethodName := ⟨RJ11, "hashCode", "([B)I"⟩
def dkwJ11_hashCode_2 : List UInt8 := [3, 167, 0, 22, 42, 3, 184, 0, 71, 167, 0, 14, 42, 3, 42, 190, 4, 122, 3, 8, 184, 0, 220, 172]
abbrev dktJ11_hashCode_2 : List UInt8 := dkwJ11_hashCode_2 ++ []
def dkwJ11_hashCode_1 : List UInt8 := [171, 0, 0, 0, 0, 38, 0, 0, 0, 2, 0, 0, 0, 0, 0, 0, 0, 26, 0, 0, 0, 2, 0, 0, 0, 30]
abbrev dktJ11_hashCode_1 : List UInt8 := dkwJ11_hashCode_1 ++ dktJ11_hashCode_2
def dkwJ11_hashCode_0 : List UInt8 := [42, 190]
abbrev dktJ11_hashCode_0 : List UInt8 := dkwJ11_hashCode_0 ++ dktJ11_hashCode_1
theorem dksJ11_hashCode_0 : cJ11_hashCode.data.toList.drop 0 = dktJ11_hashCode_0 := by decide +kernel
theorem dksJ11_hashCode_1 : cJ11_hashCode.data.toList.drop 2 = dktJ11_hashCode_1 := dk_seg dksJ11_hashCode_0 2 rfl rfl
theorem dksJ11_hashCode_2 : cJ11_hashCode.data.toList.drop 28 = dktJ11_hashCode_2 := dk_seg dksJ11_hashCode_1 26 rfl rfl
theorem dJ11_hashCode_0 : decode cJ11_hashCode 0 = .ok (.aload_n 0, 1) := dk_42 (dk_at dksJ11_hashCode_0 0 rfl rfl)
theorem dJ11_hashCode_1 : decode cJ11_hashCode 1 = .ok (.arraylength, 1) := dk_190 (dk_at dksJ11_hashCode_0 1 rfl rfl)
theorem dJ11_hashCode_2 : decode cJ11_hashCode 2 = .ok (.lookupswitch 38 #[(0, 26), (2, 30)], 26) := by decide +kernel
theorem dJ11_hashCode_28 : decode cJ11_hashCode 28 = .ok (.iconst 0, 1) := dk_3 (dk_at dksJ11_hashCode_2 0 rfl rfl)
theorem dJ11_hashCode_29 : decode cJ11_hashCode 29 = .ok (.goto 22, 3) := dk_167 0 22 (dk_at dksJ11_hashCode_2 1 rfl rfl)
theorem dJ11_hashCode_32 : decode cJ11_hashCode 32 = .ok (.aload_n 0, 1) := dk_42 (dk_at dksJ11_hashCode_2 4 rfl rfl)
theorem dJ11_hashCode_33 : decode cJ11_hashCode 33 = .ok (.iconst 0, 1) := dk_3 (dk_at dksJ11_hashCode_2 5 rfl rfl)
theorem dJ11_hashCode_34 : decode cJ11_hashCode 34 = .ok (.invokestatic 71, 3) := dk_184 0 71 (dk_at dksJ11_hashCode_2 6 rfl rfl)
theorem dJ11_hashCode_37 : decode cJ11_hashCode 37 = .ok (.goto 14, 3) := dk_167 0 14 (dk_at dksJ11_hashCode_2 9 rfl rfl)
theorem dJ11_hashCode_40 : decode cJ11_hashCode 40 = .ok (.aload_n 0, 1) := dk_42 (dk_at dksJ11_hashCode_2 12 rfl rfl)
theorem dJ11_hashCode_41 : decode cJ11_hashCode 41 = .ok (.iconst 0, 1) := dk_3 (dk_at dksJ11_hashCode_2 13 rfl rfl)
theorem dJ11_hashCode_42 : decode cJ11_hashCode 42 = .ok (.aload_n 0, 1) := dk_42 (dk_at dksJ11_hashCode_2 14 rfl rfl)
theorem dJ11_hashCode_43 : decode cJ11_hashCode 43 = .ok (.arraylength, 1) := dk_190 (dk_at dksJ11_hashCode_2 15 rfl rfl)
theorem dJ11_hashCode_44 : decode cJ11_hashCode 44 = .ok (.iconst 1, 1) := dk_4 (dk_at dksJ11_hashCode_2 16 rfl rfl)
theorem dJ11_hashCode_45 : decode cJ11_hashCode 45 = .ok (.ishr, 1) := dk_122 (dk_at dksJ11_hashCode_2 17 rfl rfl)
theorem dJ11_hashCode_46 : decode cJ11_hashCode 46 = .ok (.iconst 0, 1) := dk_3 (dk_at dksJ11_hashCode_2 18 rfl rfl)
theorem dJ11_hashCode_47 : decode cJ11_hashCode 47 = .ok (.iconst 5, 1) := dk_8 (dk_at dksJ11_hashCode_2 19 rfl rfl)
theorem dJ11_hashCode_48 : decode cJ11_hashCode 48 = .ok (.invokestatic 220, 3) := dk_184 0 220 (dk_at dksJ11_hashCode_2 20 rfl rfl)
theorem dJ11_hashCode_51 : decode cJ11_hashCode 51 = .ok (.ireturn, 1) := dk_172 (dk_at dksJ11_hashCode_2 23 rfl rfl)
abbrev cJ11_charAt : ByteArray := prog_43_method_83_code
def yJ11_charAt : MethodName := ⟨RJ11, "charAt", "([BI)C"⟩
def dkwJ11_charAt_0 : List UInt8 := [27, 42, 184, 0, 67, 42, 27, 184, 0, 71, 172]
abbrev dktJ11_charAt_0 : List UInt8 := dkwJ11_charAt_0 ++ []
theorem dksJ11_charAt_0 : cJ11_charAt.data.toList.drop 0 = dktJ11_charAt_0 := by decide +kernel
theorem dJ11_charAt_0 : decode cJ11_charAt 0 = .ok (.iload_n 1, 1) := dk_27 (dk_at dksJ11_charAt_0 0 rfl rfl)
theorem dJ11_charAt_1 : decode cJ11_charAt 1 = .ok (.aload_n 0, 1) := dk_42 (dk_at dksJ11_charAt_0 1 rfl rfl)
theorem dJ11_charAt_2 : decode cJ11_charAt 2 = .ok (.invokestatic 67, 3) := dk_184 0 67 (dk_at dksJ11_charAt_0 2 rfl rfl)
theorem dJ11_charAt_5 : decode cJ11_charAt 5 = .ok (.aload_n 0, 1) := dk_42 (dk_at dksJ11_charAt_0 5 rfl rfl)
theorem dJ11_charAt_6 : decode cJ11_charAt 6 = .ok (.iload_n 1, 1) := dk_27 (dk_at dksJ11_charAt_0 6 rfl rfl)
theorem dJ11_charAt_7 : decode cJ11_charAt 7 = .ok (.invokestatic 71, 3) := dk_184 0 71 (dk_at dksJ11_charAt_0 7 rfl rfl)
theorem dJ11_charAt_10 : decode cJ11_charAt 10 = .ok (.ireturn, 1) := dk_172 (dk_at dksJ11_charAt_0 10 rfl rfl)
abbrev cJ11_compareTo : ByteArray := prog_43_method_29_code
def yJ11_compareTo : MethodName := ⟨RJ11, "compareTo", "([B[B)I"⟩
def dkwJ11_compareTo_0 : List UInt8 := [42, 184, 0, 48, 61, 43, 184, 0, 48, 62, 42, 43, 28, 29, 184, 0, 176, 172]
abbrev dktJ11_compareTo_0 : List UInt8 := dkwJ11_compareTo_0 ++ []
theorem dksJ11_compareTo_0 : cJ11_compareTo.data.toList.drop 0 = dktJ11_compareTo_0 := by decide +kernel
theorem dJ11_compareTo_0 : decode cJ11_compareTo 0 = .ok (.aload_n 0, 1) := dk_42 (dk_at dksJ11_compareTo_0 0 rfl rfl)
theorem dJ11_compareTo_1 : decode cJ11_compareTo 1 = .ok (.invokestatic 48, 3) := dk_184 0 48 (dk_at dksJ11_compareTo_0 1 rfl rfl)
theorem dJ11_compareTo_4 : decode cJ11_compareTo 4 = .ok (.istore_n 2, 1) := dk_61 (dk_at dksJ11_compareTo_0 4 rfl rfl)
theorem dJ11_compareTo_5 : decode cJ11_compareTo 5 = .ok (.aload_n 1, 1) := dk_43 (dk_at dksJ11_compareTo_0 5 rfl rfl)
theorem dJ11_compareTo_6 : decode cJ11_compareTo 6 = .ok (.invokestatic 48, 3) := dk_184 0 48 (dk_at dksJ11_compareTo_0 6 rfl rfl)
theorem dJ11_compareTo_9 : decode cJ11_compareTo 9 = .ok (.istore_n 3, 1) := dk_62 (dk_at dksJ11_compareTo_0 9 rfl rfl)
theorem dJ11_compareTo_10 : decode cJ11_compareTo 10 = .ok (.aload_n 0, 1) := dk_42 (dk_at dksJ11_compareTo_0 10 rfl rfl)
theorem dJ11_compareTo_11 : decode cJ11_compareTo 11 = .ok (.aload_n 1, 1) := dk_43 (dk_at dksJ11_compareTo_0 11 rfl rfl)
theorem dJ11_compareTo_12 : decode cJ11_compareTo 12 = .ok (.iload_n 2, 1) := dk_28 (dk_at dksJ11_compareTo_0 12 rfl rfl)
theorem dJ11_compareTo_13 : decode cJ11_compareTo 13 = .ok (.iload_n 3, 1) := dk_29 (dk_at dksJ11_compareTo_0 13 rfl rfl)
theorem dJ11_compareTo_14 : decode cJ11_compareTo 14 = .ok (.invokestatic 176, 3) := dk_184 0 176 (dk_at dksJ11_compareTo_0 14 rfl rfl)
theorem dJ11_compareTo_17 : decode cJ11_compareTo 17 = .ok (.ireturn, 1) := dk_172 (dk_at dksJ11_compareTo_0 17 rfl rfl)
abbrev cJ11_compareValues : ByteArray := prog_43_method_31_code
def yJ11_compareValues : MethodName := ⟨RJ11, "compareValues", "([B[BII)I"⟩
def dkwJ11_compareValues_2 : List UInt8 := [132, 5, 1, 167, 255, 217, 28, 29, 100, 172]
abbrev dktJ11_compareValues_2 : List UInt8 := dkwJ11_compareValues_2 ++ []
def dkwJ11_compareValues_1 : List UInt8 := [54, 6, 43, 21, 5, 184, 0, 71, 54, 7, 21, 6, 21, 7, 159, 0, 9, 21, 6, 21, 7, 100, 172]
abbrev dktJ11_compareValues_1 : List UInt8 := dkwJ11_compareValues_1 ++ dktJ11_compareValues_2
def dkwJ11_compareValues_0 : List UInt8 := [28, 29, 184, 0, 183, 54, 4, 3, 54, 5, 21, 5, 21, 4, 162, 0, 38, 42, 21, 5, 184, 0, 71]
abbrev dktJ11_compareValues_0 : List UInt8 := dkwJ11_compareValues_0 ++ dktJ11_compareValues_1
theorem dksJ11_compareValues_0 : cJ11_compareValues.data.toList.drop 0 = dktJ11_compareValues_0 := by decide +kernel
theorem dksJ11_compareValues_1 : cJ11_compareValues.data.toList.drop 23 = dktJ11_compareValues_1 := dk_seg dksJ11_compareValues_0 23 rfl rfl
theorem dksJ11_compareValues_2 : cJ11_compareValues.data.toList.drop 46 = dktJ11_compareValues_2 := dk_seg dksJ11_compareValues_1 23 rfl rfl
theorem dJ11_compareValues_0 : decode cJ11_compareValues 0 = .ok (.iload_n 2, 1) := dk_28 (dk_at dksJ11_compareValues_0 0 rfl rfl)
theorem dJ11_compareValues_1 : decode cJ11_compareValues 1 = .ok (.iload_n 3, 1) := dk_29 (dk_at dksJ11_compareValues_0 1 rfl rfl)
theorem dJ11_compareValues_2 : decode cJ11_compareValues 2 = .ok (.invokestatic 183, 3) := dk_184 0 183 (dk_at dksJ11_compareValues_0 2 rfl rfl)
theorem dJ11_compareValues_5 : decode cJ11_compareValues 5 = .ok (.istore 4, 2) := dk_54 4 (dk_at dksJ11_compareValues_0 5 rfl rfl)
theorem dJ11_compareValues_7 : decode cJ11_compareValues 7 = .ok (.iconst 0, 1) := dk_3 (dk_at dksJ11_compareValues_0 7 rfl rfl)
theorem dJ11_compareValues_8 : decode cJ11_compareValues 8 = .ok (.istore 5, 2) := dk_54 5 (dk_at dksJ11_compareValues_0 8 rfl rfl)
theorem dJ11_compareValues_10 : decode cJ11_compareValues 10 = .ok (.iload 5, 2) := dk_21 5 (dk_at dksJ11_compareValues_0 10 rfl rfl)
theorem dJ11_compareValues_12 : decode cJ11_compareValues 12 = .ok (.iload 4, 2) := dk_21 4 (dk_at dksJ11_compareValues_0 12 rfl rfl)
theorem dJ11_compareValues_14 : decode cJ11_compareValues 14 = .ok (.if_icmp .ge 38, 3) := dk_162 0 38 (dk_at dksJ11_compareValues_0 14 rfl rfl)
theorem dJ11_compareValues_17 : decode cJ11_compareValues 17 = .ok (.aload_n 0, 1) := dk_42 (dk_at dksJ11_compareValues_0 17 rfl rfl)
theorem dJ11_compareValues_18 : decode cJ11_compareValues 18 = .ok (.iload 5, 2) := dk_21 5 (dk_at dksJ11_compareValues_0 18 rfl rfl)
theorem dJ11_compareValues_20 : decode cJ11_compareValues 20 = .ok (.invokestatic 71, 3) := dk_184 0 71 (dk_at dksJ11_compareValues_0 20 rfl rfl)
theorem dJ11_compareValues_23 : decode cJ11_compareValues 23 = .ok (.istore 6, 2) := dk_54 6 (dk_at dksJ11_compareValues_1 0 rfl rfl)
theorem dJ11_compareValues_25 : decode cJ11_compareValues 25 = .ok (.aload_n 1, 1) := dk_43 (dk_at dksJ11_compareValues_1 2 rfl rfl)
theorem dJ11_compareValues_26 : decode cJ11_compareValues 26 = .ok (.iload 5, 2) := dk_21 5 (dk_at dksJ11_compareValues_1 3 rfl rfl)
theorem dJ11_compareValues_28 : decode cJ11_compareValues 28 = .ok (.invokestatic 71, 3) := dk_184 0 71 (dk_at dksJ11_compareValues_1 5 rfl rfl)
theorem dJ11_compareValues_31 : decode cJ11_compareValues 31 = .ok (.istore 7, 2) := dk_54 7 (dk_at dksJ11_compareValues_1 8 rfl rfl)
theorem dJ11_compareValues_33 : decode cJ11_compareValues 33 = .ok (.iload 6, 2) := dk_21 6 (dk_at dksJ11_compareValues_1 10 rfl rfl)
theorem dJ11_compareValues_35 : decode cJ11_compareValues 35 = .ok (.iload 7, 2) := dk_21 7 (dk_at dksJ11_compareValues_1 12 rfl rfl)
theorem dJ11_compareValues_37 : decode cJ11_compareValues 37 = .ok (.if_icmp .eq 9, 3) := dk_159 0 9 (dk_at dksJ11_compareValues_1 14 rfl rfl)
theorem dJ11_compareValues_40 : decode cJ11_compareValues 40 = .ok (.iload 6, 2) := dk_21 6 (dk_at dksJ11_compareValues_1 17 rfl rfl)
theorem dJ11_compareValues_42 : decode cJ11_compareValues 42 = .ok (.iload 7, 2) := dk_21 7 (dk_at dksJ11_compareValues_1 19 rfl rfl)
theorem dJ11_compareValues_44 : decode cJ11_compareValues 44 = .ok (.isub, 1) := dk_100 (dk_at dksJ11_compareValues_1 21 rfl rfl)
theorem dJ11_compareValues_45 : decode cJ11_compareValues 45 = .ok (.ireturn, 1) := dk_172 (dk_at dksJ11_compareValues_1 22 rfl rfl)
theorem dJ11_compareValues_46 : decode cJ11_compareValues 46 = .ok (.iinc 5 1, 3) := dk_132 5 1 (dk_at dksJ11_compareValues_2 0 rfl rfl)
theorem dJ11_compareValues_49 : decode cJ11_compareValues 49 = .ok (.goto (-39), 3) := dk_167 255 217 (dk_at dksJ11_compareValues_2 3 rfl rfl)
theorem dJ11_compareValues_52 : decode cJ11_compareValues 52 = .ok (.iload_n 2, 1) := dk_28 (dk_at dksJ11_compareValues_2 6 rfl rfl)
theorem dJ11_compareValues_53 : decode cJ11_compareValues 53 = .ok (.iload_n 3, 1) := dk_29 (dk_at dksJ11_compareValues_2 7 rfl rfl)
theorem dJ11_compareValues_54 : decode cJ11_compareValues 54 = .ok (.isub, 1) := dk_100 (dk_at dksJ11_compareValues_2 8 rfl rfl)
theorem dJ11_compareValues_55 : decode cJ11_compareValues 55 = .ok (.ireturn, 1) := dk_172 (dk_at dksJ11_compareValues_2 9 rfl rfl)
abbrev cJ11_compareToLatin1 : ByteArray := prog_43_method_32_code
def yJ11_compareToLatin1 : MethodName := ⟨RJ11, "compareToLatin1", "([B[B)I"⟩
def dkwJ11_compareToLatin1_0 : List UInt8 := [43, 42, 184, 0, 189, 116, 172]
abbrev dktJ11_compareToLatin1_0 : List UInt8 := dkwJ11_compareToLatin1_0 ++ []
theorem dksJ11_compareToLatin1_0 : cJ11_compareToLatin1.data.toList.drop 0 = dktJ11_compareToLatin1_0 := by decide +kernel
theorem dJ11_compareToLatin1_0 : decode cJ11_compareToLatin1 0 = .ok (.aload_n 1, 1) := dk_43 (dk_at dksJ11_compareToLatin1_0 0 rfl rfl)
theorem dJ11_compareToLatin1_1 : decode cJ11_compareToLatin1 1 = .ok (.aload_n 0, 1) := dk_42 (dk_at dksJ11_compareToLatin1_0 1 rfl rfl)
theorem dJ11_compareToLatin1_2 : decode cJ11_compareToLatin1 2 = .ok (.invokestatic 189, 3) := dk_184 0 189 (dk_at dksJ11_compareToLatin1_0 2 rfl rfl)
theorem dJ11_compareToLatin1_5 : decode cJ11_compareToLatin1 5 = .ok (.ineg, 1) := dk_116 (dk_at dksJ11_compareToLatin1_0 5 rfl rfl)
theorem dJ11_compareToLatin1_6 : decode cJ11_compareToLatin1 6 = .ok (.ireturn, 1) := dk_172 (dk_at dksJ11_compareToLatin1_0 6 rfl rfl)
abbrev cJ11_compareTo_2 : ByteArray := prog_43_method_30_code
def yJ11_compareTo_2 : MethodName := ⟨RJ11, "compareTo", "([B[BII)I"⟩
def dkwJ11_compareTo_2_0 : List UInt8 := [28, 42, 184, 0, 180, 29, 43, 184, 0, 180, 42, 43, 28, 29, 184, 0, 176, 172]
abbrev dktJ11_compareTo_2_0 : List UInt8 := dkwJ11_compareTo_2_0 ++ []
theorem dksJ11_compareTo_2_0 : cJ11_compareTo_2.data.toList.drop 0 = dktJ11_compareTo_2_0 := by decide +kernel
theorem dJ11_compareTo_2_0 : decode cJ11_compareTo_2 0 = .ok (.iload_n 2, 1) := dk_28 (dk_at dksJ11_compareTo_2_0 0 rfl rfl)
theorem dJ11_compareTo_2_1 : decode cJ11_compareTo_2 1 = .ok (.aload_n 0, 1) := dk_42 (dk_at dksJ11_compareTo_2_0 1 rfl rfl)
theorem dJ11_compareTo_2_2 : decode cJ11_compareTo_2 2 = .ok (.invokestatic 180, 3) := dk_184 0 180 (dk_at dksJ11_compareTo_2_0 2 rfl rfl)
theorem dJ11_compareTo_2_5 : decode cJ11_compareTo_2 5 = .ok (.iload_n 3, 1) := dk_29 (dk_at dksJ11_compareTo_2_0 5 rfl rfl)
theorem dJ11_compareTo_2_6 : decode cJ11_compareTo_2 6 = .ok (.aload_n 1, 1) := dk_43 (dk_at dksJ11_compareTo_2_0 6 rfl rfl)
theorem dJ11_compareTo_2_7 : decode cJ11_compareTo_2 7 = .ok (.invokestatic 180, 3) := dk_184 0 180 (dk_at dksJ11_compareTo_2_0 7 rfl rfl)
theorem dJ11_compareTo_2_10 : decode cJ11_compareTo_2 10 = .ok (.aload_n 0, 1) := dk_42 (dk_at dksJ11_compareTo_2_0 10 rfl rfl)
theorem dJ11_compareTo_2_11 : decode cJ11_compareTo_2 11 = .ok (.aload_n 1, 1) := dk_43 (dk_at dksJ11_compareTo_2_0 11 rfl rfl)
theorem dJ11_compareTo_2_12 : decode cJ11_compareTo_2 12 = .ok (.iload_n 2, 1) := dk_28 (dk_at dksJ11_compareTo_2_0 12 rfl rfl)
theorem dJ11_compareTo_2_13 : decode cJ11_compareTo_2 13 = .ok (.iload_n 3, 1) := dk_29 (dk_at dksJ11_compareTo_2_0 13 rfl rfl)
theorem dJ11_compareTo_2_14 : decode cJ11_compareTo_2 14 = .ok (.invokestatic 176, 3) := dk_184 0 176 (dk_at dksJ11_compareTo_2_0 14 rfl rfl)
theorem dJ11_compareTo_2_17 : decode cJ11_compareTo_2 17 = .ok (.ireturn, 1) := dk_172 (dk_at dksJ11_compareTo_2_0 17 rfl rfl)
abbrev cJ11_checkOffset : ByteArray := prog_43_method_92_code
def yJ11_checkOffset : MethodName := ⟨RJ11, "checkOffset", "(I[B)V"⟩
def dkwJ11_checkOffset_0 : List UInt8 := [26, 43, 184, 0, 48, 184, 1, 161, 177]
abbrev dktJ11_checkOffset_0 : List UInt8 := dkwJ11_checkOffset_0 ++ []
theorem dksJ11_checkOffset_0 : cJ11_checkOffset.data.toList.drop 0 = dktJ11_checkOffset_0 := by decide +kernel
theorem dJ11_checkOffset_0 : decode cJ11_checkOffset 0 = .ok (.iload_n 0, 1) := dk_26 (dk_at dksJ11_checkOffset_0 0 rfl rfl)
theorem dJ11_checkOffset_1 : decode cJ11_checkOffset 1 = .ok (.aload_n 1, 1) := dk_43 (dk_at dksJ11_checkOffset_0 1 rfl rfl)
theorem dJ11_checkOffset_2 : decode cJ11_checkOffset 2 = .ok (.invokestatic 48, 3) := dk_184 0 48 (dk_at dksJ11_checkOffset_0 2 rfl rfl)
theorem dJ11_checkOffset_5 : decode cJ11_checkOffset 5 = .ok (.invokestatic 417, 3) := dk_184 1 161 (dk_at dksJ11_checkOffset_0 5 rfl rfl)
theorem dJ11_checkOffset_8 : decode cJ11_checkOffset 8 = .ok (.return_, 1) := dk_177 (dk_at dksJ11_checkOffset_0 8 rfl rfl)
abbrev cJ11_compareToLatin1_2 : ByteArray := prog_43_method_33_code
def yJ11_compareToLatin1_2 : MethodName := ⟨RJ11, "compareToLatin1", "([B[BII)I"⟩
def dkwJ11_compareToLatin1_2_0 : List UInt8 := [43, 42, 29, 28, 184, 0, 193, 116, 172]
abbrev dktJ11_compareToLatin1_2_0 : List UInt8 := dkwJ11_compareToLatin1_2_0 ++ []
theorem dksJ11_compareToLatin1_2_0 : cJ11_compareToLatin1_2.data.toList.drop 0 = dktJ11_compareToLatin1_2_0 := by decide +kernel
theorem dJ11_compareToLatin1_2_0 : decode cJ11_compareToLatin1_2 0 = .ok (.aload_n 1, 1) := dk_43 (dk_at dksJ11_compareToLatin1_2_0 0 rfl rfl)
theorem dJ11_compareToLatin1_2_1 : decode cJ11_compareToLatin1_2 1 = .ok (.aload_n 0, 1) := dk_42 (dk_at dksJ11_compareToLatin1_2_0 1 rfl rfl)
theorem dJ11_compareToLatin1_2_2 : decode cJ11_compareToLatin1_2 2 = .ok (.iload_n 3, 1) := dk_29 (dk_at dksJ11_compareToLatin1_2_0 2 rfl rfl)
theorem dJ11_compareToLatin1_2_3 : decode cJ11_compareToLatin1_2 3 = .ok (.iload_n 2, 1) := dk_28 (dk_at dksJ11_compareToLatin1_2_0 3 rfl rfl)
theorem dJ11_compareToLatin1_2_4 : decode cJ11_compareToLatin1_2 4 = .ok (.invokestatic 193, 3) := dk_184 0 193 (dk_at dksJ11_compareToLatin1_2_0 4 rfl rfl)
theorem dJ11_compareToLatin1_2_7 : decode cJ11_compareToLatin1_2 7 = .ok (.ineg, 1) := dk_116 (dk_at dksJ11_compareToLatin1_2_0 7 rfl rfl)
theorem dJ11_compareToLatin1_2_8 : decode cJ11_compareToLatin1_2 8 = .ok (.ireturn, 1) := dk_172 (dk_at dksJ11_compareToLatin1_2_0 8 rfl rfl)
abbrev cJ11_fillNull : ByteArray := prog_43_method_70_code
def yJ11_fillNull : MethodName := ⟨RJ11, "fillNull", "([BII)V"⟩
def dkwJ11_fillNull_0 : List UInt8 := [42, 27, 4, 120, 28, 4, 120, 3, 184, 1, 124, 177]
abbrev dktJ11_fillNull_0 : List UInt8 := dkwJ11_fillNull_0 ++ []
theorem dksJ11_fillNull_0 : cJ11_fillNull.data.toList.drop 0 = dktJ11_fillNull_0 := by decide +kernel
theorem dJ11_fillNull_0 : decode cJ11_fillNull 0 = .ok (.aload_n 0, 1) := dk_42 (dk_at dksJ11_fillNull_0 0 rfl rfl)
theorem dJ11_fillNull_1 : decode cJ11_fillNull 1 = .ok (.iload_n 1, 1) := dk_27 (dk_at dksJ11_fillNull_0 1 rfl rfl)
theorem dJ11_fillNull_2 : decode cJ11_fillNull 2 = .ok (.iconst 1, 1) := dk_4 (dk_at dksJ11_fillNull_0 2 rfl rfl)
theorem dJ11_fillNull_3 : decode cJ11_fillNull 3 = .ok (.ishl, 1) := dk_120 (dk_at dksJ11_fillNull_0 3 rfl rfl)
theorem dJ11_fillNull_4 : decode cJ11_fillNull 4 = .ok (.iload_n 2, 1) := dk_28 (dk_at dksJ11_fillNull_0 4 rfl rfl)
theorem dJ11_fillNull_5 : decode cJ11_fillNull 5 = .ok (.iconst 1, 1) := dk_4 (dk_at dksJ11_fillNull_0 5 rfl rfl)
theorem dJ11_fillNull_6 : decode cJ11_fillNull 6 = .ok (.ishl, 1) := dk_120 (dk_at dksJ11_fillNull_0 6 rfl rfl)
theorem dJ11_fillNull_7 : decode cJ11_fillNull 7 = .ok (.iconst 0, 1) := dk_3 (dk_at dksJ11_fillNull_0 7 rfl rfl)
theorem dJ11_fillNull_8 : decode cJ11_fillNull 8 = .ok (.invokestatic 380, 3) := dk_184 1 124 (dk_at dksJ11_fillNull_0 8 rfl rfl)
theorem dJ11_fillNull_11 : decode cJ11_fillNull 11 = .ok (.return_, 1) := dk_177 (dk_at dksJ11_fillNull_0 11 rfl rfl)
theorem q193 : (Jvm.Cond.initialized "java/lang/StringUTF16") ∈ lw_all := lw_g (lw_at lw_m1 17 rfl) rfl
theorem q539 : (Jvm.Cond.static ({ cls := "java/lang/StringUTF16", name := "newBytesFor", desc := "(I)[B" } : Jvm.MethodName)) ∈ lw_all := lw_g (lw_at lw_m2 123 rfl) rfl
theorem q540 : (Jvm.Cond.code ({ cls := "java/lang/StringUTF16", name := "newBytesFor", desc := "(I)[B" } : Jvm.MethodName) prog_43_method_2_code (1 : Nat) (Option.some (Jvm.ClassFile.FieldType.array Jvm.ClassFile.FieldType.byte))) ∈ lw_all := lw_g (lw_at lw_m2 124 rfl) rfl
theorem q541 : (Jvm.Cond.methodLink "java/lang/StringUTF16" (11 : Nat) ({ cls := "java/lang/StringUTF16", name := "newBytesLength", desc := "(I)I" } : Jvm.MethodName)) ∈ lw_all := lw_g (lw_at lw_m2 125 rfl) rfl
theorem q542 : (Jvm.Cond.static ({ cls := "java/lang/StringUTF16", name := "newBytesLength", desc := "(I)I" } : Jvm.MethodName)) ∈ lw_all := lw_g (lw_at lw_m2 126 rfl) rfl
theorem q543 : (Jvm.Cond.code ({ cls := "java/lang/StringUTF16", name := "newBytesLength", desc := "(I)I" } : Jvm.MethodName) prog_43_method_3_code (1 : Nat) (Option.some Jvm.ClassFile.FieldType.int)) ∈ lw_all := lw_g (lw_at lw_m2 127 rfl) rfl
theorem q544 : (Jvm.Cond.constant "java/lang/StringUTF16" (20 : Nat) (1073741823 : Int32)) ∈ lw_all := lw_g (lw_at lw_m2 128 rfl) rfl
theorem q724 : (Jvm.Cond.static ({ cls := "java/lang/StringUTF16", name := "inflate", desc := "([BI[BII)V" } : Jvm.MethodName)) ∈ lw_all := lw_g (lw_at lw_m3 68 rfl) rfl
theorem q725 : (Jvm.Cond.code ({ cls := "java/lang/StringUTF16", name := "inflate", desc := "([BI[BII)V" } : Jvm.MethodName) prog_43_method_86_code (6 : Nat) (Option.none : Option Jvm.ClassFile.FieldType)) ∈ lw_all := lw_g (lw_at lw_m3 69 rfl) rfl
theorem q726 : (Jvm.Cond.methodLink "java/lang/StringUTF16" (173 : Nat) ({ cls := "java/lang/StringUTF16", name := "checkBoundsOffCount", desc := "(II[B)V" } : Jvm.MethodName)) ∈ lw_all := lw_g (lw_at lw_m3 70 rfl) rfl
theorem q727 : (Jvm.Cond.static ({ cls := "java/lang/StringUTF16", name := "checkBoundsOffCount", desc := "(II[B)V" } : Jvm.MethodName)) ∈ lw_all := lw_g (lw_at lw_m3 71 rfl) rfl
theorem q728 : (Jvm.Cond.code ({ cls := "java/lang/StringUTF16", name := "checkBoundsOffCount", desc := "(II[B)V" } : Jvm.MethodName) prog_43_method_94_code (3 : Nat) (Option.none : Option Jvm.ClassFile.FieldType)) ∈ lw_all := lw_g (lw_at lw_m3 72 rfl) rfl
theorem q729 : (Jvm.Cond.methodLink "java/lang/StringUTF16" (48 : Nat) ({ cls := "java/lang/StringUTF16", name := "length", desc := "([B)I" } : Jvm.MethodName)) ∈ lw_all := lw_g (lw_at lw_m3 73 rfl) rfl
theorem q730 : (Jvm.Cond.static ({ cls := "java/lang/StringUTF16", name := "length", desc := "([B)I" } : Jvm.MethodName)) ∈ lw_all := lw_g (lw_at lw_m3 74 rfl) rfl
theorem q731 : (Jvm.Cond.code ({ cls := "java/lang/StringUTF16", name := "length", desc := "([B)I" } : Jvm.MethodName) prog_43_method_6_code (1 : Nat) (Option.some Jvm.ClassFile.FieldType.int)) ∈ lw_all := lw_g (lw_at lw_m3 75 rfl) rfl
theorem q732 : (Jvm.Cond.methodLink "java/lang/StringUTF16" (419 : Nat) ({ cls := "java/lang/String", name := "checkBoundsOffCount", desc := "(III)I" } : Jvm.MethodName)) ∈ lw_all := lw_g (lw_at lw_m3 76 rfl) rfl
theorem q740 : (Jvm.Cond.methodLink "java/lang/StringUTF16" (111 : Nat) ({ cls := "java/lang/StringUTF16", name := "putChar", desc := "([BII)V" } : Jvm.MethodName)) ∈ lw_all := lw_g (lw_at lw_m3 84 rfl) rfl
theorem q741 : (Jvm.Cond.static ({ cls := "java/lang/StringUTF16", name := "putChar", desc := "([BII)V" } : Jvm.MethodName)) ∈ lw_all := lw_g (lw_at lw_m3 85 rfl) rfl
theorem q742 : (Jvm.Cond.code ({ cls := "java/lang/StringUTF16", name := "putChar", desc := "([BII)V" } : Jvm.MethodName) prog_43_method_4_code (3 : Nat) (Option.none : Option Jvm.ClassFile.FieldType)) ∈ lw_all := lw_g (lw_at lw_m3 86 rfl) rfl
theorem q743 : (Jvm.Cond.fieldLink "java/lang/StringUTF16" (44 : Nat) "java/lang/StringUTF16" "$assertionsDisabled" "Z") ∈ lw_all := lw_g (lw_at lw_m3 87 rfl) rfl
theorem q744 : (Jvm.Cond.laysStatic "java/lang/StringUTF16" "$assertionsDisabled" "Z") ∈ lw_tbl := lw_at lw_m3 88 rfl
theorem q745 : (Jvm.Cond.fieldLink "java/lang/StringUTF16" (59 : Nat) "java/lang/StringUTF16" "HI_BYTE_SHIFT" "I") ∈ lw_all := lw_g (lw_at lw_m3 89 rfl) rfl
theorem q746 : (Jvm.Cond.laysStatic "java/lang/StringUTF16" "HI_BYTE_SHIFT" "I") ∈ lw_tbl := lw_at lw_m3 90 rfl
theorem q747 : (Jvm.Cond.fieldLink "java/lang/StringUTF16" (63 : Nat) "java/lang/StringUTF16" "LO_BYTE_SHIFT" "I") ∈ lw_all := lw_g (lw_at lw_m3 91 rfl) rfl
theorem q748 : (Jvm.Cond.laysStatic "java/lang/StringUTF16" "LO_BYTE_SHIFT" "I") ∈ lw_tbl := lw_at lw_m3 92 rfl
theorem q750 : (Jvm.Cond.static ({ cls := "java/lang/StringUTF16", name := "putCharSB", desc := "([BII)V" } : Jvm.MethodName)) ∈ lw_all := lw_g (lw_at lw_m3 94 rfl) rfl
theorem q751 : (Jvm.Cond.code ({ cls := "java/lang/StringUTF16", name := "putCharSB", desc := "([BII)V" } : Jvm.MethodName) prog_43_method_71_code (3 : Nat) (Option.none : Option Jvm.ClassFile.FieldType)) ∈ lw_all := lw_g (lw_at lw_m3 95 rfl) rfl
theorem q752 : (Jvm.Cond.methodLink "java/lang/StringUTF16" (67 : Nat) ({ cls := "java/lang/StringUTF16", name := "checkIndex", desc := "(I[B)V" } : Jvm.MethodName)) ∈ lw_all := lw_g (lw_at lw_m3 96 rfl) rfl
theorem q753 : (Jvm.Cond.static ({ cls := "java/lang/StringUTF16", name := "checkIndex", desc := "(I[B)V" } : Jvm.MethodName)) ∈ lw_all := lw_g (lw_at lw_m3 97 rfl) rfl
theorem q754 : (Jvm.Cond.code ({ cls := "java/lang/StringUTF16", name := "checkIndex", desc := "(I[B)V" } : Jvm.MethodName) prog_43_method_91_code (2 : Nat) (Option.none : Option Jvm.ClassFile.FieldType)) ∈ lw_all := lw_g (lw_at lw_m3 98 rfl) rfl
theorem q755 : (Jvm.Cond.methodLink "java/lang/StringUTF16" (414 : Nat) ({ cls := "java/lang/String", name := "checkIndex", desc := "(II)V" } : Jvm.MethodName)) ∈ lw_all := lw_g (lw_at lw_m3 99 rfl) rfl
theorem q862 : (Jvm.Cond.static ({ cls := "java/lang/StringUTF16", name := "getChars", desc := "(III[B)I" } : Jvm.MethodName)) ∈ lw_all := lw_g (lw_at lw_m3 206 rfl) rfl
theorem q863 : (Jvm.Cond.code ({ cls := "java/lang/StringUTF16", name := "getChars", desc := "(III[B)I" } : Jvm.MethodName) prog_43_method_77_code (5 : Nat) (Option.some Jvm.ClassFile.FieldType.int)) ∈ lw_all := lw_g (lw_at lw_m3 207 rfl) rfl
theorem q864 : (Jvm.Cond.methodLink "java/lang/StringUTF16" (96 : Nat) ({ cls := "java/lang/StringUTF16", name := "checkBoundsBeginEnd", desc := "(II[B)V" } : Jvm.MethodName)) ∈ lw_all := lw_g (lw_at lw_m3 208 rfl) rfl
theorem q865 : (Jvm.Cond.static ({ cls := "java/lang/StringUTF16", name := "checkBoundsBeginEnd", desc := "(II[B)V" } : Jvm.MethodName)) ∈ lw_all := lw_g (lw_at lw_m3 209 rfl) rfl
theorem q866 : (Jvm.Cond.code ({ cls := "java/lang/StringUTF16", name := "checkBoundsBeginEnd", desc := "(II[B)V" } : Jvm.MethodName) prog_43_method_93_code (3 : Nat) (Option.none : Option Jvm.ClassFile.FieldType)) ∈ lw_all := lw_g (lw_at lw_m3 210 rfl) rfl
theorem q867 : (Jvm.Cond.methodLink "java/lang/StringUTF16" (241 : Nat) ({ cls := "java/lang/String", name := "checkBoundsBeginEnd", desc := "(III)V" } : Jvm.MethodName)) ∈ lw_all := lw_g (lw_at lw_m3 211 rfl) rfl
theorem q873 : (Jvm.Cond.methodLink "java/lang/StringUTF16" (393 : Nat) ({ cls := "java/lang/StringUTF16", name := "getChars", desc := "(II[B)I" } : Jvm.MethodName)) ∈ lw_all := lw_g (lw_at lw_m3 217 rfl) rfl
theorem q874 : (Jvm.Cond.static ({ cls := "java/lang/StringUTF16", name := "getChars", desc := "(II[B)I" } : Jvm.MethodName)) ∈ lw_all := lw_g (lw_at lw_m3 218 rfl) rfl
theorem q875 : (Jvm.Cond.code ({ cls := "java/lang/StringUTF16", name := "getChars", desc := "(II[B)I" } : Jvm.MethodName) prog_43_method_89_code (7 : Nat) (Option.some Jvm.ClassFile.FieldType.int)) ∈ lw_all := lw_g (lw_at lw_m3 219 rfl) rfl
theorem q876 : (Jvm.Cond.fieldLink "java/lang/StringUTF16" (403 : Nat) "java/lang/Integer" "DigitOnes" "[B") ∈ lw_all := lw_g (lw_at lw_m3 220 rfl) rfl
theorem q877 : (Jvm.Cond.fieldLink "java/lang/StringUTF16" (407 : Nat) "java/lang/Integer" "DigitTens" "[B") ∈ lw_all := lw_g (lw_at lw_m3 221 rfl) rfl
theorem q891 : (Jvm.Cond.static ({ cls := "java/lang/StringUTF16", name := "putCharsAt", desc := "([BICCCC)I" } : Jvm.MethodName)) ∈ lw_all := lw_g (lw_at lw_m3 235 rfl) rfl
theorem q892 : (Jvm.Cond.code ({ cls := "java/lang/StringUTF16", name := "putCharsAt", desc := "([BICCCC)I" } : Jvm.MethodName) prog_43_method_81_code (7 : Nat) (Option.some Jvm.ClassFile.FieldType.int)) ∈ lw_all := lw_g (lw_at lw_m3 236 rfl) rfl
theorem q944 : (Jvm.Cond.static ({ cls := "java/lang/StringUTF16", name := "compress", desc := "([BII)[B" } : Jvm.MethodName)) ∈ lw_all := lw_g (lw_at lw_m4 48 rfl) rfl
theorem q945 : (Jvm.Cond.code ({ cls := "java/lang/StringUTF16", name := "compress", desc := "([BII)[B" } : Jvm.MethodName) prog_43_method_17_code (6 : Nat) (Option.some (Jvm.ClassFile.FieldType.array Jvm.ClassFile.FieldType.byte))) ∈ lw_all := lw_g (lw_at lw_m4 49 rfl) rfl
theorem q946 : (Jvm.Cond.methodLink "java/lang/StringUTF16" (123 : Nat) ({ cls := "java/lang/StringUTF16", name := "compress", desc := "([BI[BII)I" } : Jvm.MethodName)) ∈ lw_all := lw_g (lw_at lw_m4 50 rfl) rfl
theorem q947 : (Jvm.Cond.static ({ cls := "java/lang/StringUTF16", name := "compress", desc := "([BI[BII)I" } : Jvm.MethodName)) ∈ lw_all := lw_g (lw_at lw_m4 51 rfl) rfl
theorem q948 : (Jvm.Cond.code ({ cls := "java/lang/StringUTF16", name := "compress", desc := "([BI[BII)I" } : Jvm.MethodName) prog_43_method_22_code (7 : Nat) (Option.some Jvm.ClassFile.FieldType.int)) ∈ lw_all := lw_g (lw_at lw_m4 52 rfl) rfl
theorem q949 : (Jvm.Cond.methodLink "java/lang/StringUTF16" (71 : Nat) ({ cls := "java/lang/StringUTF16", name := "getChar", desc := "([BI)C" } : Jvm.MethodName)) ∈ lw_all := lw_g (lw_at lw_m4 53 rfl) rfl
theorem q950 : (Jvm.Cond.static ({ cls := "java/lang/StringUTF16", name := "getChar", desc := "([BI)C" } : Jvm.MethodName)) ∈ lw_all := lw_g (lw_at lw_m4 54 rfl) rfl
theorem q951 : (Jvm.Cond.code ({ cls := "java/lang/StringUTF16", name := "getChar", desc := "([BI)C" } : Jvm.MethodName) prog_43_method_5_code (2 : Nat) (Option.some Jvm.ClassFile.FieldType.char)) ∈ lw_all := lw_g (lw_at lw_m4 55 rfl) rfl
theorem q952 : (Jvm.Cond.methodLink "java/lang/StringUTF16" (126 : Nat) ({ cls := "java/util/Arrays", name := "copyOfRange", desc := "([BII)[B" } : Jvm.MethodName)) ∈ lw_all := lw_g (lw_at lw_m4 56 rfl) rfl
theorem q954 : (Jvm.Cond.static ({ cls := "java/lang/StringUTF16", name := "coderFromArrayLen", desc := "([BI)B" } : Jvm.MethodName)) ∈ lw_all := lw_g (lw_at lw_m4 58 rfl) rfl
theorem q955 : (Jvm.Cond.code ({ cls := "java/lang/StringUTF16", name := "coderFromArrayLen", desc := "([BI)B" } : Jvm.MethodName) prog_43_method_15_code (2 : Nat) (Option.some Jvm.ClassFile.FieldType.byte)) ∈ lw_all := lw_g (lw_at lw_m4 59 rfl) rfl
theorem q1090 : (Jvm.Cond.static ({ cls := "java/lang/StringUTF16", name := "hashCode", desc := "([B)I" } : Jvm.MethodName)) ∈ lw_all := lw_g (lw_at lw_m4 194 rfl) rfl
theorem q1091 : (Jvm.Cond.code ({ cls := "java/lang/StringUTF16", name := "hashCode", desc := "([B)I" } : Jvm.MethodName) prog_43_method_39_code (1 : Nat) (Option.some Jvm.ClassFile.FieldType.int)) ∈ lw_all := lw_g (lw_at lw_m4 195 rfl) rfl
theorem q1092 : (Jvm.Cond.methodLink "java/lang/StringUTF16" (220 : Nat) ({ cls := "jdk/internal/util/ArraysSupport", name := "vectorizedHashCode", desc := "(Ljava/lang/Object;IIII)I" } : Jvm.MethodName)) ∈ lw_all := lw_g (lw_at lw_m4 196 rfl) rfl
theorem q1292 : (Jvm.Cond.static ({ cls := "java/lang/StringUTF16", name := "charAt", desc := "([BI)C" } : Jvm.MethodName)) ∈ lw_all := lw_g (lw_at lw_m5 156 rfl) rfl
theorem q1293 : (Jvm.Cond.code ({ cls := "java/lang/StringUTF16", name := "charAt", desc := "([BI)C" } : Jvm.MethodName) prog_43_method_83_code (2 : Nat) (Option.some Jvm.ClassFile.FieldType.char)) ∈ lw_all := lw_g (lw_at lw_m5 157 rfl) rfl
theorem q1651 : (Jvm.Cond.static ({ cls := "java/lang/StringUTF16", name := "compareTo", desc := "([B[B)I" } : Jvm.MethodName)) ∈ lw_all := lw_g (lw_at lw_m7 35 rfl) rfl
theorem q1652 : (Jvm.Cond.code ({ cls := "java/lang/StringUTF16", name := "compareTo", desc := "([B[B)I" } : Jvm.MethodName) prog_43_method_29_code (4 : Nat) (Option.some Jvm.ClassFile.FieldType.int)) ∈ lw_all := lw_g (lw_at lw_m7 36 rfl) rfl
theorem q1653 : (Jvm.Cond.methodLink "java/lang/StringUTF16" (176 : Nat) ({ cls := "java/lang/StringUTF16", name := "compareValues", desc := "([B[BII)I" } : Jvm.MethodName)) ∈ lw_all := lw_g (lw_at lw_m7 37 rfl) rfl
theorem q1654 : (Jvm.Cond.static ({ cls := "java/lang/StringUTF16", name := "compareValues", desc := "([B[BII)I" } : Jvm.MethodName)) ∈ lw_all := lw_g (lw_at lw_m7 38 rfl) rfl
theorem q1655 : (Jvm.Cond.code ({ cls := "java/lang/StringUTF16", name := "compareValues", desc := "([B[BII)I" } : Jvm.MethodName) prog_43_method_31_code (8 : Nat) (Option.some Jvm.ClassFile.FieldType.int)) ∈ lw_all := lw_g (lw_at lw_m7 39 rfl) rfl
theorem q1656 : (Jvm.Cond.methodLink "java/lang/StringUTF16" (183 : Nat) ({ cls := "java/lang/Math", name := "min", desc := "(II)I" } : Jvm.MethodName)) ∈ lw_all := lw_g (lw_at lw_m7 40 rfl) rfl
theorem q1669 : (Jvm.Cond.static ({ cls := "java/lang/StringUTF16", name := "compareToLatin1", desc := "([B[B)I" } : Jvm.MethodName)) ∈ lw_all := lw_g (lw_at lw_m7 53 rfl) rfl
theorem q1670 : (Jvm.Cond.code ({ cls := "java/lang/StringUTF16", name := "compareToLatin1", desc := "([B[B)I" } : Jvm.MethodName) prog_43_method_32_code (2 : Nat) (Option.some Jvm.ClassFile.FieldType.int)) ∈ lw_all := lw_g (lw_at lw_m7 54 rfl) rfl
theorem q1671 : (Jvm.Cond.methodLink "java/lang/StringUTF16" (189 : Nat) ({ cls := "java/lang/StringLatin1", name := "compareToUTF16", desc := "([B[B)I" } : Jvm.MethodName)) ∈ lw_all := lw_g (lw_at lw_m7 55 rfl) rfl
theorem q1688 : (Jvm.Cond.static ({ cls := "java/lang/StringUTF16", name := "compareTo", desc := "([B[BII)I" } : Jvm.MethodName)) ∈ lw_all := lw_g (lw_at lw_m7 72 rfl) rfl
theorem q1689 : (Jvm.Cond.code ({ cls := "java/lang/StringUTF16", name := "compareTo", desc := "([B[BII)I" } : Jvm.MethodName) prog_43_method_30_code (4 : Nat) (Option.some Jvm.ClassFile.FieldType.int)) ∈ lw_all := lw_g (lw_at lw_m7 73 rfl) rfl
theorem q1690 : (Jvm.Cond.methodLink "java/lang/StringUTF16" (180 : Nat) ({ cls := "java/lang/StringUTF16", name := "checkOffset", desc := "(I[B)V" } : Jvm.MethodName)) ∈ lw_all := lw_g (lw_at lw_m7 74 rfl) rfl
theorem q1691 : (Jvm.Cond.static ({ cls := "java/lang/StringUTF16", name := "checkOffset", desc := "(I[B)V" } : Jvm.MethodName)) ∈ lw_all := lw_g (lw_at lw_m7 75 rfl) rfl
theorem q1692 : (Jvm.Cond.code ({ cls := "java/lang/StringUTF16", name := "checkOffset", desc := "(I[B)V" } : Jvm.MethodName) prog_43_method_92_code (2 : Nat) (Option.none : Option Jvm.ClassFile.FieldType)) ∈ lw_all := lw_g (lw_at lw_m7 76 rfl) rfl
theorem q1693 : (Jvm.Cond.methodLink "java/lang/StringUTF16" (417 : Nat) ({ cls := "java/lang/String", name := "checkOffset", desc := "(II)V" } : Jvm.MethodName)) ∈ lw_all := lw_g (lw_at lw_m7 77 rfl) rfl
theorem q1701 : (Jvm.Cond.static ({ cls := "java/lang/StringUTF16", name := "compareToLatin1", desc := "([B[BII)I" } : Jvm.MethodName)) ∈ lw_all := lw_g (lw_at lw_m7 85 rfl) rfl
theorem q1702 : (Jvm.Cond.code ({ cls := "java/lang/StringUTF16", name := "compareToLatin1", desc := "([B[BII)I" } : Jvm.MethodName) prog_43_method_33_code (4 : Nat) (Option.some Jvm.ClassFile.FieldType.int)) ∈ lw_all := lw_g (lw_at lw_m7 86 rfl) rfl
theorem q1703 : (Jvm.Cond.methodLink "java/lang/StringUTF16" (193 : Nat) ({ cls := "java/lang/StringLatin1", name := "compareToUTF16", desc := "([B[BII)I" } : Jvm.MethodName)) ∈ lw_all := lw_g (lw_at lw_m7 87 rfl) rfl
theorem q3635 : (Jvm.Cond.static ({ cls := "java/lang/StringUTF16", name := "fillNull", desc := "([BII)V" } : Jvm.MethodName)) ∈ lw_all := lw_g (lw_at lw_m15 99 rfl) rfl
theorem q3636 : (Jvm.Cond.code ({ cls := "java/lang/StringUTF16", name := "fillNull", desc := "([BII)V" } : Jvm.MethodName) prog_43_method_70_code (3 : Nat) (Option.none : Option Jvm.ClassFile.FieldType)) ∈ lw_all := lw_g (lw_at lw_m15 100 rfl) rfl
theorem q3637 : (Jvm.Cond.methodLink "java/lang/StringUTF16" (380 : Nat) ({ cls := "java/util/Arrays", name := "fill", desc := "([BIIB)V" } : Jvm.MethodName)) ∈ lw_all := lw_g (lw_at lw_m15 101 rfl) rfl

/-! java/util/BitSet -/
set_option maxRecDepth 100000
def RJ12 : String := "java/util/BitSet"
def TJ12 : u_T := fun k => match k with
  | 0 => ("java/util/BitSet", "words", "[J", false)
  | 1 => ("java/util/BitSet", "wordsInUse", "I", false)
  | _ => ("java/util/BitSet", "sizeIsSticky", "Z", false)
def tyJ12 : Nat → FieldType := fun k => match k with
  | 0 => .array .long
  | 1 => .int
  | _ => .boolean
abbrev wsJ120 : List Cond := u_ws RJ12 TJ12 3
theorem nmJ12 : ∀ a, a < 3 → ∀ b, b < 3 → a ≠ b → (TJ12 a).2.1 ≠ (TJ12 b).2.1 := by decide +kernel
theorem tyJ12_ok : ∀ k, k < 3 → parseFieldDescriptor (TJ12 k).2.2.1 = some (tyJ12 k) := by decide +kernel
abbrev cJ12_init : ByteArray := prog_62_method_4_code
def yJ12_init : MethodName := ⟨RJ12, "<init>", "()V"⟩
def dkwJ12_init_1 : List UInt8 := [181, 0, 24, 177]
abbrev dktJ12_init_1 : List UInt8 := dkwJ12_init_1 ++ []
def dkwJ12_init_0 : List UInt8 := [42, 183, 0, 21, 42, 3, 181, 0, 7, 42, 3, 181, 0, 24, 42, 16, 64, 182, 0, 27, 42, 3]
abbrev dktJ12_init_0 : List UInt8 := dkwJ12_init_0 ++ dktJ12_init_1
theorem dksJ12_init_0 : cJ12_init.data.toList.drop 0 = dktJ12_init_0 := by decide +kernel
theorem dksJ12_init_1 : cJ12_init.data.toList.drop 22 = dktJ12_init_1 := dk_seg dksJ12_init_0 22 rfl rfl
theorem dJ12_init_0 : decode cJ12_init 0 = .ok (.aload_n 0, 1) := dk_42 (dk_at dksJ12_init_0 0 rfl rfl)
theorem dJ12_init_1 : decode cJ12_init 1 = .ok (.invokespecial 21, 3) := dk_183 0 21 (dk_at dksJ12_init_0 1 rfl rfl)
theorem dJ12_init_4 : decode cJ12_init 4 = .ok (.aload_n 0, 1) := dk_42 (dk_at dksJ12_init_0 4 rfl rfl)
theorem dJ12_init_5 : decode cJ12_init 5 = .ok (.iconst 0, 1) := dk_3 (dk_at dksJ12_init_0 5 rfl rfl)
theorem dJ12_init_6 : decode cJ12_init 6 = .ok (.putfield 7, 3) := dk_181 0 7 (dk_at dksJ12_init_0 6 rfl rfl)
theorem dJ12_init_9 : decode cJ12_init 9 = .ok (.aload_n 0, 1) := dk_42 (dk_at dksJ12_init_0 9 rfl rfl)
theorem dJ12_init_10 : decode cJ12_init 10 = .ok (.iconst 0, 1) := dk_3 (dk_at dksJ12_init_0 10 rfl rfl)
theorem dJ12_init_11 : decode cJ12_init 11 = .ok (.putfield 24, 3) := dk_181 0 24 (dk_at dksJ12_init_0 11 rfl rfl)
theorem dJ12_init_14 : decode cJ12_init 14 = .ok (.aload_n 0, 1) := dk_42 (dk_at dksJ12_init_0 14 rfl rfl)
theorem dJ12_init_15 : decode cJ12_init 15 = .ok (.bipush 64, 2) := dk_16 64 (dk_at dksJ12_init_0 15 rfl rfl)
theorem dJ12_init_17 : decode cJ12_init 17 = .ok (.invokevirtual 27, 3) := dk_182 0 27 (dk_at dksJ12_init_0 17 rfl rfl)
theorem dJ12_init_20 : decode cJ12_init 20 = .ok (.aload_n 0, 1) := dk_42 (dk_at dksJ12_init_0 20 rfl rfl)
theorem dJ12_init_21 : decode cJ12_init 21 = .ok (.iconst 0, 1) := dk_3 (dk_at dksJ12_init_0 21 rfl rfl)
theorem dJ12_init_22 : decode cJ12_init 22 = .ok (.putfield 24, 3) := dk_181 0 24 (dk_at dksJ12_init_1 0 rfl rfl)
theorem dJ12_init_25 : decode cJ12_init 25 = .ok (.return_, 1) := dk_177 (dk_at dksJ12_init_1 3 rfl rfl)
abbrev cJ12_initWords : ByteArray := prog_62_method_6_code
def yJ12_initWords : MethodName := ⟨RJ12, "initWords", "(I)V"⟩
def dkwJ12_initWords_0 : List UInt8 := [42, 27, 4, 100, 184, 0, 52, 4, 96, 188, 11, 181, 0, 11, 177]
abbrev dktJ12_initWords_0 : List UInt8 := dkwJ12_initWords_0 ++ []
theorem dksJ12_initWords_0 : cJ12_initWords.data.toList.drop 0 = dktJ12_initWords_0 := by decide +kernel
theorem dJ12_initWords_0 : decode cJ12_initWords 0 = .ok (.aload_n 0, 1) := dk_42 (dk_at dksJ12_initWords_0 0 rfl rfl)
theorem dJ12_initWords_1 : decode cJ12_initWords 1 = .ok (.iload_n 1, 1) := dk_27 (dk_at dksJ12_initWords_0 1 rfl rfl)
theorem dJ12_initWords_2 : decode cJ12_initWords 2 = .ok (.iconst 1, 1) := dk_4 (dk_at dksJ12_initWords_0 2 rfl rfl)
theorem dJ12_initWords_3 : decode cJ12_initWords 3 = .ok (.isub, 1) := dk_100 (dk_at dksJ12_initWords_0 3 rfl rfl)
theorem dJ12_initWords_4 : decode cJ12_initWords 4 = .ok (.invokestatic 52, 3) := dk_184 0 52 (dk_at dksJ12_initWords_0 4 rfl rfl)
theorem dJ12_initWords_7 : decode cJ12_initWords 7 = .ok (.iconst 1, 1) := dk_4 (dk_at dksJ12_initWords_0 7 rfl rfl)
theorem dJ12_initWords_8 : decode cJ12_initWords 8 = .ok (.iadd, 1) := dk_96 (dk_at dksJ12_initWords_0 8 rfl rfl)
theorem dJ12_initWords_9 : decode cJ12_initWords 9 = .ok (.newarray .long, 2) := dk_188_11 (dk_at dksJ12_initWords_0 9 rfl rfl)
theorem dJ12_initWords_11 : decode cJ12_initWords 11 = .ok (.putfield 11, 3) := dk_181 0 11 (dk_at dksJ12_initWords_0 11 rfl rfl)
theorem dJ12_initWords_14 : decode cJ12_initWords 14 = .ok (.return_, 1) := dk_177 (dk_at dksJ12_initWords_0 14 rfl rfl)
abbrev cJ12_wordIndex : ByteArray := prog_62_method_1_code
def yJ12_wordIndex : MethodName := ⟨RJ12, "wordIndex", "(I)I"⟩
def dkwJ12_wordIndex_0 : List UInt8 := [26, 16, 6, 122, 172]
abbrev dktJ12_wordIndex_0 : List UInt8 := dkwJ12_wordIndex_0 ++ []
theorem dksJ12_wordIndex_0 : cJ12_wordIndex.data.toList.drop 0 = dktJ12_wordIndex_0 := by decide +kernel
theorem dJ12_wordIndex_0 : decode cJ12_wordIndex 0 = .ok (.iload_n 0, 1) := dk_26 (dk_at dksJ12_wordIndex_0 0 rfl rfl)
theorem dJ12_wordIndex_1 : decode cJ12_wordIndex 1 = .ok (.bipush 6, 2) := dk_16 6 (dk_at dksJ12_wordIndex_0 1 rfl rfl)
theorem dJ12_wordIndex_3 : decode cJ12_wordIndex 3 = .ok (.ishr, 1) := dk_122 (dk_at dksJ12_wordIndex_0 3 rfl rfl)
theorem dJ12_wordIndex_4 : decode cJ12_wordIndex 4 = .ok (.ireturn, 1) := dk_172 (dk_at dksJ12_wordIndex_0 4 rfl rfl)
abbrev cJ12_get : ByteArray := prog_62_method_26_code
def yJ12_get : MethodName := ⟨RJ12, "get", "(I)Z"⟩
def dkwJ12_get_2 : List UInt8 := [42, 180, 0, 11, 28, 47, 10, 27, 121, 127, 9, 148, 153, 0, 7, 4, 167, 0, 4, 3, 172]
abbrev dktJ12_get_2 : List UInt8 := dkwJ12_get_2 ++ []
def dkwJ12_get_1 : List UInt8 := [182, 0, 45, 183, 0, 146, 191, 42, 182, 0, 56, 27, 184, 0, 52, 61, 28, 42, 180, 0, 7, 162, 0, 22]
abbrev dktJ12_get_1 : List UInt8 := dkwJ12_get_1 ++ dktJ12_get_2
def dkwJ12_get_0 : List UInt8 := [27, 156, 0, 30, 187, 0, 142, 89, 187, 0, 33, 89, 183, 0, 35, 18, 153, 182, 0, 38, 27, 182, 0, 42]
abbrev dktJ12_get_0 : List UInt8 := dkwJ12_get_0 ++ dktJ12_get_1
theorem dksJ12_get_0 : cJ12_get.data.toList.drop 0 = dktJ12_get_0 := by decide +kernel
theorem dksJ12_get_1 : cJ12_get.data.toList.drop 24 = dktJ12_get_1 := dk_seg dksJ12_get_0 24 rfl rfl
theorem dksJ12_get_2 : cJ12_get.data.toList.drop 48 = dktJ12_get_2 := dk_seg dksJ12_get_1 24 rfl rfl
theorem dJ12_get_0 : decode cJ12_get 0 = .ok (.iload_n 1, 1) := dk_27 (dk_at dksJ12_get_0 0 rfl rfl)
theorem dJ12_get_1 : decode cJ12_get 1 = .ok (.ifCond .ge 30, 3) := dk_156 0 30 (dk_at dksJ12_get_0 1 rfl rfl)
theorem dJ12_get_4 : decode cJ12_get 4 = .ok (.new 142, 3) := dk_187 0 142 (dk_at dksJ12_get_0 4 rfl rfl)
theorem dJ12_get_7 : decode cJ12_get 7 = .ok (.dup, 1) := dk_89 (dk_at dksJ12_get_0 7 rfl rfl)
theorem dJ12_get_8 : decode cJ12_get 8 = .ok (.new 33, 3) := dk_187 0 33 (dk_at dksJ12_get_0 8 rfl rfl)
theorem dJ12_get_11 : decode cJ12_get 11 = .ok (.dup, 1) := dk_89 (dk_at dksJ12_get_0 11 rfl rfl)
theorem dJ12_get_12 : decode cJ12_get 12 = .ok (.invokespecial 35, 3) := dk_183 0 35 (dk_at dksJ12_get_0 12 rfl rfl)
theorem dJ12_get_15 : decode cJ12_get 15 = .ok (.ldc 153, 2) := dk_18 153 (dk_at dksJ12_get_0 15 rfl rfl)
theorem dJ12_get_17 : decode cJ12_get 17 = .ok (.invokevirtual 38, 3) := dk_182 0 38 (dk_at dksJ12_get_0 17 rfl rfl)
theorem dJ12_get_20 : decode cJ12_get 20 = .ok (.iload_n 1, 1) := dk_27 (dk_at dksJ12_get_0 20 rfl rfl)
theorem dJ12_get_21 : decode cJ12_get 21 = .ok (.invokevirtual 42, 3) := dk_182 0 42 (dk_at dksJ12_get_0 21 rfl rfl)
theorem dJ12_get_24 : decode cJ12_get 24 = .ok (.invokevirtual 45, 3) := dk_182 0 45 (dk_at dksJ12_get_1 0 rfl rfl)
theorem dJ12_get_27 : decode cJ12_get 27 = .ok (.invokespecial 146, 3) := dk_183 0 146 (dk_at dksJ12_get_1 3 rfl rfl)
theorem dJ12_get_30 : decode cJ12_get 30 = .ok (.athrow, 1) := dk_191 (dk_at dksJ12_get_1 6 rfl rfl)
theorem dJ12_get_31 : decode cJ12_get 31 = .ok (.aload_n 0, 1) := dk_42 (dk_at dksJ12_get_1 7 rfl rfl)
theorem dJ12_get_32 : decode cJ12_get 32 = .ok (.invokevirtual 56, 3) := dk_182 0 56 (dk_at dksJ12_get_1 8 rfl rfl)
theorem dJ12_get_35 : decode cJ12_get 35 = .ok (.iload_n 1, 1) := dk_27 (dk_at dksJ12_get_1 11 rfl rfl)
theorem dJ12_get_36 : decode cJ12_get 36 = .ok (.invokestatic 52, 3) := dk_184 0 52 (dk_at dksJ12_get_1 12 rfl rfl)
theorem dJ12_get_39 : decode cJ12_get 39 = .ok (.istore_n 2, 1) := dk_61 (dk_at dksJ12_get_1 15 rfl rfl)
theorem dJ12_get_40 : decode cJ12_get 40 = .ok (.iload_n 2, 1) := dk_28 (dk_at dksJ12_get_1 16 rfl rfl)
theorem dJ12_get_41 : decode cJ12_get 41 = .ok (.aload_n 0, 1) := dk_42 (dk_at dksJ12_get_1 17 rfl rfl)
theorem dJ12_get_42 : decode cJ12_get 42 = .ok (.getfield 7, 3) := dk_180 0 7 (dk_at dksJ12_get_1 18 rfl rfl)
theorem dJ12_get_45 : decode cJ12_get 45 = .ok (.if_icmp .ge 22, 3) := dk_162 0 22 (dk_at dksJ12_get_1 21 rfl rfl)
theorem dJ12_get_48 : decode cJ12_get 48 = .ok (.aload_n 0, 1) := dk_42 (dk_at dksJ12_get_2 0 rfl rfl)
theorem dJ12_get_49 : decode cJ12_get 49 = .ok (.getfield 11, 3) := dk_180 0 11 (dk_at dksJ12_get_2 1 rfl rfl)
theorem dJ12_get_52 : decode cJ12_get 52 = .ok (.iload_n 2, 1) := dk_28 (dk_at dksJ12_get_2 4 rfl rfl)
theorem dJ12_get_53 : decode cJ12_get 53 = .ok (.laload, 1) := dk_47 (dk_at dksJ12_get_2 5 rfl rfl)
theorem dJ12_get_54 : decode cJ12_get 54 = .ok (.lconst 1, 1) := dk_10 (dk_at dksJ12_get_2 6 rfl rfl)
theorem dJ12_get_55 : decode cJ12_get 55 = .ok (.iload_n 1, 1) := dk_27 (dk_at dksJ12_get_2 7 rfl rfl)
theorem dJ12_get_56 : decode cJ12_get 56 = .ok (.lshl, 1) := dk_121 (dk_at dksJ12_get_2 8 rfl rfl)
theorem dJ12_get_57 : decode cJ12_get 57 = .ok (.land, 1) := dk_127 (dk_at dksJ12_get_2 9 rfl rfl)
theorem dJ12_get_58 : decode cJ12_get 58 = .ok (.lconst 0, 1) := dk_9 (dk_at dksJ12_get_2 10 rfl rfl)
theorem dJ12_get_59 : decode cJ12_get 59 = .ok (.lcmp, 1) := dk_148 (dk_at dksJ12_get_2 11 rfl rfl)
theorem dJ12_get_60 : decode cJ12_get 60 = .ok (.ifCond .eq 7, 3) := dk_153 0 7 (dk_at dksJ12_get_2 12 rfl rfl)
theorem dJ12_get_63 : decode cJ12_get 63 = .ok (.iconst 1, 1) := dk_4 (dk_at dksJ12_get_2 15 rfl rfl)
theorem dJ12_get_64 : decode cJ12_get 64 = .ok (.goto 4, 3) := dk_167 0 4 (dk_at dksJ12_get_2 16 rfl rfl)
theorem dJ12_get_67 : decode cJ12_get 67 = .ok (.iconst 0, 1) := dk_3 (dk_at dksJ12_get_2 19 rfl rfl)
theorem dJ12_get_68 : decode cJ12_get 68 = .ok (.ireturn, 1) := dk_172 (dk_at dksJ12_get_2 20 rfl rfl)
abbrev cJ12_checkInvariants : ByteArray := prog_62_method_2_code
def yJ12_checkInvariants : MethodName := ⟨RJ12, "checkInvariants", "()V"⟩
def dkwJ12_checkInvariants_4 : List UInt8 := [180, 0, 7, 47, 9, 148, 153, 0, 11, 187, 0, 15, 89, 183, 0, 17, 191, 177]
abbrev dktJ12_checkInvariants_4 : List UInt8 := dkwJ12_checkInvariants_4 ++ []
def dkwJ12_checkInvariants_3 : List UInt8 := [178, 0, 3, 154, 0, 37, 42, 180, 0, 7, 42, 180, 0, 11, 190, 159, 0, 25, 42, 180, 0, 11, 42]
abbrev dktJ12_checkInvariants_3 : List UInt8 := dkwJ12_checkInvariants_3 ++ dktJ12_checkInvariants_4
def dkwJ12_checkInvariants_2 : List UInt8 := [155, 0, 15, 42, 180, 0, 7, 42, 180, 0, 11, 190, 164, 0, 11, 187, 0, 15, 89, 183, 0, 17, 191]
abbrev dktJ12_checkInvariants_2 : List UInt8 := dkwJ12_checkInvariants_2 ++ dktJ12_checkInvariants_3
def dkwJ12_checkInvariants_1 : List UInt8 := [9, 148, 154, 0, 11, 187, 0, 15, 89, 183, 0, 17, 191, 178, 0, 3, 154, 0, 30, 42, 180, 0, 7]
abbrev dktJ12_checkInvariants_1 : List UInt8 := dkwJ12_checkInvariants_1 ++ dktJ12_checkInvariants_2
def dkwJ12_checkInvariants_0 : List UInt8 := [178, 0, 3, 154, 0, 34, 42, 180, 0, 7, 153, 0, 27, 42, 180, 0, 11, 42, 180, 0, 7, 4, 100, 47]
abbrev dktJ12_checkInvariants_0 : List UInt8 := dkwJ12_checkInvariants_0 ++ dktJ12_checkInvariants_1
theorem dksJ12_checkInvariants_0 : cJ12_checkInvariants.data.toList.drop 0 = dktJ12_checkInvariants_0 := by decide +kernel
theorem dksJ12_checkInvariants_1 : cJ12_checkInvariants.data.toList.drop 24 = dktJ12_checkInvariants_1 := dk_seg dksJ12_checkInvariants_0 24 rfl rfl
theorem dksJ12_checkInvariants_2 : cJ12_checkInvariants.data.toList.drop 47 = dktJ12_checkInvariants_2 := dk_seg dksJ12_checkInvariants_1 23 rfl rfl
theorem dksJ12_checkInvariants_3 : cJ12_checkInvariants.data.toList.drop 70 = dktJ12_checkInvariants_3 := dk_seg dksJ12_checkInvariants_2 23 rfl rfl
theorem dksJ12_checkInvariants_4 : cJ12_checkInvariants.data.toList.drop 93 = dktJ12_checkInvariants_4 := dk_seg dksJ12_checkInvariants_3 23 rfl rfl
theorem dJ12_checkInvariants_0 : decode cJ12_checkInvariants 0 = .ok (.getstatic 3, 3) := dk_178 0 3 (dk_at dksJ12_checkInvariants_0 0 rfl rfl)
theorem dJ12_checkInvariants_3 : decode cJ12_checkInvariants 3 = .ok (.ifCond .ne 34, 3) := dk_154 0 34 (dk_at dksJ12_checkInvariants_0 3 rfl rfl)
theorem dJ12_checkInvariants_6 : decode cJ12_checkInvariants 6 = .ok (.aload_n 0, 1) := dk_42 (dk_at dksJ12_checkInvariants_0 6 rfl rfl)
theorem dJ12_checkInvariants_7 : decode cJ12_checkInvariants 7 = .ok (.getfield 7, 3) := dk_180 0 7 (dk_at dksJ12_checkInvariants_0 7 rfl rfl)
theorem dJ12_checkInvariants_10 : decode cJ12_checkInvariants 10 = .ok (.ifCond .eq 27, 3) := dk_153 0 27 (dk_at dksJ12_checkInvariants_0 10 rfl rfl)
theorem dJ12_checkInvariants_13 : decode cJ12_checkInvariants 13 = .ok (.aload_n 0, 1) := dk_42 (dk_at dksJ12_checkInvariants_0 13 rfl rfl)
theorem dJ12_checkInvariants_14 : decode cJ12_checkInvariants 14 = .ok (.getfield 11, 3) := dk_180 0 11 (dk_at dksJ12_checkInvariants_0 14 rfl rfl)
theorem dJ12_checkInvariants_17 : decode cJ12_checkInvariants 17 = .ok (.aload_n 0, 1) := dk_42 (dk_at dksJ12_checkInvariants_0 17 rfl rfl)
theorem dJ12_checkInvariants_18 : decode cJ12_checkInvariants 18 = .ok (.getfield 7, 3) := dk_180 0 7 (dk_at dksJ12_checkInvariants_0 18 rfl rfl)
theorem dJ12_checkInvariants_21 : decode cJ12_checkInvariants 21 = .ok (.iconst 1, 1) := dk_4 (dk_at dksJ12_checkInvariants_0 21 rfl rfl)
theorem dJ12_checkInvariants_22 : decode cJ12_checkInvariants 22 = .ok (.isub, 1) := dk_100 (dk_at dksJ12_checkInvariants_0 22 rfl rfl)
theorem dJ12_checkInvariants_23 : decode cJ12_checkInvariants 23 = .ok (.laload, 1) := dk_47 (dk_at dksJ12_checkInvariants_0 23 rfl rfl)
theorem dJ12_checkInvariants_24 : decode cJ12_checkInvariants 24 = .ok (.lconst 0, 1) := dk_9 (dk_at dksJ12_checkInvariants_1 0 rfl rfl)
theorem dJ12_checkInvariants_25 : decode cJ12_checkInvariants 25 = .ok (.lcmp, 1) := dk_148 (dk_at dksJ12_checkInvariants_1 1 rfl rfl)
theorem dJ12_checkInvariants_26 : decode cJ12_checkInvariants 26 = .ok (.ifCond .ne 11, 3) := dk_154 0 11 (dk_at dksJ12_checkInvariants_1 2 rfl rfl)
theorem dJ12_checkInvariants_29 : decode cJ12_checkInvariants 29 = .ok (.new 15, 3) := dk_187 0 15 (dk_at dksJ12_checkInvariants_1 5 rfl rfl)
theorem dJ12_checkInvariants_32 : decode cJ12_checkInvariants 32 = .ok (.dup, 1) := dk_89 (dk_at dksJ12_checkInvariants_1 8 rfl rfl)
theorem dJ12_checkInvariants_33 : decode cJ12_checkInvariants 33 = .ok (.invokespecial 17, 3) := dk_183 0 17 (dk_at dksJ12_checkInvariants_1 9 rfl rfl)
theorem dJ12_checkInvariants_36 : decode cJ12_checkInvariants 36 = .ok (.athrow, 1) := dk_191 (dk_at dksJ12_checkInvariants_1 12 rfl rfl)
theorem dJ12_checkInvariants_37 : decode cJ12_checkInvariants 37 = .ok (.getstatic 3, 3) := dk_178 0 3 (dk_at dksJ12_checkInvariants_1 13 rfl rfl)
theorem dJ12_checkInvariants_40 : decode cJ12_checkInvariants 40 = .ok (.ifCond .ne 30, 3) := dk_154 0 30 (dk_at dksJ12_checkInvariants_1 16 rfl rfl)
theorem dJ12_checkInvariants_43 : decode cJ12_checkInvariants 43 = .ok (.aload_n 0, 1) := dk_42 (dk_at dksJ12_checkInvariants_1 19 rfl rfl)
theorem dJ12_checkInvariants_44 : decode cJ12_checkInvariants 44 = .ok (.getfield 7, 3) := dk_180 0 7 (dk_at dksJ12_checkInvariants_1 20 rfl rfl)
theorem dJ12_checkInvariants_47 : decode cJ12_checkInvariants 47 = .ok (.ifCond .lt 15, 3) := dk_155 0 15 (dk_at dksJ12_checkInvariants_2 0 rfl rfl)
theorem dJ12_checkInvariants_50 : decode cJ12_checkInvariants 50 = .ok (.aload_n 0, 1) := dk_42 (dk_at dksJ12_checkInvariants_2 3 rfl rfl)
theorem dJ12_checkInvariants_51 : decode cJ12_checkInvariants 51 = .ok (.getfield 7, 3) := dk_180 0 7 (dk_at dksJ12_checkInvariants_2 4 rfl rfl)
theorem dJ12_checkInvariants_54 : decode cJ12_checkInvariants 54 = .ok (.aload_n 0, 1) := dk_42 (dk_at dksJ12_checkInvariants_2 7 rfl rfl)
theorem dJ12_checkInvariants_55 : decode cJ12_checkInvariants 55 = .ok (.getfield 11, 3) := dk_180 0 11 (dk_at dksJ12_checkInvariants_2 8 rfl rfl)
theorem dJ12_checkInvariants_58 : decode cJ12_checkInvariants 58 = .ok (.arraylength, 1) := dk_190 (dk_at dksJ12_checkInvariants_2 11 rfl rfl)
theorem dJ12_checkInvariants_59 : decode cJ12_checkInvariants 59 = .ok (.if_icmp .le 11, 3) := dk_164 0 11 (dk_at dksJ12_checkInvariants_2 12 rfl rfl)
theorem dJ12_checkInvariants_62 : decode cJ12_checkInvariants 62 = .ok (.new 15, 3) := dk_187 0 15 (dk_at dksJ12_checkInvariants_2 15 rfl rfl)
theorem dJ12_checkInvariants_65 : decode cJ12_checkInvariants 65 = .ok (.dup, 1) := dk_89 (dk_at dksJ12_checkInvariants_2 18 rfl rfl)
theorem dJ12_checkInvariants_66 : decode cJ12_checkInvariants 66 = .ok (.invokespecial 17, 3) := dk_183 0 17 (dk_at dksJ12_checkInvariants_2 19 rfl rfl)
theorem dJ12_checkInvariants_69 : decode cJ12_checkInvariants 69 = .ok (.athrow, 1) := dk_191 (dk_at dksJ12_checkInvariants_2 22 rfl rfl)
theorem dJ12_checkInvariants_70 : decode cJ12_checkInvariants 70 = .ok (.getstatic 3, 3) := dk_178 0 3 (dk_at dksJ12_checkInvariants_3 0 rfl rfl)
theorem dJ12_checkInvariants_73 : decode cJ12_checkInvariants 73 = .ok (.ifCond .ne 37, 3) := dk_154 0 37 (dk_at dksJ12_checkInvariants_3 3 rfl rfl)
theorem dJ12_checkInvariants_76 : decode cJ12_checkInvariants 76 = .ok (.aload_n 0, 1) := dk_42 (dk_at dksJ12_checkInvariants_3 6 rfl rfl)
theorem dJ12_checkInvariants_77 : decode cJ12_checkInvariants 77 = .ok (.getfield 7, 3) := dk_180 0 7 (dk_at dksJ12_checkInvariants_3 7 rfl rfl)
theorem dJ12_checkInvariants_80 : decode cJ12_checkInvariants 80 = .ok (.aload_n 0, 1) := dk_42 (dk_at dksJ12_checkInvariants_3 10 rfl rfl)
theorem dJ12_checkInvariants_81 : decode cJ12_checkInvariants 81 = .ok (.getfield 11, 3) := dk_180 0 11 (dk_at dksJ12_checkInvariants_3 11 rfl rfl)
theorem dJ12_checkInvariants_84 : decode cJ12_checkInvariants 84 = .ok (.arraylength, 1) := dk_190 (dk_at dksJ12_checkInvariants_3 14 rfl rfl)
theorem dJ12_checkInvariants_85 : decode cJ12_checkInvariants 85 = .ok (.if_icmp .eq 25, 3) := dk_159 0 25 (dk_at dksJ12_checkInvariants_3 15 rfl rfl)
theorem dJ12_checkInvariants_88 : decode cJ12_checkInvariants 88 = .ok (.aload_n 0, 1) := dk_42 (dk_at dksJ12_checkInvariants_3 18 rfl rfl)
theorem dJ12_checkInvariants_89 : decode cJ12_checkInvariants 89 = .ok (.getfield 11, 3) := dk_180 0 11 (dk_at dksJ12_checkInvariants_3 19 rfl rfl)
theorem dJ12_checkInvariants_92 : decode cJ12_checkInvariants 92 = .ok (.aload_n 0, 1) := dk_42 (dk_at dksJ12_checkInvariants_3 22 rfl rfl)
theorem dJ12_checkInvariants_93 : decode cJ12_checkInvariants 93 = .ok (.getfield 7, 3) := dk_180 0 7 (dk_at dksJ12_checkInvariants_4 0 rfl rfl)
theorem dJ12_checkInvariants_96 : decode cJ12_checkInvariants 96 = .ok (.laload, 1) := dk_47 (dk_at dksJ12_checkInvariants_4 3 rfl rfl)
theorem dJ12_checkInvariants_97 : decode cJ12_checkInvariants 97 = .ok (.lconst 0, 1) := dk_9 (dk_at dksJ12_checkInvariants_4 4 rfl rfl)
theorem dJ12_checkInvariants_98 : decode cJ12_checkInvariants 98 = .ok (.lcmp, 1) := dk_148 (dk_at dksJ12_checkInvariants_4 5 rfl rfl)
theorem dJ12_checkInvariants_99 : decode cJ12_checkInvariants 99 = .ok (.ifCond .eq 11, 3) := dk_153 0 11 (dk_at dksJ12_checkInvariants_4 6 rfl rfl)
theorem dJ12_checkInvariants_102 : decode cJ12_checkInvariants 102 = .ok (.new 15, 3) := dk_187 0 15 (dk_at dksJ12_checkInvariants_4 9 rfl rfl)
theorem dJ12_checkInvariants_105 : decode cJ12_checkInvariants 105 = .ok (.dup, 1) := dk_89 (dk_at dksJ12_checkInvariants_4 12 rfl rfl)
theorem dJ12_checkInvariants_106 : decode cJ12_checkInvariants 106 = .ok (.invokespecial 17, 3) := dk_183 0 17 (dk_at dksJ12_checkInvariants_4 13 rfl rfl)
theorem dJ12_checkInvariants_109 : decode cJ12_checkInvariants 109 = .ok (.athrow, 1) := dk_191 (dk_at dksJ12_checkInvariants_4 16 rfl rfl)
theorem dJ12_checkInvariants_110 : decode cJ12_checkInvariants 110 = .ok (.return_, 1) := dk_177 (dk_at dksJ12_checkInvariants_4 17 rfl rfl)
abbrev cJ12_set : ByteArray := prog_62_method_19_code
def yJ12_set : MethodName := ⟨RJ12, "set", "(I)V"⟩
def dkwJ12_set_2 : List UInt8 := [10, 27, 121, 129, 80, 42, 182, 0, 56, 177]
abbrev dktJ12_set_2 : List UInt8 := dkwJ12_set_2 ++ []
def dkwJ12_set_1 : List UInt8 := [182, 0, 45, 183, 0, 146, 191, 27, 184, 0, 52, 61, 42, 28, 182, 0, 155, 42, 180, 0, 11, 28, 92, 47]
abbrev dktJ12_set_1 : List UInt8 := dkwJ12_set_1 ++ dktJ12_set_2
def dkwJ12_set_0 : List UInt8 := [27, 156, 0, 30, 187, 0, 142, 89, 187, 0, 33, 89, 183, 0, 35, 18, 153, 182, 0, 38, 27, 182, 0, 42]
abbrev dktJ12_set_0 : List UInt8 := dkwJ12_set_0 ++ dktJ12_set_1
theorem dksJ12_set_0 : cJ12_set.data.toList.drop 0 = dktJ12_set_0 := by decide +kernel
theorem dksJ12_set_1 : cJ12_set.data.toList.drop 24 = dktJ12_set_1 := dk_seg dksJ12_set_0 24 rfl rfl
theorem dksJ12_set_2 : cJ12_set.data.toList.drop 48 = dktJ12_set_2 := dk_seg dksJ12_set_1 24 rfl rfl
theorem dJ12_set_0 : decode cJ12_set 0 = .ok (.iload_n 1, 1) := dk_27 (dk_at dksJ12_set_0 0 rfl rfl)
theorem dJ12_set_1 : decode cJ12_set 1 = .ok (.ifCond .ge 30, 3) := dk_156 0 30 (dk_at dksJ12_set_0 1 rfl rfl)
theorem dJ12_set_4 : decode cJ12_set 4 = .ok (.new 142, 3) := dk_187 0 142 (dk_at dksJ12_set_0 4 rfl rfl)
theorem dJ12_set_7 : decode cJ12_set 7 = .ok (.dup, 1) := dk_89 (dk_at dksJ12_set_0 7 rfl rfl)
theorem dJ12_set_8 : decode cJ12_set 8 = .ok (.new 33, 3) := dk_187 0 33 (dk_at dksJ12_set_0 8 rfl rfl)
theorem dJ12_set_11 : decode cJ12_set 11 = .ok (.dup, 1) := dk_89 (dk_at dksJ12_set_0 11 rfl rfl)
theorem dJ12_set_12 : decode cJ12_set 12 = .ok (.invokespecial 35, 3) := dk_183 0 35 (dk_at dksJ12_set_0 12 rfl rfl)
theorem dJ12_set_15 : decode cJ12_set 15 = .ok (.ldc 153, 2) := dk_18 153 (dk_at dksJ12_set_0 15 rfl rfl)
theorem dJ12_set_17 : decode cJ12_set 17 = .ok (.invokevirtual 38, 3) := dk_182 0 38 (dk_at dksJ12_set_0 17 rfl rfl)
theorem dJ12_set_20 : decode cJ12_set 20 = .ok (.iload_n 1, 1) := dk_27 (dk_at dksJ12_set_0 20 rfl rfl)
theorem dJ12_set_21 : decode cJ12_set 21 = .ok (.invokevirtual 42, 3) := dk_182 0 42 (dk_at dksJ12_set_0 21 rfl rfl)
theorem dJ12_set_24 : decode cJ12_set 24 = .ok (.invokevirtual 45, 3) := dk_182 0 45 (dk_at dksJ12_set_1 0 rfl rfl)
theorem dJ12_set_27 : decode cJ12_set 27 = .ok (.invokespecial 146, 3) := dk_183 0 146 (dk_at dksJ12_set_1 3 rfl rfl)
theorem dJ12_set_30 : decode cJ12_set 30 = .ok (.athrow, 1) := dk_191 (dk_at dksJ12_set_1 6 rfl rfl)
theorem dJ12_set_31 : decode cJ12_set 31 = .ok (.iload_n 1, 1) := dk_27 (dk_at dksJ12_set_1 7 rfl rfl)
theorem dJ12_set_32 : decode cJ12_set 32 = .ok (.invokestatic 52, 3) := dk_184 0 52 (dk_at dksJ12_set_1 8 rfl rfl)
theorem dJ12_set_35 : decode cJ12_set 35 = .ok (.istore_n 2, 1) := dk_61 (dk_at dksJ12_set_1 11 rfl rfl)
theorem dJ12_set_36 : decode cJ12_set 36 = .ok (.aload_n 0, 1) := dk_42 (dk_at dksJ12_set_1 12 rfl rfl)
theorem dJ12_set_37 : decode cJ12_set 37 = .ok (.iload_n 2, 1) := dk_28 (dk_at dksJ12_set_1 13 rfl rfl)
theorem dJ12_set_38 : decode cJ12_set 38 = .ok (.invokevirtual 155, 3) := dk_182 0 155 (dk_at dksJ12_set_1 14 rfl rfl)
theorem dJ12_set_41 : decode cJ12_set 41 = .ok (.aload_n 0, 1) := dk_42 (dk_at dksJ12_set_1 17 rfl rfl)
theorem dJ12_set_42 : decode cJ12_set 42 = .ok (.getfield 11, 3) := dk_180 0 11 (dk_at dksJ12_set_1 18 rfl rfl)
theorem dJ12_set_45 : decode cJ12_set 45 = .ok (.iload_n 2, 1) := dk_28 (dk_at dksJ12_set_1 21 rfl rfl)
theorem dJ12_set_46 : decode cJ12_set 46 = .ok (.dup2, 1) := dk_92 (dk_at dksJ12_set_1 22 rfl rfl)
theorem dJ12_set_47 : decode cJ12_set 47 = .ok (.laload, 1) := dk_47 (dk_at dksJ12_set_1 23 rfl rfl)
theorem dJ12_set_48 : decode cJ12_set 48 = .ok (.lconst 1, 1) := dk_10 (dk_at dksJ12_set_2 0 rfl rfl)
theorem dJ12_set_49 : decode cJ12_set 49 = .ok (.iload_n 1, 1) := dk_27 (dk_at dksJ12_set_2 1 rfl rfl)
theorem dJ12_set_50 : decode cJ12_set 50 = .ok (.lshl, 1) := dk_121 (dk_at dksJ12_set_2 2 rfl rfl)
theorem dJ12_set_51 : decode cJ12_set 51 = .ok (.lor, 1) := dk_129 (dk_at dksJ12_set_2 3 rfl rfl)
theorem dJ12_set_52 : decode cJ12_set 52 = .ok (.lastore, 1) := dk_80 (dk_at dksJ12_set_2 4 rfl rfl)
theorem dJ12_set_53 : decode cJ12_set 53 = .ok (.aload_n 0, 1) := dk_42 (dk_at dksJ12_set_2 5 rfl rfl)
theorem dJ12_set_54 : decode cJ12_set 54 = .ok (.invokevirtual 56, 3) := dk_182 0 56 (dk_at dksJ12_set_2 6 rfl rfl)
theorem dJ12_set_57 : decode cJ12_set 57 = .ok (.return_, 1) := dk_177 (dk_at dksJ12_set_2 9 rfl rfl)
abbrev cJ12_expandTo : ByteArray := prog_62_method_15_code
def yJ12_expandTo : MethodName := ⟨RJ12, "expandTo", "(I)V"⟩
def dkwJ12_expandTo_0 : List UInt8 := [27, 4, 96, 61, 42, 180, 0, 7, 28, 162, 0, 13, 42, 28, 182, 0, 139, 42, 28, 181, 0, 7, 177]
abbrev dktJ12_expandTo_0 : List UInt8 := dkwJ12_expandTo_0 ++ []
theorem dksJ12_expandTo_0 : cJ12_expandTo.data.toList.drop 0 = dktJ12_expandTo_0 := by decide +kernel
theorem dJ12_expandTo_0 : decode cJ12_expandTo 0 = .ok (.iload_n 1, 1) := dk_27 (dk_at dksJ12_expandTo_0 0 rfl rfl)
theorem dJ12_expandTo_1 : decode cJ12_expandTo 1 = .ok (.iconst 1, 1) := dk_4 (dk_at dksJ12_expandTo_0 1 rfl rfl)
theorem dJ12_expandTo_2 : decode cJ12_expandTo 2 = .ok (.iadd, 1) := dk_96 (dk_at dksJ12_expandTo_0 2 rfl rfl)
theorem dJ12_expandTo_3 : decode cJ12_expandTo 3 = .ok (.istore_n 2, 1) := dk_61 (dk_at dksJ12_expandTo_0 3 rfl rfl)
theorem dJ12_expandTo_4 : decode cJ12_expandTo 4 = .ok (.aload_n 0, 1) := dk_42 (dk_at dksJ12_expandTo_0 4 rfl rfl)
theorem dJ12_expandTo_5 : decode cJ12_expandTo 5 = .ok (.getfield 7, 3) := dk_180 0 7 (dk_at dksJ12_expandTo_0 5 rfl rfl)
theorem dJ12_expandTo_8 : decode cJ12_expandTo 8 = .ok (.iload_n 2, 1) := dk_28 (dk_at dksJ12_expandTo_0 8 rfl rfl)
theorem dJ12_expandTo_9 : decode cJ12_expandTo 9 = .ok (.if_icmp .ge 13, 3) := dk_162 0 13 (dk_at dksJ12_expandTo_0 9 rfl rfl)
theorem dJ12_expandTo_12 : decode cJ12_expandTo 12 = .ok (.aload_n 0, 1) := dk_42 (dk_at dksJ12_expandTo_0 12 rfl rfl)
theorem dJ12_expandTo_13 : decode cJ12_expandTo 13 = .ok (.iload_n 2, 1) := dk_28 (dk_at dksJ12_expandTo_0 13 rfl rfl)
theorem dJ12_expandTo_14 : decode cJ12_expandTo 14 = .ok (.invokevirtual 139, 3) := dk_182 0 139 (dk_at dksJ12_expandTo_0 14 rfl rfl)
theorem dJ12_expandTo_17 : decode cJ12_expandTo 17 = .ok (.aload_n 0, 1) := dk_42 (dk_at dksJ12_expandTo_0 17 rfl rfl)
theorem dJ12_expandTo_18 : decode cJ12_expandTo 18 = .ok (.iload_n 2, 1) := dk_28 (dk_at dksJ12_expandTo_0 18 rfl rfl)
theorem dJ12_expandTo_19 : decode cJ12_expandTo 19 = .ok (.putfield 7, 3) := dk_181 0 7 (dk_at dksJ12_expandTo_0 19 rfl rfl)
theorem dJ12_expandTo_22 : decode cJ12_expandTo 22 = .ok (.return_, 1) := dk_177 (dk_at dksJ12_expandTo_0 22 rfl rfl)
abbrev cJ12_ensureCapacity : ByteArray := prog_62_method_14_code
def yJ12_ensureCapacity : MethodName := ⟨RJ12, "ensureCapacity", "(I)V"⟩
def dkwJ12_ensureCapacity_1 : List UInt8 := [180, 0, 11, 28, 184, 0, 59, 181, 0, 11, 42, 3, 181, 0, 24, 177]
abbrev dktJ12_ensureCapacity_1 : List UInt8 := dkwJ12_ensureCapacity_1 ++ []
def dkwJ12_ensureCapacity_0 : List UInt8 := [42, 180, 0, 11, 190, 27, 162, 0, 32, 5, 42, 180, 0, 11, 190, 104, 27, 184, 0, 133, 61, 42, 42]
abbrev dktJ12_ensureCapacity_0 : List UInt8 := dkwJ12_ensureCapacity_0 ++ dktJ12_ensureCapacity_1
theorem dksJ12_ensureCapacity_0 : cJ12_ensureCapacity.data.toList.drop 0 = dktJ12_ensureCapacity_0 := by decide +kernel
theorem dksJ12_ensureCapacity_1 : cJ12_ensureCapacity.data.toList.drop 23 = dktJ12_ensureCapacity_1 := dk_seg dksJ12_ensureCapacity_0 23 rfl rfl
theorem dJ12_ensureCapacity_0 : decode cJ12_ensureCapacity 0 = .ok (.aload_n 0, 1) := dk_42 (dk_at dksJ12_ensureCapacity_0 0 rfl rfl)
theorem dJ12_ensureCapacity_1 : decode cJ12_ensureCapacity 1 = .ok (.getfield 11, 3) := dk_180 0 11 (dk_at dksJ12_ensureCapacity_0 1 rfl rfl)
theorem dJ12_ensureCapacity_4 : decode cJ12_ensureCapacity 4 = .ok (.arraylength, 1) := dk_190 (dk_at dksJ12_ensureCapacity_0 4 rfl rfl)
theorem dJ12_ensureCapacity_5 : decode cJ12_ensureCapacity 5 = .ok (.iload_n 1, 1) := dk_27 (dk_at dksJ12_ensureCapacity_0 5 rfl rfl)
theorem dJ12_ensureCapacity_6 : decode cJ12_ensureCapacity 6 = .ok (.if_icmp .ge 32, 3) := dk_162 0 32 (dk_at dksJ12_ensureCapacity_0 6 rfl rfl)
theorem dJ12_ensureCapacity_9 : decode cJ12_ensureCapacity 9 = .ok (.iconst 2, 1) := dk_5 (dk_at dksJ12_ensureCapacity_0 9 rfl rfl)
theorem dJ12_ensureCapacity_10 : decode cJ12_ensureCapacity 10 = .ok (.aload_n 0, 1) := dk_42 (dk_at dksJ12_ensureCapacity_0 10 rfl rfl)
theorem dJ12_ensureCapacity_11 : decode cJ12_ensureCapacity 11 = .ok (.getfield 11, 3) := dk_180 0 11 (dk_at dksJ12_ensureCapacity_0 11 rfl rfl)
theorem dJ12_ensureCapacity_14 : decode cJ12_ensureCapacity 14 = .ok (.arraylength, 1) := dk_190 (dk_at dksJ12_ensureCapacity_0 14 rfl rfl)
theorem dJ12_ensureCapacity_15 : decode cJ12_ensureCapacity 15 = .ok (.imul, 1) := dk_104 (dk_at dksJ12_ensureCapacity_0 15 rfl rfl)
theorem dJ12_ensureCapacity_16 : decode cJ12_ensureCapacity 16 = .ok (.iload_n 1, 1) := dk_27 (dk_at dksJ12_ensureCapacity_0 16 rfl rfl)
theorem dJ12_ensureCapacity_17 : decode cJ12_ensureCapacity 17 = .ok (.invokestatic 133, 3) := dk_184 0 133 (dk_at dksJ12_ensureCapacity_0 17 rfl rfl)
theorem dJ12_ensureCapacity_20 : decode cJ12_ensureCapacity 20 = .ok (.istore_n 2, 1) := dk_61 (dk_at dksJ12_ensureCapacity_0 20 rfl rfl)
theorem dJ12_ensureCapacity_21 : decode cJ12_ensureCapacity 21 = .ok (.aload_n 0, 1) := dk_42 (dk_at dksJ12_ensureCapacity_0 21 rfl rfl)
theorem dJ12_ensureCapacity_22 : decode cJ12_ensureCapacity 22 = .ok (.aload_n 0, 1) := dk_42 (dk_at dksJ12_ensureCapacity_0 22 rfl rfl)
theorem dJ12_ensureCapacity_23 : decode cJ12_ensureCapacity 23 = .ok (.getfield 11, 3) := dk_180 0 11 (dk_at dksJ12_ensureCapacity_1 0 rfl rfl)
theorem dJ12_ensureCapacity_26 : decode cJ12_ensureCapacity 26 = .ok (.iload_n 2, 1) := dk_28 (dk_at dksJ12_ensureCapacity_1 3 rfl rfl)
theorem dJ12_ensureCapacity_27 : decode cJ12_ensureCapacity 27 = .ok (.invokestatic 59, 3) := dk_184 0 59 (dk_at dksJ12_ensureCapacity_1 4 rfl rfl)
theorem dJ12_ensureCapacity_30 : decode cJ12_ensureCapacity 30 = .ok (.putfield 11, 3) := dk_181 0 11 (dk_at dksJ12_ensureCapacity_1 7 rfl rfl)
theorem dJ12_ensureCapacity_33 : decode cJ12_ensureCapacity 33 = .ok (.aload_n 0, 1) := dk_42 (dk_at dksJ12_ensureCapacity_1 10 rfl rfl)
theorem dJ12_ensureCapacity_34 : decode cJ12_ensureCapacity 34 = .ok (.iconst 0, 1) := dk_3 (dk_at dksJ12_ensureCapacity_1 11 rfl rfl)
theorem dJ12_ensureCapacity_35 : decode cJ12_ensureCapacity 35 = .ok (.putfield 24, 3) := dk_181 0 24 (dk_at dksJ12_ensureCapacity_1 12 rfl rfl)
theorem dJ12_ensureCapacity_38 : decode cJ12_ensureCapacity 38 = .ok (.return_, 1) := dk_177 (dk_at dksJ12_ensureCapacity_1 15 rfl rfl)
abbrev cJ12_cardinality : ByteArray := prog_62_method_35_code
def yJ12_cardinality : MethodName := ⟨RJ12, "cardinality", "()I"⟩
def dkwJ12_cardinality_1 : List UInt8 := [132, 2, 1, 167, 255, 233, 27, 172]
abbrev dktJ12_cardinality_1 : List UInt8 := dkwJ12_cardinality_1 ++ []
def dkwJ12_cardinality_0 : List UInt8 := [3, 60, 3, 61, 28, 42, 180, 0, 7, 162, 0, 21, 27, 42, 180, 0, 11, 28, 47, 184, 0, 196, 96, 60]
abbrev dktJ12_cardinality_0 : List UInt8 := dkwJ12_cardinality_0 ++ dktJ12_cardinality_1
theorem dksJ12_cardinality_0 : cJ12_cardinality.data.toList.drop 0 = dktJ12_cardinality_0 := by decide +kernel
theorem dksJ12_cardinality_1 : cJ12_cardinality.data.toList.drop 24 = dktJ12_cardinality_1 := dk_seg dksJ12_cardinality_0 24 rfl rfl
theorem dJ12_cardinality_0 : decode cJ12_cardinality 0 = .ok (.iconst 0, 1) := dk_3 (dk_at dksJ12_cardinality_0 0 rfl rfl)
theorem dJ12_cardinality_1 : decode cJ12_cardinality 1 = .ok (.istore_n 1, 1) := dk_60 (dk_at dksJ12_cardinality_0 1 rfl rfl)
theorem dJ12_cardinality_2 : decode cJ12_cardinality 2 = .ok (.iconst 0, 1) := dk_3 (dk_at dksJ12_cardinality_0 2 rfl rfl)
theorem dJ12_cardinality_3 : decode cJ12_cardinality 3 = .ok (.istore_n 2, 1) := dk_61 (dk_at dksJ12_cardinality_0 3 rfl rfl)
theorem dJ12_cardinality_4 : decode cJ12_cardinality 4 = .ok (.iload_n 2, 1) := dk_28 (dk_at dksJ12_cardinality_0 4 rfl rfl)
theorem dJ12_cardinality_5 : decode cJ12_cardinality 5 = .ok (.aload_n 0, 1) := dk_42 (dk_at dksJ12_cardinality_0 5 rfl rfl)
theorem dJ12_cardinality_6 : decode cJ12_cardinality 6 = .ok (.getfield 7, 3) := dk_180 0 7 (dk_at dksJ12_cardinality_0 6 rfl rfl)
theorem dJ12_cardinality_9 : decode cJ12_cardinality 9 = .ok (.if_icmp .ge 21, 3) := dk_162 0 21 (dk_at dksJ12_cardinality_0 9 rfl rfl)
theorem dJ12_cardinality_12 : decode cJ12_cardinality 12 = .ok (.iload_n 1, 1) := dk_27 (dk_at dksJ12_cardinality_0 12 rfl rfl)
theorem dJ12_cardinality_13 : decode cJ12_cardinality 13 = .ok (.aload_n 0, 1) := dk_42 (dk_at dksJ12_cardinality_0 13 rfl rfl)
theorem dJ12_cardinality_14 : decode cJ12_cardinality 14 = .ok (.getfield 11, 3) := dk_180 0 11 (dk_at dksJ12_cardinality_0 14 rfl rfl)
theorem dJ12_cardinality_17 : decode cJ12_cardinality 17 = .ok (.iload_n 2, 1) := dk_28 (dk_at dksJ12_cardinality_0 17 rfl rfl)
theorem dJ12_cardinality_18 : decode cJ12_cardinality 18 = .ok (.laload, 1) := dk_47 (dk_at dksJ12_cardinality_0 18 rfl rfl)
theorem dJ12_cardinality_19 : decode cJ12_cardinality 19 = .ok (.invokestatic 196, 3) := dk_184 0 196 (dk_at dksJ12_cardinality_0 19 rfl rfl)
theorem dJ12_cardinality_22 : decode cJ12_cardinality 22 = .ok (.iadd, 1) := dk_96 (dk_at dksJ12_cardinality_0 22 rfl rfl)
theorem dJ12_cardinality_23 : decode cJ12_cardinality 23 = .ok (.istore_n 1, 1) := dk_60 (dk_at dksJ12_cardinality_0 23 rfl rfl)
theorem dJ12_cardinality_24 : decode cJ12_cardinality 24 = .ok (.iinc 2 1, 3) := dk_132 2 1 (dk_at dksJ12_cardinality_1 0 rfl rfl)
theorem dJ12_cardinality_27 : decode cJ12_cardinality 27 = .ok (.goto (-23), 3) := dk_167 255 233 (dk_at dksJ12_cardinality_1 3 rfl rfl)
theorem dJ12_cardinality_30 : decode cJ12_cardinality 30 = .ok (.iload_n 1, 1) := dk_27 (dk_at dksJ12_cardinality_1 6 rfl rfl)
theorem dJ12_cardinality_31 : decode cJ12_cardinality 31 = .ok (.ireturn, 1) := dk_172 (dk_at dksJ12_cardinality_1 7 rfl rfl)
theorem q196 : (Jvm.Cond.initialized "java/util/BitSet") ∈ lw_all := lw_g (lw_at lw_m1 20 rfl) rfl
theorem q430 : (Jvm.Cond.selects "java/util/BitSet" ({ cls := "java/lang/Object", name := "getClass", desc := "()Ljava/lang/Class;" } : Jvm.MethodName) ({ cls := "java/lang/Object", name := "getClass", desc := "()Ljava/lang/Class;" } : Jvm.MethodName)) ∈ lw_all := lw_g (lw_at lw_m2 14 rfl) rfl
theorem q620 : (Jvm.Cond.instantiable "java/util/BitSet" (3 : Nat)) ∈ lw_all := lw_g (lw_at lw_m2 204 rfl) rfl
theorem q622 : (Jvm.Cond.instanceMethod ({ cls := "java/util/BitSet", name := "<init>", desc := "()V" } : Jvm.MethodName)) ∈ lw_all := lw_g (lw_at lw_m2 206 rfl) rfl
theorem q623 : (Jvm.Cond.code ({ cls := "java/util/BitSet", name := "<init>", desc := "()V" } : Jvm.MethodName) prog_62_method_4_code (1 : Nat) (Option.none : Option Jvm.ClassFile.FieldType)) ∈ lw_all := lw_g (lw_at lw_m2 207 rfl) rfl
theorem q624 : (Jvm.Cond.methodLink "java/util/BitSet" (21 : Nat) ({ cls := "java/lang/Object", name := "<init>", desc := "()V" } : Jvm.MethodName)) ∈ lw_all := lw_g (lw_at lw_m2 208 rfl) rfl
theorem q625 : (Jvm.Cond.methodLink "java/util/BitSet" (27 : Nat) ({ cls := "java/util/BitSet", name := "initWords", desc := "(I)V" } : Jvm.MethodName)) ∈ lw_all := lw_g (lw_at lw_m2 209 rfl) rfl
theorem q626 : (Jvm.Cond.privateMethod ({ cls := "java/util/BitSet", name := "initWords", desc := "(I)V" } : Jvm.MethodName)) ∈ lw_tbl := lw_at lw_m2 210 rfl
theorem q627 : (Jvm.Cond.instanceMethod ({ cls := "java/util/BitSet", name := "initWords", desc := "(I)V" } : Jvm.MethodName)) ∈ lw_all := lw_g (lw_at lw_m2 211 rfl) rfl
theorem q628 : (Jvm.Cond.code ({ cls := "java/util/BitSet", name := "initWords", desc := "(I)V" } : Jvm.MethodName) prog_62_method_6_code (2 : Nat) (Option.none : Option Jvm.ClassFile.FieldType)) ∈ lw_all := lw_g (lw_at lw_m2 212 rfl) rfl
theorem q629 : (Jvm.Cond.methodLink "java/util/BitSet" (52 : Nat) ({ cls := "java/util/BitSet", name := "wordIndex", desc := "(I)I" } : Jvm.MethodName)) ∈ lw_all := lw_g (lw_at lw_m2 213 rfl) rfl
theorem q630 : (Jvm.Cond.static ({ cls := "java/util/BitSet", name := "wordIndex", desc := "(I)I" } : Jvm.MethodName)) ∈ lw_all := lw_g (lw_at lw_m2 214 rfl) rfl
theorem q631 : (Jvm.Cond.code ({ cls := "java/util/BitSet", name := "wordIndex", desc := "(I)I" } : Jvm.MethodName) prog_62_method_1_code (1 : Nat) (Option.some Jvm.ClassFile.FieldType.int)) ∈ lw_all := lw_g (lw_at lw_m2 215 rfl) rfl
theorem q632 : (Jvm.Cond.fieldLink "java/util/BitSet" (11 : Nat) "java/util/BitSet" "words" "[J") ∈ lw_all := lw_g (lw_at lw_m2 216 rfl) rfl
theorem q633 : (Jvm.Cond.fieldLink "java/util/BitSet" (7 : Nat) "java/util/BitSet" "wordsInUse" "I") ∈ lw_all := lw_g (lw_at lw_m2 217 rfl) rfl
theorem q634 : (Jvm.Cond.fieldLink "java/util/BitSet" (24 : Nat) "java/util/BitSet" "sizeIsSticky" "Z") ∈ lw_all := lw_g (lw_at lw_m2 218 rfl) rfl
theorem q635 : (Jvm.Cond.lays "java/util/BitSet" "java/util/BitSet" "words" "[J") ∈ lw_all := lw_g (lw_at lw_m2 219 rfl) rfl
theorem q636 : (Jvm.Cond.soleField "java/util/BitSet" "words") ∈ lw_all := lw_g (lw_at lw_m2 220 rfl) rfl
theorem q637 : (Jvm.Cond.lays "java/util/BitSet" "java/util/BitSet" "wordsInUse" "I") ∈ lw_all := lw_g (lw_at lw_m2 221 rfl) rfl
theorem q638 : (Jvm.Cond.soleField "java/util/BitSet" "wordsInUse") ∈ lw_all := lw_g (lw_at lw_m2 222 rfl) rfl
theorem q639 : (Jvm.Cond.lays "java/util/BitSet" "java/util/BitSet" "sizeIsSticky" "Z") ∈ lw_all := lw_g (lw_at lw_m2 223 rfl) rfl
theorem q640 : (Jvm.Cond.soleField "java/util/BitSet" "sizeIsSticky") ∈ lw_all := lw_g (lw_at lw_m2 224 rfl) rfl
theorem q641 : (Jvm.Cond.superclass "java/util/BitSet" "java/lang/Object") ∈ lw_all := lw_g (lw_at lw_m2 225 rfl) rfl
theorem q1106 : (Jvm.Cond.instanceMethod ({ cls := "java/util/BitSet", name := "get", desc := "(I)Z" } : Jvm.MethodName)) ∈ lw_all := lw_g (lw_at lw_m4 210 rfl) rfl
theorem q1107 : (Jvm.Cond.selects "java/util/BitSet" ({ cls := "java/util/BitSet", name := "get", desc := "(I)Z" } : Jvm.MethodName) ({ cls := "java/util/BitSet", name := "get", desc := "(I)Z" } : Jvm.MethodName)) ∈ lw_all := lw_g (lw_at lw_m4 211 rfl) rfl
theorem q1108 : (Jvm.Cond.code ({ cls := "java/util/BitSet", name := "get", desc := "(I)Z" } : Jvm.MethodName) prog_62_method_26_code (3 : Nat) (Option.some Jvm.ClassFile.FieldType.boolean)) ∈ lw_all := lw_g (lw_at lw_m4 212 rfl) rfl
theorem q1109 : (Jvm.Cond.classLink "java/util/BitSet" (142 : Nat) "java/lang/IndexOutOfBoundsException") ∈ lw_all := lw_g (lw_at lw_m4 213 rfl) rfl
theorem q1118 : (Jvm.Cond.classLink "java/util/BitSet" (33 : Nat) "java/lang/StringBuilder") ∈ lw_all := lw_g (lw_at lw_m4 222 rfl) rfl
theorem q1119 : (Jvm.Cond.methodLink "java/util/BitSet" (35 : Nat) ({ cls := "java/lang/StringBuilder", name := "<init>", desc := "()V" } : Jvm.MethodName)) ∈ lw_all := lw_g (lw_at lw_m4 223 rfl) rfl
theorem q1120 : (Jvm.Cond.stringRef "java/util/BitSet" (153 : Nat) "bitIndex < 0: ") ∈ lw_tbl := lw_at lw_m4 224 rfl
theorem q1121 : (Jvm.Cond.methodLink "java/util/BitSet" (38 : Nat) ({ cls := "java/lang/StringBuilder", name := "append", desc := "(Ljava/lang/String;)Ljava/lang/StringBuilder;" } : Jvm.MethodName)) ∈ lw_all := lw_g (lw_at lw_m4 225 rfl) rfl
theorem q1122 : (Jvm.Cond.methodLink "java/util/BitSet" (42 : Nat) ({ cls := "java/lang/StringBuilder", name := "append", desc := "(I)Ljava/lang/StringBuilder;" } : Jvm.MethodName)) ∈ lw_all := lw_g (lw_at lw_m4 226 rfl) rfl
theorem q1123 : (Jvm.Cond.methodLink "java/util/BitSet" (45 : Nat) ({ cls := "java/lang/StringBuilder", name := "toString", desc := "()Ljava/lang/String;" } : Jvm.MethodName)) ∈ lw_all := lw_g (lw_at lw_m4 227 rfl) rfl
theorem q1124 : (Jvm.Cond.methodLink "java/util/BitSet" (146 : Nat) ({ cls := "java/lang/IndexOutOfBoundsException", name := "<init>", desc := "(Ljava/lang/String;)V" } : Jvm.MethodName)) ∈ lw_all := lw_g (lw_at lw_m4 228 rfl) rfl
theorem q1130 : (Jvm.Cond.methodLink "java/util/BitSet" (56 : Nat) ({ cls := "java/util/BitSet", name := "checkInvariants", desc := "()V" } : Jvm.MethodName)) ∈ lw_all := lw_g (lw_at lw_m4 234 rfl) rfl
theorem q1131 : (Jvm.Cond.privateMethod ({ cls := "java/util/BitSet", name := "checkInvariants", desc := "()V" } : Jvm.MethodName)) ∈ lw_tbl := lw_at lw_m4 235 rfl
theorem q1132 : (Jvm.Cond.instanceMethod ({ cls := "java/util/BitSet", name := "checkInvariants", desc := "()V" } : Jvm.MethodName)) ∈ lw_all := lw_g (lw_at lw_m4 236 rfl) rfl
theorem q1133 : (Jvm.Cond.code ({ cls := "java/util/BitSet", name := "checkInvariants", desc := "()V" } : Jvm.MethodName) prog_62_method_2_code (1 : Nat) (Option.none : Option Jvm.ClassFile.FieldType)) ∈ lw_all := lw_g (lw_at lw_m4 237 rfl) rfl
theorem q1134 : (Jvm.Cond.fieldLink "java/util/BitSet" (3 : Nat) "java/util/BitSet" "$assertionsDisabled" "Z") ∈ lw_all := lw_g (lw_at lw_m4 238 rfl) rfl
theorem q1135 : (Jvm.Cond.laysStatic "java/util/BitSet" "$assertionsDisabled" "Z") ∈ lw_tbl := lw_at lw_m4 239 rfl
theorem q1137 : (Jvm.Cond.instanceMethod ({ cls := "java/util/BitSet", name := "set", desc := "(I)V" } : Jvm.MethodName)) ∈ lw_all := lw_g (lw_at lw_m5 1 rfl) rfl
theorem q1138 : (Jvm.Cond.selects "java/util/BitSet" ({ cls := "java/util/BitSet", name := "set", desc := "(I)V" } : Jvm.MethodName) ({ cls := "java/util/BitSet", name := "set", desc := "(I)V" } : Jvm.MethodName)) ∈ lw_all := lw_g (lw_at lw_m5 2 rfl) rfl
theorem q1139 : (Jvm.Cond.code ({ cls := "java/util/BitSet", name := "set", desc := "(I)V" } : Jvm.MethodName) prog_62_method_19_code (3 : Nat) (Option.none : Option Jvm.ClassFile.FieldType)) ∈ lw_all := lw_g (lw_at lw_m5 3 rfl) rfl
theorem q1140 : (Jvm.Cond.methodLink "java/util/BitSet" (155 : Nat) ({ cls := "java/util/BitSet", name := "expandTo", desc := "(I)V" } : Jvm.MethodName)) ∈ lw_all := lw_g (lw_at lw_m5 4 rfl) rfl
theorem q1141 : (Jvm.Cond.privateMethod ({ cls := "java/util/BitSet", name := "expandTo", desc := "(I)V" } : Jvm.MethodName)) ∈ lw_tbl := lw_at lw_m5 5 rfl
theorem q1142 : (Jvm.Cond.instanceMethod ({ cls := "java/util/BitSet", name := "expandTo", desc := "(I)V" } : Jvm.MethodName)) ∈ lw_all := lw_g (lw_at lw_m5 6 rfl) rfl
theorem q1143 : (Jvm.Cond.code ({ cls := "java/util/BitSet", name := "expandTo", desc := "(I)V" } : Jvm.MethodName) prog_62_method_15_code (3 : Nat) (Option.none : Option Jvm.ClassFile.FieldType)) ∈ lw_all := lw_g (lw_at lw_m5 7 rfl) rfl
theorem q1144 : (Jvm.Cond.methodLink "java/util/BitSet" (139 : Nat) ({ cls := "java/util/BitSet", name := "ensureCapacity", desc := "(I)V" } : Jvm.MethodName)) ∈ lw_all := lw_g (lw_at lw_m5 8 rfl) rfl
theorem q1145 : (Jvm.Cond.privateMethod ({ cls := "java/util/BitSet", name := "ensureCapacity", desc := "(I)V" } : Jvm.MethodName)) ∈ lw_tbl := lw_at lw_m5 9 rfl
theorem q1146 : (Jvm.Cond.instanceMethod ({ cls := "java/util/BitSet", name := "ensureCapacity", desc := "(I)V" } : Jvm.MethodName)) ∈ lw_all := lw_g (lw_at lw_m5 10 rfl) rfl
theorem q1147 : (Jvm.Cond.code ({ cls := "java/util/BitSet", name := "ensureCapacity", desc := "(I)V" } : Jvm.MethodName) prog_62_method_14_code (3 : Nat) (Option.none : Option Jvm.ClassFile.FieldType)) ∈ lw_all := lw_g (lw_at lw_m5 11 rfl) rfl
theorem q1148 : (Jvm.Cond.methodLink "java/util/BitSet" (133 : Nat) ({ cls := "java/lang/Math", name := "max", desc := "(II)I" } : Jvm.MethodName)) ∈ lw_all := lw_g (lw_at lw_m5 12 rfl) rfl
theorem q1149 : (Jvm.Cond.methodLink "java/util/BitSet" (59 : Nat) ({ cls := "java/util/Arrays", name := "copyOf", desc := "([JI)[J" } : Jvm.MethodName)) ∈ lw_all := lw_g (lw_at lw_m5 13 rfl) rfl
theorem q3089 : (Jvm.Cond.instanceMethod ({ cls := "java/util/BitSet", name := "cardinality", desc := "()I" } : Jvm.MethodName)) ∈ lw_all := lw_g (lw_at lw_m13 33 rfl) rfl
theorem q3090 : (Jvm.Cond.selects "java/util/BitSet" ({ cls := "java/util/BitSet", name := "cardinality", desc := "()I" } : Jvm.MethodName) ({ cls := "java/util/BitSet", name := "cardinality", desc := "()I" } : Jvm.MethodName)) ∈ lw_all := lw_g (lw_at lw_m13 34 rfl) rfl
theorem q3091 : (Jvm.Cond.code ({ cls := "java/util/BitSet", name := "cardinality", desc := "()I" } : Jvm.MethodName) prog_62_method_35_code (3 : Nat) (Option.some Jvm.ClassFile.FieldType.int)) ∈ lw_all := lw_g (lw_at lw_m13 35 rfl) rfl
theorem q3092 : (Jvm.Cond.methodLink "java/util/BitSet" (196 : Nat) ({ cls := "java/lang/Long", name := "bitCount", desc := "(J)I" } : Jvm.MethodName)) ∈ lw_all := lw_g (lw_at lw_m13 36 rfl) rfl
theorem q4489 : (Jvm.Cond.castable "java/util/BitSet" "java/lang/Object") ∈ lw_tbl := lw_at lw_m18 233 rfl
theorem in_J12 : ∀ w ∈ wsJ120, w ∈ lw_all := lw_in wsJ120 [635, 637, 639] (by decide +kernel) (by decide +kernel)

/-! java/lang/StringLatin1 -/
set_option maxRecDepth 100000
def RJ13 : String := "java/lang/StringLatin1"
abbrev cJ13_canEncode : ByteArray := prog_42_method_3_code
def yJ13_canEncode : MethodName := ⟨RJ13, "canEncode", "(C)Z"⟩
def dkwJ13_canEncode_0 : List UInt8 := [26, 17, 0, 255, 163, 0, 7, 4, 167, 0, 4, 3, 172]
abbrev dktJ13_canEncode_0 : List UInt8 := dkwJ13_canEncode_0 ++ []
theorem dksJ13_canEncode_0 : cJ13_canEncode.data.toList.drop 0 = dktJ13_canEncode_0 := by decide +kernel
theorem dJ13_canEncode_0 : decode cJ13_canEncode 0 = .ok (.iload_n 0, 1) := dk_26 (dk_at dksJ13_canEncode_0 0 rfl rfl)
theorem dJ13_canEncode_1 : decode cJ13_canEncode 1 = .ok (.sipush 255, 3) := dk_17 0 255 (dk_at dksJ13_canEncode_0 1 rfl rfl)
theorem dJ13_canEncode_4 : decode cJ13_canEncode 4 = .ok (.if_icmp .gt 7, 3) := dk_163 0 7 (dk_at dksJ13_canEncode_0 4 rfl rfl)
theorem dJ13_canEncode_7 : decode cJ13_canEncode 7 = .ok (.iconst 1, 1) := dk_4 (dk_at dksJ13_canEncode_0 7 rfl rfl)
theorem dJ13_canEncode_8 : decode cJ13_canEncode 8 = .ok (.goto 4, 3) := dk_167 0 4 (dk_at dksJ13_canEncode_0 8 rfl rfl)
theorem dJ13_canEncode_11 : decode cJ13_canEncode 11 = .ok (.iconst 0, 1) := dk_3 (dk_at dksJ13_canEncode_0 11 rfl rfl)
theorem dJ13_canEncode_12 : decode cJ13_canEncode 12 = .ok (.ireturn, 1) := dk_172 (dk_at dksJ13_canEncode_0 12 rfl rfl)
abbrev cJ13_inflate : ByteArray := prog_42_method_50_code
def yJ13_inflate : MethodName := ⟨RJ13, "inflate", "([BI[BII)V"⟩
def dkwJ13_inflate_0 : List UInt8 := [42, 27, 44, 29, 21, 4, 184, 0, 240, 177]
abbrev dktJ13_inflate_0 : List UInt8 := dkwJ13_inflate_0 ++ []
theorem dksJ13_inflate_0 : cJ13_inflate.data.toList.drop 0 = dktJ13_inflate_0 := by decide +kernel
theorem dJ13_inflate_0 : decode cJ13_inflate 0 = .ok (.aload_n 0, 1) := dk_42 (dk_at dksJ13_inflate_0 0 rfl rfl)
theorem dJ13_inflate_1 : decode cJ13_inflate 1 = .ok (.iload_n 1, 1) := dk_27 (dk_at dksJ13_inflate_0 1 rfl rfl)
theorem dJ13_inflate_2 : decode cJ13_inflate 2 = .ok (.aload_n 2, 1) := dk_44 (dk_at dksJ13_inflate_0 2 rfl rfl)
theorem dJ13_inflate_3 : decode cJ13_inflate 3 = .ok (.iload_n 3, 1) := dk_29 (dk_at dksJ13_inflate_0 3 rfl rfl)
theorem dJ13_inflate_4 : decode cJ13_inflate 4 = .ok (.iload 4, 2) := dk_21 4 (dk_at dksJ13_inflate_0 4 rfl rfl)
theorem dJ13_inflate_6 : decode cJ13_inflate 6 = .ok (.invokestatic 240, 3) := dk_184 0 240 (dk_at dksJ13_inflate_0 6 rfl rfl)
theorem dJ13_inflate_9 : decode cJ13_inflate 9 = .ok (.return_, 1) := dk_177 (dk_at dksJ13_inflate_0 9 rfl rfl)
abbrev cJ13_equals : ByteArray := prog_42_method_13_code
def yJ13_equals : MethodName := ⟨RJ13, "equals", "([B[B)Z"⟩
def dkwJ13_equals_1 : List UInt8 := [3, 172, 132, 2, 1, 167, 255, 236, 4, 172, 3, 172]
abbrev dktJ13_equals_1 : List UInt8 := dkwJ13_equals_1 ++ []
def dkwJ13_equals_0 : List UInt8 := [42, 190, 43, 190, 160, 0, 30, 3, 61, 28, 42, 190, 162, 0, 20, 42, 28, 51, 43, 28, 51, 159, 0, 5]
abbrev dktJ13_equals_0 : List UInt8 := dkwJ13_equals_0 ++ dktJ13_equals_1
theorem dksJ13_equals_0 : cJ13_equals.data.toList.drop 0 = dktJ13_equals_0 := by decide +kernel
theorem dksJ13_equals_1 : cJ13_equals.data.toList.drop 24 = dktJ13_equals_1 := dk_seg dksJ13_equals_0 24 rfl rfl
theorem dJ13_equals_0 : decode cJ13_equals 0 = .ok (.aload_n 0, 1) := dk_42 (dk_at dksJ13_equals_0 0 rfl rfl)
theorem dJ13_equals_1 : decode cJ13_equals 1 = .ok (.arraylength, 1) := dk_190 (dk_at dksJ13_equals_0 1 rfl rfl)
theorem dJ13_equals_2 : decode cJ13_equals 2 = .ok (.aload_n 1, 1) := dk_43 (dk_at dksJ13_equals_0 2 rfl rfl)
theorem dJ13_equals_3 : decode cJ13_equals 3 = .ok (.arraylength, 1) := dk_190 (dk_at dksJ13_equals_0 3 rfl rfl)
theorem dJ13_equals_4 : decode cJ13_equals 4 = .ok (.if_icmp .ne 30, 3) := dk_160 0 30 (dk_at dksJ13_equals_0 4 rfl rfl)
theorem dJ13_equals_7 : decode cJ13_equals 7 = .ok (.iconst 0, 1) := dk_3 (dk_at dksJ13_equals_0 7 rfl rfl)
theorem dJ13_equals_8 : decode cJ13_equals 8 = .ok (.istore_n 2, 1) := dk_61 (dk_at dksJ13_equals_0 8 rfl rfl)
theorem dJ13_equals_9 : decode cJ13_equals 9 = .ok (.iload_n 2, 1) := dk_28 (dk_at dksJ13_equals_0 9 rfl rfl)
theorem dJ13_equals_10 : decode cJ13_equals 10 = .ok (.aload_n 0, 1) := dk_42 (dk_at dksJ13_equals_0 10 rfl rfl)
theorem dJ13_equals_11 : decode cJ13_equals 11 = .ok (.arraylength, 1) := dk_190 (dk_at dksJ13_equals_0 11 rfl rfl)
theorem dJ13_equals_12 : decode cJ13_equals 12 = .ok (.if_icmp .ge 20, 3) := dk_162 0 20 (dk_at dksJ13_equals_0 12 rfl rfl)
theorem dJ13_equals_15 : decode cJ13_equals 15 = .ok (.aload_n 0, 1) := dk_42 (dk_at dksJ13_equals_0 15 rfl rfl)
theorem dJ13_equals_16 : decode cJ13_equals 16 = .ok (.iload_n 2, 1) := dk_28 (dk_at dksJ13_equals_0 16 rfl rfl)
theorem dJ13_equals_17 : decode cJ13_equals 17 = .ok (.baload, 1) := dk_51 (dk_at dksJ13_equals_0 17 rfl rfl)
theorem dJ13_equals_18 : decode cJ13_equals 18 = .ok (.aload_n 1, 1) := dk_43 (dk_at dksJ13_equals_0 18 rfl rfl)
theorem dJ13_equals_19 : decode cJ13_equals 19 = .ok (.iload_n 2, 1) := dk_28 (dk_at dksJ13_equals_0 19 rfl rfl)
theorem dJ13_equals_20 : decode cJ13_equals 20 = .ok (.baload, 1) := dk_51 (dk_at dksJ13_equals_0 20 rfl rfl)
theorem dJ13_equals_21 : decode cJ13_equals 21 = .ok (.if_icmp .eq 5, 3) := dk_159 0 5 (dk_at dksJ13_equals_0 21 rfl rfl)
theorem dJ13_equals_24 : decode cJ13_equals 24 = .ok (.iconst 0, 1) := dk_3 (dk_at dksJ13_equals_1 0 rfl rfl)
theorem dJ13_equals_25 : decode cJ13_equals 25 = .ok (.ireturn, 1) := dk_172 (dk_at dksJ13_equals_1 1 rfl rfl)
theorem dJ13_equals_26 : decode cJ13_equals 26 = .ok (.iinc 2 1, 3) := dk_132 2 1 (dk_at dksJ13_equals_1 2 rfl rfl)
theorem dJ13_equals_29 : decode cJ13_equals 29 = .ok (.goto (-20), 3) := dk_167 255 236 (dk_at dksJ13_equals_1 5 rfl rfl)
theorem dJ13_equals_32 : decode cJ13_equals 32 = .ok (.iconst 1, 1) := dk_4 (dk_at dksJ13_equals_1 8 rfl rfl)
theorem dJ13_equals_33 : decode cJ13_equals 33 = .ok (.ireturn, 1) := dk_172 (dk_at dksJ13_equals_1 9 rfl rfl)
theorem dJ13_equals_34 : decode cJ13_equals 34 = .ok (.iconst 0, 1) := dk_3 (dk_at dksJ13_equals_1 10 rfl rfl)
theorem dJ13_equals_35 : decode cJ13_equals 35 = .ok (.ireturn, 1) := dk_172 (dk_at dksJ13_equals_1 11 rfl rfl)
abbrev cJ13_hashCode : ByteArray := prog_42_method_21_code
def yJ13_hashCode : MethodName := ⟨RJ13, "hashCode", "([B)I"⟩
def dkwJ13_hashCode_2 : List UInt8 := [3, 167, 0, 22, 42, 3, 51, 17, 0, 255, 126, 167, 0, 12, 42, 3, 42, 190, 3, 7, 184, 0, 84, 172]
abbrev dktJ13_hashCode_2 : List UInt8 := dkwJ13_hashCode_2 ++ []
def dkwJ13_hashCode_1 : List UInt8 := [171, 0, 0, 0, 0, 40, 0, 0, 0, 2, 0, 0, 0, 0, 0, 0, 0, 26, 0, 0, 0, 1, 0, 0, 0, 30]
abbrev dktJ13_hashCode_1 : List UInt8 := dkwJ13_hashCode_1 ++ dktJ13_hashCode_2
def dkwJ13_hashCode_0 : List UInt8 := [42, 190]
abbrev dktJ13_hashCode_0 : List UInt8 := dkwJ13_hashCode_0 ++ dktJ13_hashCode_1
theorem dksJ13_hashCode_0 : cJ13_hashCode.data.toList.drop 0 = dktJ13_hashCode_0 := by decide +kernel
theorem dksJ13_hashCode_1 : cJ13_hashCode.data.toList.drop 2 = dktJ13_hashCode_1 := dk_seg dksJ13_hashCode_0 2 rfl rfl
theorem dksJ13_hashCode_2 : cJ13_hashCode.data.toList.drop 28 = dktJ13_hashCode_2 := dk_seg dksJ13_hashCode_1 26 rfl rfl
theorem dJ13_hashCode_0 : decode cJ13_hashCode 0 = .ok (.aload_n 0, 1) := dk_42 (dk_at dksJ13_hashCode_0 0 rfl rfl)
theorem dJ13_hashCode_1 : decode cJ13_hashCode 1 = .ok (.arraylength, 1) := dk_190 (dk_at dksJ13_hashCode_0 1 rfl rfl)
theorem dJ13_hashCode_2 : decode cJ13_hashCode 2 = .ok (.lookupswitch 40 #[(0, 26), (1, 30)], 26) := by decide +kernel
theorem dJ13_hashCode_28 : decode cJ13_hashCode 28 = .ok (.iconst 0, 1) := dk_3 (dk_at dksJ13_hashCode_2 0 rfl rfl)
theorem dJ13_hashCode_29 : decode cJ13_hashCode 29 = .ok (.goto 22, 3) := dk_167 0 22 (dk_at dksJ13_hashCode_2 1 rfl rfl)
theorem dJ13_hashCode_32 : decode cJ13_hashCode 32 = .ok (.aload_n 0, 1) := dk_42 (dk_at dksJ13_hashCode_2 4 rfl rfl)
theorem dJ13_hashCode_33 : decode cJ13_hashCode 33 = .ok (.iconst 0, 1) := dk_3 (dk_at dksJ13_hashCode_2 5 rfl rfl)
theorem dJ13_hashCode_34 : decode cJ13_hashCode 34 = .ok (.baload, 1) := dk_51 (dk_at dksJ13_hashCode_2 6 rfl rfl)
theorem dJ13_hashCode_35 : decode cJ13_hashCode 35 = .ok (.sipush 255, 3) := dk_17 0 255 (dk_at dksJ13_hashCode_2 7 rfl rfl)
theorem dJ13_hashCode_38 : decode cJ13_hashCode 38 = .ok (.iand, 1) := dk_126 (dk_at dksJ13_hashCode_2 10 rfl rfl)
theorem dJ13_hashCode_39 : decode cJ13_hashCode 39 = .ok (.goto 12, 3) := dk_167 0 12 (dk_at dksJ13_hashCode_2 11 rfl rfl)
theorem dJ13_hashCode_42 : decode cJ13_hashCode 42 = .ok (.aload_n 0, 1) := dk_42 (dk_at dksJ13_hashCode_2 14 rfl rfl)
theorem dJ13_hashCode_43 : decode cJ13_hashCode 43 = .ok (.iconst 0, 1) := dk_3 (dk_at dksJ13_hashCode_2 15 rfl rfl)
theorem dJ13_hashCode_44 : decode cJ13_hashCode 44 = .ok (.aload_n 0, 1) := dk_42 (dk_at dksJ13_hashCode_2 16 rfl rfl)
theorem dJ13_hashCode_45 : decode cJ13_hashCode 45 = .ok (.arraylength, 1) := dk_190 (dk_at dksJ13_hashCode_2 17 rfl rfl)
theorem dJ13_hashCode_46 : decode cJ13_hashCode 46 = .ok (.iconst 0, 1) := dk_3 (dk_at dksJ13_hashCode_2 18 rfl rfl)
theorem dJ13_hashCode_47 : decode cJ13_hashCode 47 = .ok (.iconst 4, 1) := dk_7 (dk_at dksJ13_hashCode_2 19 rfl rfl)
theorem dJ13_hashCode_48 : decode cJ13_hashCode 48 = .ok (.invokestatic 84, 3) := dk_184 0 84 (dk_at dksJ13_hashCode_2 20 rfl rfl)
theorem dJ13_hashCode_51 : decode cJ13_hashCode 51 = .ok (.ireturn, 1) := dk_172 (dk_at dksJ13_hashCode_2 23 rfl rfl)
abbrev cJ13_charAt : ByteArray := prog_42_method_2_code
def yJ13_charAt : MethodName := ⟨RJ13, "charAt", "([BI)C"⟩
def dkwJ13_charAt_0 : List UInt8 := [27, 42, 190, 184, 0, 9, 42, 27, 51, 17, 0, 255, 126, 146, 172]
abbrev dktJ13_charAt_0 : List UInt8 := dkwJ13_charAt_0 ++ []
theorem dksJ13_charAt_0 : cJ13_charAt.data.toList.drop 0 = dktJ13_charAt_0 := by decide +kernel
theorem dJ13_charAt_0 : decode cJ13_charAt 0 = .ok (.iload_n 1, 1) := dk_27 (dk_at dksJ13_charAt_0 0 rfl rfl)
theorem dJ13_charAt_1 : decode cJ13_charAt 1 = .ok (.aload_n 0, 1) := dk_42 (dk_at dksJ13_charAt_0 1 rfl rfl)
theorem dJ13_charAt_2 : decode cJ13_charAt 2 = .ok (.arraylength, 1) := dk_190 (dk_at dksJ13_charAt_0 2 rfl rfl)
theorem dJ13_charAt_3 : decode cJ13_charAt 3 = .ok (.invokestatic 9, 3) := dk_184 0 9 (dk_at dksJ13_charAt_0 3 rfl rfl)
theorem dJ13_charAt_6 : decode cJ13_charAt 6 = .ok (.aload_n 0, 1) := dk_42 (dk_at dksJ13_charAt_0 6 rfl rfl)
theorem dJ13_charAt_7 : decode cJ13_charAt 7 = .ok (.iload_n 1, 1) := dk_27 (dk_at dksJ13_charAt_0 7 rfl rfl)
theorem dJ13_charAt_8 : decode cJ13_charAt 8 = .ok (.baload, 1) := dk_51 (dk_at dksJ13_charAt_0 8 rfl rfl)
theorem dJ13_charAt_9 : decode cJ13_charAt 9 = .ok (.sipush 255, 3) := dk_17 0 255 (dk_at dksJ13_charAt_0 9 rfl rfl)
theorem dJ13_charAt_12 : decode cJ13_charAt 12 = .ok (.iand, 1) := dk_126 (dk_at dksJ13_charAt_0 12 rfl rfl)
theorem dJ13_charAt_13 : decode cJ13_charAt 13 = .ok (.i2c, 1) := dk_146 (dk_at dksJ13_charAt_0 13 rfl rfl)
theorem dJ13_charAt_14 : decode cJ13_charAt 14 = .ok (.ireturn, 1) := dk_172 (dk_at dksJ13_charAt_0 14 rfl rfl)
abbrev cJ13_compareTo : ByteArray := prog_42_method_14_code
def yJ13_compareTo : MethodName := ⟨RJ13, "compareTo", "([B[B)I"⟩
def dkwJ13_compareTo_0 : List UInt8 := [42, 190, 61, 43, 190, 62, 42, 43, 28, 29, 184, 0, 34, 172]
abbrev dktJ13_compareTo_0 : List UInt8 := dkwJ13_compareTo_0 ++ []
theorem dksJ13_compareTo_0 : cJ13_compareTo.data.toList.drop 0 = dktJ13_compareTo_0 := by decide +kernel
theorem dJ13_compareTo_0 : decode cJ13_compareTo 0 = .ok (.aload_n 0, 1) := dk_42 (dk_at dksJ13_compareTo_0 0 rfl rfl)
theorem dJ13_compareTo_1 : decode cJ13_compareTo 1 = .ok (.arraylength, 1) := dk_190 (dk_at dksJ13_compareTo_0 1 rfl rfl)
theorem dJ13_compareTo_2 : decode cJ13_compareTo 2 = .ok (.istore_n 2, 1) := dk_61 (dk_at dksJ13_compareTo_0 2 rfl rfl)
theorem dJ13_compareTo_3 : decode cJ13_compareTo 3 = .ok (.aload_n 1, 1) := dk_43 (dk_at dksJ13_compareTo_0 3 rfl rfl)
theorem dJ13_compareTo_4 : decode cJ13_compareTo 4 = .ok (.arraylength, 1) := dk_190 (dk_at dksJ13_compareTo_0 4 rfl rfl)
theorem dJ13_compareTo_5 : decode cJ13_compareTo 5 = .ok (.istore_n 3, 1) := dk_62 (dk_at dksJ13_compareTo_0 5 rfl rfl)
theorem dJ13_compareTo_6 : decode cJ13_compareTo 6 = .ok (.aload_n 0, 1) := dk_42 (dk_at dksJ13_compareTo_0 6 rfl rfl)
theorem dJ13_compareTo_7 : decode cJ13_compareTo 7 = .ok (.aload_n 1, 1) := dk_43 (dk_at dksJ13_compareTo_0 7 rfl rfl)
theorem dJ13_compareTo_8 : decode cJ13_compareTo 8 = .ok (.iload_n 2, 1) := dk_28 (dk_at dksJ13_compareTo_0 8 rfl rfl)
theorem dJ13_compareTo_9 : decode cJ13_compareTo 9 = .ok (.iload_n 3, 1) := dk_29 (dk_at dksJ13_compareTo_0 9 rfl rfl)
theorem dJ13_compareTo_10 : decode cJ13_compareTo 10 = .ok (.invokestatic 34, 3) := dk_184 0 34 (dk_at dksJ13_compareTo_0 10 rfl rfl)
theorem dJ13_compareTo_13 : decode cJ13_compareTo 13 = .ok (.ireturn, 1) := dk_172 (dk_at dksJ13_compareTo_0 13 rfl rfl)
abbrev cJ13_compareTo_2 : ByteArray := prog_42_method_15_code
def yJ13_compareTo_2 : MethodName := ⟨RJ13, "compareTo", "([B[BII)I"⟩
def dkwJ13_compareTo_2_1 : List UInt8 := [167, 0, 16, 42, 21, 5, 184, 0, 50, 43, 21, 5, 184, 0, 50, 100, 172]
abbrev dktJ13_compareTo_2_1 : List UInt8 := dkwJ13_compareTo_2_1 ++ []
def dkwJ13_compareTo_2_0 : List UInt8 := [28, 29, 184, 0, 38, 54, 4, 42, 43, 21, 4, 184, 0, 44, 54, 5, 21, 5, 156, 0, 9, 28, 29, 100]
abbrev dktJ13_compareTo_2_0 : List UInt8 := dkwJ13_compareTo_2_0 ++ dktJ13_compareTo_2_1
theorem dksJ13_compareTo_2_0 : cJ13_compareTo_2.data.toList.drop 0 = dktJ13_compareTo_2_0 := by decide +kernel
theorem dksJ13_compareTo_2_1 : cJ13_compareTo_2.data.toList.drop 24 = dktJ13_compareTo_2_1 := dk_seg dksJ13_compareTo_2_0 24 rfl rfl
theorem dJ13_compareTo_2_0 : decode cJ13_compareTo_2 0 = .ok (.iload_n 2, 1) := dk_28 (dk_at dksJ13_compareTo_2_0 0 rfl rfl)
theorem dJ13_compareTo_2_1 : decode cJ13_compareTo_2 1 = .ok (.iload_n 3, 1) := dk_29 (dk_at dksJ13_compareTo_2_0 1 rfl rfl)
theorem dJ13_compareTo_2_2 : decode cJ13_compareTo_2 2 = .ok (.invokestatic 38, 3) := dk_184 0 38 (dk_at dksJ13_compareTo_2_0 2 rfl rfl)
theorem dJ13_compareTo_2_5 : decode cJ13_compareTo_2 5 = .ok (.istore 4, 2) := dk_54 4 (dk_at dksJ13_compareTo_2_0 5 rfl rfl)
theorem dJ13_compareTo_2_7 : decode cJ13_compareTo_2 7 = .ok (.aload_n 0, 1) := dk_42 (dk_at dksJ13_compareTo_2_0 7 rfl rfl)
theorem dJ13_compareTo_2_8 : decode cJ13_compareTo_2 8 = .ok (.aload_n 1, 1) := dk_43 (dk_at dksJ13_compareTo_2_0 8 rfl rfl)
theorem dJ13_compareTo_2_9 : decode cJ13_compareTo_2 9 = .ok (.iload 4, 2) := dk_21 4 (dk_at dksJ13_compareTo_2_0 9 rfl rfl)
theorem dJ13_compareTo_2_11 : decode cJ13_compareTo_2 11 = .ok (.invokestatic 44, 3) := dk_184 0 44 (dk_at dksJ13_compareTo_2_0 11 rfl rfl)
theorem dJ13_compareTo_2_14 : decode cJ13_compareTo_2 14 = .ok (.istore 5, 2) := dk_54 5 (dk_at dksJ13_compareTo_2_0 14 rfl rfl)
theorem dJ13_compareTo_2_16 : decode cJ13_compareTo_2 16 = .ok (.iload 5, 2) := dk_21 5 (dk_at dksJ13_compareTo_2_0 16 rfl rfl)
theorem dJ13_compareTo_2_18 : decode cJ13_compareTo_2 18 = .ok (.ifCond .ge 9, 3) := dk_156 0 9 (dk_at dksJ13_compareTo_2_0 18 rfl rfl)
theorem dJ13_compareTo_2_21 : decode cJ13_compareTo_2 21 = .ok (.iload_n 2, 1) := dk_28 (dk_at dksJ13_compareTo_2_0 21 rfl rfl)
theorem dJ13_compareTo_2_22 : decode cJ13_compareTo_2 22 = .ok (.iload_n 3, 1) := dk_29 (dk_at dksJ13_compareTo_2_0 22 rfl rfl)
theorem dJ13_compareTo_2_23 : decode cJ13_compareTo_2 23 = .ok (.isub, 1) := dk_100 (dk_at dksJ13_compareTo_2_0 23 rfl rfl)
theorem dJ13_compareTo_2_24 : decode cJ13_compareTo_2 24 = .ok (.goto 16, 3) := dk_167 0 16 (dk_at dksJ13_compareTo_2_1 0 rfl rfl)
theorem dJ13_compareTo_2_27 : decode cJ13_compareTo_2 27 = .ok (.aload_n 0, 1) := dk_42 (dk_at dksJ13_compareTo_2_1 3 rfl rfl)
theorem dJ13_compareTo_2_28 : decode cJ13_compareTo_2 28 = .ok (.iload 5, 2) := dk_21 5 (dk_at dksJ13_compareTo_2_1 4 rfl rfl)
theorem dJ13_compareTo_2_30 : decode cJ13_compareTo_2 30 = .ok (.invokestatic 50, 3) := dk_184 0 50 (dk_at dksJ13_compareTo_2_1 6 rfl rfl)
theorem dJ13_compareTo_2_33 : decode cJ13_compareTo_2 33 = .ok (.aload_n 1, 1) := dk_43 (dk_at dksJ13_compareTo_2_1 9 rfl rfl)
theorem dJ13_compareTo_2_34 : decode cJ13_compareTo_2 34 = .ok (.iload 5, 2) := dk_21 5 (dk_at dksJ13_compareTo_2_1 10 rfl rfl)
theorem dJ13_compareTo_2_36 : decode cJ13_compareTo_2 36 = .ok (.invokestatic 50, 3) := dk_184 0 50 (dk_at dksJ13_compareTo_2_1 12 rfl rfl)
theorem dJ13_compareTo_2_39 : decode cJ13_compareTo_2 39 = .ok (.isub, 1) := dk_100 (dk_at dksJ13_compareTo_2_1 15 rfl rfl)
theorem dJ13_compareTo_2_40 : decode cJ13_compareTo_2 40 = .ok (.ireturn, 1) := dk_172 (dk_at dksJ13_compareTo_2_1 16 rfl rfl)
abbrev cJ13_getChar : ByteArray := prog_42_method_44_code
def yJ13_getChar : MethodName := ⟨RJ13, "getChar", "([BI)C"⟩
def dkwJ13_getChar_0 : List UInt8 := [42, 27, 51, 17, 0, 255, 126, 146, 172]
abbrev dktJ13_getChar_0 : List UInt8 := dkwJ13_getChar_0 ++ []
theorem dksJ13_getChar_0 : cJ13_getChar.data.toList.drop 0 = dktJ13_getChar_0 := by decide +kernel
theorem dJ13_getChar_0 : decode cJ13_getChar 0 = .ok (.aload_n 0, 1) := dk_42 (dk_at dksJ13_getChar_0 0 rfl rfl)
theorem dJ13_getChar_1 : decode cJ13_getChar 1 = .ok (.iload_n 1, 1) := dk_27 (dk_at dksJ13_getChar_0 1 rfl rfl)
theorem dJ13_getChar_2 : decode cJ13_getChar 2 = .ok (.baload, 1) := dk_51 (dk_at dksJ13_getChar_0 2 rfl rfl)
theorem dJ13_getChar_3 : decode cJ13_getChar 3 = .ok (.sipush 255, 3) := dk_17 0 255 (dk_at dksJ13_getChar_0 3 rfl rfl)
theorem dJ13_getChar_6 : decode cJ13_getChar 6 = .ok (.iand, 1) := dk_126 (dk_at dksJ13_getChar_0 6 rfl rfl)
theorem dJ13_getChar_7 : decode cJ13_getChar 7 = .ok (.i2c, 1) := dk_146 (dk_at dksJ13_getChar_0 7 rfl rfl)
theorem dJ13_getChar_8 : decode cJ13_getChar 8 = .ok (.ireturn, 1) := dk_172 (dk_at dksJ13_getChar_0 8 rfl rfl)
abbrev cJ13_compareToUTF16 : ByteArray := prog_42_method_16_code
def yJ13_compareToUTF16 : MethodName := ⟨RJ13, "compareToUTF16", "([B[B)I"⟩
def dkwJ13_compareToUTF16_0 : List UInt8 := [42, 184, 0, 54, 61, 43, 184, 0, 58, 62, 42, 43, 28, 29, 184, 0, 59, 172]
abbrev dktJ13_compareToUTF16_0 : List UInt8 := dkwJ13_compareToUTF16_0 ++ []
theorem dksJ13_compareToUTF16_0 : cJ13_compareToUTF16.data.toList.drop 0 = dktJ13_compareToUTF16_0 := by decide +kernel
theorem dJ13_compareToUTF16_0 : decode cJ13_compareToUTF16 0 = .ok (.aload_n 0, 1) := dk_42 (dk_at dksJ13_compareToUTF16_0 0 rfl rfl)
theorem dJ13_compareToUTF16_1 : decode cJ13_compareToUTF16 1 = .ok (.invokestatic 54, 3) := dk_184 0 54 (dk_at dksJ13_compareToUTF16_0 1 rfl rfl)
theorem dJ13_compareToUTF16_4 : decode cJ13_compareToUTF16 4 = .ok (.istore_n 2, 1) := dk_61 (dk_at dksJ13_compareToUTF16_0 4 rfl rfl)
theorem dJ13_compareToUTF16_5 : decode cJ13_compareToUTF16 5 = .ok (.aload_n 1, 1) := dk_43 (dk_at dksJ13_compareToUTF16_0 5 rfl rfl)
theorem dJ13_compareToUTF16_6 : decode cJ13_compareToUTF16 6 = .ok (.invokestatic 58, 3) := dk_184 0 58 (dk_at dksJ13_compareToUTF16_0 6 rfl rfl)
theorem dJ13_compareToUTF16_9 : decode cJ13_compareToUTF16 9 = .ok (.istore_n 3, 1) := dk_62 (dk_at dksJ13_compareToUTF16_0 9 rfl rfl)
theorem dJ13_compareToUTF16_10 : decode cJ13_compareToUTF16 10 = .ok (.aload_n 0, 1) := dk_42 (dk_at dksJ13_compareToUTF16_0 10 rfl rfl)
theorem dJ13_compareToUTF16_11 : decode cJ13_compareToUTF16 11 = .ok (.aload_n 1, 1) := dk_43 (dk_at dksJ13_compareToUTF16_0 11 rfl rfl)
theorem dJ13_compareToUTF16_12 : decode cJ13_compareToUTF16 12 = .ok (.iload_n 2, 1) := dk_28 (dk_at dksJ13_compareToUTF16_0 12 rfl rfl)
theorem dJ13_compareToUTF16_13 : decode cJ13_compareToUTF16 13 = .ok (.iload_n 3, 1) := dk_29 (dk_at dksJ13_compareToUTF16_0 13 rfl rfl)
theorem dJ13_compareToUTF16_14 : decode cJ13_compareToUTF16 14 = .ok (.invokestatic 59, 3) := dk_184 0 59 (dk_at dksJ13_compareToUTF16_0 14 rfl rfl)
theorem dJ13_compareToUTF16_17 : decode cJ13_compareToUTF16 17 = .ok (.ireturn, 1) := dk_172 (dk_at dksJ13_compareToUTF16_0 17 rfl rfl)
abbrev cJ13_length : ByteArray := prog_42_method_5_code
def yJ13_length : MethodName := ⟨RJ13, "length", "([B)I"⟩
theorem dJ13_length_0 : decode cJ13_length 0 = .ok (.aload_n 0, 1) := by decide +kernel
theorem dJ13_length_1 : decode cJ13_length 1 = .ok (.arraylength, 1) := by decide +kernel
theorem dJ13_length_2 : decode cJ13_length 2 = .ok (.ireturn, 1) := by decide +kernel
abbrev cJ13_compareToUTF16Values : ByteArray := prog_42_method_18_code
def yJ13_compareToUTF16Values : MethodName := ⟨RJ13, "compareToUTF16Values", "([B[BII)I"⟩
def dkwJ13_compareToUTF16Values_2 : List UInt8 := [132, 5, 1, 167, 255, 217, 28, 29, 100, 172]
abbrev dktJ13_compareToUTF16Values_2 : List UInt8 := dkwJ13_compareToUTF16Values_2 ++ []
def dkwJ13_compareToUTF16Values_1 : List UInt8 := [54, 6, 43, 21, 5, 184, 0, 65, 54, 7, 21, 6, 21, 7, 159, 0, 9, 21, 6, 21, 7, 100, 172]
abbrev dktJ13_compareToUTF16Values_1 : List UInt8 := dkwJ13_compareToUTF16Values_1 ++ dktJ13_compareToUTF16Values_2
def dkwJ13_compareToUTF16Values_0 : List UInt8 := [28, 29, 184, 0, 38, 54, 4, 3, 54, 5, 21, 5, 21, 4, 162, 0, 38, 42, 21, 5, 184, 0, 50]
abbrev dktJ13_compareToUTF16Values_0 : List UInt8 := dkwJ13_compareToUTF16Values_0 ++ dktJ13_compareToUTF16Values_1
theorem dksJ13_compareToUTF16Values_0 : cJ13_compareToUTF16Values.data.toList.drop 0 = dktJ13_compareToUTF16Values_0 := by decide +kernel
theorem dksJ13_compareToUTF16Values_1 : cJ13_compareToUTF16Values.data.toList.drop 23 = dktJ13_compareToUTF16Values_1 := dk_seg dksJ13_compareToUTF16Values_0 23 rfl rfl
theorem dksJ13_compareToUTF16Values_2 : cJ13_compareToUTF16Values.data.toList.drop 46 = dktJ13_compareToUTF16Values_2 := dk_seg dksJ13_compareToUTF16Values_1 23 rfl rfl
theorem dJ13_compareToUTF16Values_0 : decode cJ13_compareToUTF16Values 0 = .ok (.iload_n 2, 1) := dk_28 (dk_at dksJ13_compareToUTF16Values_0 0 rfl rfl)
theorem dJ13_compareToUTF16Values_1 : decode cJ13_compareToUTF16Values 1 = .ok (.iload_n 3, 1) := dk_29 (dk_at dksJ13_compareToUTF16Values_0 1 rfl rfl)
theorem dJ13_compareToUTF16Values_2 : decode cJ13_compareToUTF16Values 2 = .ok (.invokestatic 38, 3) := dk_184 0 38 (dk_at dksJ13_compareToUTF16Values_0 2 rfl rfl)
theorem dJ13_compareToUTF16Values_5 : decode cJ13_compareToUTF16Values 5 = .ok (.istore 4, 2) := dk_54 4 (dk_at dksJ13_compareToUTF16Values_0 5 rfl rfl)
theorem dJ13_compareToUTF16Values_7 : decode cJ13_compareToUTF16Values 7 = .ok (.iconst 0, 1) := dk_3 (dk_at dksJ13_compareToUTF16Values_0 7 rfl rfl)
theorem dJ13_compareToUTF16Values_8 : decode cJ13_compareToUTF16Values 8 = .ok (.istore 5, 2) := dk_54 5 (dk_at dksJ13_compareToUTF16Values_0 8 rfl rfl)
theorem dJ13_compareToUTF16Values_10 : decode cJ13_compareToUTF16Values 10 = .ok (.iload 5, 2) := dk_21 5 (dk_at dksJ13_compareToUTF16Values_0 10 rfl rfl)
theorem dJ13_compareToUTF16Values_12 : decode cJ13_compareToUTF16Values 12 = .ok (.iload 4, 2) := dk_21 4 (dk_at dksJ13_compareToUTF16Values_0 12 rfl rfl)
theorem dJ13_compareToUTF16Values_14 : decode cJ13_compareToUTF16Values 14 = .ok (.if_icmp .ge 38, 3) := dk_162 0 38 (dk_at dksJ13_compareToUTF16Values_0 14 rfl rfl)
theorem dJ13_compareToUTF16Values_17 : decode cJ13_compareToUTF16Values 17 = .ok (.aload_n 0, 1) := dk_42 (dk_at dksJ13_compareToUTF16Values_0 17 rfl rfl)
theorem dJ13_compareToUTF16Values_18 : decode cJ13_compareToUTF16Values 18 = .ok (.iload 5, 2) := dk_21 5 (dk_at dksJ13_compareToUTF16Values_0 18 rfl rfl)
theorem dJ13_compareToUTF16Values_20 : decode cJ13_compareToUTF16Values 20 = .ok (.invokestatic 50, 3) := dk_184 0 50 (dk_at dksJ13_compareToUTF16Values_0 20 rfl rfl)
theorem dJ13_compareToUTF16Values_23 : decode cJ13_compareToUTF16Values 23 = .ok (.istore 6, 2) := dk_54 6 (dk_at dksJ13_compareToUTF16Values_1 0 rfl rfl)
theorem dJ13_compareToUTF16Values_25 : decode cJ13_compareToUTF16Values 25 = .ok (.aload_n 1, 1) := dk_43 (dk_at dksJ13_compareToUTF16Values_1 2 rfl rfl)
theorem dJ13_compareToUTF16Values_26 : decode cJ13_compareToUTF16Values 26 = .ok (.iload 5, 2) := dk_21 5 (dk_at dksJ13_compareToUTF16Values_1 3 rfl rfl)
theorem dJ13_compareToUTF16Values_28 : decode cJ13_compareToUTF16Values 28 = .ok (.invokestatic 65, 3) := dk_184 0 65 (dk_at dksJ13_compareToUTF16Values_1 5 rfl rfl)
theorem dJ13_compareToUTF16Values_31 : decode cJ13_compareToUTF16Values 31 = .ok (.istore 7, 2) := dk_54 7 (dk_at dksJ13_compareToUTF16Values_1 8 rfl rfl)
theorem dJ13_compareToUTF16Values_33 : decode cJ13_compareToUTF16Values 33 = .ok (.iload 6, 2) := dk_21 6 (dk_at dksJ13_compareToUTF16Values_1 10 rfl rfl)
theorem dJ13_compareToUTF16Values_35 : decode cJ13_compareToUTF16Values 35 = .ok (.iload 7, 2) := dk_21 7 (dk_at dksJ13_compareToUTF16Values_1 12 rfl rfl)
theorem dJ13_compareToUTF16Values_37 : decode cJ13_compareToUTF16Values 37 = .ok (.if_icmp .eq 9, 3) := dk_159 0 9 (dk_at dksJ13_compareToUTF16Values_1 14 rfl rfl)
theorem dJ13_compareToUTF16Values_40 : decode cJ13_compareToUTF16Values 40 = .ok (.iload 6, 2) := dk_21 6 (dk_at dksJ13_compareToUTF16Values_1 17 rfl rfl)
theorem dJ13_compareToUTF16Values_42 : decode cJ13_compareToUTF16Values 42 = .ok (.iload 7, 2) := dk_21 7 (dk_at dksJ13_compareToUTF16Values_1 19 rfl rfl)
theorem dJ13_compareToUTF16Values_44 : decode cJ13_compareToUTF16Values 44 = .ok (.isub, 1) := dk_100 (dk_at dksJ13_compareToUTF16Values_1 21 rfl rfl)
theorem dJ13_compareToUTF16Values_45 : decode cJ13_compareToUTF16Values 45 = .ok (.ireturn, 1) := dk_172 (dk_at dksJ13_compareToUTF16Values_1 22 rfl rfl)
theorem dJ13_compareToUTF16Values_46 : decode cJ13_compareToUTF16Values 46 = .ok (.iinc 5 1, 3) := dk_132 5 1 (dk_at dksJ13_compareToUTF16Values_2 0 rfl rfl)
theorem dJ13_compareToUTF16Values_49 : decode cJ13_compareToUTF16Values 49 = .ok (.goto (-39), 3) := dk_167 255 217 (dk_at dksJ13_compareToUTF16Values_2 3 rfl rfl)
theorem dJ13_compareToUTF16Values_52 : decode cJ13_compareToUTF16Values 52 = .ok (.iload_n 2, 1) := dk_28 (dk_at dksJ13_compareToUTF16Values_2 6 rfl rfl)
theorem dJ13_compareToUTF16Values_53 : decode cJ13_compareToUTF16Values 53 = .ok (.iload_n 3, 1) := dk_29 (dk_at dksJ13_compareToUTF16Values_2 7 rfl rfl)
theorem dJ13_compareToUTF16Values_54 : decode cJ13_compareToUTF16Values 54 = .ok (.isub, 1) := dk_100 (dk_at dksJ13_compareToUTF16Values_2 8 rfl rfl)
theorem dJ13_compareToUTF16Values_55 : decode cJ13_compareToUTF16Values 55 = .ok (.ireturn, 1) := dk_172 (dk_at dksJ13_compareToUTF16Values_2 9 rfl rfl)
abbrev cJ13_compareToUTF16_2 : ByteArray := prog_42_method_17_code
def yJ13_compareToUTF16_2 : MethodName := ⟨RJ13, "compareToUTF16", "([B[BII)I"⟩
def dkwJ13_compareToUTF16_2_0 : List UInt8 := [28, 42, 184, 0, 54, 184, 0, 62, 29, 43, 184, 0, 58, 184, 0, 62, 42, 43, 28, 29, 184, 0, 59, 172]
abbrev dktJ13_compareToUTF16_2_0 : List UInt8 := dkwJ13_compareToUTF16_2_0 ++ []
theorem dksJ13_compareToUTF16_2_0 : cJ13_compareToUTF16_2.data.toList.drop 0 = dktJ13_compareToUTF16_2_0 := by decide +kernel
theorem dJ13_compareToUTF16_2_0 : decode cJ13_compareToUTF16_2 0 = .ok (.iload_n 2, 1) := dk_28 (dk_at dksJ13_compareToUTF16_2_0 0 rfl rfl)
theorem dJ13_compareToUTF16_2_1 : decode cJ13_compareToUTF16_2 1 = .ok (.aload_n 0, 1) := dk_42 (dk_at dksJ13_compareToUTF16_2_0 1 rfl rfl)
theorem dJ13_compareToUTF16_2_2 : decode cJ13_compareToUTF16_2 2 = .ok (.invokestatic 54, 3) := dk_184 0 54 (dk_at dksJ13_compareToUTF16_2_0 2 rfl rfl)
theorem dJ13_compareToUTF16_2_5 : decode cJ13_compareToUTF16_2 5 = .ok (.invokestatic 62, 3) := dk_184 0 62 (dk_at dksJ13_compareToUTF16_2_0 5 rfl rfl)
theorem dJ13_compareToUTF16_2_8 : decode cJ13_compareToUTF16_2 8 = .ok (.iload_n 3, 1) := dk_29 (dk_at dksJ13_compareToUTF16_2_0 8 rfl rfl)
theorem dJ13_compareToUTF16_2_9 : decode cJ13_compareToUTF16_2 9 = .ok (.aload_n 1, 1) := dk_43 (dk_at dksJ13_compareToUTF16_2_0 9 rfl rfl)
theorem dJ13_compareToUTF16_2_10 : decode cJ13_compareToUTF16_2 10 = .ok (.invokestatic 58, 3) := dk_184 0 58 (dk_at dksJ13_compareToUTF16_2_0 10 rfl rfl)
theorem dJ13_compareToUTF16_2_13 : decode cJ13_compareToUTF16_2 13 = .ok (.invokestatic 62, 3) := dk_184 0 62 (dk_at dksJ13_compareToUTF16_2_0 13 rfl rfl)
theorem dJ13_compareToUTF16_2_16 : decode cJ13_compareToUTF16_2 16 = .ok (.aload_n 0, 1) := dk_42 (dk_at dksJ13_compareToUTF16_2_0 16 rfl rfl)
theorem dJ13_compareToUTF16_2_17 : decode cJ13_compareToUTF16_2 17 = .ok (.aload_n 1, 1) := dk_43 (dk_at dksJ13_compareToUTF16_2_0 17 rfl rfl)
theorem dJ13_compareToUTF16_2_18 : decode cJ13_compareToUTF16_2 18 = .ok (.iload_n 2, 1) := dk_28 (dk_at dksJ13_compareToUTF16_2_0 18 rfl rfl)
theorem dJ13_compareToUTF16_2_19 : decode cJ13_compareToUTF16_2 19 = .ok (.iload_n 3, 1) := dk_29 (dk_at dksJ13_compareToUTF16_2_0 19 rfl rfl)
theorem dJ13_compareToUTF16_2_20 : decode cJ13_compareToUTF16_2 20 = .ok (.invokestatic 59, 3) := dk_184 0 59 (dk_at dksJ13_compareToUTF16_2_0 20 rfl rfl)
theorem dJ13_compareToUTF16_2_23 : decode cJ13_compareToUTF16_2 23 = .ok (.ireturn, 1) := dk_172 (dk_at dksJ13_compareToUTF16_2_0 23 rfl rfl)
abbrev cJ13_fillNull : ByteArray := prog_42_method_48_code
def yJ13_fillNull : MethodName := ⟨RJ13, "fillNull", "([BII)V"⟩
def dkwJ13_fillNull_0 : List UInt8 := [42, 27, 28, 3, 184, 0, 236, 177]
abbrev dktJ13_fillNull_0 : List UInt8 := dkwJ13_fillNull_0 ++ []
theorem dksJ13_fillNull_0 : cJ13_fillNull.data.toList.drop 0 = dktJ13_fillNull_0 := by decide +kernel
theorem dJ13_fillNull_0 : decode cJ13_fillNull 0 = .ok (.aload_n 0, 1) := dk_42 (dk_at dksJ13_fillNull_0 0 rfl rfl)
theorem dJ13_fillNull_1 : decode cJ13_fillNull 1 = .ok (.iload_n 1, 1) := dk_27 (dk_at dksJ13_fillNull_0 1 rfl rfl)
theorem dJ13_fillNull_2 : decode cJ13_fillNull 2 = .ok (.iload_n 2, 1) := dk_28 (dk_at dksJ13_fillNull_0 2 rfl rfl)
theorem dJ13_fillNull_3 : decode cJ13_fillNull 3 = .ok (.iconst 0, 1) := dk_3 (dk_at dksJ13_fillNull_0 3 rfl rfl)
theorem dJ13_fillNull_4 : decode cJ13_fillNull 4 = .ok (.invokestatic 236, 3) := dk_184 0 236 (dk_at dksJ13_fillNull_0 4 rfl rfl)
theorem dJ13_fillNull_7 : decode cJ13_fillNull 7 = .ok (.return_, 1) := dk_177 (dk_at dksJ13_fillNull_0 7 rfl rfl)
theorem q197 : (Jvm.Cond.initialized "java/lang/StringLatin1") ∈ lw_all := lw_g (lw_at lw_m1 21 rfl) rfl
theorem q714 : (Jvm.Cond.static ({ cls := "java/lang/StringLatin1", name := "canEncode", desc := "(C)Z" } : Jvm.MethodName)) ∈ lw_all := lw_g (lw_at lw_m3 58 rfl) rfl
theorem q715 : (Jvm.Cond.code ({ cls := "java/lang/StringLatin1", name := "canEncode", desc := "(C)Z" } : Jvm.MethodName) prog_42_method_3_code (1 : Nat) (Option.some Jvm.ClassFile.FieldType.boolean)) ∈ lw_all := lw_g (lw_at lw_m3 59 rfl) rfl
theorem q721 : (Jvm.Cond.static ({ cls := "java/lang/StringLatin1", name := "inflate", desc := "([BI[BII)V" } : Jvm.MethodName)) ∈ lw_all := lw_g (lw_at lw_m3 65 rfl) rfl
theorem q722 : (Jvm.Cond.code ({ cls := "java/lang/StringLatin1", name := "inflate", desc := "([BI[BII)V" } : Jvm.MethodName) prog_42_method_50_code (5 : Nat) (Option.none : Option Jvm.ClassFile.FieldType)) ∈ lw_all := lw_g (lw_at lw_m3 66 rfl) rfl
theorem q723 : (Jvm.Cond.methodLink "java/lang/StringLatin1" (240 : Nat) ({ cls := "java/lang/StringUTF16", name := "inflate", desc := "([BI[BII)V" } : Jvm.MethodName)) ∈ lw_all := lw_g (lw_at lw_m3 67 rfl) rfl
theorem q976 : (Jvm.Cond.static ({ cls := "java/lang/StringLatin1", name := "equals", desc := "([B[B)Z" } : Jvm.MethodName)) ∈ lw_all := lw_g (lw_at lw_m4 80 rfl) rfl
theorem q977 : (Jvm.Cond.code ({ cls := "java/lang/StringLatin1", name := "equals", desc := "([B[B)Z" } : Jvm.MethodName) prog_42_method_13_code (3 : Nat) (Option.some Jvm.ClassFile.FieldType.boolean)) ∈ lw_all := lw_g (lw_at lw_m4 81 rfl) rfl
theorem q1041 : (Jvm.Cond.static ({ cls := "java/lang/StringLatin1", name := "hashCode", desc := "([B)I" } : Jvm.MethodName)) ∈ lw_all := lw_g (lw_at lw_m4 145 rfl) rfl
theorem q1042 : (Jvm.Cond.code ({ cls := "java/lang/StringLatin1", name := "hashCode", desc := "([B)I" } : Jvm.MethodName) prog_42_method_21_code (1 : Nat) (Option.some Jvm.ClassFile.FieldType.int)) ∈ lw_all := lw_g (lw_at lw_m4 146 rfl) rfl
theorem q1043 : (Jvm.Cond.methodLink "java/lang/StringLatin1" (84 : Nat) ({ cls := "jdk/internal/util/ArraysSupport", name := "vectorizedHashCode", desc := "(Ljava/lang/Object;IIII)I" } : Jvm.MethodName)) ∈ lw_all := lw_g (lw_at lw_m4 147 rfl) rfl
theorem q1288 : (Jvm.Cond.static ({ cls := "java/lang/StringLatin1", name := "charAt", desc := "([BI)C" } : Jvm.MethodName)) ∈ lw_all := lw_g (lw_at lw_m5 152 rfl) rfl
theorem q1289 : (Jvm.Cond.code ({ cls := "java/lang/StringLatin1", name := "charAt", desc := "([BI)C" } : Jvm.MethodName) prog_42_method_2_code (2 : Nat) (Option.some Jvm.ClassFile.FieldType.char)) ∈ lw_all := lw_g (lw_at lw_m5 153 rfl) rfl
theorem q1290 : (Jvm.Cond.methodLink "java/lang/StringLatin1" (9 : Nat) ({ cls := "java/lang/String", name := "checkIndex", desc := "(II)V" } : Jvm.MethodName)) ∈ lw_all := lw_g (lw_at lw_m5 154 rfl) rfl
theorem q1537 : (Jvm.Cond.static ({ cls := "java/lang/StringLatin1", name := "compareTo", desc := "([B[B)I" } : Jvm.MethodName)) ∈ lw_all := lw_g (lw_at lw_m6 161 rfl) rfl
theorem q1538 : (Jvm.Cond.code ({ cls := "java/lang/StringLatin1", name := "compareTo", desc := "([B[B)I" } : Jvm.MethodName) prog_42_method_14_code (4 : Nat) (Option.some Jvm.ClassFile.FieldType.int)) ∈ lw_all := lw_g (lw_at lw_m6 162 rfl) rfl
theorem q1539 : (Jvm.Cond.methodLink "java/lang/StringLatin1" (34 : Nat) ({ cls := "java/lang/StringLatin1", name := "compareTo", desc := "([B[BII)I" } : Jvm.MethodName)) ∈ lw_all := lw_g (lw_at lw_m6 163 rfl) rfl
theorem q1540 : (Jvm.Cond.static ({ cls := "java/lang/StringLatin1", name := "compareTo", desc := "([B[BII)I" } : Jvm.MethodName)) ∈ lw_all := lw_g (lw_at lw_m6 164 rfl) rfl
theorem q1541 : (Jvm.Cond.code ({ cls := "java/lang/StringLatin1", name := "compareTo", desc := "([B[BII)I" } : Jvm.MethodName) prog_42_method_15_code (6 : Nat) (Option.some Jvm.ClassFile.FieldType.int)) ∈ lw_all := lw_g (lw_at lw_m6 165 rfl) rfl
theorem q1542 : (Jvm.Cond.methodLink "java/lang/StringLatin1" (38 : Nat) ({ cls := "java/lang/Math", name := "min", desc := "(II)I" } : Jvm.MethodName)) ∈ lw_all := lw_g (lw_at lw_m6 166 rfl) rfl
theorem q1543 : (Jvm.Cond.methodLink "java/lang/StringLatin1" (44 : Nat) ({ cls := "jdk/internal/util/ArraysSupport", name := "mismatch", desc := "([B[BI)I" } : Jvm.MethodName)) ∈ lw_all := lw_g (lw_at lw_m6 167 rfl) rfl
theorem q1647 : (Jvm.Cond.methodLink "java/lang/StringLatin1" (50 : Nat) ({ cls := "java/lang/StringLatin1", name := "getChar", desc := "([BI)C" } : Jvm.MethodName)) ∈ lw_all := lw_g (lw_at lw_m7 31 rfl) rfl
theorem q1648 : (Jvm.Cond.static ({ cls := "java/lang/StringLatin1", name := "getChar", desc := "([BI)C" } : Jvm.MethodName)) ∈ lw_all := lw_g (lw_at lw_m7 32 rfl) rfl
theorem q1649 : (Jvm.Cond.code ({ cls := "java/lang/StringLatin1", name := "getChar", desc := "([BI)C" } : Jvm.MethodName) prog_42_method_44_code (2 : Nat) (Option.some Jvm.ClassFile.FieldType.char)) ∈ lw_all := lw_g (lw_at lw_m7 33 rfl) rfl
theorem q1658 : (Jvm.Cond.static ({ cls := "java/lang/StringLatin1", name := "compareToUTF16", desc := "([B[B)I" } : Jvm.MethodName)) ∈ lw_all := lw_g (lw_at lw_m7 42 rfl) rfl
theorem q1659 : (Jvm.Cond.code ({ cls := "java/lang/StringLatin1", name := "compareToUTF16", desc := "([B[B)I" } : Jvm.MethodName) prog_42_method_16_code (4 : Nat) (Option.some Jvm.ClassFile.FieldType.int)) ∈ lw_all := lw_g (lw_at lw_m7 43 rfl) rfl
theorem q1660 : (Jvm.Cond.methodLink "java/lang/StringLatin1" (54 : Nat) ({ cls := "java/lang/StringLatin1", name := "length", desc := "([B)I" } : Jvm.MethodName)) ∈ lw_all := lw_g (lw_at lw_m7 44 rfl) rfl
theorem q1661 : (Jvm.Cond.static ({ cls := "java/lang/StringLatin1", name := "length", desc := "([B)I" } : Jvm.MethodName)) ∈ lw_all := lw_g (lw_at lw_m7 45 rfl) rfl
theorem q1662 : (Jvm.Cond.code ({ cls := "java/lang/StringLatin1", name := "length", desc := "([B)I" } : Jvm.MethodName) prog_42_method_5_code (1 : Nat) (Option.some Jvm.ClassFile.FieldType.int)) ∈ lw_all := lw_g (lw_at lw_m7 46 rfl) rfl
theorem q1663 : (Jvm.Cond.methodLink "java/lang/StringLatin1" (58 : Nat) ({ cls := "java/lang/StringUTF16", name := "length", desc := "([B)I" } : Jvm.MethodName)) ∈ lw_all := lw_g (lw_at lw_m7 47 rfl) rfl
theorem q1664 : (Jvm.Cond.methodLink "java/lang/StringLatin1" (59 : Nat) ({ cls := "java/lang/StringLatin1", name := "compareToUTF16Values", desc := "([B[BII)I" } : Jvm.MethodName)) ∈ lw_all := lw_g (lw_at lw_m7 48 rfl) rfl
theorem q1665 : (Jvm.Cond.static ({ cls := "java/lang/StringLatin1", name := "compareToUTF16Values", desc := "([B[BII)I" } : Jvm.MethodName)) ∈ lw_all := lw_g (lw_at lw_m7 49 rfl) rfl
theorem q1666 : (Jvm.Cond.code ({ cls := "java/lang/StringLatin1", name := "compareToUTF16Values", desc := "([B[BII)I" } : Jvm.MethodName) prog_42_method_18_code (8 : Nat) (Option.some Jvm.ClassFile.FieldType.int)) ∈ lw_all := lw_g (lw_at lw_m7 50 rfl) rfl
theorem q1667 : (Jvm.Cond.methodLink "java/lang/StringLatin1" (65 : Nat) ({ cls := "java/lang/StringUTF16", name := "getChar", desc := "([BI)C" } : Jvm.MethodName)) ∈ lw_all := lw_g (lw_at lw_m7 51 rfl) rfl
theorem q1697 : (Jvm.Cond.static ({ cls := "java/lang/StringLatin1", name := "compareToUTF16", desc := "([B[BII)I" } : Jvm.MethodName)) ∈ lw_all := lw_g (lw_at lw_m7 81 rfl) rfl
theorem q1698 : (Jvm.Cond.code ({ cls := "java/lang/StringLatin1", name := "compareToUTF16", desc := "([B[BII)I" } : Jvm.MethodName) prog_42_method_17_code (4 : Nat) (Option.some Jvm.ClassFile.FieldType.int)) ∈ lw_all := lw_g (lw_at lw_m7 82 rfl) rfl
theorem q1699 : (Jvm.Cond.methodLink "java/lang/StringLatin1" (62 : Nat) ({ cls := "java/lang/String", name := "checkOffset", desc := "(II)V" } : Jvm.MethodName)) ∈ lw_all := lw_g (lw_at lw_m7 83 rfl) rfl
theorem q3613 : (Jvm.Cond.static ({ cls := "java/lang/StringLatin1", name := "fillNull", desc := "([BII)V" } : Jvm.MethodName)) ∈ lw_all := lw_g (lw_at lw_m15 77 rfl) rfl
theorem q3614 : (Jvm.Cond.code ({ cls := "java/lang/StringLatin1", name := "fillNull", desc := "([BII)V" } : Jvm.MethodName) prog_42_method_48_code (3 : Nat) (Option.none : Option Jvm.ClassFile.FieldType)) ∈ lw_all := lw_g (lw_at lw_m15 78 rfl) rfl
theorem q3615 : (Jvm.Cond.methodLink "java/lang/StringLatin1" (236 : Nat) ({ cls := "java/util/Arrays", name := "fill", desc := "([BIIB)V" } : Jvm.MethodName)) ∈ lw_all := lw_g (lw_at lw_m15 79 rfl) rfl

/-! jdk/internal/util/Preconditions -/
set_option maxRecDepth 100000
def RJ14 : String := "jdk/internal/util/Preconditions"
abbrev cJ14_checkFromIndexSize : ByteArray := prog_100_method_13_code
def yJ14_checkFromIndexSize : MethodName := ⟨RJ14, "checkFromIndexSize", "(IIILjava/util/function/BiFunction;)I"⟩
def dkwJ14_checkFromIndexSize_1 : List UInt8 := [172]
abbrev dktJ14_checkFromIndexSize_1 : List UInt8 := dkwJ14_checkFromIndexSize_1 ++ []
def dkwJ14_checkFromIndexSize_0 : List UInt8 := [28, 26, 128, 27, 128, 155, 0, 10, 27, 28, 26, 100, 164, 0, 11, 45, 26, 27, 28, 184, 0, 103, 191, 26]
abbrev dktJ14_checkFromIndexSize_0 : List UInt8 := dkwJ14_checkFromIndexSize_0 ++ dktJ14_checkFromIndexSize_1
theorem dksJ14_checkFromIndexSize_0 : cJ14_checkFromIndexSize.data.toList.drop 0 = dktJ14_checkFromIndexSize_0 := by decide +kernel
theorem dksJ14_checkFromIndexSize_1 : cJ14_checkFromIndexSize.data.toList.drop 24 = dktJ14_checkFromIndexSize_1 := dk_seg dksJ14_checkFromIndexSize_0 24 rfl rfl
theorem dJ14_checkFromIndexSize_0 : decode cJ14_checkFromIndexSize 0 = .ok (.iload_n 2, 1) := dk_28 (dk_at dksJ14_checkFromIndexSize_0 0 rfl rfl)
theorem dJ14_checkFromIndexSize_1 : decode cJ14_checkFromIndexSize 1 = .ok (.iload_n 0, 1) := dk_26 (dk_at dksJ14_checkFromIndexSize_0 1 rfl rfl)
theorem dJ14_checkFromIndexSize_2 : decode cJ14_checkFromIndexSize 2 = .ok (.ior, 1) := dk_128 (dk_at dksJ14_checkFromIndexSize_0 2 rfl rfl)
theorem dJ14_checkFromIndexSize_3 : decode cJ14_checkFromIndexSize 3 = .ok (.iload_n 1, 1) := dk_27 (dk_at dksJ14_checkFromIndexSize_0 3 rfl rfl)
theorem dJ14_checkFromIndexSize_4 : decode cJ14_checkFromIndexSize 4 = .ok (.ior, 1) := dk_128 (dk_at dksJ14_checkFromIndexSize_0 4 rfl rfl)
theorem dJ14_checkFromIndexSize_5 : decode cJ14_checkFromIndexSize 5 = .ok (.ifCond .lt 10, 3) := dk_155 0 10 (dk_at dksJ14_checkFromIndexSize_0 5 rfl rfl)
theorem dJ14_checkFromIndexSize_8 : decode cJ14_checkFromIndexSize 8 = .ok (.iload_n 1, 1) := dk_27 (dk_at dksJ14_checkFromIndexSize_0 8 rfl rfl)
theorem dJ14_checkFromIndexSize_9 : decode cJ14_checkFromIndexSize 9 = .ok (.iload_n 2, 1) := dk_28 (dk_at dksJ14_checkFromIndexSize_0 9 rfl rfl)
theorem dJ14_checkFromIndexSize_10 : decode cJ14_checkFromIndexSize 10 = .ok (.iload_n 0, 1) := dk_26 (dk_at dksJ14_checkFromIndexSize_0 10 rfl rfl)
theorem dJ14_checkFromIndexSize_11 : decode cJ14_checkFromIndexSize 11 = .ok (.isub, 1) := dk_100 (dk_at dksJ14_checkFromIndexSize_0 11 rfl rfl)
theorem dJ14_checkFromIndexSize_12 : decode cJ14_checkFromIndexSize 12 = .ok (.if_icmp .le 11, 3) := dk_164 0 11 (dk_at dksJ14_checkFromIndexSize_0 12 rfl rfl)
theorem dJ14_checkFromIndexSize_15 : decode cJ14_checkFromIndexSize 15 = .ok (.aload_n 3, 1) := dk_45 (dk_at dksJ14_checkFromIndexSize_0 15 rfl rfl)
theorem dJ14_checkFromIndexSize_16 : decode cJ14_checkFromIndexSize 16 = .ok (.iload_n 0, 1) := dk_26 (dk_at dksJ14_checkFromIndexSize_0 16 rfl rfl)
theorem dJ14_checkFromIndexSize_17 : decode cJ14_checkFromIndexSize 17 = .ok (.iload_n 1, 1) := dk_27 (dk_at dksJ14_checkFromIndexSize_0 17 rfl rfl)
theorem dJ14_checkFromIndexSize_18 : decode cJ14_checkFromIndexSize 18 = .ok (.iload_n 2, 1) := dk_28 (dk_at dksJ14_checkFromIndexSize_0 18 rfl rfl)
theorem dJ14_checkFromIndexSize_19 : decode cJ14_checkFromIndexSize 19 = .ok (.invokestatic 103, 3) := dk_184 0 103 (dk_at dksJ14_checkFromIndexSize_0 19 rfl rfl)
theorem dJ14_checkFromIndexSize_22 : decode cJ14_checkFromIndexSize 22 = .ok (.athrow, 1) := dk_191 (dk_at dksJ14_checkFromIndexSize_0 22 rfl rfl)
theorem dJ14_checkFromIndexSize_23 : decode cJ14_checkFromIndexSize 23 = .ok (.iload_n 0, 1) := dk_26 (dk_at dksJ14_checkFromIndexSize_0 23 rfl rfl)
theorem dJ14_checkFromIndexSize_24 : decode cJ14_checkFromIndexSize 24 = .ok (.ireturn, 1) := dk_172 (dk_at dksJ14_checkFromIndexSize_1 0 rfl rfl)
abbrev cJ14_checkIndex : ByteArray := prog_100_method_11_code
def yJ14_checkIndex : MethodName := ⟨RJ14, "checkIndex", "(IILjava/util/function/BiFunction;)I"⟩
def dkwJ14_checkIndex_0 : List UInt8 := [26, 155, 0, 8, 26, 27, 161, 0, 10, 44, 26, 27, 184, 0, 95, 191, 26, 172]
abbrev dktJ14_checkIndex_0 : List UInt8 := dkwJ14_checkIndex_0 ++ []
theorem dksJ14_checkIndex_0 : cJ14_checkIndex.data.toList.drop 0 = dktJ14_checkIndex_0 := by decide +kernel
theorem dJ14_checkIndex_0 : decode cJ14_checkIndex 0 = .ok (.iload_n 0, 1) := dk_26 (dk_at dksJ14_checkIndex_0 0 rfl rfl)
theorem dJ14_checkIndex_1 : decode cJ14_checkIndex 1 = .ok (.ifCond .lt 8, 3) := dk_155 0 8 (dk_at dksJ14_checkIndex_0 1 rfl rfl)
theorem dJ14_checkIndex_4 : decode cJ14_checkIndex 4 = .ok (.iload_n 0, 1) := dk_26 (dk_at dksJ14_checkIndex_0 4 rfl rfl)
theorem dJ14_checkIndex_5 : decode cJ14_checkIndex 5 = .ok (.iload_n 1, 1) := dk_27 (dk_at dksJ14_checkIndex_0 5 rfl rfl)
theorem dJ14_checkIndex_6 : decode cJ14_checkIndex 6 = .ok (.if_icmp .lt 10, 3) := dk_161 0 10 (dk_at dksJ14_checkIndex_0 6 rfl rfl)
theorem dJ14_checkIndex_9 : decode cJ14_checkIndex 9 = .ok (.aload_n 2, 1) := dk_44 (dk_at dksJ14_checkIndex_0 9 rfl rfl)
theorem dJ14_checkIndex_10 : decode cJ14_checkIndex 10 = .ok (.iload_n 0, 1) := dk_26 (dk_at dksJ14_checkIndex_0 10 rfl rfl)
theorem dJ14_checkIndex_11 : decode cJ14_checkIndex 11 = .ok (.iload_n 1, 1) := dk_27 (dk_at dksJ14_checkIndex_0 11 rfl rfl)
theorem dJ14_checkIndex_12 : decode cJ14_checkIndex 12 = .ok (.invokestatic 95, 3) := dk_184 0 95 (dk_at dksJ14_checkIndex_0 12 rfl rfl)
theorem dJ14_checkIndex_15 : decode cJ14_checkIndex 15 = .ok (.athrow, 1) := dk_191 (dk_at dksJ14_checkIndex_0 15 rfl rfl)
theorem dJ14_checkIndex_16 : decode cJ14_checkIndex 16 = .ok (.iload_n 0, 1) := dk_26 (dk_at dksJ14_checkIndex_0 16 rfl rfl)
theorem dJ14_checkIndex_17 : decode cJ14_checkIndex 17 = .ok (.ireturn, 1) := dk_172 (dk_at dksJ14_checkIndex_0 17 rfl rfl)
abbrev cJ14_checkFromToIndex : ByteArray := prog_100_method_12_code
def yJ14_checkFromToIndex : MethodName := ⟨RJ14, "checkFromToIndex", "(IIILjava/util/function/BiFunction;)I"⟩
def dkwJ14_checkFromToIndex_0 : List UInt8 := [26, 155, 0, 13, 26, 27, 163, 0, 8, 27, 28, 164, 0, 11, 45, 26, 27, 28, 184, 0, 99, 191, 26, 172]
abbrev dktJ14_checkFromToIndex_0 : List UInt8 := dkwJ14_checkFromToIndex_0 ++ []
theorem dksJ14_checkFromToIndex_0 : cJ14_checkFromToIndex.data.toList.drop 0 = dktJ14_checkFromToIndex_0 := by decide +kernel
theorem dJ14_checkFromToIndex_0 : decode cJ14_checkFromToIndex 0 = .ok (.iload_n 0, 1) := dk_26 (dk_at dksJ14_checkFromToIndex_0 0 rfl rfl)
theorem dJ14_checkFromToIndex_1 : decode cJ14_checkFromToIndex 1 = .ok (.ifCond .lt 13, 3) := dk_155 0 13 (dk_at dksJ14_checkFromToIndex_0 1 rfl rfl)
theorem dJ14_checkFromToIndex_4 : decode cJ14_checkFromToIndex 4 = .ok (.iload_n 0, 1) := dk_26 (dk_at dksJ14_checkFromToIndex_0 4 rfl rfl)
theorem dJ14_checkFromToIndex_5 : decode cJ14_checkFromToIndex 5 = .ok (.iload_n 1, 1) := dk_27 (dk_at dksJ14_checkFromToIndex_0 5 rfl rfl)
theorem dJ14_checkFromToIndex_6 : decode cJ14_checkFromToIndex 6 = .ok (.if_icmp .gt 8, 3) := dk_163 0 8 (dk_at dksJ14_checkFromToIndex_0 6 rfl rfl)
theorem dJ14_checkFromToIndex_9 : decode cJ14_checkFromToIndex 9 = .ok (.iload_n 1, 1) := dk_27 (dk_at dksJ14_checkFromToIndex_0 9 rfl rfl)
theorem dJ14_checkFromToIndex_10 : decode cJ14_checkFromToIndex 10 = .ok (.iload_n 2, 1) := dk_28 (dk_at dksJ14_checkFromToIndex_0 10 rfl rfl)
theorem dJ14_checkFromToIndex_11 : decode cJ14_checkFromToIndex 11 = .ok (.if_icmp .le 11, 3) := dk_164 0 11 (dk_at dksJ14_checkFromToIndex_0 11 rfl rfl)
theorem dJ14_checkFromToIndex_14 : decode cJ14_checkFromToIndex 14 = .ok (.aload_n 3, 1) := dk_45 (dk_at dksJ14_checkFromToIndex_0 14 rfl rfl)
theorem dJ14_checkFromToIndex_15 : decode cJ14_checkFromToIndex 15 = .ok (.iload_n 0, 1) := dk_26 (dk_at dksJ14_checkFromToIndex_0 15 rfl rfl)
theorem dJ14_checkFromToIndex_16 : decode cJ14_checkFromToIndex 16 = .ok (.iload_n 1, 1) := dk_27 (dk_at dksJ14_checkFromToIndex_0 16 rfl rfl)
theorem dJ14_checkFromToIndex_17 : decode cJ14_checkFromToIndex 17 = .ok (.iload_n 2, 1) := dk_28 (dk_at dksJ14_checkFromToIndex_0 17 rfl rfl)
theorem dJ14_checkFromToIndex_18 : decode cJ14_checkFromToIndex 18 = .ok (.invokestatic 99, 3) := dk_184 0 99 (dk_at dksJ14_checkFromToIndex_0 18 rfl rfl)
theorem dJ14_checkFromToIndex_21 : decode cJ14_checkFromToIndex 21 = .ok (.athrow, 1) := dk_191 (dk_at dksJ14_checkFromToIndex_0 21 rfl rfl)
theorem dJ14_checkFromToIndex_22 : decode cJ14_checkFromToIndex 22 = .ok (.iload_n 0, 1) := dk_26 (dk_at dksJ14_checkFromToIndex_0 22 rfl rfl)
theorem dJ14_checkFromToIndex_23 : decode cJ14_checkFromToIndex 23 = .ok (.ireturn, 1) := dk_172 (dk_at dksJ14_checkFromToIndex_0 23 rfl rfl)
theorem q198 : (Jvm.Cond.initialized "jdk/internal/util/Preconditions") ∈ lw_all := lw_g (lw_at lw_m1 22 rfl) rfl
theorem q736 : (Jvm.Cond.laysStatic "jdk/internal/util/Preconditions" "SIOOBE_FORMATTER" "Ljava/util/function/BiFunction;") ∈ lw_tbl := lw_at lw_m3 80 rfl
theorem q738 : (Jvm.Cond.static ({ cls := "jdk/internal/util/Preconditions", name := "checkFromIndexSize", desc := "(IIILjava/util/function/BiFunction;)I" } : Jvm.MethodName)) ∈ lw_all := lw_g (lw_at lw_m3 82 rfl) rfl
theorem q739 : (Jvm.Cond.code ({ cls := "jdk/internal/util/Preconditions", name := "checkFromIndexSize", desc := "(IIILjava/util/function/BiFunction;)I" } : Jvm.MethodName) prog_100_method_13_code (4 : Nat) (Option.some Jvm.ClassFile.FieldType.int)) ∈ lw_all := lw_g (lw_at lw_m3 83 rfl) rfl
theorem q759 : (Jvm.Cond.static ({ cls := "jdk/internal/util/Preconditions", name := "checkIndex", desc := "(IILjava/util/function/BiFunction;)I" } : Jvm.MethodName)) ∈ lw_all := lw_g (lw_at lw_m3 103 rfl) rfl
theorem q760 : (Jvm.Cond.code ({ cls := "jdk/internal/util/Preconditions", name := "checkIndex", desc := "(IILjava/util/function/BiFunction;)I" } : Jvm.MethodName) prog_100_method_11_code (3 : Nat) (Option.some Jvm.ClassFile.FieldType.int)) ∈ lw_all := lw_g (lw_at lw_m3 104 rfl) rfl
theorem q871 : (Jvm.Cond.static ({ cls := "jdk/internal/util/Preconditions", name := "checkFromToIndex", desc := "(IIILjava/util/function/BiFunction;)I" } : Jvm.MethodName)) ∈ lw_all := lw_g (lw_at lw_m3 215 rfl) rfl
theorem q872 : (Jvm.Cond.code ({ cls := "jdk/internal/util/Preconditions", name := "checkFromToIndex", desc := "(IIILjava/util/function/BiFunction;)I" } : Jvm.MethodName) prog_100_method_12_code (4 : Nat) (Option.some Jvm.ClassFile.FieldType.int)) ∈ lw_all := lw_g (lw_at lw_m3 216 rfl) rfl

/-! java/lang/Throwable -/
set_option maxRecDepth 100000
def RJ15 : String := "java/lang/Throwable"
def TJ15 : u_T := fun k => match k with
  | 0 => ("java/lang/Throwable", "cause", "Ljava/lang/Throwable;", false)
  | 1 => ("java/lang/Throwable", "stackTrace", "[Ljava/lang/StackTraceElement;", false)
  | 2 => ("java/lang/Throwable", "suppressedExceptions", "Ljava/util/List;", false)
  | 3 => ("java/lang/Throwable", "detailMessage", "Ljava/lang/String;", false)
  | _ => ("java/lang/Throwable", "backtrace", "Ljava/lang/Object;", false)
def tyJ15 : Nat → FieldType := fun k => match k with
  | 0 => .object "java/lang/Throwable"
  | 1 => .array (.object "java/lang/StackTraceElement")
  | 2 => .object "java/util/List"
  | 3 => .object "java/lang/String"
  | _ => .object "java/lang/Object"
abbrev wsJ150 : List Cond := u_ws RJ15 TJ15 5
theorem nmJ15 : ∀ a, a < 5 → ∀ b, b < 5 → a ≠ b → (TJ15 a).2.1 ≠ (TJ15 b).2.1 := by decide +kernel
theorem tyJ15_ok : ∀ k, k < 5 → parseFieldDescriptor (TJ15 k).2.2.1 = some (tyJ15 k) := by decide +kernel
abbrev cJ15_init : ByteArray := prog_46_method_1_code
def yJ15_init : MethodName := ⟨RJ15, "<init>", "()V"⟩
def dkwJ15_init_1 : List UInt8 := [182, 0, 27, 87, 177]
abbrev dktJ15_init_1 : List UInt8 := dkwJ15_init_1 ++ []
def dkwJ15_init_0 : List UInt8 := [42, 183, 0, 1, 42, 42, 181, 0, 7, 42, 178, 0, 13, 181, 0, 17, 42, 178, 0, 20, 181, 0, 24, 42]
abbrev dktJ15_init_0 : List UInt8 := dkwJ15_init_0 ++ dktJ15_init_1
theorem dksJ15_init_0 : cJ15_init.data.toList.drop 0 = dktJ15_init_0 := by decide +kernel
theorem dksJ15_init_1 : cJ15_init.data.toList.drop 24 = dktJ15_init_1 := dk_seg dksJ15_init_0 24 rfl rfl
theorem dJ15_init_0 : decode cJ15_init 0 = .ok (.aload_n 0, 1) := dk_42 (dk_at dksJ15_init_0 0 rfl rfl)
theorem dJ15_init_1 : decode cJ15_init 1 = .ok (.invokespecial 1, 3) := dk_183 0 1 (dk_at dksJ15_init_0 1 rfl rfl)
theorem dJ15_init_4 : decode cJ15_init 4 = .ok (.aload_n 0, 1) := dk_42 (dk_at dksJ15_init_0 4 rfl rfl)
theorem dJ15_init_5 : decode cJ15_init 5 = .ok (.aload_n 0, 1) := dk_42 (dk_at dksJ15_init_0 5 rfl rfl)
theorem dJ15_init_6 : decode cJ15_init 6 = .ok (.putfield 7, 3) := dk_181 0 7 (dk_at dksJ15_init_0 6 rfl rfl)
theorem dJ15_init_9 : decode cJ15_init 9 = .ok (.aload_n 0, 1) := dk_42 (dk_at dksJ15_init_0 9 rfl rfl)
theorem dJ15_init_10 : decode cJ15_init 10 = .ok (.getstatic 13, 3) := dk_178 0 13 (dk_at dksJ15_init_0 10 rfl rfl)
theorem dJ15_init_13 : decode cJ15_init 13 = .ok (.putfield 17, 3) := dk_181 0 17 (dk_at dksJ15_init_0 13 rfl rfl)
theorem dJ15_init_16 : decode cJ15_init 16 = .ok (.aload_n 0, 1) := dk_42 (dk_at dksJ15_init_0 16 rfl rfl)
theorem dJ15_init_17 : decode cJ15_init 17 = .ok (.getstatic 20, 3) := dk_178 0 20 (dk_at dksJ15_init_0 17 rfl rfl)
theorem dJ15_init_20 : decode cJ15_init 20 = .ok (.putfield 24, 3) := dk_181 0 24 (dk_at dksJ15_init_0 20 rfl rfl)
theorem dJ15_init_23 : decode cJ15_init 23 = .ok (.aload_n 0, 1) := dk_42 (dk_at dksJ15_init_0 23 rfl rfl)
theorem dJ15_init_24 : decode cJ15_init 24 = .ok (.invokevirtual 27, 3) := dk_182 0 27 (dk_at dksJ15_init_1 0 rfl rfl)
theorem dJ15_init_27 : decode cJ15_init 27 = .ok (.pop, 1) := dk_87 (dk_at dksJ15_init_1 3 rfl rfl)
theorem dJ15_init_28 : decode cJ15_init 28 = .ok (.return_, 1) := dk_177 (dk_at dksJ15_init_1 4 rfl rfl)
abbrev cJ15_init_2 : ByteArray := prog_46_method_2_code
def yJ15_init_2 : MethodName := ⟨RJ15, "<init>", "(Ljava/lang/String;)V"⟩
def dkwJ15_init_2_1 : List UInt8 := [182, 0, 27, 87, 42, 43, 181, 0, 31, 177]
abbrev dktJ15_init_2_1 : List UInt8 := dkwJ15_init_2_1 ++ []
def dkwJ15_init_2_0 : List UInt8 := [42, 183, 0, 1, 42, 42, 181, 0, 7, 42, 178, 0, 13, 181, 0, 17, 42, 178, 0, 20, 181, 0, 24, 42]
abbrev dktJ15_init_2_0 : List UInt8 := dkwJ15_init_2_0 ++ dktJ15_init_2_1
theorem dksJ15_init_2_0 : cJ15_init_2.data.toList.drop 0 = dktJ15_init_2_0 := by decide +kernel
theorem dksJ15_init_2_1 : cJ15_init_2.data.toList.drop 24 = dktJ15_init_2_1 := dk_seg dksJ15_init_2_0 24 rfl rfl
theorem dJ15_init_2_0 : decode cJ15_init_2 0 = .ok (.aload_n 0, 1) := dk_42 (dk_at dksJ15_init_2_0 0 rfl rfl)
theorem dJ15_init_2_1 : decode cJ15_init_2 1 = .ok (.invokespecial 1, 3) := dk_183 0 1 (dk_at dksJ15_init_2_0 1 rfl rfl)
theorem dJ15_init_2_4 : decode cJ15_init_2 4 = .ok (.aload_n 0, 1) := dk_42 (dk_at dksJ15_init_2_0 4 rfl rfl)
theorem dJ15_init_2_5 : decode cJ15_init_2 5 = .ok (.aload_n 0, 1) := dk_42 (dk_at dksJ15_init_2_0 5 rfl rfl)
theorem dJ15_init_2_6 : decode cJ15_init_2 6 = .ok (.putfield 7, 3) := dk_181 0 7 (dk_at dksJ15_init_2_0 6 rfl rfl)
theorem dJ15_init_2_9 : decode cJ15_init_2 9 = .ok (.aload_n 0, 1) := dk_42 (dk_at dksJ15_init_2_0 9 rfl rfl)
theorem dJ15_init_2_10 : decode cJ15_init_2 10 = .ok (.getstatic 13, 3) := dk_178 0 13 (dk_at dksJ15_init_2_0 10 rfl rfl)
theorem dJ15_init_2_13 : decode cJ15_init_2 13 = .ok (.putfield 17, 3) := dk_181 0 17 (dk_at dksJ15_init_2_0 13 rfl rfl)
theorem dJ15_init_2_16 : decode cJ15_init_2 16 = .ok (.aload_n 0, 1) := dk_42 (dk_at dksJ15_init_2_0 16 rfl rfl)
theorem dJ15_init_2_17 : decode cJ15_init_2 17 = .ok (.getstatic 20, 3) := dk_178 0 20 (dk_at dksJ15_init_2_0 17 rfl rfl)
theorem dJ15_init_2_20 : decode cJ15_init_2 20 = .ok (.putfield 24, 3) := dk_181 0 24 (dk_at dksJ15_init_2_0 20 rfl rfl)
theorem dJ15_init_2_23 : decode cJ15_init_2 23 = .ok (.aload_n 0, 1) := dk_42 (dk_at dksJ15_init_2_0 23 rfl rfl)
theorem dJ15_init_2_24 : decode cJ15_init_2 24 = .ok (.invokevirtual 27, 3) := dk_182 0 27 (dk_at dksJ15_init_2_1 0 rfl rfl)
theorem dJ15_init_2_27 : decode cJ15_init_2 27 = .ok (.pop, 1) := dk_87 (dk_at dksJ15_init_2_1 3 rfl rfl)
theorem dJ15_init_2_28 : decode cJ15_init_2 28 = .ok (.aload_n 0, 1) := dk_42 (dk_at dksJ15_init_2_1 4 rfl rfl)
theorem dJ15_init_2_29 : decode cJ15_init_2 29 = .ok (.aload_n 1, 1) := dk_43 (dk_at dksJ15_init_2_1 5 rfl rfl)
theorem dJ15_init_2_30 : decode cJ15_init_2 30 = .ok (.putfield 31, 3) := dk_181 0 31 (dk_at dksJ15_init_2_1 6 rfl rfl)
theorem dJ15_init_2_33 : decode cJ15_init_2 33 = .ok (.return_, 1) := dk_177 (dk_at dksJ15_init_2_1 9 rfl rfl)
abbrev cJ15_init_3 : ByteArray := prog_46_method_5_code
def yJ15_init_3 : MethodName := ⟨RJ15, "<init>", "(Ljava/lang/String;Ljava/lang/Throwable;ZZ)V"⟩
def dkwJ15_init_3_2 : List UInt8 := [44, 181, 0, 7, 29, 154, 0, 8, 42, 1, 181, 0, 24, 177]
abbrev dktJ15_init_3_2 : List UInt8 := dkwJ15_init_3_2 ++ []
def dkwJ15_init_3_1 : List UInt8 := [21, 4, 153, 0, 11, 42, 182, 0, 27, 87, 167, 0, 8, 42, 1, 181, 0, 17, 42, 43, 181, 0, 31, 42]
abbrev dktJ15_init_3_1 : List UInt8 := dkwJ15_init_3_1 ++ dktJ15_init_3_2
def dkwJ15_init_3_0 : List UInt8 := [42, 183, 0, 1, 42, 42, 181, 0, 7, 42, 178, 0, 13, 181, 0, 17, 42, 178, 0, 20, 181, 0, 24]
abbrev dktJ15_init_3_0 : List UInt8 := dkwJ15_init_3_0 ++ dktJ15_init_3_1
theorem dksJ15_init_3_0 : cJ15_init_3.data.toList.drop 0 = dktJ15_init_3_0 := by decide +kernel
theorem dksJ15_init_3_1 : cJ15_init_3.data.toList.drop 23 = dktJ15_init_3_1 := dk_seg dksJ15_init_3_0 23 rfl rfl
theorem dksJ15_init_3_2 : cJ15_init_3.data.toList.drop 47 = dktJ15_init_3_2 := dk_seg dksJ15_init_3_1 24 rfl rfl
theorem dJ15_init_3_0 : decode cJ15_init_3 0 = .ok (.aload_n 0, 1) := dk_42 (dk_at dksJ15_init_3_0 0 rfl rfl)
theorem dJ15_init_3_1 : decode cJ15_init_3 1 = .ok (.invokespecial 1, 3) := dk_183 0 1 (dk_at dksJ15_init_3_0 1 rfl rfl)
theorem dJ15_init_3_4 : decode cJ15_init_3 4 = .ok (.aload_n 0, 1) := dk_42 (dk_at dksJ15_init_3_0 4 rfl rfl)
theorem dJ15_init_3_5 : decode cJ15_init_3 5 = .ok (.aload_n 0, 1) := dk_42 (dk_at dksJ15_init_3_0 5 rfl rfl)
theorem dJ15_init_3_6 : decode cJ15_init_3 6 = .ok (.putfield 7, 3) := dk_181 0 7 (dk_at dksJ15_init_3_0 6 rfl rfl)
theorem dJ15_init_3_9 : decode cJ15_init_3 9 = .ok (.aload_n 0, 1) := dk_42 (dk_at dksJ15_init_3_0 9 rfl rfl)
theorem dJ15_init_3_10 : decode cJ15_init_3 10 = .ok (.getstatic 13, 3) := dk_178 0 13 (dk_at dksJ15_init_3_0 10 rfl rfl)
theorem dJ15_init_3_13 : decode cJ15_init_3 13 = .ok (.putfield 17, 3) := dk_181 0 17 (dk_at dksJ15_init_3_0 13 rfl rfl)
theorem dJ15_init_3_16 : decode cJ15_init_3 16 = .ok (.aload_n 0, 1) := dk_42 (dk_at dksJ15_init_3_0 16 rfl rfl)
theorem dJ15_init_3_17 : decode cJ15_init_3 17 = .ok (.getstatic 20, 3) := dk_178 0 20 (dk_at dksJ15_init_3_0 17 rfl rfl)
theorem dJ15_init_3_20 : decode cJ15_init_3 20 = .ok (.putfield 24, 3) := dk_181 0 24 (dk_at dksJ15_init_3_0 20 rfl rfl)
theorem dJ15_init_3_23 : decode cJ15_init_3 23 = .ok (.iload 4, 2) := dk_21 4 (dk_at dksJ15_init_3_1 0 rfl rfl)
theorem dJ15_init_3_25 : decode cJ15_init_3 25 = .ok (.ifCond .eq 11, 3) := dk_153 0 11 (dk_at dksJ15_init_3_1 2 rfl rfl)
theorem dJ15_init_3_28 : decode cJ15_init_3 28 = .ok (.aload_n 0, 1) := dk_42 (dk_at dksJ15_init_3_1 5 rfl rfl)
theorem dJ15_init_3_29 : decode cJ15_init_3 29 = .ok (.invokevirtual 27, 3) := dk_182 0 27 (dk_at dksJ15_init_3_1 6 rfl rfl)
theorem dJ15_init_3_32 : decode cJ15_init_3 32 = .ok (.pop, 1) := dk_87 (dk_at dksJ15_init_3_1 9 rfl rfl)
theorem dJ15_init_3_33 : decode cJ15_init_3 33 = .ok (.goto 8, 3) := dk_167 0 8 (dk_at dksJ15_init_3_1 10 rfl rfl)
theorem dJ15_init_3_36 : decode cJ15_init_3 36 = .ok (.aload_n 0, 1) := dk_42 (dk_at dksJ15_init_3_1 13 rfl rfl)
theorem dJ15_init_3_37 : decode cJ15_init_3 37 = .ok (.aconst_null, 1) := dk_1 (dk_at dksJ15_init_3_1 14 rfl rfl)
theorem dJ15_init_3_38 : decode cJ15_init_3 38 = .ok (.putfield 17, 3) := dk_181 0 17 (dk_at dksJ15_init_3_1 15 rfl rfl)
theorem dJ15_init_3_41 : decode cJ15_init_3 41 = .ok (.aload_n 0, 1) := dk_42 (dk_at dksJ15_init_3_1 18 rfl rfl)
theorem dJ15_init_3_42 : decode cJ15_init_3 42 = .ok (.aload_n 1, 1) := dk_43 (dk_at dksJ15_init_3_1 19 rfl rfl)
theorem dJ15_init_3_43 : decode cJ15_init_3 43 = .ok (.putfield 31, 3) := dk_181 0 31 (dk_at dksJ15_init_3_1 20 rfl rfl)
theorem dJ15_init_3_46 : decode cJ15_init_3 46 = .ok (.aload_n 0, 1) := dk_42 (dk_at dksJ15_init_3_1 23 rfl rfl)
theorem dJ15_init_3_47 : decode cJ15_init_3 47 = .ok (.aload_n 2, 1) := dk_44 (dk_at dksJ15_init_3_2 0 rfl rfl)
theorem dJ15_init_3_48 : decode cJ15_init_3 48 = .ok (.putfield 7, 3) := dk_181 0 7 (dk_at dksJ15_init_3_2 1 rfl rfl)
theorem dJ15_init_3_51 : decode cJ15_init_3 51 = .ok (.iload_n 3, 1) := dk_29 (dk_at dksJ15_init_3_2 4 rfl rfl)
theorem dJ15_init_3_52 : decode cJ15_init_3 52 = .ok (.ifCond .ne 8, 3) := dk_154 0 8 (dk_at dksJ15_init_3_2 5 rfl rfl)
theorem dJ15_init_3_55 : decode cJ15_init_3 55 = .ok (.aload_n 0, 1) := dk_42 (dk_at dksJ15_init_3_2 8 rfl rfl)
theorem dJ15_init_3_56 : decode cJ15_init_3 56 = .ok (.aconst_null, 1) := dk_1 (dk_at dksJ15_init_3_2 9 rfl rfl)
theorem dJ15_init_3_57 : decode cJ15_init_3 57 = .ok (.putfield 24, 3) := dk_181 0 24 (dk_at dksJ15_init_3_2 10 rfl rfl)
theorem dJ15_init_3_60 : decode cJ15_init_3 60 = .ok (.return_, 1) := dk_177 (dk_at dksJ15_init_3_2 13 rfl rfl)
abbrev cJ15_init_4 : ByteArray := prog_46_method_4_code
def yJ15_init_4 : MethodName := ⟨RJ15, "<init>", "(Ljava/lang/Throwable;)V"⟩
def dkwJ15_init_4_2 : List UInt8 := [181, 0, 7, 177]
abbrev dktJ15_init_4_2 : List UInt8 := dkwJ15_init_4_2 ++ []
def dkwJ15_init_4_1 : List UInt8 := [182, 0, 27, 87, 42, 43, 199, 0, 7, 1, 167, 0, 7, 43, 182, 0, 35, 181, 0, 31, 42, 43]
abbrev dktJ15_init_4_1 : List UInt8 := dkwJ15_init_4_1 ++ dktJ15_init_4_2
def dkwJ15_init_4_0 : List UInt8 := [42, 183, 0, 1, 42, 42, 181, 0, 7, 42, 178, 0, 13, 181, 0, 17, 42, 178, 0, 20, 181, 0, 24, 42]
abbrev dktJ15_init_4_0 : List UInt8 := dkwJ15_init_4_0 ++ dktJ15_init_4_1
theorem dksJ15_init_4_0 : cJ15_init_4.data.toList.drop 0 = dktJ15_init_4_0 := by decide +kernel
theorem dksJ15_init_4_1 : cJ15_init_4.data.toList.drop 24 = dktJ15_init_4_1 := dk_seg dksJ15_init_4_0 24 rfl rfl
theorem dksJ15_init_4_2 : cJ15_init_4.data.toList.drop 46 = dktJ15_init_4_2 := dk_seg dksJ15_init_4_1 22 rfl rfl
theorem dJ15_init_4_0 : decode cJ15_init_4 0 = .ok (.aload_n 0, 1) := dk_42 (dk_at dksJ15_init_4_0 0 rfl rfl)
theorem dJ15_init_4_1 : decode cJ15_init_4 1 = .ok (.invokespecial 1, 3) := dk_183 0 1 (dk_at dksJ15_init_4_0 1 rfl rfl)
theorem dJ15_init_4_4 : decode cJ15_init_4 4 = .ok (.aload_n 0, 1) := dk_42 (dk_at dksJ15_init_4_0 4 rfl rfl)
theorem dJ15_init_4_5 : decode cJ15_init_4 5 = .ok (.aload_n 0, 1) := dk_42 (dk_at dksJ15_init_4_0 5 rfl rfl)
theorem dJ15_init_4_6 : decode cJ15_init_4 6 = .ok (.putfield 7, 3) := dk_181 0 7 (dk_at dksJ15_init_4_0 6 rfl rfl)
theorem dJ15_init_4_9 : decode cJ15_init_4 9 = .ok (.aload_n 0, 1) := dk_42 (dk_at dksJ15_init_4_0 9 rfl rfl)
theorem dJ15_init_4_10 : decode cJ15_init_4 10 = .ok (.getstatic 13, 3) := dk_178 0 13 (dk_at dksJ15_init_4_0 10 rfl rfl)
theorem dJ15_init_4_13 : decode cJ15_init_4 13 = .ok (.putfield 17, 3) := dk_181 0 17 (dk_at dksJ15_init_4_0 13 rfl rfl)
theorem dJ15_init_4_16 : decode cJ15_init_4 16 = .ok (.aload_n 0, 1) := dk_42 (dk_at dksJ15_init_4_0 16 rfl rfl)
theorem dJ15_init_4_17 : decode cJ15_init_4 17 = .ok (.getstatic 20, 3) := dk_178 0 20 (dk_at dksJ15_init_4_0 17 rfl rfl)
theorem dJ15_init_4_20 : decode cJ15_init_4 20 = .ok (.putfield 24, 3) := dk_181 0 24 (dk_at dksJ15_init_4_0 20 rfl rfl)
theorem dJ15_init_4_23 : decode cJ15_init_4 23 = .ok (.aload_n 0, 1) := dk_42 (dk_at dksJ15_init_4_0 23 rfl rfl)
theorem dJ15_init_4_24 : decode cJ15_init_4 24 = .ok (.invokevirtual 27, 3) := dk_182 0 27 (dk_at dksJ15_init_4_1 0 rfl rfl)
theorem dJ15_init_4_27 : decode cJ15_init_4 27 = .ok (.pop, 1) := dk_87 (dk_at dksJ15_init_4_1 3 rfl rfl)
theorem dJ15_init_4_28 : decode cJ15_init_4 28 = .ok (.aload_n 0, 1) := dk_42 (dk_at dksJ15_init_4_1 4 rfl rfl)
theorem dJ15_init_4_29 : decode cJ15_init_4 29 = .ok (.aload_n 1, 1) := dk_43 (dk_at dksJ15_init_4_1 5 rfl rfl)
theorem dJ15_init_4_30 : decode cJ15_init_4 30 = .ok (.ifnonnull 7, 3) := dk_199 0 7 (dk_at dksJ15_init_4_1 6 rfl rfl)
theorem dJ15_init_4_33 : decode cJ15_init_4 33 = .ok (.aconst_null, 1) := dk_1 (dk_at dksJ15_init_4_1 9 rfl rfl)
theorem dJ15_init_4_34 : decode cJ15_init_4 34 = .ok (.goto 7, 3) := dk_167 0 7 (dk_at dksJ15_init_4_1 10 rfl rfl)
theorem dJ15_init_4_37 : decode cJ15_init_4 37 = .ok (.aload_n 1, 1) := dk_43 (dk_at dksJ15_init_4_1 13 rfl rfl)
theorem dJ15_init_4_38 : decode cJ15_init_4 38 = .ok (.invokevirtual 35, 3) := dk_182 0 35 (dk_at dksJ15_init_4_1 14 rfl rfl)
theorem dJ15_init_4_41 : decode cJ15_init_4 41 = .ok (.putfield 31, 3) := dk_181 0 31 (dk_at dksJ15_init_4_1 17 rfl rfl)
theorem dJ15_init_4_44 : decode cJ15_init_4 44 = .ok (.aload_n 0, 1) := dk_42 (dk_at dksJ15_init_4_1 20 rfl rfl)
theorem dJ15_init_4_45 : decode cJ15_init_4 45 = .ok (.aload_n 1, 1) := dk_43 (dk_at dksJ15_init_4_1 21 rfl rfl)
theorem dJ15_init_4_46 : decode cJ15_init_4 46 = .ok (.putfield 7, 3) := dk_181 0 7 (dk_at dksJ15_init_4_2 0 rfl rfl)
theorem dJ15_init_4_49 : decode cJ15_init_4 49 = .ok (.return_, 1) := dk_177 (dk_at dksJ15_init_4_2 3 rfl rfl)
abbrev cJ15_toString : ByteArray := prog_46_method_11_code
def yJ15_toString : MethodName := ⟨RJ15, "toString", "()Ljava/lang/String;"⟩
def dkwJ15_toString_1 : List UInt8 := [43, 182, 0, 49, 18, 81, 182, 0, 49, 44, 182, 0, 49, 182, 0, 60, 167, 0, 4, 43, 176]
abbrev dktJ15_toString_1 : List UInt8 := dkwJ15_toString_1 ++ []
def dkwJ15_toString_0 : List UInt8 := [42, 182, 0, 69, 182, 0, 73, 76, 42, 182, 0, 78, 77, 44, 198, 0, 29, 187, 0, 44, 89, 183, 0, 46]
abbrev dktJ15_toString_0 : List UInt8 := dkwJ15_toString_0 ++ dktJ15_toString_1
theorem dksJ15_toString_0 : cJ15_toString.data.toList.drop 0 = dktJ15_toString_0 := by decide +kernel
theorem dksJ15_toString_1 : cJ15_toString.data.toList.drop 24 = dktJ15_toString_1 := dk_seg dksJ15_toString_0 24 rfl rfl
theorem dJ15_toString_0 : decode cJ15_toString 0 = .ok (.aload_n 0, 1) := dk_42 (dk_at dksJ15_toString_0 0 rfl rfl)
theorem dJ15_toString_1 : decode cJ15_toString 1 = .ok (.invokevirtual 69, 3) := dk_182 0 69 (dk_at dksJ15_toString_0 1 rfl rfl)
theorem dJ15_toString_4 : decode cJ15_toString 4 = .ok (.invokevirtual 73, 3) := dk_182 0 73 (dk_at dksJ15_toString_0 4 rfl rfl)
theorem dJ15_toString_7 : decode cJ15_toString 7 = .ok (.astore_n 1, 1) := dk_76 (dk_at dksJ15_toString_0 7 rfl rfl)
theorem dJ15_toString_8 : decode cJ15_toString 8 = .ok (.aload_n 0, 1) := dk_42 (dk_at dksJ15_toString_0 8 rfl rfl)
theorem dJ15_toString_9 : decode cJ15_toString 9 = .ok (.invokevirtual 78, 3) := dk_182 0 78 (dk_at dksJ15_toString_0 9 rfl rfl)
theorem dJ15_toString_12 : decode cJ15_toString 12 = .ok (.astore_n 2, 1) := dk_77 (dk_at dksJ15_toString_0 12 rfl rfl)
theorem dJ15_toString_13 : decode cJ15_toString 13 = .ok (.aload_n 2, 1) := dk_44 (dk_at dksJ15_toString_0 13 rfl rfl)
theorem dJ15_toString_14 : decode cJ15_toString 14 = .ok (.ifnull 29, 3) := dk_198 0 29 (dk_at dksJ15_toString_0 14 rfl rfl)
theorem dJ15_toString_17 : decode cJ15_toString 17 = .ok (.new 44, 3) := dk_187 0 44 (dk_at dksJ15_toString_0 17 rfl rfl)
theorem dJ15_toString_20 : decode cJ15_toString 20 = .ok (.dup, 1) := dk_89 (dk_at dksJ15_toString_0 20 rfl rfl)
theorem dJ15_toString_21 : decode cJ15_toString 21 = .ok (.invokespecial 46, 3) := dk_183 0 46 (dk_at dksJ15_toString_0 21 rfl rfl)
theorem dJ15_toString_24 : decode cJ15_toString 24 = .ok (.aload_n 1, 1) := dk_43 (dk_at dksJ15_toString_1 0 rfl rfl)
theorem dJ15_toString_25 : decode cJ15_toString 25 = .ok (.invokevirtual 49, 3) := dk_182 0 49 (dk_at dksJ15_toString_1 1 rfl rfl)
theorem dJ15_toString_28 : decode cJ15_toString 28 = .ok (.ldc 81, 2) := dk_18 81 (dk_at dksJ15_toString_1 4 rfl rfl)
theorem dJ15_toString_30 : decode cJ15_toString 30 = .ok (.invokevirtual 49, 3) := dk_182 0 49 (dk_at dksJ15_toString_1 6 rfl rfl)
theorem dJ15_toString_33 : decode cJ15_toString 33 = .ok (.aload_n 2, 1) := dk_44 (dk_at dksJ15_toString_1 9 rfl rfl)
theorem dJ15_toString_34 : decode cJ15_toString 34 = .ok (.invokevirtual 49, 3) := dk_182 0 49 (dk_at dksJ15_toString_1 10 rfl rfl)
theorem dJ15_toString_37 : decode cJ15_toString 37 = .ok (.invokevirtual 60, 3) := dk_182 0 60 (dk_at dksJ15_toString_1 13 rfl rfl)
theorem dJ15_toString_40 : decode cJ15_toString 40 = .ok (.goto 4, 3) := dk_167 0 4 (dk_at dksJ15_toString_1 16 rfl rfl)
theorem dJ15_toString_43 : decode cJ15_toString 43 = .ok (.aload_n 1, 1) := dk_43 (dk_at dksJ15_toString_1 19 rfl rfl)
theorem dJ15_toString_44 : decode cJ15_toString 44 = .ok (.areturn, 1) := dk_176 (dk_at dksJ15_toString_1 20 rfl rfl)
abbrev cJ15_getLocalizedMessage : ByteArray := prog_46_method_7_code
def yJ15_getLocalizedMessage : MethodName := ⟨RJ15, "getLocalizedMessage", "()Ljava/lang/String;"⟩
theorem dJ15_getLocalizedMessage_0 : decode cJ15_getLocalizedMessage 0 = .ok (.aload_n 0, 1) := by decide +kernel
theorem dJ15_getLocalizedMessage_1 : decode cJ15_getLocalizedMessage 1 = .ok (.invokevirtual 39, 3) := by decide +kernel
theorem dJ15_getLocalizedMessage_4 : decode cJ15_getLocalizedMessage 4 = .ok (.areturn, 1) := by decide +kernel
abbrev cJ15_getMessage : ByteArray := prog_46_method_6_code
def yJ15_getMessage : MethodName := ⟨RJ15, "getMessage", "()Ljava/lang/String;"⟩
theorem dJ15_getMessage_0 : decode cJ15_getMessage 0 = .ok (.aload_n 0, 1) := by decide +kernel
theorem dJ15_getMessage_1 : decode cJ15_getMessage 1 = .ok (.getfield 31, 3) := by decide +kernel
theorem dJ15_getMessage_4 : decode cJ15_getMessage 4 = .ok (.areturn, 1) := by decide +kernel
theorem q199 : (Jvm.Cond.initialized "java/lang/Throwable") ∈ lw_all := lw_g (lw_at lw_m1 23 rfl) rfl
theorem q804 : (Jvm.Cond.declares ({ cls := "java/lang/Throwable", name := "<init>", desc := "()V" } : Jvm.MethodName)) ∈ lw_tbl := lw_at lw_m3 148 rfl
theorem q805 : (Jvm.Cond.declares ({ cls := "java/lang/Throwable", name := "<init>", desc := "(Ljava/lang/String;)V" } : Jvm.MethodName)) ∈ lw_tbl := lw_at lw_m3 149 rfl
theorem q809 : (Jvm.Cond.lays "java/lang/Throwable" "java/lang/Throwable" "cause" "Ljava/lang/Throwable;") ∈ lw_all := lw_g (lw_at lw_m3 153 rfl) rfl
theorem q811 : (Jvm.Cond.lays "java/lang/Throwable" "java/lang/Throwable" "stackTrace" "[Ljava/lang/StackTraceElement;") ∈ lw_all := lw_g (lw_at lw_m3 155 rfl) rfl
theorem q813 : (Jvm.Cond.lays "java/lang/Throwable" "java/lang/Throwable" "suppressedExceptions" "Ljava/util/List;") ∈ lw_all := lw_g (lw_at lw_m3 157 rfl) rfl
theorem q815 : (Jvm.Cond.lays "java/lang/Throwable" "java/lang/Throwable" "detailMessage" "Ljava/lang/String;") ∈ lw_all := lw_g (lw_at lw_m3 159 rfl) rfl
theorem q817 : (Jvm.Cond.lays "java/lang/Throwable" "java/lang/Throwable" "backtrace" "Ljava/lang/Object;") ∈ lw_all := lw_g (lw_at lw_m3 161 rfl) rfl
theorem q818 : (Jvm.Cond.fieldLink "java/lang/Throwable" (198 : Nat) "java/lang/Throwable" "backtrace" "Ljava/lang/Object;") ∈ lw_all := lw_g (lw_at lw_m3 162 rfl) rfl
theorem q819 : (Jvm.Cond.superclass "java/lang/Throwable" "java/lang/Object") ∈ lw_all := lw_g (lw_at lw_m3 163 rfl) rfl
theorem q820 : (Jvm.Cond.instanceMethod ({ cls := "java/lang/Throwable", name := "<init>", desc := "()V" } : Jvm.MethodName)) ∈ lw_all := lw_g (lw_at lw_m3 164 rfl) rfl
theorem q821 : (Jvm.Cond.code ({ cls := "java/lang/Throwable", name := "<init>", desc := "()V" } : Jvm.MethodName) prog_46_method_1_code (1 : Nat) (Option.none : Option Jvm.ClassFile.FieldType)) ∈ lw_all := lw_g (lw_at lw_m3 165 rfl) rfl
theorem q822 : (Jvm.Cond.methodLink "java/lang/Throwable" (1 : Nat) ({ cls := "java/lang/Object", name := "<init>", desc := "()V" } : Jvm.MethodName)) ∈ lw_all := lw_g (lw_at lw_m3 166 rfl) rfl
theorem q823 : (Jvm.Cond.fieldLink "java/lang/Throwable" (13 : Nat) "java/lang/Throwable" "UNASSIGNED_STACK" "[Ljava/lang/StackTraceElement;") ∈ lw_all := lw_g (lw_at lw_m3 167 rfl) rfl
theorem q824 : (Jvm.Cond.laysStatic "java/lang/Throwable" "UNASSIGNED_STACK" "[Ljava/lang/StackTraceElement;") ∈ lw_tbl := lw_at lw_m3 168 rfl
theorem q825 : (Jvm.Cond.fieldLink "java/lang/Throwable" (20 : Nat) "java/lang/Throwable" "SUPPRESSED_SENTINEL" "Ljava/util/List;") ∈ lw_all := lw_g (lw_at lw_m3 169 rfl) rfl
theorem q826 : (Jvm.Cond.laysStatic "java/lang/Throwable" "SUPPRESSED_SENTINEL" "Ljava/util/List;") ∈ lw_tbl := lw_at lw_m3 170 rfl
theorem q827 : (Jvm.Cond.methodLink "java/lang/Throwable" (27 : Nat) ({ cls := "java/lang/Throwable", name := "fillInStackTrace", desc := "()Ljava/lang/Throwable;" } : Jvm.MethodName)) ∈ lw_all := lw_g (lw_at lw_m3 171 rfl) rfl
theorem q828 : (Jvm.Cond.instanceMethod ({ cls := "java/lang/Throwable", name := "fillInStackTrace", desc := "()Ljava/lang/Throwable;" } : Jvm.MethodName)) ∈ lw_all := lw_g (lw_at lw_m3 172 rfl) rfl
theorem q829 : (Jvm.Cond.sameMethod "java/lang/Throwable" "java/lang/Throwable" "fillInStackTrace" "()Ljava/lang/Throwable;") ∈ lw_all := lw_g (lw_at lw_m3 173 rfl) rfl
theorem q836 : (Jvm.Cond.codeSync ({ cls := "java/lang/Throwable", name := "fillInStackTrace", desc := "()Ljava/lang/Throwable;" } : Jvm.MethodName) prog_46_method_18_code (1 : Nat) (Option.some (Jvm.ClassFile.FieldType.object "java/lang/Throwable"))) ∈ lw_all := lw_g (lw_at lw_m3 180 rfl) rfl
theorem q837 : (Jvm.Cond.methodLink "java/lang/Throwable" (202 : Nat) ({ cls := "java/lang/Throwable", name := "fillInStackTrace", desc := "(I)Ljava/lang/Throwable;" } : Jvm.MethodName)) ∈ lw_all := lw_g (lw_at lw_m3 181 rfl) rfl
theorem q838 : (Jvm.Cond.privateMethod ({ cls := "java/lang/Throwable", name := "fillInStackTrace", desc := "(I)Ljava/lang/Throwable;" } : Jvm.MethodName)) ∈ lw_tbl := lw_at lw_m3 182 rfl
theorem q839 : (Jvm.Cond.instanceMethod ({ cls := "java/lang/Throwable", name := "fillInStackTrace", desc := "(I)Ljava/lang/Throwable;" } : Jvm.MethodName)) ∈ lw_all := lw_g (lw_at lw_m3 183 rfl) rfl
theorem q840 : (Jvm.Cond.instantiable "java/lang/Throwable" (6 : Nat)) ∈ lw_all := lw_g (lw_at lw_m3 184 rfl) rfl
theorem q841 : (Jvm.Cond.native ({ cls := "java/lang/Throwable", name := "fillInStackTrace", desc := "(I)Ljava/lang/Throwable;" } : Jvm.MethodName)) ∈ lw_all := lw_g (lw_at lw_m3 185 rfl) rfl
theorem q928 : (Jvm.Cond.instanceMethod ({ cls := "java/lang/Throwable", name := "<init>", desc := "(Ljava/lang/String;)V" } : Jvm.MethodName)) ∈ lw_all := lw_g (lw_at lw_m4 32 rfl) rfl
theorem q929 : (Jvm.Cond.code ({ cls := "java/lang/Throwable", name := "<init>", desc := "(Ljava/lang/String;)V" } : Jvm.MethodName) prog_46_method_2_code (2 : Nat) (Option.none : Option Jvm.ClassFile.FieldType)) ∈ lw_all := lw_g (lw_at lw_m4 33 rfl) rfl
theorem q930 : (Jvm.Cond.fieldLink "java/lang/Throwable" (198 : Nat) "java/lang/Throwable" "backtrace" "Ljava/lang/Object;") ∈ lw_all := lw_g (lw_at lw_m4 34 rfl) rfl
theorem q931 : (Jvm.Cond.fieldLink "java/lang/Throwable" (31 : Nat) "java/lang/Throwable" "detailMessage" "Ljava/lang/String;") ∈ lw_all := lw_g (lw_at lw_m4 35 rfl) rfl
theorem q932 : (Jvm.Cond.fieldLink "java/lang/Throwable" (7 : Nat) "java/lang/Throwable" "cause" "Ljava/lang/Throwable;") ∈ lw_all := lw_g (lw_at lw_m4 36 rfl) rfl
theorem q933 : (Jvm.Cond.fieldLink "java/lang/Throwable" (17 : Nat) "java/lang/Throwable" "stackTrace" "[Ljava/lang/StackTraceElement;") ∈ lw_all := lw_g (lw_at lw_m4 37 rfl) rfl
theorem q934 : (Jvm.Cond.fieldLink "java/lang/Throwable" (24 : Nat) "java/lang/Throwable" "suppressedExceptions" "Ljava/util/List;") ∈ lw_all := lw_g (lw_at lw_m4 38 rfl) rfl
theorem q935 : (Jvm.Cond.soleField "java/lang/Throwable" "backtrace") ∈ lw_all := lw_g (lw_at lw_m4 39 rfl) rfl
theorem q936 : (Jvm.Cond.soleField "java/lang/Throwable" "detailMessage") ∈ lw_all := lw_g (lw_at lw_m4 40 rfl) rfl
theorem q937 : (Jvm.Cond.soleField "java/lang/Throwable" "cause") ∈ lw_all := lw_g (lw_at lw_m4 41 rfl) rfl
theorem q938 : (Jvm.Cond.soleField "java/lang/Throwable" "stackTrace") ∈ lw_all := lw_g (lw_at lw_m4 42 rfl) rfl
theorem q940 : (Jvm.Cond.soleField "java/lang/Throwable" "depth") ∈ lw_all := lw_g (lw_at lw_m4 44 rfl) rfl
theorem q941 : (Jvm.Cond.soleField "java/lang/Throwable" "suppressedExceptions") ∈ lw_all := lw_g (lw_at lw_m4 45 rfl) rfl
theorem q998 : (Jvm.Cond.instanceMethod ({ cls := "java/lang/Throwable", name := "<init>", desc := "(Ljava/lang/String;Ljava/lang/Throwable;ZZ)V" } : Jvm.MethodName)) ∈ lw_all := lw_g (lw_at lw_m4 102 rfl) rfl
theorem q999 : (Jvm.Cond.code ({ cls := "java/lang/Throwable", name := "<init>", desc := "(Ljava/lang/String;Ljava/lang/Throwable;ZZ)V" } : Jvm.MethodName) prog_46_method_5_code (5 : Nat) (Option.none : Option Jvm.ClassFile.FieldType)) ∈ lw_all := lw_g (lw_at lw_m4 103 rfl) rfl
theorem q2252 : (Jvm.Cond.instanceMethod ({ cls := "java/lang/Throwable", name := "<init>", desc := "(Ljava/lang/Throwable;)V" } : Jvm.MethodName)) ∈ lw_all := lw_g (lw_at lw_m9 156 rfl) rfl
theorem q2253 : (Jvm.Cond.code ({ cls := "java/lang/Throwable", name := "<init>", desc := "(Ljava/lang/Throwable;)V" } : Jvm.MethodName) prog_46_method_4_code (2 : Nat) (Option.none : Option Jvm.ClassFile.FieldType)) ∈ lw_all := lw_g (lw_at lw_m9 157 rfl) rfl
theorem q2254 : (Jvm.Cond.methodLink "java/lang/Throwable" (35 : Nat) ({ cls := "java/lang/Throwable", name := "toString", desc := "()Ljava/lang/String;" } : Jvm.MethodName)) ∈ lw_all := lw_g (lw_at lw_m9 158 rfl) rfl
theorem q2255 : (Jvm.Cond.instanceMethod ({ cls := "java/lang/Throwable", name := "toString", desc := "()Ljava/lang/String;" } : Jvm.MethodName)) ∈ lw_all := lw_g (lw_at lw_m9 159 rfl) rfl
theorem q2256 : (Jvm.Cond.sameMethod "java/lang/Throwable" "java/lang/Throwable" "toString" "()Ljava/lang/String;") ∈ lw_all := lw_g (lw_at lw_m9 160 rfl) rfl
theorem q2264 : (Jvm.Cond.code ({ cls := "java/lang/Throwable", name := "toString", desc := "()Ljava/lang/String;" } : Jvm.MethodName) prog_46_method_11_code (3 : Nat) (Option.some (Jvm.ClassFile.FieldType.object "java/lang/String"))) ∈ lw_all := lw_g (lw_at lw_m9 168 rfl) rfl
theorem q2265 : (Jvm.Cond.methodLink "java/lang/Throwable" (69 : Nat) ({ cls := "java/lang/Object", name := "getClass", desc := "()Ljava/lang/Class;" } : Jvm.MethodName)) ∈ lw_all := lw_g (lw_at lw_m9 169 rfl) rfl
theorem q2266 : (Jvm.Cond.methodLink "java/lang/Throwable" (78 : Nat) ({ cls := "java/lang/Throwable", name := "getLocalizedMessage", desc := "()Ljava/lang/String;" } : Jvm.MethodName)) ∈ lw_all := lw_g (lw_at lw_m9 170 rfl) rfl
theorem q2267 : (Jvm.Cond.instanceMethod ({ cls := "java/lang/Throwable", name := "getLocalizedMessage", desc := "()Ljava/lang/String;" } : Jvm.MethodName)) ∈ lw_all := lw_g (lw_at lw_m9 171 rfl) rfl
theorem q2268 : (Jvm.Cond.sameMethod "java/lang/Throwable" "java/lang/Throwable" "getLocalizedMessage" "()Ljava/lang/String;") ∈ lw_all := lw_g (lw_at lw_m9 172 rfl) rfl
theorem q2276 : (Jvm.Cond.code ({ cls := "java/lang/Throwable", name := "getLocalizedMessage", desc := "()Ljava/lang/String;" } : Jvm.MethodName) prog_46_method_7_code (1 : Nat) (Option.some (Jvm.ClassFile.FieldType.object "java/lang/String"))) ∈ lw_all := lw_g (lw_at lw_m9 180 rfl) rfl
theorem q2277 : (Jvm.Cond.methodLink "java/lang/Throwable" (39 : Nat) ({ cls := "java/lang/Throwable", name := "getMessage", desc := "()Ljava/lang/String;" } : Jvm.MethodName)) ∈ lw_all := lw_g (lw_at lw_m9 181 rfl) rfl
theorem q2278 : (Jvm.Cond.instanceMethod ({ cls := "java/lang/Throwable", name := "getMessage", desc := "()Ljava/lang/String;" } : Jvm.MethodName)) ∈ lw_all := lw_g (lw_at lw_m9 182 rfl) rfl
theorem q2279 : (Jvm.Cond.sameMethod "java/lang/Throwable" "java/lang/Throwable" "getMessage" "()Ljava/lang/String;") ∈ lw_all := lw_g (lw_at lw_m9 183 rfl) rfl
theorem q2287 : (Jvm.Cond.code ({ cls := "java/lang/Throwable", name := "getMessage", desc := "()Ljava/lang/String;" } : Jvm.MethodName) prog_46_method_6_code (1 : Nat) (Option.some (Jvm.ClassFile.FieldType.object "java/lang/String"))) ∈ lw_all := lw_g (lw_at lw_m9 191 rfl) rfl
theorem q2288 : (Jvm.Cond.classLink "java/lang/Throwable" (44 : Nat) "java/lang/StringBuilder") ∈ lw_all := lw_g (lw_at lw_m9 192 rfl) rfl
theorem q2289 : (Jvm.Cond.methodLink "java/lang/Throwable" (46 : Nat) ({ cls := "java/lang/StringBuilder", name := "<init>", desc := "()V" } : Jvm.MethodName)) ∈ lw_all := lw_g (lw_at lw_m9 193 rfl) rfl
theorem q2290 : (Jvm.Cond.methodLink "java/lang/Throwable" (49 : Nat) ({ cls := "java/lang/StringBuilder", name := "append", desc := "(Ljava/lang/String;)Ljava/lang/StringBuilder;" } : Jvm.MethodName)) ∈ lw_all := lw_g (lw_at lw_m9 194 rfl) rfl
theorem q2291 : (Jvm.Cond.stringRef "java/lang/Throwable" (81 : Nat) ": ") ∈ lw_tbl := lw_at lw_m9 195 rfl
theorem q2292 : (Jvm.Cond.methodLink "java/lang/Throwable" (60 : Nat) ({ cls := "java/lang/StringBuilder", name := "toString", desc := "()Ljava/lang/String;" } : Jvm.MethodName)) ∈ lw_all := lw_g (lw_at lw_m9 196 rfl) rfl
theorem q4454 : (Jvm.Cond.sameMethod "java/lang/Throwable" "java/lang/Throwable" "fillInStackTrace" "(I)Ljava/lang/Throwable;") ∈ lw_all := lw_g (lw_at lw_m18 198 rfl) rfl
theorem q4522 : (Jvm.Cond.castable "java/lang/Throwable" "java/lang/Object") ∈ lw_tbl := lw_at lw_m19 26 rfl
theorem in_J15 : ∀ w ∈ wsJ150, w ∈ lw_all := lw_in wsJ150 [809, 811, 813, 815, 817] (by decide +kernel) (by decide +kernel)

/-! java/lang/Exception -/
set_option maxRecDepth 100000
def RJ16 : String := "java/lang/Exception"
abbrev cJ16_init : ByteArray := prog_28_method_2_code
def yJ16_init : MethodName := ⟨RJ16, "<init>", "(Ljava/lang/String;)V"⟩
def dkwJ16_init_0 : List UInt8 := [42, 43, 183, 0, 7, 177]
abbrev dktJ16_init_0 : List UInt8 := dkwJ16_init_0 ++ []
theorem dksJ16_init_0 : cJ16_init.data.toList.drop 0 = dktJ16_init_0 := by decide +kernel
theorem dJ16_init_0 : decode cJ16_init 0 = .ok (.aload_n 0, 1) := dk_42 (dk_at dksJ16_init_0 0 rfl rfl)
theorem dJ16_init_1 : decode cJ16_init 1 = .ok (.aload_n 1, 1) := dk_43 (dk_at dksJ16_init_0 1 rfl rfl)
theorem dJ16_init_2 : decode cJ16_init 2 = .ok (.invokespecial 7, 3) := dk_183 0 7 (dk_at dksJ16_init_0 2 rfl rfl)
theorem dJ16_init_5 : decode cJ16_init 5 = .ok (.return_, 1) := dk_177 (dk_at dksJ16_init_0 5 rfl rfl)
abbrev cJ16_init_2 : ByteArray := prog_28_method_5_code
def yJ16_init_2 : MethodName := ⟨RJ16, "<init>", "(Ljava/lang/String;Ljava/lang/Throwable;ZZ)V"⟩
def dkwJ16_init_2_0 : List UInt8 := [42, 43, 44, 29, 21, 4, 183, 0, 16, 177]
abbrev dktJ16_init_2_0 : List UInt8 := dkwJ16_init_2_0 ++ []
theorem dksJ16_init_2_0 : cJ16_init_2.data.toList.drop 0 = dktJ16_init_2_0 := by decide +kernel
theorem dJ16_init_2_0 : decode cJ16_init_2 0 = .ok (.aload_n 0, 1) := dk_42 (dk_at dksJ16_init_2_0 0 rfl rfl)
theorem dJ16_init_2_1 : decode cJ16_init_2 1 = .ok (.aload_n 1, 1) := dk_43 (dk_at dksJ16_init_2_0 1 rfl rfl)
theorem dJ16_init_2_2 : decode cJ16_init_2 2 = .ok (.aload_n 2, 1) := dk_44 (dk_at dksJ16_init_2_0 2 rfl rfl)
theorem dJ16_init_2_3 : decode cJ16_init_2 3 = .ok (.iload_n 3, 1) := dk_29 (dk_at dksJ16_init_2_0 3 rfl rfl)
theorem dJ16_init_2_4 : decode cJ16_init_2 4 = .ok (.iload 4, 2) := dk_21 4 (dk_at dksJ16_init_2_0 4 rfl rfl)
theorem dJ16_init_2_6 : decode cJ16_init_2 6 = .ok (.invokespecial 16, 3) := dk_183 0 16 (dk_at dksJ16_init_2_0 6 rfl rfl)
theorem dJ16_init_2_9 : decode cJ16_init_2 9 = .ok (.return_, 1) := dk_177 (dk_at dksJ16_init_2_0 9 rfl rfl)
abbrev cJ16_init_3 : ByteArray := prog_28_method_4_code
def yJ16_init_3 : MethodName := ⟨RJ16, "<init>", "(Ljava/lang/Throwable;)V"⟩
def dkwJ16_init_3_0 : List UInt8 := [42, 43, 183, 0, 13, 177]
abbrev dktJ16_init_3_0 : List UInt8 := dkwJ16_init_3_0 ++ []
theorem dksJ16_init_3_0 : cJ16_init_3.data.toList.drop 0 = dktJ16_init_3_0 := by decide +kernel
theorem dJ16_init_3_0 : decode cJ16_init_3 0 = .ok (.aload_n 0, 1) := dk_42 (dk_at dksJ16_init_3_0 0 rfl rfl)
theorem dJ16_init_3_1 : decode cJ16_init_3 1 = .ok (.aload_n 1, 1) := dk_43 (dk_at dksJ16_init_3_0 1 rfl rfl)
theorem dJ16_init_3_2 : decode cJ16_init_3 2 = .ok (.invokespecial 13, 3) := dk_183 0 13 (dk_at dksJ16_init_3_0 2 rfl rfl)
theorem dJ16_init_3_5 : decode cJ16_init_3 5 = .ok (.return_, 1) := dk_177 (dk_at dksJ16_init_3_0 5 rfl rfl)
abbrev cJ16_init_4 : ByteArray := prog_28_method_1_code
def yJ16_init_4 : MethodName := ⟨RJ16, "<init>", "()V"⟩
theorem dJ16_init_4_0 : decode cJ16_init_4 0 = .ok (.aload_n 0, 1) := by decide +kernel
theorem dJ16_init_4_1 : decode cJ16_init_4 1 = .ok (.invokespecial 1, 3) := by decide +kernel
theorem dJ16_init_4_4 : decode cJ16_init_4 4 = .ok (.return_, 1) := by decide +kernel
theorem q200 : (Jvm.Cond.initialized "java/lang/Exception") ∈ lw_all := lw_g (lw_at lw_m1 24 rfl) rfl
theorem q802 : (Jvm.Cond.declares ({ cls := "java/lang/Exception", name := "<init>", desc := "()V" } : Jvm.MethodName)) ∈ lw_tbl := lw_at lw_m3 146 rfl
theorem q803 : (Jvm.Cond.declares ({ cls := "java/lang/Exception", name := "<init>", desc := "(Ljava/lang/String;)V" } : Jvm.MethodName)) ∈ lw_tbl := lw_at lw_m3 147 rfl
theorem q925 : (Jvm.Cond.instanceMethod ({ cls := "java/lang/Exception", name := "<init>", desc := "(Ljava/lang/String;)V" } : Jvm.MethodName)) ∈ lw_all := lw_g (lw_at lw_m4 29 rfl) rfl
theorem q926 : (Jvm.Cond.code ({ cls := "java/lang/Exception", name := "<init>", desc := "(Ljava/lang/String;)V" } : Jvm.MethodName) prog_28_method_2_code (2 : Nat) (Option.none : Option Jvm.ClassFile.FieldType)) ∈ lw_all := lw_g (lw_at lw_m4 30 rfl) rfl
theorem q927 : (Jvm.Cond.methodLink "java/lang/Exception" (7 : Nat) ({ cls := "java/lang/Throwable", name := "<init>", desc := "(Ljava/lang/String;)V" } : Jvm.MethodName)) ∈ lw_all := lw_g (lw_at lw_m4 31 rfl) rfl
theorem q995 : (Jvm.Cond.instanceMethod ({ cls := "java/lang/Exception", name := "<init>", desc := "(Ljava/lang/String;Ljava/lang/Throwable;ZZ)V" } : Jvm.MethodName)) ∈ lw_all := lw_g (lw_at lw_m4 99 rfl) rfl
theorem q996 : (Jvm.Cond.code ({ cls := "java/lang/Exception", name := "<init>", desc := "(Ljava/lang/String;Ljava/lang/Throwable;ZZ)V" } : Jvm.MethodName) prog_28_method_5_code (5 : Nat) (Option.none : Option Jvm.ClassFile.FieldType)) ∈ lw_all := lw_g (lw_at lw_m4 100 rfl) rfl
theorem q997 : (Jvm.Cond.methodLink "java/lang/Exception" (16 : Nat) ({ cls := "java/lang/Throwable", name := "<init>", desc := "(Ljava/lang/String;Ljava/lang/Throwable;ZZ)V" } : Jvm.MethodName)) ∈ lw_all := lw_g (lw_at lw_m4 101 rfl) rfl
theorem q2249 : (Jvm.Cond.instanceMethod ({ cls := "java/lang/Exception", name := "<init>", desc := "(Ljava/lang/Throwable;)V" } : Jvm.MethodName)) ∈ lw_all := lw_g (lw_at lw_m9 153 rfl) rfl
theorem q2250 : (Jvm.Cond.code ({ cls := "java/lang/Exception", name := "<init>", desc := "(Ljava/lang/Throwable;)V" } : Jvm.MethodName) prog_28_method_4_code (2 : Nat) (Option.none : Option Jvm.ClassFile.FieldType)) ∈ lw_all := lw_g (lw_at lw_m9 154 rfl) rfl
theorem q2251 : (Jvm.Cond.methodLink "java/lang/Exception" (13 : Nat) ({ cls := "java/lang/Throwable", name := "<init>", desc := "(Ljava/lang/Throwable;)V" } : Jvm.MethodName)) ∈ lw_all := lw_g (lw_at lw_m9 155 rfl) rfl
theorem q2314 : (Jvm.Cond.instanceMethod ({ cls := "java/lang/Exception", name := "<init>", desc := "()V" } : Jvm.MethodName)) ∈ lw_all := lw_g (lw_at lw_m9 218 rfl) rfl
theorem q2315 : (Jvm.Cond.code ({ cls := "java/lang/Exception", name := "<init>", desc := "()V" } : Jvm.MethodName) prog_28_method_1_code (1 : Nat) (Option.none : Option Jvm.ClassFile.FieldType)) ∈ lw_all := lw_g (lw_at lw_m9 219 rfl) rfl
theorem q2316 : (Jvm.Cond.methodLink "java/lang/Exception" (1 : Nat) ({ cls := "java/lang/Throwable", name := "<init>", desc := "()V" } : Jvm.MethodName)) ∈ lw_all := lw_g (lw_at lw_m9 220 rfl) rfl

/-! java/lang/RuntimeException -/
set_option maxRecDepth 100000
def RJ17 : String := "java/lang/RuntimeException"
abbrev cJ17_init : ByteArray := prog_38_method_2_code
def yJ17_init : MethodName := ⟨RJ17, "<init>", "(Ljava/lang/String;)V"⟩
def dkwJ17_init_0 : List UInt8 := [42, 43, 183, 0, 7, 177]
abbrev dktJ17_init_0 : List UInt8 := dkwJ17_init_0 ++ []
theorem dksJ17_init_0 : cJ17_init.data.toList.drop 0 = dktJ17_init_0 := by decide +kernel
theorem dJ17_init_0 : decode cJ17_init 0 = .ok (.aload_n 0, 1) := dk_42 (dk_at dksJ17_init_0 0 rfl rfl)
theorem dJ17_init_1 : decode cJ17_init 1 = .ok (.aload_n 1, 1) := dk_43 (dk_at dksJ17_init_0 1 rfl rfl)
theorem dJ17_init_2 : decode cJ17_init 2 = .ok (.invokespecial 7, 3) := dk_183 0 7 (dk_at dksJ17_init_0 2 rfl rfl)
theorem dJ17_init_5 : decode cJ17_init 5 = .ok (.return_, 1) := dk_177 (dk_at dksJ17_init_0 5 rfl rfl)
abbrev cJ17_init_2 : ByteArray := prog_38_method_4_code
def yJ17_init_2 : MethodName := ⟨RJ17, "<init>", "(Ljava/lang/Throwable;)V"⟩
def dkwJ17_init_2_0 : List UInt8 := [42, 43, 183, 0, 13, 177]
abbrev dktJ17_init_2_0 : List UInt8 := dkwJ17_init_2_0 ++ []
theorem dksJ17_init_2_0 : cJ17_init_2.data.toList.drop 0 = dktJ17_init_2_0 := by decide +kernel
theorem dJ17_init_2_0 : decode cJ17_init_2 0 = .ok (.aload_n 0, 1) := dk_42 (dk_at dksJ17_init_2_0 0 rfl rfl)
theorem dJ17_init_2_1 : decode cJ17_init_2 1 = .ok (.aload_n 1, 1) := dk_43 (dk_at dksJ17_init_2_0 1 rfl rfl)
theorem dJ17_init_2_2 : decode cJ17_init_2 2 = .ok (.invokespecial 13, 3) := dk_183 0 13 (dk_at dksJ17_init_2_0 2 rfl rfl)
theorem dJ17_init_2_5 : decode cJ17_init_2 5 = .ok (.return_, 1) := dk_177 (dk_at dksJ17_init_2_0 5 rfl rfl)
abbrev cJ17_init_3 : ByteArray := prog_38_method_1_code
def yJ17_init_3 : MethodName := ⟨RJ17, "<init>", "()V"⟩
theorem dJ17_init_3_0 : decode cJ17_init_3 0 = .ok (.aload_n 0, 1) := by decide +kernel
theorem dJ17_init_3_1 : decode cJ17_init_3 1 = .ok (.invokespecial 1, 3) := by decide +kernel
theorem dJ17_init_3_4 : decode cJ17_init_3 4 = .ok (.return_, 1) := by decide +kernel
theorem q201 : (Jvm.Cond.initialized "java/lang/RuntimeException") ∈ lw_all := lw_g (lw_at lw_m1 25 rfl) rfl
theorem q800 : (Jvm.Cond.declares ({ cls := "java/lang/RuntimeException", name := "<init>", desc := "()V" } : Jvm.MethodName)) ∈ lw_tbl := lw_at lw_m3 144 rfl
theorem q801 : (Jvm.Cond.declares ({ cls := "java/lang/RuntimeException", name := "<init>", desc := "(Ljava/lang/String;)V" } : Jvm.MethodName)) ∈ lw_tbl := lw_at lw_m3 145 rfl
theorem q922 : (Jvm.Cond.instanceMethod ({ cls := "java/lang/RuntimeException", name := "<init>", desc := "(Ljava/lang/String;)V" } : Jvm.MethodName)) ∈ lw_all := lw_g (lw_at lw_m4 26 rfl) rfl
theorem q923 : (Jvm.Cond.code ({ cls := "java/lang/RuntimeException", name := "<init>", desc := "(Ljava/lang/String;)V" } : Jvm.MethodName) prog_38_method_2_code (2 : Nat) (Option.none : Option Jvm.ClassFile.FieldType)) ∈ lw_all := lw_g (lw_at lw_m4 27 rfl) rfl
theorem q924 : (Jvm.Cond.methodLink "java/lang/RuntimeException" (7 : Nat) ({ cls := "java/lang/Exception", name := "<init>", desc := "(Ljava/lang/String;)V" } : Jvm.MethodName)) ∈ lw_all := lw_g (lw_at lw_m4 28 rfl) rfl
theorem q2246 : (Jvm.Cond.instanceMethod ({ cls := "java/lang/RuntimeException", name := "<init>", desc := "(Ljava/lang/Throwable;)V" } : Jvm.MethodName)) ∈ lw_all := lw_g (lw_at lw_m9 150 rfl) rfl
theorem q2247 : (Jvm.Cond.code ({ cls := "java/lang/RuntimeException", name := "<init>", desc := "(Ljava/lang/Throwable;)V" } : Jvm.MethodName) prog_38_method_4_code (2 : Nat) (Option.none : Option Jvm.ClassFile.FieldType)) ∈ lw_all := lw_g (lw_at lw_m9 151 rfl) rfl
theorem q2248 : (Jvm.Cond.methodLink "java/lang/RuntimeException" (13 : Nat) ({ cls := "java/lang/Exception", name := "<init>", desc := "(Ljava/lang/Throwable;)V" } : Jvm.MethodName)) ∈ lw_all := lw_g (lw_at lw_m9 152 rfl) rfl
theorem q2311 : (Jvm.Cond.instanceMethod ({ cls := "java/lang/RuntimeException", name := "<init>", desc := "()V" } : Jvm.MethodName)) ∈ lw_all := lw_g (lw_at lw_m9 215 rfl) rfl
theorem q2312 : (Jvm.Cond.code ({ cls := "java/lang/RuntimeException", name := "<init>", desc := "()V" } : Jvm.MethodName) prog_38_method_1_code (1 : Nat) (Option.none : Option Jvm.ClassFile.FieldType)) ∈ lw_all := lw_g (lw_at lw_m9 216 rfl) rfl
theorem q2313 : (Jvm.Cond.methodLink "java/lang/RuntimeException" (1 : Nat) ({ cls := "java/lang/Exception", name := "<init>", desc := "()V" } : Jvm.MethodName)) ∈ lw_all := lw_g (lw_at lw_m9 217 rfl) rfl

/-! java/lang/IllegalArgumentException -/
set_option maxRecDepth 100000
def RJ18 : String := "java/lang/IllegalArgumentException"
def TJ18 : u_T := fun k => match k with
  | 0 => ("java/lang/Throwable", "cause", "Ljava/lang/Throwable;", false)
  | 1 => ("java/lang/Throwable", "stackTrace", "[Ljava/lang/StackTraceElement;", false)
  | 2 => ("java/lang/Throwable", "suppressedExceptions", "Ljava/util/List;", false)
  | 3 => ("java/lang/Throwable", "detailMessage", "Ljava/lang/String;", false)
  | 4 => ("java/lang/Throwable", "backtrace", "Ljava/lang/Object;", false)
  | _ => ("java/lang/Throwable", "depth", "I", false)
def tyJ18 : Nat → FieldType := fun k => match k with
  | 0 => .object "java/lang/Throwable"
  | 1 => .array (.object "java/lang/StackTraceElement")
  | 2 => .object "java/util/List"
  | 3 => .object "java/lang/String"
  | 4 => .object "java/lang/Object"
  | _ => .int
abbrev wsJ180 : List Cond := u_ws RJ18 TJ18 6
theorem nmJ18 : ∀ a, a < 6 → ∀ b, b < 6 → a ≠ b → (TJ18 a).2.1 ≠ (TJ18 b).2.1 := by decide +kernel
theorem tyJ18_ok : ∀ k, k < 6 → parseFieldDescriptor (TJ18 k).2.2.1 = some (tyJ18 k) := by decide +kernel
abbrev cJ18_init : ByteArray := prog_29_method_2_code
def yJ18_init : MethodName := ⟨RJ18, "<init>", "(Ljava/lang/String;)V"⟩
def dkwJ18_init_0 : List UInt8 := [42, 43, 183, 0, 7, 177]
abbrev dktJ18_init_0 : List UInt8 := dkwJ18_init_0 ++ []
theorem dksJ18_init_0 : cJ18_init.data.toList.drop 0 = dktJ18_init_0 := by decide +kernel
theorem dJ18_init_0 : decode cJ18_init 0 = .ok (.aload_n 0, 1) := dk_42 (dk_at dksJ18_init_0 0 rfl rfl)
theorem dJ18_init_1 : decode cJ18_init 1 = .ok (.aload_n 1, 1) := dk_43 (dk_at dksJ18_init_0 1 rfl rfl)
theorem dJ18_init_2 : decode cJ18_init 2 = .ok (.invokespecial 7, 3) := dk_183 0 7 (dk_at dksJ18_init_0 2 rfl rfl)
theorem dJ18_init_5 : decode cJ18_init 5 = .ok (.return_, 1) := dk_177 (dk_at dksJ18_init_0 5 rfl rfl)
abbrev cJ18_init_2 : ByteArray := prog_29_method_1_code
def yJ18_init_2 : MethodName := ⟨RJ18, "<init>", "()V"⟩
theorem dJ18_init_2_0 : decode cJ18_init_2 0 = .ok (.aload_n 0, 1) := by decide +kernel
theorem dJ18_init_2_1 : decode cJ18_init_2 1 = .ok (.invokespecial 1, 3) := by decide +kernel
theorem dJ18_init_2_4 : decode cJ18_init_2 4 = .ok (.return_, 1) := by decide +kernel
theorem q202 : (Jvm.Cond.initialized "java/lang/IllegalArgumentException") ∈ lw_all := lw_g (lw_at lw_m1 26 rfl) rfl
theorem q417 : (Jvm.Cond.selects "java/lang/IllegalArgumentException" ({ cls := "java/lang/Object", name := "getClass", desc := "()Ljava/lang/Class;" } : Jvm.MethodName) ({ cls := "java/lang/Object", name := "getClass", desc := "()Ljava/lang/Class;" } : Jvm.MethodName)) ∈ lw_all := lw_g (lw_at lw_m2 1 rfl) rfl
theorem q798 : (Jvm.Cond.instantiable "java/lang/IllegalArgumentException" (6 : Nat)) ∈ lw_all := lw_g (lw_at lw_m3 142 rfl) rfl
theorem q799 : (Jvm.Cond.castable "java/lang/IllegalArgumentException" "java/lang/IllegalArgumentException") ∈ lw_tbl := lw_at lw_m3 143 rfl
theorem q806 : (Jvm.Cond.selects "java/lang/IllegalArgumentException" ({ cls := "java/lang/Throwable", name := "fillInStackTrace", desc := "(I)Ljava/lang/Throwable;" } : Jvm.MethodName) ({ cls := "java/lang/Throwable", name := "fillInStackTrace", desc := "(I)Ljava/lang/Throwable;" } : Jvm.MethodName)) ∈ lw_all := lw_g (lw_at lw_m3 150 rfl) rfl
theorem q807 : (Jvm.Cond.selects "java/lang/IllegalArgumentException" ({ cls := "java/lang/Throwable", name := "fillInStackTrace", desc := "()Ljava/lang/Throwable;" } : Jvm.MethodName) ({ cls := "java/lang/Throwable", name := "fillInStackTrace", desc := "()Ljava/lang/Throwable;" } : Jvm.MethodName)) ∈ lw_all := lw_g (lw_at lw_m3 151 rfl) rfl
theorem q808 : (Jvm.Cond.lays "java/lang/IllegalArgumentException" "java/lang/Throwable" "cause" "Ljava/lang/Throwable;") ∈ lw_all := lw_g (lw_at lw_m3 152 rfl) rfl
theorem q810 : (Jvm.Cond.lays "java/lang/IllegalArgumentException" "java/lang/Throwable" "stackTrace" "[Ljava/lang/StackTraceElement;") ∈ lw_all := lw_g (lw_at lw_m3 154 rfl) rfl
theorem q812 : (Jvm.Cond.lays "java/lang/IllegalArgumentException" "java/lang/Throwable" "suppressedExceptions" "Ljava/util/List;") ∈ lw_all := lw_g (lw_at lw_m3 156 rfl) rfl
theorem q814 : (Jvm.Cond.lays "java/lang/IllegalArgumentException" "java/lang/Throwable" "detailMessage" "Ljava/lang/String;") ∈ lw_all := lw_g (lw_at lw_m3 158 rfl) rfl
theorem q816 : (Jvm.Cond.lays "java/lang/IllegalArgumentException" "java/lang/Throwable" "backtrace" "Ljava/lang/Object;") ∈ lw_all := lw_g (lw_at lw_m3 160 rfl) rfl
theorem q919 : (Jvm.Cond.instanceMethod ({ cls := "java/lang/IllegalArgumentException", name := "<init>", desc := "(Ljava/lang/String;)V" } : Jvm.MethodName)) ∈ lw_all := lw_g (lw_at lw_m4 23 rfl) rfl
theorem q920 : (Jvm.Cond.code ({ cls := "java/lang/IllegalArgumentException", name := "<init>", desc := "(Ljava/lang/String;)V" } : Jvm.MethodName) prog_29_method_2_code (2 : Nat) (Option.none : Option Jvm.ClassFile.FieldType)) ∈ lw_all := lw_g (lw_at lw_m4 24 rfl) rfl
theorem q921 : (Jvm.Cond.methodLink "java/lang/IllegalArgumentException" (7 : Nat) ({ cls := "java/lang/RuntimeException", name := "<init>", desc := "(Ljava/lang/String;)V" } : Jvm.MethodName)) ∈ lw_all := lw_g (lw_at lw_m4 25 rfl) rfl
theorem q939 : (Jvm.Cond.lays "java/lang/IllegalArgumentException" "java/lang/Throwable" "depth" "I") ∈ lw_all := lw_g (lw_at lw_m4 43 rfl) rfl
theorem q942 : (Jvm.Cond.superclass "java/lang/IllegalArgumentException" "java/lang/RuntimeException") ∈ lw_all := lw_g (lw_at lw_m4 46 rfl) rfl
theorem q2259 : (Jvm.Cond.selects "java/lang/IllegalArgumentException" ({ cls := "java/lang/Throwable", name := "toString", desc := "()Ljava/lang/String;" } : Jvm.MethodName) ({ cls := "java/lang/Throwable", name := "toString", desc := "()Ljava/lang/String;" } : Jvm.MethodName)) ∈ lw_all := lw_g (lw_at lw_m9 163 rfl) rfl
theorem q2271 : (Jvm.Cond.selects "java/lang/IllegalArgumentException" ({ cls := "java/lang/Throwable", name := "getLocalizedMessage", desc := "()Ljava/lang/String;" } : Jvm.MethodName) ({ cls := "java/lang/Throwable", name := "getLocalizedMessage", desc := "()Ljava/lang/String;" } : Jvm.MethodName)) ∈ lw_all := lw_g (lw_at lw_m9 175 rfl) rfl
theorem q2282 : (Jvm.Cond.selects "java/lang/IllegalArgumentException" ({ cls := "java/lang/Throwable", name := "getMessage", desc := "()Ljava/lang/String;" } : Jvm.MethodName) ({ cls := "java/lang/Throwable", name := "getMessage", desc := "()Ljava/lang/String;" } : Jvm.MethodName)) ∈ lw_all := lw_g (lw_at lw_m9 186 rfl) rfl
theorem q2628 : (Jvm.Cond.instanceMethod ({ cls := "java/lang/IllegalArgumentException", name := "<init>", desc := "()V" } : Jvm.MethodName)) ∈ lw_all := lw_g (lw_at lw_m11 52 rfl) rfl
theorem q2629 : (Jvm.Cond.code ({ cls := "java/lang/IllegalArgumentException", name := "<init>", desc := "()V" } : Jvm.MethodName) prog_29_method_1_code (1 : Nat) (Option.none : Option Jvm.ClassFile.FieldType)) ∈ lw_all := lw_g (lw_at lw_m11 53 rfl) rfl
theorem q2630 : (Jvm.Cond.methodLink "java/lang/IllegalArgumentException" (1 : Nat) ({ cls := "java/lang/RuntimeException", name := "<init>", desc := "()V" } : Jvm.MethodName)) ∈ lw_all := lw_g (lw_at lw_m11 54 rfl) rfl
theorem q2824 : (Jvm.Cond.selects "java/lang/IllegalArgumentException" ({ cls := "java/lang/Object", name := "equals", desc := "(Ljava/lang/Object;)Z" } : Jvm.MethodName) ({ cls := "java/lang/Object", name := "equals", desc := "(Ljava/lang/Object;)Z" } : Jvm.MethodName)) ∈ lw_all := lw_g (lw_at lw_m12 8 rfl) rfl
theorem q4491 : (Jvm.Cond.castable "java/lang/IllegalArgumentException" "java/lang/Object") ∈ lw_tbl := lw_at lw_m18 235 rfl
theorem in_J18 : ∀ w ∈ wsJ180, w ∈ lw_all := lw_in wsJ180 [808, 810, 812, 814, 816, 939] (by decide +kernel) (by decide +kernel)

/-! java/lang/Number -/
set_option maxRecDepth 100000
def RJ19 : String := "java/lang/Number"
abbrev cJ19_init : ByteArray := prog_37_method_1_code
def yJ19_init : MethodName := ⟨RJ19, "<init>", "()V"⟩
theorem dJ19_init_0 : decode cJ19_init 0 = .ok (.aload_n 0, 1) := by decide +kernel
theorem dJ19_init_1 : decode cJ19_init 1 = .ok (.invokespecial 1, 3) := by decide +kernel
theorem dJ19_init_4 : decode cJ19_init 4 = .ok (.return_, 1) := by decide +kernel
theorem q203 : (Jvm.Cond.initialized "java/lang/Number") ∈ lw_all := lw_g (lw_at lw_m1 27 rfl) rfl
theorem q1473 : (Jvm.Cond.instanceMethod ({ cls := "java/lang/Number", name := "<init>", desc := "()V" } : Jvm.MethodName)) ∈ lw_all := lw_g (lw_at lw_m6 97 rfl) rfl
theorem q1474 : (Jvm.Cond.code ({ cls := "java/lang/Number", name := "<init>", desc := "()V" } : Jvm.MethodName) prog_37_method_1_code (1 : Nat) (Option.none : Option Jvm.ClassFile.FieldType)) ∈ lw_all := lw_g (lw_at lw_m6 98 rfl) rfl
theorem q1475 : (Jvm.Cond.methodLink "java/lang/Number" (1 : Nat) ({ cls := "java/lang/Object", name := "<init>", desc := "()V" } : Jvm.MethodName)) ∈ lw_all := lw_g (lw_at lw_m6 99 rfl) rfl

/-! java/lang/Integer -/
set_option maxRecDepth 100000
def RJ20 : String := "java/lang/Integer"
def TJ20 : u_T := fun k => match k with
  | _ => ("java/lang/Integer", "value", "I", true)
def tyJ20 : Nat → FieldType := fun k => match k with
  | _ => .int
abbrev wsJ200 : List Cond := u_ws RJ20 TJ20 1
theorem nmJ20 : ∀ a, a < 1 → ∀ b, b < 1 → a ≠ b → (TJ20 a).2.1 ≠ (TJ20 b).2.1 := by decide +kernel
theorem tyJ20_ok : ∀ k, k < 1 → parseFieldDescriptor (TJ20 k).2.2.1 = some (tyJ20 k) := by decide +kernel
abbrev cJ20_stringSize : ByteArray := prog_32_method_13_code
def yJ20_stringSize : MethodName := ⟨RJ20, "stringSize", "(I)I"⟩
def dkwJ20_stringSize_1 : List UInt8 := [164, 0, 7, 29, 27, 96, 172, 16, 10, 28, 104, 61, 132, 3, 1, 167, 255, 233, 16, 10, 27, 96, 172]
abbrev dktJ20_stringSize_1 : List UInt8 := dkwJ20_stringSize_1 ++ []
def dkwJ20_stringSize_0 : List UInt8 := [4, 60, 26, 155, 0, 8, 3, 60, 26, 116, 59, 16, 246, 61, 4, 62, 29, 16, 10, 162, 0, 23, 26, 28]
abbrev dktJ20_stringSize_0 : List UInt8 := dkwJ20_stringSize_0 ++ dktJ20_stringSize_1
theorem dksJ20_stringSize_0 : cJ20_stringSize.data.toList.drop 0 = dktJ20_stringSize_0 := by decide +kernel
theorem dksJ20_stringSize_1 : cJ20_stringSize.data.toList.drop 24 = dktJ20_stringSize_1 := dk_seg dksJ20_stringSize_0 24 rfl rfl
theorem dJ20_stringSize_0 : decode cJ20_stringSize 0 = .ok (.iconst 1, 1) := dk_4 (dk_at dksJ20_stringSize_0 0 rfl rfl)
theorem dJ20_stringSize_1 : decode cJ20_stringSize 1 = .ok (.istore_n 1, 1) := dk_60 (dk_at dksJ20_stringSize_0 1 rfl rfl)
theorem dJ20_stringSize_2 : decode cJ20_stringSize 2 = .ok (.iload_n 0, 1) := dk_26 (dk_at dksJ20_stringSize_0 2 rfl rfl)
theorem dJ20_stringSize_3 : decode cJ20_stringSize 3 = .ok (.ifCond .lt 8, 3) := dk_155 0 8 (dk_at dksJ20_stringSize_0 3 rfl rfl)
theorem dJ20_stringSize_6 : decode cJ20_stringSize 6 = .ok (.iconst 0, 1) := dk_3 (dk_at dksJ20_stringSize_0 6 rfl rfl)
theorem dJ20_stringSize_7 : decode cJ20_stringSize 7 = .ok (.istore_n 1, 1) := dk_60 (dk_at dksJ20_stringSize_0 7 rfl rfl)
theorem dJ20_stringSize_8 : decode cJ20_stringSize 8 = .ok (.iload_n 0, 1) := dk_26 (dk_at dksJ20_stringSize_0 8 rfl rfl)
theorem dJ20_stringSize_9 : decode cJ20_stringSize 9 = .ok (.ineg, 1) := dk_116 (dk_at dksJ20_stringSize_0 9 rfl rfl)
theorem dJ20_stringSize_10 : decode cJ20_stringSize 10 = .ok (.istore_n 0, 1) := dk_59 (dk_at dksJ20_stringSize_0 10 rfl rfl)
theorem dJ20_stringSize_11 : decode cJ20_stringSize 11 = .ok (.bipush (-10), 2) := dk_16 246 (dk_at dksJ20_stringSize_0 11 rfl rfl)
theorem dJ20_stringSize_13 : decode cJ20_stringSize 13 = .ok (.istore_n 2, 1) := dk_61 (dk_at dksJ20_stringSize_0 13 rfl rfl)
theorem dJ20_stringSize_14 : decode cJ20_stringSize 14 = .ok (.iconst 1, 1) := dk_4 (dk_at dksJ20_stringSize_0 14 rfl rfl)
theorem dJ20_stringSize_15 : decode cJ20_stringSize 15 = .ok (.istore_n 3, 1) := dk_62 (dk_at dksJ20_stringSize_0 15 rfl rfl)
theorem dJ20_stringSize_16 : decode cJ20_stringSize 16 = .ok (.iload_n 3, 1) := dk_29 (dk_at dksJ20_stringSize_0 16 rfl rfl)
theorem dJ20_stringSize_17 : decode cJ20_stringSize 17 = .ok (.bipush 10, 2) := dk_16 10 (dk_at dksJ20_stringSize_0 17 rfl rfl)
theorem dJ20_stringSize_19 : decode cJ20_stringSize 19 = .ok (.if_icmp .ge 23, 3) := dk_162 0 23 (dk_at dksJ20_stringSize_0 19 rfl rfl)
theorem dJ20_stringSize_22 : decode cJ20_stringSize 22 = .ok (.iload_n 0, 1) := dk_26 (dk_at dksJ20_stringSize_0 22 rfl rfl)
theorem dJ20_stringSize_23 : decode cJ20_stringSize 23 = .ok (.iload_n 2, 1) := dk_28 (dk_at dksJ20_stringSize_0 23 rfl rfl)
theorem dJ20_stringSize_24 : decode cJ20_stringSize 24 = .ok (.if_icmp .le 7, 3) := dk_164 0 7 (dk_at dksJ20_stringSize_1 0 rfl rfl)
theorem dJ20_stringSize_27 : decode cJ20_stringSize 27 = .ok (.iload_n 3, 1) := dk_29 (dk_at dksJ20_stringSize_1 3 rfl rfl)
theorem dJ20_stringSize_28 : decode cJ20_stringSize 28 = .ok (.iload_n 1, 1) := dk_27 (dk_at dksJ20_stringSize_1 4 rfl rfl)
theorem dJ20_stringSize_29 : decode cJ20_stringSize 29 = .ok (.iadd, 1) := dk_96 (dk_at dksJ20_stringSize_1 5 rfl rfl)
theorem dJ20_stringSize_30 : decode cJ20_stringSize 30 = .ok (.ireturn, 1) := dk_172 (dk_at dksJ20_stringSize_1 6 rfl rfl)
theorem dJ20_stringSize_31 : decode cJ20_stringSize 31 = .ok (.bipush 10, 2) := dk_16 10 (dk_at dksJ20_stringSize_1 7 rfl rfl)
theorem dJ20_stringSize_33 : decode cJ20_stringSize 33 = .ok (.iload_n 2, 1) := dk_28 (dk_at dksJ20_stringSize_1 9 rfl rfl)
theorem dJ20_stringSize_34 : decode cJ20_stringSize 34 = .ok (.imul, 1) := dk_104 (dk_at dksJ20_stringSize_1 10 rfl rfl)
theorem dJ20_stringSize_35 : decode cJ20_stringSize 35 = .ok (.istore_n 2, 1) := dk_61 (dk_at dksJ20_stringSize_1 11 rfl rfl)
theorem dJ20_stringSize_36 : decode cJ20_stringSize 36 = .ok (.iinc 3 1, 3) := dk_132 3 1 (dk_at dksJ20_stringSize_1 12 rfl rfl)
theorem dJ20_stringSize_39 : decode cJ20_stringSize 39 = .ok (.goto (-23), 3) := dk_167 255 233 (dk_at dksJ20_stringSize_1 15 rfl rfl)
theorem dJ20_stringSize_42 : decode cJ20_stringSize 42 = .ok (.bipush 10, 2) := dk_16 10 (dk_at dksJ20_stringSize_1 18 rfl rfl)
theorem dJ20_stringSize_44 : decode cJ20_stringSize 44 = .ok (.iload_n 1, 1) := dk_27 (dk_at dksJ20_stringSize_1 20 rfl rfl)
theorem dJ20_stringSize_45 : decode cJ20_stringSize 45 = .ok (.iadd, 1) := dk_96 (dk_at dksJ20_stringSize_1 21 rfl rfl)
theorem dJ20_stringSize_46 : decode cJ20_stringSize 46 = .ok (.ireturn, 1) := dk_172 (dk_at dksJ20_stringSize_1 22 rfl rfl)
abbrev cJ20_getChars : ByteArray := prog_32_method_12_code
def yJ20_getChars : MethodName := ⟨RJ20, "getChars", "(II[B)I"⟩
def dkwJ20_getChars_5 : List UInt8 := [16, 45, 84, 21, 5, 172]
abbrev dktJ20_getChars_5 : List UInt8 := dkwJ20_getChars_5 ++ []
def dkwJ20_getChars_4 : List UInt8 := [132, 5, 255, 21, 5, 178, 0, 87, 26, 116, 51, 84, 21, 6, 153, 0, 12, 44, 132, 5, 255, 21, 5]
abbrev dktJ20_getChars_4 : List UInt8 := dkwJ20_getChars_4 ++ dktJ20_getChars_5
def dkwJ20_getChars_3 : List UInt8 := [167, 255, 209, 44, 132, 5, 255, 21, 5, 178, 0, 83, 26, 116, 51, 84, 26, 16, 247, 162, 0, 16, 44]
abbrev dktJ20_getChars_3 : List UInt8 := dkwJ20_getChars_3 ++ dktJ20_getChars_4
def dkwJ20_getChars_2 : List UInt8 := [21, 5, 178, 0, 83, 21, 4, 51, 84, 44, 132, 5, 255, 21, 5, 178, 0, 87, 21, 4, 51, 84]
abbrev dktJ20_getChars_2 : List UInt8 := dkwJ20_getChars_2 ++ dktJ20_getChars_3
def dkwJ20_getChars_1 : List UInt8 := [16, 156, 163, 0, 47, 26, 16, 100, 108, 62, 29, 16, 100, 104, 26, 100, 54, 4, 29, 59, 44, 132, 5, 255]
abbrev dktJ20_getChars_1 : List UInt8 := dkwJ20_getChars_1 ++ dktJ20_getChars_2
def dkwJ20_getChars_0 : List UInt8 := [27, 54, 5, 26, 156, 0, 7, 4, 167, 0, 4, 3, 54, 6, 21, 6, 154, 0, 6, 26, 116, 59, 26]
abbrev dktJ20_getChars_0 : List UInt8 := dkwJ20_getChars_0 ++ dktJ20_getChars_1
theorem dksJ20_getChars_0 : cJ20_getChars.data.toList.drop 0 = dktJ20_getChars_0 := by decide +kernel
theorem dksJ20_getChars_1 : cJ20_getChars.data.toList.drop 23 = dktJ20_getChars_1 := dk_seg dksJ20_getChars_0 23 rfl rfl
theorem dksJ20_getChars_2 : cJ20_getChars.data.toList.drop 47 = dktJ20_getChars_2 := dk_seg dksJ20_getChars_1 24 rfl rfl
theorem dksJ20_getChars_3 : cJ20_getChars.data.toList.drop 69 = dktJ20_getChars_3 := dk_seg dksJ20_getChars_2 22 rfl rfl
theorem dksJ20_getChars_4 : cJ20_getChars.data.toList.drop 92 = dktJ20_getChars_4 := dk_seg dksJ20_getChars_3 23 rfl rfl
theorem dksJ20_getChars_5 : cJ20_getChars.data.toList.drop 115 = dktJ20_getChars_5 := dk_seg dksJ20_getChars_4 23 rfl rfl
theorem dJ20_getChars_0 : decode cJ20_getChars 0 = .ok (.iload_n 1, 1) := dk_27 (dk_at dksJ20_getChars_0 0 rfl rfl)
theorem dJ20_getChars_1 : decode cJ20_getChars 1 = .ok (.istore 5, 2) := dk_54 5 (dk_at dksJ20_getChars_0 1 rfl rfl)
theorem dJ20_getChars_3 : decode cJ20_getChars 3 = .ok (.iload_n 0, 1) := dk_26 (dk_at dksJ20_getChars_0 3 rfl rfl)
theorem dJ20_getChars_4 : decode cJ20_getChars 4 = .ok (.ifCond .ge 7, 3) := dk_156 0 7 (dk_at dksJ20_getChars_0 4 rfl rfl)
theorem dJ20_getChars_7 : decode cJ20_getChars 7 = .ok (.iconst 1, 1) := dk_4 (dk_at dksJ20_getChars_0 7 rfl rfl)
theorem dJ20_getChars_8 : decode cJ20_getChars 8 = .ok (.goto 4, 3) := dk_167 0 4 (dk_at dksJ20_getChars_0 8 rfl rfl)
theorem dJ20_getChars_11 : decode cJ20_getChars 11 = .ok (.iconst 0, 1) := dk_3 (dk_at dksJ20_getChars_0 11 rfl rfl)
theorem dJ20_getChars_12 : decode cJ20_getChars 12 = .ok (.istore 6, 2) := dk_54 6 (dk_at dksJ20_getChars_0 12 rfl rfl)
theorem dJ20_getChars_14 : decode cJ20_getChars 14 = .ok (.iload 6, 2) := dk_21 6 (dk_at dksJ20_getChars_0 14 rfl rfl)
theorem dJ20_getChars_16 : decode cJ20_getChars 16 = .ok (.ifCond .ne 6, 3) := dk_154 0 6 (dk_at dksJ20_getChars_0 16 rfl rfl)
theorem dJ20_getChars_19 : decode cJ20_getChars 19 = .ok (.iload_n 0, 1) := dk_26 (dk_at dksJ20_getChars_0 19 rfl rfl)
theorem dJ20_getChars_20 : decode cJ20_getChars 20 = .ok (.ineg, 1) := dk_116 (dk_at dksJ20_getChars_0 20 rfl rfl)
theorem dJ20_getChars_21 : decode cJ20_getChars 21 = .ok (.istore_n 0, 1) := dk_59 (dk_at dksJ20_getChars_0 21 rfl rfl)
theorem dJ20_getChars_22 : decode cJ20_getChars 22 = .ok (.iload_n 0, 1) := dk_26 (dk_at dksJ20_getChars_0 22 rfl rfl)
theorem dJ20_getChars_23 : decode cJ20_getChars 23 = .ok (.bipush (-100), 2) := dk_16 156 (dk_at dksJ20_getChars_1 0 rfl rfl)
theorem dJ20_getChars_25 : decode cJ20_getChars 25 = .ok (.if_icmp .gt 47, 3) := dk_163 0 47 (dk_at dksJ20_getChars_1 2 rfl rfl)
theorem dJ20_getChars_28 : decode cJ20_getChars 28 = .ok (.iload_n 0, 1) := dk_26 (dk_at dksJ20_getChars_1 5 rfl rfl)
theorem dJ20_getChars_29 : decode cJ20_getChars 29 = .ok (.bipush 100, 2) := dk_16 100 (dk_at dksJ20_getChars_1 6 rfl rfl)
theorem dJ20_getChars_31 : decode cJ20_getChars 31 = .ok (.idiv, 1) := dk_108 (dk_at dksJ20_getChars_1 8 rfl rfl)
theorem dJ20_getChars_32 : decode cJ20_getChars 32 = .ok (.istore_n 3, 1) := dk_62 (dk_at dksJ20_getChars_1 9 rfl rfl)
theorem dJ20_getChars_33 : decode cJ20_getChars 33 = .ok (.iload_n 3, 1) := dk_29 (dk_at dksJ20_getChars_1 10 rfl rfl)
theorem dJ20_getChars_34 : decode cJ20_getChars 34 = .ok (.bipush 100, 2) := dk_16 100 (dk_at dksJ20_getChars_1 11 rfl rfl)
theorem dJ20_getChars_36 : decode cJ20_getChars 36 = .ok (.imul, 1) := dk_104 (dk_at dksJ20_getChars_1 13 rfl rfl)
theorem dJ20_getChars_37 : decode cJ20_getChars 37 = .ok (.iload_n 0, 1) := dk_26 (dk_at dksJ20_getChars_1 14 rfl rfl)
theorem dJ20_getChars_38 : decode cJ20_getChars 38 = .ok (.isub, 1) := dk_100 (dk_at dksJ20_getChars_1 15 rfl rfl)
theorem dJ20_getChars_39 : decode cJ20_getChars 39 = .ok (.istore 4, 2) := dk_54 4 (dk_at dksJ20_getChars_1 16 rfl rfl)
theorem dJ20_getChars_41 : decode cJ20_getChars 41 = .ok (.iload_n 3, 1) := dk_29 (dk_at dksJ20_getChars_1 18 rfl rfl)
theorem dJ20_getChars_42 : decode cJ20_getChars 42 = .ok (.istore_n 0, 1) := dk_59 (dk_at dksJ20_getChars_1 19 rfl rfl)
theorem dJ20_getChars_43 : decode cJ20_getChars 43 = .ok (.aload_n 2, 1) := dk_44 (dk_at dksJ20_getChars_1 20 rfl rfl)
theorem dJ20_getChars_44 : decode cJ20_getChars 44 = .ok (.iinc 5 (-1), 3) := dk_132 5 255 (dk_at dksJ20_getChars_1 21 rfl rfl)
theorem dJ20_getChars_47 : decode cJ20_getChars 47 = .ok (.iload 5, 2) := dk_21 5 (dk_at dksJ20_getChars_2 0 rfl rfl)
theorem dJ20_getChars_49 : decode cJ20_getChars 49 = .ok (.getstatic 83, 3) := dk_178 0 83 (dk_at dksJ20_getChars_2 2 rfl rfl)
theorem dJ20_getChars_52 : decode cJ20_getChars 52 = .ok (.iload 4, 2) := dk_21 4 (dk_at dksJ20_getChars_2 5 rfl rfl)
theorem dJ20_getChars_54 : decode cJ20_getChars 54 = .ok (.baload, 1) := dk_51 (dk_at dksJ20_getChars_2 7 rfl rfl)
theorem dJ20_getChars_55 : decode cJ20_getChars 55 = .ok (.bastore, 1) := dk_84 (dk_at dksJ20_getChars_2 8 rfl rfl)
theorem dJ20_getChars_56 : decode cJ20_getChars 56 = .ok (.aload_n 2, 1) := dk_44 (dk_at dksJ20_getChars_2 9 rfl rfl)
theorem dJ20_getChars_57 : decode cJ20_getChars 57 = .ok (.iinc 5 (-1), 3) := dk_132 5 255 (dk_at dksJ20_getChars_2 10 rfl rfl)
theorem dJ20_getChars_60 : decode cJ20_getChars 60 = .ok (.iload 5, 2) := dk_21 5 (dk_at dksJ20_getChars_2 13 rfl rfl)
theorem dJ20_getChars_62 : decode cJ20_getChars 62 = .ok (.getstatic 87, 3) := dk_178 0 87 (dk_at dksJ20_getChars_2 15 rfl rfl)
theorem dJ20_getChars_65 : decode cJ20_getChars 65 = .ok (.iload 4, 2) := dk_21 4 (dk_at dksJ20_getChars_2 18 rfl rfl)
theorem dJ20_getChars_67 : decode cJ20_getChars 67 = .ok (.baload, 1) := dk_51 (dk_at dksJ20_getChars_2 20 rfl rfl)
theorem dJ20_getChars_68 : decode cJ20_getChars 68 = .ok (.bastore, 1) := dk_84 (dk_at dksJ20_getChars_2 21 rfl rfl)
theorem dJ20_getChars_69 : decode cJ20_getChars 69 = .ok (.goto (-47), 3) := dk_167 255 209 (dk_at dksJ20_getChars_3 0 rfl rfl)
theorem dJ20_getChars_72 : decode cJ20_getChars 72 = .ok (.aload_n 2, 1) := dk_44 (dk_at dksJ20_getChars_3 3 rfl rfl)
theorem dJ20_getChars_73 : decode cJ20_getChars 73 = .ok (.iinc 5 (-1), 3) := dk_132 5 255 (dk_at dksJ20_getChars_3 4 rfl rfl)
theorem dJ20_getChars_76 : decode cJ20_getChars 76 = .ok (.iload 5, 2) := dk_21 5 (dk_at dksJ20_getChars_3 7 rfl rfl)
theorem dJ20_getChars_78 : decode cJ20_getChars 78 = .ok (.getstatic 83, 3) := dk_178 0 83 (dk_at dksJ20_getChars_3 9 rfl rfl)
theorem dJ20_getChars_81 : decode cJ20_getChars 81 = .ok (.iload_n 0, 1) := dk_26 (dk_at dksJ20_getChars_3 12 rfl rfl)
theorem dJ20_getChars_82 : decode cJ20_getChars 82 = .ok (.ineg, 1) := dk_116 (dk_at dksJ20_getChars_3 13 rfl rfl)
theorem dJ20_getChars_83 : decode cJ20_getChars 83 = .ok (.baload, 1) := dk_51 (dk_at dksJ20_getChars_3 14 rfl rfl)
theorem dJ20_getChars_84 : decode cJ20_getChars 84 = .ok (.bastore, 1) := dk_84 (dk_at dksJ20_getChars_3 15 rfl rfl)
theorem dJ20_getChars_85 : decode cJ20_getChars 85 = .ok (.iload_n 0, 1) := dk_26 (dk_at dksJ20_getChars_3 16 rfl rfl)
theorem dJ20_getChars_86 : decode cJ20_getChars 86 = .ok (.bipush (-9), 2) := dk_16 247 (dk_at dksJ20_getChars_3 17 rfl rfl)
theorem dJ20_getChars_88 : decode cJ20_getChars 88 = .ok (.if_icmp .ge 16, 3) := dk_162 0 16 (dk_at dksJ20_getChars_3 19 rfl rfl)
theorem dJ20_getChars_91 : decode cJ20_getChars 91 = .ok (.aload_n 2, 1) := dk_44 (dk_at dksJ20_getChars_3 22 rfl rfl)
theorem dJ20_getChars_92 : decode cJ20_getChars 92 = .ok (.iinc 5 (-1), 3) := dk_132 5 255 (dk_at dksJ20_getChars_4 0 rfl rfl)
theorem dJ20_getChars_95 : decode cJ20_getChars 95 = .ok (.iload 5, 2) := dk_21 5 (dk_at dksJ20_getChars_4 3 rfl rfl)
theorem dJ20_getChars_97 : decode cJ20_getChars 97 = .ok (.getstatic 87, 3) := dk_178 0 87 (dk_at dksJ20_getChars_4 5 rfl rfl)
theorem dJ20_getChars_100 : decode cJ20_getChars 100 = .ok (.iload_n 0, 1) := dk_26 (dk_at dksJ20_getChars_4 8 rfl rfl)
theorem dJ20_getChars_101 : decode cJ20_getChars 101 = .ok (.ineg, 1) := dk_116 (dk_at dksJ20_getChars_4 9 rfl rfl)
theorem dJ20_getChars_102 : decode cJ20_getChars 102 = .ok (.baload, 1) := dk_51 (dk_at dksJ20_getChars_4 10 rfl rfl)
theorem dJ20_getChars_103 : decode cJ20_getChars 103 = .ok (.bastore, 1) := dk_84 (dk_at dksJ20_getChars_4 11 rfl rfl)
theorem dJ20_getChars_104 : decode cJ20_getChars 104 = .ok (.iload 6, 2) := dk_21 6 (dk_at dksJ20_getChars_4 12 rfl rfl)
theorem dJ20_getChars_106 : decode cJ20_getChars 106 = .ok (.ifCond .eq 12, 3) := dk_153 0 12 (dk_at dksJ20_getChars_4 14 rfl rfl)
theorem dJ20_getChars_109 : decode cJ20_getChars 109 = .ok (.aload_n 2, 1) := dk_44 (dk_at dksJ20_getChars_4 17 rfl rfl)
theorem dJ20_getChars_110 : decode cJ20_getChars 110 = .ok (.iinc 5 (-1), 3) := dk_132 5 255 (dk_at dksJ20_getChars_4 18 rfl rfl)
theorem dJ20_getChars_113 : decode cJ20_getChars 113 = .ok (.iload 5, 2) := dk_21 5 (dk_at dksJ20_getChars_4 21 rfl rfl)
theorem dJ20_getChars_115 : decode cJ20_getChars 115 = .ok (.bipush 45, 2) := dk_16 45 (dk_at dksJ20_getChars_5 0 rfl rfl)
theorem dJ20_getChars_117 : decode cJ20_getChars 117 = .ok (.bastore, 1) := dk_84 (dk_at dksJ20_getChars_5 2 rfl rfl)
theorem dJ20_getChars_118 : decode cJ20_getChars 118 = .ok (.iload 5, 2) := dk_21 5 (dk_at dksJ20_getChars_5 3 rfl rfl)
theorem dJ20_getChars_120 : decode cJ20_getChars 120 = .ok (.ireturn, 1) := dk_172 (dk_at dksJ20_getChars_5 5 rfl rfl)
abbrev cJ20_valueOf : ByteArray := prog_32_method_22_code
def yJ20_valueOf : MethodName := ⟨RJ20, "valueOf", "(I)Ljava/lang/Integer;"⟩
def dkwJ20_valueOf_1 : List UInt8 := [187, 0, 1, 89, 26, 183, 0, 199, 176]
abbrev dktJ20_valueOf_1 : List UInt8 := dkwJ20_valueOf_1 ++ []
def dkwJ20_valueOf_0 : List UInt8 := [26, 16, 128, 161, 0, 20, 26, 178, 0, 191, 163, 0, 13, 178, 0, 195, 26, 17, 0, 128, 96, 50, 176]
abbrev dktJ20_valueOf_0 : List UInt8 := dkwJ20_valueOf_0 ++ dktJ20_valueOf_1
theorem dksJ20_valueOf_0 : cJ20_valueOf.data.toList.drop 0 = dktJ20_valueOf_0 := by decide +kernel
theorem dksJ20_valueOf_1 : cJ20_valueOf.data.toList.drop 23 = dktJ20_valueOf_1 := dk_seg dksJ20_valueOf_0 23 rfl rfl
theorem dJ20_valueOf_0 : decode cJ20_valueOf 0 = .ok (.iload_n 0, 1) := dk_26 (dk_at dksJ20_valueOf_0 0 rfl rfl)
theorem dJ20_valueOf_1 : decode cJ20_valueOf 1 = .ok (.bipush (-128), 2) := dk_16 128 (dk_at dksJ20_valueOf_0 1 rfl rfl)
theorem dJ20_valueOf_3 : decode cJ20_valueOf 3 = .ok (.if_icmp .lt 20, 3) := dk_161 0 20 (dk_at dksJ20_valueOf_0 3 rfl rfl)
theorem dJ20_valueOf_6 : decode cJ20_valueOf 6 = .ok (.iload_n 0, 1) := dk_26 (dk_at dksJ20_valueOf_0 6 rfl rfl)
theorem dJ20_valueOf_7 : decode cJ20_valueOf 7 = .ok (.getstatic 191, 3) := dk_178 0 191 (dk_at dksJ20_valueOf_0 7 rfl rfl)
theorem dJ20_valueOf_10 : decode cJ20_valueOf 10 = .ok (.if_icmp .gt 13, 3) := dk_163 0 13 (dk_at dksJ20_valueOf_0 10 rfl rfl)
theorem dJ20_valueOf_13 : decode cJ20_valueOf 13 = .ok (.getstatic 195, 3) := dk_178 0 195 (dk_at dksJ20_valueOf_0 13 rfl rfl)
theorem dJ20_valueOf_16 : decode cJ20_valueOf 16 = .ok (.iload_n 0, 1) := dk_26 (dk_at dksJ20_valueOf_0 16 rfl rfl)
theorem dJ20_valueOf_17 : decode cJ20_valueOf 17 = .ok (.sipush 128, 3) := dk_17 0 128 (dk_at dksJ20_valueOf_0 17 rfl rfl)
theorem dJ20_valueOf_20 : decode cJ20_valueOf 20 = .ok (.iadd, 1) := dk_96 (dk_at dksJ20_valueOf_0 20 rfl rfl)
theorem dJ20_valueOf_21 : decode cJ20_valueOf 21 = .ok (.aaload, 1) := dk_50 (dk_at dksJ20_valueOf_0 21 rfl rfl)
theorem dJ20_valueOf_22 : decode cJ20_valueOf 22 = .ok (.areturn, 1) := dk_176 (dk_at dksJ20_valueOf_0 22 rfl rfl)
theorem dJ20_valueOf_23 : decode cJ20_valueOf 23 = .ok (.new 1, 3) := dk_187 0 1 (dk_at dksJ20_valueOf_1 0 rfl rfl)
theorem dJ20_valueOf_26 : decode cJ20_valueOf 26 = .ok (.dup, 1) := dk_89 (dk_at dksJ20_valueOf_1 3 rfl rfl)
theorem dJ20_valueOf_27 : decode cJ20_valueOf 27 = .ok (.iload_n 0, 1) := dk_26 (dk_at dksJ20_valueOf_1 4 rfl rfl)
theorem dJ20_valueOf_28 : decode cJ20_valueOf 28 = .ok (.invokespecial 199, 3) := dk_183 0 199 (dk_at dksJ20_valueOf_1 5 rfl rfl)
theorem dJ20_valueOf_31 : decode cJ20_valueOf 31 = .ok (.areturn, 1) := dk_176 (dk_at dksJ20_valueOf_1 8 rfl rfl)
abbrev cJ20_init : ByteArray := prog_32_method_23_code
def yJ20_init : MethodName := ⟨RJ20, "<init>", "(I)V"⟩
def dkwJ20_init_0 : List UInt8 := [42, 183, 0, 202, 42, 27, 181, 0, 205, 177]
abbrev dktJ20_init_0 : List UInt8 := dkwJ20_init_0 ++ []
theorem dksJ20_init_0 : cJ20_init.data.toList.drop 0 = dktJ20_init_0 := by decide +kernel
theorem dJ20_init_0 : decode cJ20_init 0 = .ok (.aload_n 0, 1) := dk_42 (dk_at dksJ20_init_0 0 rfl rfl)
theorem dJ20_init_1 : decode cJ20_init 1 = .ok (.invokespecial 202, 3) := dk_183 0 202 (dk_at dksJ20_init_0 1 rfl rfl)
theorem dJ20_init_4 : decode cJ20_init 4 = .ok (.aload_n 0, 1) := dk_42 (dk_at dksJ20_init_0 4 rfl rfl)
theorem dJ20_init_5 : decode cJ20_init 5 = .ok (.iload_n 1, 1) := dk_27 (dk_at dksJ20_init_0 5 rfl rfl)
theorem dJ20_init_6 : decode cJ20_init 6 = .ok (.putfield 205, 3) := dk_181 0 205 (dk_at dksJ20_init_0 6 rfl rfl)
theorem dJ20_init_9 : decode cJ20_init 9 = .ok (.return_, 1) := dk_177 (dk_at dksJ20_init_0 9 rfl rfl)
abbrev cJ20_compareTo : ByteArray := prog_32_method_63_code
def yJ20_compareTo : MethodName := ⟨RJ20, "compareTo", "(Ljava/lang/Object;)I"⟩
def dkwJ20_compareTo_0 : List UInt8 := [42, 43, 192, 0, 1, 182, 1, 28, 172]
abbrev dktJ20_compareTo_0 : List UInt8 := dkwJ20_compareTo_0 ++ []
theorem dksJ20_compareTo_0 : cJ20_compareTo.data.toList.drop 0 = dktJ20_compareTo_0 := by decide +kernel
theorem dJ20_compareTo_0 : decode cJ20_compareTo 0 = .ok (.aload_n 0, 1) := dk_42 (dk_at dksJ20_compareTo_0 0 rfl rfl)
theorem dJ20_compareTo_1 : decode cJ20_compareTo 1 = .ok (.aload_n 1, 1) := dk_43 (dk_at dksJ20_compareTo_0 1 rfl rfl)
theorem dJ20_compareTo_2 : decode cJ20_compareTo 2 = .ok (.checkcast 1, 3) := dk_192 0 1 (dk_at dksJ20_compareTo_0 2 rfl rfl)
theorem dJ20_compareTo_5 : decode cJ20_compareTo 5 = .ok (.invokevirtual 284, 3) := dk_182 1 28 (dk_at dksJ20_compareTo_0 5 rfl rfl)
theorem dJ20_compareTo_8 : decode cJ20_compareTo 8 = .ok (.ireturn, 1) := dk_172 (dk_at dksJ20_compareTo_0 8 rfl rfl)
abbrev cJ20_compareTo_2 : ByteArray := prog_32_method_39_code
def yJ20_compareTo_2 : MethodName := ⟨RJ20, "compareTo", "(Ljava/lang/Integer;)I"⟩
def dkwJ20_compareTo_2_0 : List UInt8 := [42, 180, 0, 205, 43, 180, 0, 205, 184, 1, 3, 172]
abbrev dktJ20_compareTo_2_0 : List UInt8 := dkwJ20_compareTo_2_0 ++ []
theorem dksJ20_compareTo_2_0 : cJ20_compareTo_2.data.toList.drop 0 = dktJ20_compareTo_2_0 := by decide +kernel
theorem dJ20_compareTo_2_0 : decode cJ20_compareTo_2 0 = .ok (.aload_n 0, 1) := dk_42 (dk_at dksJ20_compareTo_2_0 0 rfl rfl)
theorem dJ20_compareTo_2_1 : decode cJ20_compareTo_2 1 = .ok (.getfield 205, 3) := dk_180 0 205 (dk_at dksJ20_compareTo_2_0 1 rfl rfl)
theorem dJ20_compareTo_2_4 : decode cJ20_compareTo_2 4 = .ok (.aload_n 1, 1) := dk_43 (dk_at dksJ20_compareTo_2_0 4 rfl rfl)
theorem dJ20_compareTo_2_5 : decode cJ20_compareTo_2 5 = .ok (.getfield 205, 3) := dk_180 0 205 (dk_at dksJ20_compareTo_2_0 5 rfl rfl)
theorem dJ20_compareTo_2_8 : decode cJ20_compareTo_2 8 = .ok (.invokestatic 259, 3) := dk_184 1 3 (dk_at dksJ20_compareTo_2_0 8 rfl rfl)
theorem dJ20_compareTo_2_11 : decode cJ20_compareTo_2 11 = .ok (.ireturn, 1) := dk_172 (dk_at dksJ20_compareTo_2_0 11 rfl rfl)
abbrev cJ20_compare : ByteArray := prog_32_method_40_code
def yJ20_compare : MethodName := ⟨RJ20, "compare", "(II)I"⟩
def dkwJ20_compare_0 : List UInt8 := [26, 27, 162, 0, 7, 2, 167, 0, 13, 26, 27, 160, 0, 7, 3, 167, 0, 4, 4, 172]
abbrev dktJ20_compare_0 : List UInt8 := dkwJ20_compare_0 ++ []
theorem dksJ20_compare_0 : cJ20_compare.data.toList.drop 0 = dktJ20_compare_0 := by decide +kernel
theorem dJ20_compare_0 : decode cJ20_compare 0 = .ok (.iload_n 0, 1) := dk_26 (dk_at dksJ20_compare_0 0 rfl rfl)
theorem dJ20_compare_1 : decode cJ20_compare 1 = .ok (.iload_n 1, 1) := dk_27 (dk_at dksJ20_compare_0 1 rfl rfl)
theorem dJ20_compare_2 : decode cJ20_compare 2 = .ok (.if_icmp .ge 7, 3) := dk_162 0 7 (dk_at dksJ20_compare_0 2 rfl rfl)
theorem dJ20_compare_5 : decode cJ20_compare 5 = .ok (.iconst (-1), 1) := dk_2 (dk_at dksJ20_compare_0 5 rfl rfl)
theorem dJ20_compare_6 : decode cJ20_compare 6 = .ok (.goto 13, 3) := dk_167 0 13 (dk_at dksJ20_compare_0 6 rfl rfl)
theorem dJ20_compare_9 : decode cJ20_compare 9 = .ok (.iload_n 0, 1) := dk_26 (dk_at dksJ20_compare_0 9 rfl rfl)
theorem dJ20_compare_10 : decode cJ20_compare 10 = .ok (.iload_n 1, 1) := dk_27 (dk_at dksJ20_compare_0 10 rfl rfl)
theorem dJ20_compare_11 : decode cJ20_compare 11 = .ok (.if_icmp .ne 7, 3) := dk_160 0 7 (dk_at dksJ20_compare_0 11 rfl rfl)
theorem dJ20_compare_14 : decode cJ20_compare 14 = .ok (.iconst 0, 1) := dk_3 (dk_at dksJ20_compare_0 14 rfl rfl)
theorem dJ20_compare_15 : decode cJ20_compare 15 = .ok (.goto 4, 3) := dk_167 0 4 (dk_at dksJ20_compare_0 15 rfl rfl)
theorem dJ20_compare_18 : decode cJ20_compare 18 = .ok (.iconst 1, 1) := dk_4 (dk_at dksJ20_compare_0 18 rfl rfl)
theorem dJ20_compare_19 : decode cJ20_compare 19 = .ok (.ireturn, 1) := dk_172 (dk_at dksJ20_compare_0 19 rfl rfl)
abbrev cJ20_numberOfLeadingZeros : ByteArray := prog_32_method_47_code
def yJ20_numberOfLeadingZeros : MethodName := ⟨RJ20, "numberOfLeadingZeros", "(I)I"⟩
def dkwJ20_numberOfLeadingZeros_3 : List UInt8 := [5, 124, 59, 27, 26, 4, 124, 100, 172]
abbrev dktJ20_numberOfLeadingZeros_3 : List UInt8 := dkwJ20_numberOfLeadingZeros_3 ++ []
def dkwJ20_numberOfLeadingZeros_2 : List UInt8 := [124, 59, 26, 16, 16, 161, 0, 10, 132, 1, 252, 26, 7, 124, 59, 26, 7, 161, 0, 10, 132, 1, 254, 26]
abbrev dktJ20_numberOfLeadingZeros_2 : List UInt8 := dkwJ20_numberOfLeadingZeros_2 ++ dktJ20_numberOfLeadingZeros_3
def dkwJ20_numberOfLeadingZeros_1 : List UInt8 := [161, 0, 11, 132, 1, 240, 26, 16, 16, 124, 59, 26, 17, 1, 0, 161, 0, 11, 132, 1, 248, 26, 16, 8]
abbrev dktJ20_numberOfLeadingZeros_1 : List UInt8 := dkwJ20_numberOfLeadingZeros_1 ++ dktJ20_numberOfLeadingZeros_2
def dkwJ20_numberOfLeadingZeros_0 : List UInt8 := [26, 157, 0, 14, 26, 154, 0, 8, 16, 32, 167, 0, 4, 3, 172, 16, 31, 60, 26, 19, 1, 8]
abbrev dktJ20_numberOfLeadingZeros_0 : List UInt8 := dkwJ20_numberOfLeadingZeros_0 ++ dktJ20_numberOfLeadingZeros_1
theorem dksJ20_numberOfLeadingZeros_0 : cJ20_numberOfLeadingZeros.data.toList.drop 0 = dktJ20_numberOfLeadingZeros_0 := by decide +kernel
theorem dksJ20_numberOfLeadingZeros_1 : cJ20_numberOfLeadingZeros.data.toList.drop 22 = dktJ20_numberOfLeadingZeros_1 := dk_seg dksJ20_numberOfLeadingZeros_0 22 rfl rfl
theorem dksJ20_numberOfLeadingZeros_2 : cJ20_numberOfLeadingZeros.data.toList.drop 46 = dktJ20_numberOfLeadingZeros_2 := dk_seg dksJ20_numberOfLeadingZeros_1 24 rfl rfl
theorem dksJ20_numberOfLeadingZeros_3 : cJ20_numberOfLeadingZeros.data.toList.drop 70 = dktJ20_numberOfLeadingZeros_3 := dk_seg dksJ20_numberOfLeadingZeros_2 24 rfl rfl
theorem dJ20_numberOfLeadingZeros_0 : decode cJ20_numberOfLeadingZeros 0 = .ok (.iload_n 0, 1) := dk_26 (dk_at dksJ20_numberOfLeadingZeros_0 0 rfl rfl)
theorem dJ20_numberOfLeadingZeros_1 : decode cJ20_numberOfLeadingZeros 1 = .ok (.ifCond .gt 14, 3) := dk_157 0 14 (dk_at dksJ20_numberOfLeadingZeros_0 1 rfl rfl)
theorem dJ20_numberOfLeadingZeros_4 : decode cJ20_numberOfLeadingZeros 4 = .ok (.iload_n 0, 1) := dk_26 (dk_at dksJ20_numberOfLeadingZeros_0 4 rfl rfl)
theorem dJ20_numberOfLeadingZeros_5 : decode cJ20_numberOfLeadingZeros 5 = .ok (.ifCond .ne 8, 3) := dk_154 0 8 (dk_at dksJ20_numberOfLeadingZeros_0 5 rfl rfl)
theorem dJ20_numberOfLeadingZeros_8 : decode cJ20_numberOfLeadingZeros 8 = .ok (.bipush 32, 2) := dk_16 32 (dk_at dksJ20_numberOfLeadingZeros_0 8 rfl rfl)
theorem dJ20_numberOfLeadingZeros_10 : decode cJ20_numberOfLeadingZeros 10 = .ok (.goto 4, 3) := dk_167 0 4 (dk_at dksJ20_numberOfLeadingZeros_0 10 rfl rfl)
theorem dJ20_numberOfLeadingZeros_13 : decode cJ20_numberOfLeadingZeros 13 = .ok (.iconst 0, 1) := dk_3 (dk_at dksJ20_numberOfLeadingZeros_0 13 rfl rfl)
theorem dJ20_numberOfLeadingZeros_14 : decode cJ20_numberOfLeadingZeros 14 = .ok (.ireturn, 1) := dk_172 (dk_at dksJ20_numberOfLeadingZeros_0 14 rfl rfl)
theorem dJ20_numberOfLeadingZeros_15 : decode cJ20_numberOfLeadingZeros 15 = .ok (.bipush 31, 2) := dk_16 31 (dk_at dksJ20_numberOfLeadingZeros_0 15 rfl rfl)
theorem dJ20_numberOfLeadingZeros_17 : decode cJ20_numberOfLeadingZeros 17 = .ok (.istore_n 1, 1) := dk_60 (dk_at dksJ20_numberOfLeadingZeros_0 17 rfl rfl)
theorem dJ20_numberOfLeadingZeros_18 : decode cJ20_numberOfLeadingZeros 18 = .ok (.iload_n 0, 1) := dk_26 (dk_at dksJ20_numberOfLeadingZeros_0 18 rfl rfl)
theorem dJ20_numberOfLeadingZeros_19 : decode cJ20_numberOfLeadingZeros 19 = .ok (.ldc_w 264, 3) := dk_19 1 8 (dk_at dksJ20_numberOfLeadingZeros_0 19 rfl rfl)
theorem dJ20_numberOfLeadingZeros_22 : decode cJ20_numberOfLeadingZeros 22 = .ok (.if_icmp .lt 11, 3) := dk_161 0 11 (dk_at dksJ20_numberOfLeadingZeros_1 0 rfl rfl)
theorem dJ20_numberOfLeadingZeros_25 : decode cJ20_numberOfLeadingZeros 25 = .ok (.iinc 1 (-16), 3) := dk_132 1 240 (dk_at dksJ20_numberOfLeadingZeros_1 3 rfl rfl)
theorem dJ20_numberOfLeadingZeros_28 : decode cJ20_numberOfLeadingZeros 28 = .ok (.iload_n 0, 1) := dk_26 (dk_at dksJ20_numberOfLeadingZeros_1 6 rfl rfl)
theorem dJ20_numberOfLeadingZeros_29 : decode cJ20_numberOfLeadingZeros 29 = .ok (.bipush 16, 2) := dk_16 16 (dk_at dksJ20_numberOfLeadingZeros_1 7 rfl rfl)
theorem dJ20_numberOfLeadingZeros_31 : decode cJ20_numberOfLeadingZeros 31 = .ok (.iushr, 1) := dk_124 (dk_at dksJ20_numberOfLeadingZeros_1 9 rfl rfl)
theorem dJ20_numberOfLeadingZeros_32 : decode cJ20_numberOfLeadingZeros 32 = .ok (.istore_n 0, 1) := dk_59 (dk_at dksJ20_numberOfLeadingZeros_1 10 rfl rfl)
theorem dJ20_numberOfLeadingZeros_33 : decode cJ20_numberOfLeadingZeros 33 = .ok (.iload_n 0, 1) := dk_26 (dk_at dksJ20_numberOfLeadingZeros_1 11 rfl rfl)
theorem dJ20_numberOfLeadingZeros_34 : decode cJ20_numberOfLeadingZeros 34 = .ok (.sipush 256, 3) := dk_17 1 0 (dk_at dksJ20_numberOfLeadingZeros_1 12 rfl rfl)
theorem dJ20_numberOfLeadingZeros_37 : decode cJ20_numberOfLeadingZeros 37 = .ok (.if_icmp .lt 11, 3) := dk_161 0 11 (dk_at dksJ20_numberOfLeadingZeros_1 15 rfl rfl)
theorem dJ20_numberOfLeadingZeros_40 : decode cJ20_numberOfLeadingZeros 40 = .ok (.iinc 1 (-8), 3) := dk_132 1 248 (dk_at dksJ20_numberOfLeadingZeros_1 18 rfl rfl)
theorem dJ20_numberOfLeadingZeros_43 : decode cJ20_numberOfLeadingZeros 43 = .ok (.iload_n 0, 1) := dk_26 (dk_at dksJ20_numberOfLeadingZeros_1 21 rfl rfl)
theorem dJ20_numberOfLeadingZeros_44 : decode cJ20_numberOfLeadingZeros 44 = .ok (.bipush 8, 2) := dk_16 8 (dk_at dksJ20_numberOfLeadingZeros_1 22 rfl rfl)
theorem dJ20_numberOfLeadingZeros_46 : decode cJ20_numberOfLeadingZeros 46 = .ok (.iushr, 1) := dk_124 (dk_at dksJ20_numberOfLeadingZeros_2 0 rfl rfl)
theorem dJ20_numberOfLeadingZeros_47 : decode cJ20_numberOfLeadingZeros 47 = .ok (.istore_n 0, 1) := dk_59 (dk_at dksJ20_numberOfLeadingZeros_2 1 rfl rfl)
theorem dJ20_numberOfLeadingZeros_48 : decode cJ20_numberOfLeadingZeros 48 = .ok (.iload_n 0, 1) := dk_26 (dk_at dksJ20_numberOfLeadingZeros_2 2 rfl rfl)
theorem dJ20_numberOfLeadingZeros_49 : decode cJ20_numberOfLeadingZeros 49 = .ok (.bipush 16, 2) := dk_16 16 (dk_at dksJ20_numberOfLeadingZeros_2 3 rfl rfl)
theorem dJ20_numberOfLeadingZeros_51 : decode cJ20_numberOfLeadingZeros 51 = .ok (.if_icmp .lt 10, 3) := dk_161 0 10 (dk_at dksJ20_numberOfLeadingZeros_2 5 rfl rfl)
theorem dJ20_numberOfLeadingZeros_54 : decode cJ20_numberOfLeadingZeros 54 = .ok (.iinc 1 (-4), 3) := dk_132 1 252 (dk_at dksJ20_numberOfLeadingZeros_2 8 rfl rfl)
theorem dJ20_numberOfLeadingZeros_57 : decode cJ20_numberOfLeadingZeros 57 = .ok (.iload_n 0, 1) := dk_26 (dk_at dksJ20_numberOfLeadingZeros_2 11 rfl rfl)
theorem dJ20_numberOfLeadingZeros_58 : decode cJ20_numberOfLeadingZeros 58 = .ok (.iconst 4, 1) := dk_7 (dk_at dksJ20_numberOfLeadingZeros_2 12 rfl rfl)
theorem dJ20_numberOfLeadingZeros_59 : decode cJ20_numberOfLeadingZeros 59 = .ok (.iushr, 1) := dk_124 (dk_at dksJ20_numberOfLeadingZeros_2 13 rfl rfl)
theorem dJ20_numberOfLeadingZeros_60 : decode cJ20_numberOfLeadingZeros 60 = .ok (.istore_n 0, 1) := dk_59 (dk_at dksJ20_numberOfLeadingZeros_2 14 rfl rfl)
theorem dJ20_numberOfLeadingZeros_61 : decode cJ20_numberOfLeadingZeros 61 = .ok (.iload_n 0, 1) := dk_26 (dk_at dksJ20_numberOfLeadingZeros_2 15 rfl rfl)
theorem dJ20_numberOfLeadingZeros_62 : decode cJ20_numberOfLeadingZeros 62 = .ok (.iconst 4, 1) := dk_7 (dk_at dksJ20_numberOfLeadingZeros_2 16 rfl rfl)
theorem dJ20_numberOfLeadingZeros_63 : decode cJ20_numberOfLeadingZeros 63 = .ok (.if_icmp .lt 10, 3) := dk_161 0 10 (dk_at dksJ20_numberOfLeadingZeros_2 17 rfl rfl)
theorem dJ20_numberOfLeadingZeros_66 : decode cJ20_numberOfLeadingZeros 66 = .ok (.iinc 1 (-2), 3) := dk_132 1 254 (dk_at dksJ20_numberOfLeadingZeros_2 20 rfl rfl)
theorem dJ20_numberOfLeadingZeros_69 : decode cJ20_numberOfLeadingZeros 69 = .ok (.iload_n 0, 1) := dk_26 (dk_at dksJ20_numberOfLeadingZeros_2 23 rfl rfl)
theorem dJ20_numberOfLeadingZeros_70 : decode cJ20_numberOfLeadingZeros 70 = .ok (.iconst 2, 1) := dk_5 (dk_at dksJ20_numberOfLeadingZeros_3 0 rfl rfl)
theorem dJ20_numberOfLeadingZeros_71 : decode cJ20_numberOfLeadingZeros 71 = .ok (.iushr, 1) := dk_124 (dk_at dksJ20_numberOfLeadingZeros_3 1 rfl rfl)
theorem dJ20_numberOfLeadingZeros_72 : decode cJ20_numberOfLeadingZeros 72 = .ok (.istore_n 0, 1) := dk_59 (dk_at dksJ20_numberOfLeadingZeros_3 2 rfl rfl)
theorem dJ20_numberOfLeadingZeros_73 : decode cJ20_numberOfLeadingZeros 73 = .ok (.iload_n 1, 1) := dk_27 (dk_at dksJ20_numberOfLeadingZeros_3 3 rfl rfl)
theorem dJ20_numberOfLeadingZeros_74 : decode cJ20_numberOfLeadingZeros 74 = .ok (.iload_n 0, 1) := dk_26 (dk_at dksJ20_numberOfLeadingZeros_3 4 rfl rfl)
theorem dJ20_numberOfLeadingZeros_75 : decode cJ20_numberOfLeadingZeros 75 = .ok (.iconst 1, 1) := dk_4 (dk_at dksJ20_numberOfLeadingZeros_3 5 rfl rfl)
theorem dJ20_numberOfLeadingZeros_76 : decode cJ20_numberOfLeadingZeros 76 = .ok (.iushr, 1) := dk_124 (dk_at dksJ20_numberOfLeadingZeros_3 6 rfl rfl)
theorem dJ20_numberOfLeadingZeros_77 : decode cJ20_numberOfLeadingZeros 77 = .ok (.isub, 1) := dk_100 (dk_at dksJ20_numberOfLeadingZeros_3 7 rfl rfl)
theorem dJ20_numberOfLeadingZeros_78 : decode cJ20_numberOfLeadingZeros 78 = .ok (.ireturn, 1) := dk_172 (dk_at dksJ20_numberOfLeadingZeros_3 8 rfl rfl)
abbrev cJ20_numberOfTrailingZeros : ByteArray := prog_32_method_48_code
def yJ20_numberOfTrailingZeros : MethodName := ⟨RJ20, "numberOfTrailingZeros", "(I)I"⟩
def dkwJ20_numberOfTrailingZeros_3 : List UInt8 := [5, 124, 59, 27, 26, 4, 124, 96, 172]
abbrev dktJ20_numberOfTrailingZeros_3 : List UInt8 := dkwJ20_numberOfTrailingZeros_3 ++ []
def dkwJ20_numberOfTrailingZeros_2 : List UInt8 := [124, 59, 26, 16, 16, 164, 0, 10, 132, 1, 4, 26, 7, 124, 59, 26, 7, 164, 0, 10, 132, 1, 2, 26]
abbrev dktJ20_numberOfTrailingZeros_2 : List UInt8 := dkwJ20_numberOfTrailingZeros_2 ++ dktJ20_numberOfTrailingZeros_3
def dkwJ20_numberOfTrailingZeros_1 : List UInt8 := [164, 0, 11, 132, 1, 16, 26, 16, 16, 124, 59, 26, 17, 1, 0, 164, 0, 11, 132, 1, 8, 26, 16, 8]
abbrev dktJ20_numberOfTrailingZeros_1 : List UInt8 := dkwJ20_numberOfTrailingZeros_1 ++ dktJ20_numberOfTrailingZeros_2
def dkwJ20_numberOfTrailingZeros_0 : List UInt8 := [26, 2, 130, 26, 4, 100, 126, 59, 26, 157, 0, 8, 26, 16, 32, 126, 172, 4, 60, 26, 19, 1, 8]
abbrev dktJ20_numberOfTrailingZeros_0 : List UInt8 := dkwJ20_numberOfTrailingZeros_0 ++ dktJ20_numberOfTrailingZeros_1
theorem dksJ20_numberOfTrailingZeros_0 : cJ20_numberOfTrailingZeros.data.toList.drop 0 = dktJ20_numberOfTrailingZeros_0 := by decide +kernel
theorem dksJ20_numberOfTrailingZeros_1 : cJ20_numberOfTrailingZeros.data.toList.drop 23 = dktJ20_numberOfTrailingZeros_1 := dk_seg dksJ20_numberOfTrailingZeros_0 23 rfl rfl
theorem dksJ20_numberOfTrailingZeros_2 : cJ20_numberOfTrailingZeros.data.toList.drop 47 = dktJ20_numberOfTrailingZeros_2 := dk_seg dksJ20_numberOfTrailingZeros_1 24 rfl rfl
theorem dksJ20_numberOfTrailingZeros_3 : cJ20_numberOfTrailingZeros.data.toList.drop 71 = dktJ20_numberOfTrailingZeros_3 := dk_seg dksJ20_numberOfTrailingZeros_2 24 rfl rfl
theorem dJ20_numberOfTrailingZeros_0 : decode cJ20_numberOfTrailingZeros 0 = .ok (.iload_n 0, 1) := dk_26 (dk_at dksJ20_numberOfTrailingZeros_0 0 rfl rfl)
theorem dJ20_numberOfTrailingZeros_1 : decode cJ20_numberOfTrailingZeros 1 = .ok (.iconst (-1), 1) := dk_2 (dk_at dksJ20_numberOfTrailingZeros_0 1 rfl rfl)
theorem dJ20_numberOfTrailingZeros_2 : decode cJ20_numberOfTrailingZeros 2 = .ok (.ixor, 1) := dk_130 (dk_at dksJ20_numberOfTrailingZeros_0 2 rfl rfl)
theorem dJ20_numberOfTrailingZeros_3 : decode cJ20_numberOfTrailingZeros 3 = .ok (.iload_n 0, 1) := dk_26 (dk_at dksJ20_numberOfTrailingZeros_0 3 rfl rfl)
theorem dJ20_numberOfTrailingZeros_4 : decode cJ20_numberOfTrailingZeros 4 = .ok (.iconst 1, 1) := dk_4 (dk_at dksJ20_numberOfTrailingZeros_0 4 rfl rfl)
theorem dJ20_numberOfTrailingZeros_5 : decode cJ20_numberOfTrailingZeros 5 = .ok (.isub, 1) := dk_100 (dk_at dksJ20_numberOfTrailingZeros_0 5 rfl rfl)
theorem dJ20_numberOfTrailingZeros_6 : decode cJ20_numberOfTrailingZeros 6 = .ok (.iand, 1) := dk_126 (dk_at dksJ20_numberOfTrailingZeros_0 6 rfl rfl)
theorem dJ20_numberOfTrailingZeros_7 : decode cJ20_numberOfTrailingZeros 7 = .ok (.istore_n 0, 1) := dk_59 (dk_at dksJ20_numberOfTrailingZeros_0 7 rfl rfl)
theorem dJ20_numberOfTrailingZeros_8 : decode cJ20_numberOfTrailingZeros 8 = .ok (.iload_n 0, 1) := dk_26 (dk_at dksJ20_numberOfTrailingZeros_0 8 rfl rfl)
theorem dJ20_numberOfTrailingZeros_9 : decode cJ20_numberOfTrailingZeros 9 = .ok (.ifCond .gt 8, 3) := dk_157 0 8 (dk_at dksJ20_numberOfTrailingZeros_0 9 rfl rfl)
theorem dJ20_numberOfTrailingZeros_12 : decode cJ20_numberOfTrailingZeros 12 = .ok (.iload_n 0, 1) := dk_26 (dk_at dksJ20_numberOfTrailingZeros_0 12 rfl rfl)
theorem dJ20_numberOfTrailingZeros_13 : decode cJ20_numberOfTrailingZeros 13 = .ok (.bipush 32, 2) := dk_16 32 (dk_at dksJ20_numberOfTrailingZeros_0 13 rfl rfl)
theorem dJ20_numberOfTrailingZeros_15 : decode cJ20_numberOfTrailingZeros 15 = .ok (.iand, 1) := dk_126 (dk_at dksJ20_numberOfTrailingZeros_0 15 rfl rfl)
theorem dJ20_numberOfTrailingZeros_16 : decode cJ20_numberOfTrailingZeros 16 = .ok (.ireturn, 1) := dk_172 (dk_at dksJ20_numberOfTrailingZeros_0 16 rfl rfl)
theorem dJ20_numberOfTrailingZeros_17 : decode cJ20_numberOfTrailingZeros 17 = .ok (.iconst 1, 1) := dk_4 (dk_at dksJ20_numberOfTrailingZeros_0 17 rfl rfl)
theorem dJ20_numberOfTrailingZeros_18 : decode cJ20_numberOfTrailingZeros 18 = .ok (.istore_n 1, 1) := dk_60 (dk_at dksJ20_numberOfTrailingZeros_0 18 rfl rfl)
theorem dJ20_numberOfTrailingZeros_19 : decode cJ20_numberOfTrailingZeros 19 = .ok (.iload_n 0, 1) := dk_26 (dk_at dksJ20_numberOfTrailingZeros_0 19 rfl rfl)
theorem dJ20_numberOfTrailingZeros_20 : decode cJ20_numberOfTrailingZeros 20 = .ok (.ldc_w 264, 3) := dk_19 1 8 (dk_at dksJ20_numberOfTrailingZeros_0 20 rfl rfl)
theorem dJ20_numberOfTrailingZeros_23 : decode cJ20_numberOfTrailingZeros 23 = .ok (.if_icmp .le 11, 3) := dk_164 0 11 (dk_at dksJ20_numberOfTrailingZeros_1 0 rfl rfl)
theorem dJ20_numberOfTrailingZeros_26 : decode cJ20_numberOfTrailingZeros 26 = .ok (.iinc 1 16, 3) := dk_132 1 16 (dk_at dksJ20_numberOfTrailingZeros_1 3 rfl rfl)
theorem dJ20_numberOfTrailingZeros_29 : decode cJ20_numberOfTrailingZeros 29 = .ok (.iload_n 0, 1) := dk_26 (dk_at dksJ20_numberOfTrailingZeros_1 6 rfl rfl)
theorem dJ20_numberOfTrailingZeros_30 : decode cJ20_numberOfTrailingZeros 30 = .ok (.bipush 16, 2) := dk_16 16 (dk_at dksJ20_numberOfTrailingZeros_1 7 rfl rfl)
theorem dJ20_numberOfTrailingZeros_32 : decode cJ20_numberOfTrailingZeros 32 = .ok (.iushr, 1) := dk_124 (dk_at dksJ20_numberOfTrailingZeros_1 9 rfl rfl)
theorem dJ20_numberOfTrailingZeros_33 : decode cJ20_numberOfTrailingZeros 33 = .ok (.istore_n 0, 1) := dk_59 (dk_at dksJ20_numberOfTrailingZeros_1 10 rfl rfl)
theorem dJ20_numberOfTrailingZeros_34 : decode cJ20_numberOfTrailingZeros 34 = .ok (.iload_n 0, 1) := dk_26 (dk_at dksJ20_numberOfTrailingZeros_1 11 rfl rfl)
theorem dJ20_numberOfTrailingZeros_35 : decode cJ20_numberOfTrailingZeros 35 = .ok (.sipush 256, 3) := dk_17 1 0 (dk_at dksJ20_numberOfTrailingZeros_1 12 rfl rfl)
theorem dJ20_numberOfTrailingZeros_38 : decode cJ20_numberOfTrailingZeros 38 = .ok (.if_icmp .le 11, 3) := dk_164 0 11 (dk_at dksJ20_numberOfTrailingZeros_1 15 rfl rfl)
theorem dJ20_numberOfTrailingZeros_41 : decode cJ20_numberOfTrailingZeros 41 = .ok (.iinc 1 8, 3) := dk_132 1 8 (dk_at dksJ20_numberOfTrailingZeros_1 18 rfl rfl)
theorem dJ20_numberOfTrailingZeros_44 : decode cJ20_numberOfTrailingZeros 44 = .ok (.iload_n 0, 1) := dk_26 (dk_at dksJ20_numberOfTrailingZeros_1 21 rfl rfl)
theorem dJ20_numberOfTrailingZeros_45 : decode cJ20_numberOfTrailingZeros 45 = .ok (.bipush 8, 2) := dk_16 8 (dk_at dksJ20_numberOfTrailingZeros_1 22 rfl rfl)
theorem dJ20_numberOfTrailingZeros_47 : decode cJ20_numberOfTrailingZeros 47 = .ok (.iushr, 1) := dk_124 (dk_at dksJ20_numberOfTrailingZeros_2 0 rfl rfl)
theorem dJ20_numberOfTrailingZeros_48 : decode cJ20_numberOfTrailingZeros 48 = .ok (.istore_n 0, 1) := dk_59 (dk_at dksJ20_numberOfTrailingZeros_2 1 rfl rfl)
theorem dJ20_numberOfTrailingZeros_49 : decode cJ20_numberOfTrailingZeros 49 = .ok (.iload_n 0, 1) := dk_26 (dk_at dksJ20_numberOfTrailingZeros_2 2 rfl rfl)
theorem dJ20_numberOfTrailingZeros_50 : decode cJ20_numberOfTrailingZeros 50 = .ok (.bipush 16, 2) := dk_16 16 (dk_at dksJ20_numberOfTrailingZeros_2 3 rfl rfl)
theorem dJ20_numberOfTrailingZeros_52 : decode cJ20_numberOfTrailingZeros 52 = .ok (.if_icmp .le 10, 3) := dk_164 0 10 (dk_at dksJ20_numberOfTrailingZeros_2 5 rfl rfl)
theorem dJ20_numberOfTrailingZeros_55 : decode cJ20_numberOfTrailingZeros 55 = .ok (.iinc 1 4, 3) := dk_132 1 4 (dk_at dksJ20_numberOfTrailingZeros_2 8 rfl rfl)
theorem dJ20_numberOfTrailingZeros_58 : decode cJ20_numberOfTrailingZeros 58 = .ok (.iload_n 0, 1) := dk_26 (dk_at dksJ20_numberOfTrailingZeros_2 11 rfl rfl)
theorem dJ20_numberOfTrailingZeros_59 : decode cJ20_numberOfTrailingZeros 59 = .ok (.iconst 4, 1) := dk_7 (dk_at dksJ20_numberOfTrailingZeros_2 12 rfl rfl)
theorem dJ20_numberOfTrailingZeros_60 : decode cJ20_numberOfTrailingZeros 60 = .ok (.iushr, 1) := dk_124 (dk_at dksJ20_numberOfTrailingZeros_2 13 rfl rfl)
theorem dJ20_numberOfTrailingZeros_61 : decode cJ20_numberOfTrailingZeros 61 = .ok (.istore_n 0, 1) := dk_59 (dk_at dksJ20_numberOfTrailingZeros_2 14 rfl rfl)
theorem dJ20_numberOfTrailingZeros_62 : decode cJ20_numberOfTrailingZeros 62 = .ok (.iload_n 0, 1) := dk_26 (dk_at dksJ20_numberOfTrailingZeros_2 15 rfl rfl)
theorem dJ20_numberOfTrailingZeros_63 : decode cJ20_numberOfTrailingZeros 63 = .ok (.iconst 4, 1) := dk_7 (dk_at dksJ20_numberOfTrailingZeros_2 16 rfl rfl)
theorem dJ20_numberOfTrailingZeros_64 : decode cJ20_numberOfTrailingZeros 64 = .ok (.if_icmp .le 10, 3) := dk_164 0 10 (dk_at dksJ20_numberOfTrailingZeros_2 17 rfl rfl)
theorem dJ20_numberOfTrailingZeros_67 : decode cJ20_numberOfTrailingZeros 67 = .ok (.iinc 1 2, 3) := dk_132 1 2 (dk_at dksJ20_numberOfTrailingZeros_2 20 rfl rfl)
theorem dJ20_numberOfTrailingZeros_70 : decode cJ20_numberOfTrailingZeros 70 = .ok (.iload_n 0, 1) := dk_26 (dk_at dksJ20_numberOfTrailingZeros_2 23 rfl rfl)
theorem dJ20_numberOfTrailingZeros_71 : decode cJ20_numberOfTrailingZeros 71 = .ok (.iconst 2, 1) := dk_5 (dk_at dksJ20_numberOfTrailingZeros_3 0 rfl rfl)
theorem dJ20_numberOfTrailingZeros_72 : decode cJ20_numberOfTrailingZeros 72 = .ok (.iushr, 1) := dk_124 (dk_at dksJ20_numberOfTrailingZeros_3 1 rfl rfl)
theorem dJ20_numberOfTrailingZeros_73 : decode cJ20_numberOfTrailingZeros 73 = .ok (.istore_n 0, 1) := dk_59 (dk_at dksJ20_numberOfTrailingZeros_3 2 rfl rfl)
theorem dJ20_numberOfTrailingZeros_74 : decode cJ20_numberOfTrailingZeros 74 = .ok (.iload_n 1, 1) := dk_27 (dk_at dksJ20_numberOfTrailingZeros_3 3 rfl rfl)
theorem dJ20_numberOfTrailingZeros_75 : decode cJ20_numberOfTrailingZeros 75 = .ok (.iload_n 0, 1) := dk_26 (dk_at dksJ20_numberOfTrailingZeros_3 4 rfl rfl)
theorem dJ20_numberOfTrailingZeros_76 : decode cJ20_numberOfTrailingZeros 76 = .ok (.iconst 1, 1) := dk_4 (dk_at dksJ20_numberOfTrailingZeros_3 5 rfl rfl)
theorem dJ20_numberOfTrailingZeros_77 : decode cJ20_numberOfTrailingZeros 77 = .ok (.iushr, 1) := dk_124 (dk_at dksJ20_numberOfTrailingZeros_3 6 rfl rfl)
theorem dJ20_numberOfTrailingZeros_78 : decode cJ20_numberOfTrailingZeros 78 = .ok (.iadd, 1) := dk_96 (dk_at dksJ20_numberOfTrailingZeros_3 7 rfl rfl)
theorem dJ20_numberOfTrailingZeros_79 : decode cJ20_numberOfTrailingZeros 79 = .ok (.ireturn, 1) := dk_172 (dk_at dksJ20_numberOfTrailingZeros_3 8 rfl rfl)
abbrev cJ20_intValue : ByteArray := prog_32_method_27_code
def yJ20_intValue : MethodName := ⟨RJ20, "intValue", "()I"⟩
theorem dJ20_intValue_0 : decode cJ20_intValue 0 = .ok (.aload_n 0, 1) := by decide +kernel
theorem dJ20_intValue_1 : decode cJ20_intValue 1 = .ok (.getfield 205, 3) := by decide +kernel
theorem dJ20_intValue_4 : decode cJ20_intValue 4 = .ok (.ireturn, 1) := by decide +kernel
abbrev cJ20_bitCount : ByteArray := prog_32_method_49_code
def yJ20_bitCount : MethodName := ⟨RJ20, "bitCount", "(I)I"⟩
def dkwJ20_bitCount_2 : List UInt8 := [26, 16, 63, 126, 172]
abbrev dktJ20_bitCount_2 : List UInt8 := dkwJ20_bitCount_2 ++ []
def dkwJ20_bitCount_1 : List UInt8 := [26, 26, 7, 124, 96, 19, 1, 11, 126, 59, 26, 26, 16, 8, 124, 96, 59, 26, 26, 16, 16, 124, 96, 59]
abbrev dktJ20_bitCount_1 : List UInt8 := dkwJ20_bitCount_1 ++ dktJ20_bitCount_2
def dkwJ20_bitCount_0 : List UInt8 := [26, 26, 4, 124, 19, 1, 9, 126, 100, 59, 26, 19, 1, 10, 126, 26, 5, 124, 19, 1, 10, 126, 96, 59]
abbrev dktJ20_bitCount_0 : List UInt8 := dkwJ20_bitCount_0 ++ dktJ20_bitCount_1
theorem dksJ20_bitCount_0 : cJ20_bitCount.data.toList.drop 0 = dktJ20_bitCount_0 := by decide +kernel
theorem dksJ20_bitCount_1 : cJ20_bitCount.data.toList.drop 24 = dktJ20_bitCount_1 := dk_seg dksJ20_bitCount_0 24 rfl rfl
theorem dksJ20_bitCount_2 : cJ20_bitCount.data.toList.drop 48 = dktJ20_bitCount_2 := dk_seg dksJ20_bitCount_1 24 rfl rfl
theorem dJ20_bitCount_0 : decode cJ20_bitCount 0 = .ok (.iload_n 0, 1) := dk_26 (dk_at dksJ20_bitCount_0 0 rfl rfl)
theorem dJ20_bitCount_1 : decode cJ20_bitCount 1 = .ok (.iload_n 0, 1) := dk_26 (dk_at dksJ20_bitCount_0 1 rfl rfl)
theorem dJ20_bitCount_2 : decode cJ20_bitCount 2 = .ok (.iconst 1, 1) := dk_4 (dk_at dksJ20_bitCount_0 2 rfl rfl)
theorem dJ20_bitCount_3 : decode cJ20_bitCount 3 = .ok (.iushr, 1) := dk_124 (dk_at dksJ20_bitCount_0 3 rfl rfl)
theorem dJ20_bitCount_4 : decode cJ20_bitCount 4 = .ok (.ldc_w 265, 3) := dk_19 1 9 (dk_at dksJ20_bitCount_0 4 rfl rfl)
theorem dJ20_bitCount_7 : decode cJ20_bitCount 7 = .ok (.iand, 1) := dk_126 (dk_at dksJ20_bitCount_0 7 rfl rfl)
theorem dJ20_bitCount_8 : decode cJ20_bitCount 8 = .ok (.isub, 1) := dk_100 (dk_at dksJ20_bitCount_0 8 rfl rfl)
theorem dJ20_bitCount_9 : decode cJ20_bitCount 9 = .ok (.istore_n 0, 1) := dk_59 (dk_at dksJ20_bitCount_0 9 rfl rfl)
theorem dJ20_bitCount_10 : decode cJ20_bitCount 10 = .ok (.iload_n 0, 1) := dk_26 (dk_at dksJ20_bitCount_0 10 rfl rfl)
theorem dJ20_bitCount_11 : decode cJ20_bitCount 11 = .ok (.ldc_w 266, 3) := dk_19 1 10 (dk_at dksJ20_bitCount_0 11 rfl rfl)
theorem dJ20_bitCount_14 : decode cJ20_bitCount 14 = .ok (.iand, 1) := dk_126 (dk_at dksJ20_bitCount_0 14 rfl rfl)
theorem dJ20_bitCount_15 : decode cJ20_bitCount 15 = .ok (.iload_n 0, 1) := dk_26 (dk_at dksJ20_bitCount_0 15 rfl rfl)
theorem dJ20_bitCount_16 : decode cJ20_bitCount 16 = .ok (.iconst 2, 1) := dk_5 (dk_at dksJ20_bitCount_0 16 rfl rfl)
theorem dJ20_bitCount_17 : decode cJ20_bitCount 17 = .ok (.iushr, 1) := dk_124 (dk_at dksJ20_bitCount_0 17 rfl rfl)
theorem dJ20_bitCount_18 : decode cJ20_bitCount 18 = .ok (.ldc_w 266, 3) := dk_19 1 10 (dk_at dksJ20_bitCount_0 18 rfl rfl)
theorem dJ20_bitCount_21 : decode cJ20_bitCount 21 = .ok (.iand, 1) := dk_126 (dk_at dksJ20_bitCount_0 21 rfl rfl)
theorem dJ20_bitCount_22 : decode cJ20_bitCount 22 = .ok (.iadd, 1) := dk_96 (dk_at dksJ20_bitCount_0 22 rfl rfl)
theorem dJ20_bitCount_23 : decode cJ20_bitCount 23 = .ok (.istore_n 0, 1) := dk_59 (dk_at dksJ20_bitCount_0 23 rfl rfl)
theorem dJ20_bitCount_24 : decode cJ20_bitCount 24 = .ok (.iload_n 0, 1) := dk_26 (dk_at dksJ20_bitCount_1 0 rfl rfl)
theorem dJ20_bitCount_25 : decode cJ20_bitCount 25 = .ok (.iload_n 0, 1) := dk_26 (dk_at dksJ20_bitCount_1 1 rfl rfl)
theorem dJ20_bitCount_26 : decode cJ20_bitCount 26 = .ok (.iconst 4, 1) := dk_7 (dk_at dksJ20_bitCount_1 2 rfl rfl)
theorem dJ20_bitCount_27 : decode cJ20_bitCount 27 = .ok (.iushr, 1) := dk_124 (dk_at dksJ20_bitCount_1 3 rfl rfl)
theorem dJ20_bitCount_28 : decode cJ20_bitCount 28 = .ok (.iadd, 1) := dk_96 (dk_at dksJ20_bitCount_1 4 rfl rfl)
theorem dJ20_bitCount_29 : decode cJ20_bitCount 29 = .ok (.ldc_w 267, 3) := dk_19 1 11 (dk_at dksJ20_bitCount_1 5 rfl rfl)
theorem dJ20_bitCount_32 : decode cJ20_bitCount 32 = .ok (.iand, 1) := dk_126 (dk_at dksJ20_bitCount_1 8 rfl rfl)
theorem dJ20_bitCount_33 : decode cJ20_bitCount 33 = .ok (.istore_n 0, 1) := dk_59 (dk_at dksJ20_bitCount_1 9 rfl rfl)
theorem dJ20_bitCount_34 : decode cJ20_bitCount 34 = .ok (.iload_n 0, 1) := dk_26 (dk_at dksJ20_bitCount_1 10 rfl rfl)
theorem dJ20_bitCount_35 : decode cJ20_bitCount 35 = .ok (.iload_n 0, 1) := dk_26 (dk_at dksJ20_bitCount_1 11 rfl rfl)
theorem dJ20_bitCount_36 : decode cJ20_bitCount 36 = .ok (.bipush 8, 2) := dk_16 8 (dk_at dksJ20_bitCount_1 12 rfl rfl)
theorem dJ20_bitCount_38 : decode cJ20_bitCount 38 = .ok (.iushr, 1) := dk_124 (dk_at dksJ20_bitCount_1 14 rfl rfl)
theorem dJ20_bitCount_39 : decode cJ20_bitCount 39 = .ok (.iadd, 1) := dk_96 (dk_at dksJ20_bitCount_1 15 rfl rfl)
theorem dJ20_bitCount_40 : decode cJ20_bitCount 40 = .ok (.istore_n 0, 1) := dk_59 (dk_at dksJ20_bitCount_1 16 rfl rfl)
theorem dJ20_bitCount_41 : decode cJ20_bitCount 41 = .ok (.iload_n 0, 1) := dk_26 (dk_at dksJ20_bitCount_1 17 rfl rfl)
theorem dJ20_bitCount_42 : decode cJ20_bitCount 42 = .ok (.iload_n 0, 1) := dk_26 (dk_at dksJ20_bitCount_1 18 rfl rfl)
theorem dJ20_bitCount_43 : decode cJ20_bitCount 43 = .ok (.bipush 16, 2) := dk_16 16 (dk_at dksJ20_bitCount_1 19 rfl rfl)
theorem dJ20_bitCount_45 : decode cJ20_bitCount 45 = .ok (.iushr, 1) := dk_124 (dk_at dksJ20_bitCount_1 21 rfl rfl)
theorem dJ20_bitCount_46 : decode cJ20_bitCount 46 = .ok (.iadd, 1) := dk_96 (dk_at dksJ20_bitCount_1 22 rfl rfl)
theorem dJ20_bitCount_47 : decode cJ20_bitCount 47 = .ok (.istore_n 0, 1) := dk_59 (dk_at dksJ20_bitCount_1 23 rfl rfl)
theorem dJ20_bitCount_48 : decode cJ20_bitCount 48 = .ok (.iload_n 0, 1) := dk_26 (dk_at dksJ20_bitCount_2 0 rfl rfl)
theorem dJ20_bitCount_49 : decode cJ20_bitCount 49 = .ok (.bipush 63, 2) := dk_16 63 (dk_at dksJ20_bitCount_2 1 rfl rfl)
theorem dJ20_bitCount_51 : decode cJ20_bitCount 51 = .ok (.iand, 1) := dk_126 (dk_at dksJ20_bitCount_2 3 rfl rfl)
theorem dJ20_bitCount_52 : decode cJ20_bitCount 52 = .ok (.ireturn, 1) := dk_172 (dk_at dksJ20_bitCount_2 4 rfl rfl)
abbrev cJ20_equals : ByteArray := prog_32_method_34_code
def yJ20_equals : MethodName := ⟨RJ20, "equals", "(Ljava/lang/Object;)Z"⟩
def dkwJ20_equals_1 : List UInt8 := [167, 0, 4, 3, 172, 3, 172]
abbrev dktJ20_equals_1 : List UInt8 := dkwJ20_equals_1 ++ []
def dkwJ20_equals_0 : List UInt8 := [43, 193, 0, 1, 153, 0, 23, 42, 180, 0, 205, 43, 192, 0, 1, 182, 0, 211, 160, 0, 7, 4]
abbrev dktJ20_equals_0 : List UInt8 := dkwJ20_equals_0 ++ dktJ20_equals_1
theorem dksJ20_equals_0 : cJ20_equals.data.toList.drop 0 = dktJ20_equals_0 := by decide +kernel
theorem dksJ20_equals_1 : cJ20_equals.data.toList.drop 22 = dktJ20_equals_1 := dk_seg dksJ20_equals_0 22 rfl rfl
theorem dJ20_equals_0 : decode cJ20_equals 0 = .ok (.aload_n 1, 1) := dk_43 (dk_at dksJ20_equals_0 0 rfl rfl)
theorem dJ20_equals_1 : decode cJ20_equals 1 = .ok (.instanceof 1, 3) := dk_193 0 1 (dk_at dksJ20_equals_0 1 rfl rfl)
theorem dJ20_equals_4 : decode cJ20_equals 4 = .ok (.ifCond .eq 23, 3) := dk_153 0 23 (dk_at dksJ20_equals_0 4 rfl rfl)
theorem dJ20_equals_7 : decode cJ20_equals 7 = .ok (.aload_n 0, 1) := dk_42 (dk_at dksJ20_equals_0 7 rfl rfl)
theorem dJ20_equals_8 : decode cJ20_equals 8 = .ok (.getfield 205, 3) := dk_180 0 205 (dk_at dksJ20_equals_0 8 rfl rfl)
theorem dJ20_equals_11 : decode cJ20_equals 11 = .ok (.aload_n 1, 1) := dk_43 (dk_at dksJ20_equals_0 11 rfl rfl)
theorem dJ20_equals_12 : decode cJ20_equals 12 = .ok (.checkcast 1, 3) := dk_192 0 1 (dk_at dksJ20_equals_0 12 rfl rfl)
theorem dJ20_equals_15 : decode cJ20_equals 15 = .ok (.invokevirtual 211, 3) := dk_182 0 211 (dk_at dksJ20_equals_0 15 rfl rfl)
theorem dJ20_equals_18 : decode cJ20_equals 18 = .ok (.if_icmp .ne 7, 3) := dk_160 0 7 (dk_at dksJ20_equals_0 18 rfl rfl)
theorem dJ20_equals_21 : decode cJ20_equals 21 = .ok (.iconst 1, 1) := dk_4 (dk_at dksJ20_equals_0 21 rfl rfl)
theorem dJ20_equals_22 : decode cJ20_equals 22 = .ok (.goto 4, 3) := dk_167 0 4 (dk_at dksJ20_equals_1 0 rfl rfl)
theorem dJ20_equals_25 : decode cJ20_equals 25 = .ok (.iconst 0, 1) := dk_3 (dk_at dksJ20_equals_1 3 rfl rfl)
theorem dJ20_equals_26 : decode cJ20_equals 26 = .ok (.ireturn, 1) := dk_172 (dk_at dksJ20_equals_1 4 rfl rfl)
theorem dJ20_equals_27 : decode cJ20_equals 27 = .ok (.iconst 0, 1) := dk_3 (dk_at dksJ20_equals_1 5 rfl rfl)
theorem dJ20_equals_28 : decode cJ20_equals 28 = .ok (.ireturn, 1) := dk_172 (dk_at dksJ20_equals_1 6 rfl rfl)
theorem q204 : (Jvm.Cond.initialized "java/lang/Integer") ∈ lw_all := lw_g (lw_at lw_m1 28 rfl) rfl
theorem q420 : (Jvm.Cond.selects "java/lang/Integer" ({ cls := "java/lang/Object", name := "getClass", desc := "()Ljava/lang/Class;" } : Jvm.MethodName) ({ cls := "java/lang/Object", name := "getClass", desc := "()Ljava/lang/Class;" } : Jvm.MethodName)) ∈ lw_all := lw_g (lw_at lw_m2 4 rfl) rfl
theorem q852 : (Jvm.Cond.static ({ cls := "java/lang/Integer", name := "stringSize", desc := "(I)I" } : Jvm.MethodName)) ∈ lw_all := lw_g (lw_at lw_m3 196 rfl) rfl
theorem q853 : (Jvm.Cond.code ({ cls := "java/lang/Integer", name := "stringSize", desc := "(I)I" } : Jvm.MethodName) prog_32_method_13_code (4 : Nat) (Option.some Jvm.ClassFile.FieldType.int)) ∈ lw_all := lw_g (lw_at lw_m3 197 rfl) rfl
theorem q855 : (Jvm.Cond.static ({ cls := "java/lang/Integer", name := "getChars", desc := "(II[B)I" } : Jvm.MethodName)) ∈ lw_all := lw_g (lw_at lw_m3 199 rfl) rfl
theorem q856 : (Jvm.Cond.code ({ cls := "java/lang/Integer", name := "getChars", desc := "(II[B)I" } : Jvm.MethodName) prog_32_method_12_code (7 : Nat) (Option.some Jvm.ClassFile.FieldType.int)) ∈ lw_all := lw_g (lw_at lw_m3 200 rfl) rfl
theorem q857 : (Jvm.Cond.fieldLink "java/lang/Integer" (83 : Nat) "java/lang/Integer" "DigitOnes" "[B") ∈ lw_all := lw_g (lw_at lw_m3 201 rfl) rfl
theorem q858 : (Jvm.Cond.laysStatic "java/lang/Integer" "DigitOnes" "[B") ∈ lw_tbl := lw_at lw_m3 202 rfl
theorem q859 : (Jvm.Cond.fieldLink "java/lang/Integer" (87 : Nat) "java/lang/Integer" "DigitTens" "[B") ∈ lw_all := lw_g (lw_at lw_m3 203 rfl) rfl
theorem q860 : (Jvm.Cond.laysStatic "java/lang/Integer" "DigitTens" "[B") ∈ lw_tbl := lw_at lw_m3 204 rfl
theorem q1461 : (Jvm.Cond.static ({ cls := "java/lang/Integer", name := "valueOf", desc := "(I)Ljava/lang/Integer;" } : Jvm.MethodName)) ∈ lw_all := lw_g (lw_at lw_m6 85 rfl) rfl
theorem q1462 : (Jvm.Cond.code ({ cls := "java/lang/Integer", name := "valueOf", desc := "(I)Ljava/lang/Integer;" } : Jvm.MethodName) prog_32_method_22_code (1 : Nat) (Option.some (Jvm.ClassFile.FieldType.object "java/lang/Integer"))) ∈ lw_all := lw_g (lw_at lw_m6 86 rfl) rfl
theorem q1463 : (Jvm.Cond.fieldLink "java/lang/Integer" (191 : Nat) "java/lang/Integer$IntegerCache" "high" "I") ∈ lw_all := lw_g (lw_at lw_m6 87 rfl) rfl
theorem q1465 : (Jvm.Cond.fieldLink "java/lang/Integer" (195 : Nat) "java/lang/Integer$IntegerCache" "cache" "[Ljava/lang/Integer;") ∈ lw_all := lw_g (lw_at lw_m6 89 rfl) rfl
theorem q1467 : (Jvm.Cond.classLink "java/lang/Integer" (1 : Nat) "java/lang/Integer") ∈ lw_all := lw_g (lw_at lw_m6 91 rfl) rfl
theorem q1468 : (Jvm.Cond.instantiable "java/lang/Integer" (1 : Nat)) ∈ lw_all := lw_g (lw_at lw_m6 92 rfl) rfl
theorem q1469 : (Jvm.Cond.methodLink "java/lang/Integer" (199 : Nat) ({ cls := "java/lang/Integer", name := "<init>", desc := "(I)V" } : Jvm.MethodName)) ∈ lw_all := lw_g (lw_at lw_m6 93 rfl) rfl
theorem q1470 : (Jvm.Cond.instanceMethod ({ cls := "java/lang/Integer", name := "<init>", desc := "(I)V" } : Jvm.MethodName)) ∈ lw_all := lw_g (lw_at lw_m6 94 rfl) rfl
theorem q1471 : (Jvm.Cond.code ({ cls := "java/lang/Integer", name := "<init>", desc := "(I)V" } : Jvm.MethodName) prog_32_method_23_code (2 : Nat) (Option.none : Option Jvm.ClassFile.FieldType)) ∈ lw_all := lw_g (lw_at lw_m6 95 rfl) rfl
theorem q1472 : (Jvm.Cond.methodLink "java/lang/Integer" (202 : Nat) ({ cls := "java/lang/Number", name := "<init>", desc := "()V" } : Jvm.MethodName)) ∈ lw_all := lw_g (lw_at lw_m6 96 rfl) rfl
theorem q1476 : (Jvm.Cond.fieldLink "java/lang/Integer" (205 : Nat) "java/lang/Integer" "value" "I") ∈ lw_all := lw_g (lw_at lw_m6 100 rfl) rfl
theorem q1477 : (Jvm.Cond.laysFinal "java/lang/Integer" "java/lang/Integer" "value" "I") ∈ lw_all := lw_g (lw_at lw_m6 101 rfl) rfl
theorem q1478 : (Jvm.Cond.soleField "java/lang/Integer" "value") ∈ lw_all := lw_g (lw_at lw_m6 102 rfl) rfl
theorem q1479 : (Jvm.Cond.superclass "java/lang/Integer" "java/lang/Number") ∈ lw_all := lw_g (lw_at lw_m6 103 rfl) rfl
theorem q1513 : (Jvm.Cond.castable "java/lang/Integer" "java/lang/Comparable") ∈ lw_tbl := lw_at lw_m6 137 rfl
theorem q1514 : (Jvm.Cond.selects "java/lang/Integer" ({ cls := "java/lang/Comparable", name := "compareTo", desc := "(Ljava/lang/Object;)I" } : Jvm.MethodName) ({ cls := "java/lang/Integer", name := "compareTo", desc := "(Ljava/lang/Object;)I" } : Jvm.MethodName)) ∈ lw_all := lw_g (lw_at lw_m6 138 rfl) rfl
theorem q1515 : (Jvm.Cond.unhidden "java/lang/Integer" "compareTo" "(Ljava/lang/Object;)I") ∈ lw_tbl := lw_at lw_m6 139 rfl
theorem q1516 : (Jvm.Cond.instanceMethod ({ cls := "java/lang/Integer", name := "compareTo", desc := "(Ljava/lang/Object;)I" } : Jvm.MethodName)) ∈ lw_all := lw_g (lw_at lw_m6 140 rfl) rfl
theorem q1517 : (Jvm.Cond.publicMethod ({ cls := "java/lang/Integer", name := "compareTo", desc := "(Ljava/lang/Object;)I" } : Jvm.MethodName)) ∈ lw_tbl := lw_at lw_m6 141 rfl
theorem q1518 : (Jvm.Cond.code ({ cls := "java/lang/Integer", name := "compareTo", desc := "(Ljava/lang/Object;)I" } : Jvm.MethodName) prog_32_method_63_code (2 : Nat) (Option.some Jvm.ClassFile.FieldType.int)) ∈ lw_all := lw_g (lw_at lw_m6 142 rfl) rfl
theorem q1519 : (Jvm.Cond.methodLink "java/lang/Integer" (284 : Nat) ({ cls := "java/lang/Integer", name := "compareTo", desc := "(Ljava/lang/Integer;)I" } : Jvm.MethodName)) ∈ lw_all := lw_g (lw_at lw_m6 143 rfl) rfl
theorem q1520 : (Jvm.Cond.instanceMethod ({ cls := "java/lang/Integer", name := "compareTo", desc := "(Ljava/lang/Integer;)I" } : Jvm.MethodName)) ∈ lw_all := lw_g (lw_at lw_m6 144 rfl) rfl
theorem q1521 : (Jvm.Cond.selects "java/lang/Integer" ({ cls := "java/lang/Integer", name := "compareTo", desc := "(Ljava/lang/Integer;)I" } : Jvm.MethodName) ({ cls := "java/lang/Integer", name := "compareTo", desc := "(Ljava/lang/Integer;)I" } : Jvm.MethodName)) ∈ lw_all := lw_g (lw_at lw_m6 145 rfl) rfl
theorem q1522 : (Jvm.Cond.code ({ cls := "java/lang/Integer", name := "compareTo", desc := "(Ljava/lang/Integer;)I" } : Jvm.MethodName) prog_32_method_39_code (2 : Nat) (Option.some Jvm.ClassFile.FieldType.int)) ∈ lw_all := lw_g (lw_at lw_m6 146 rfl) rfl
theorem q1523 : (Jvm.Cond.methodLink "java/lang/Integer" (259 : Nat) ({ cls := "java/lang/Integer", name := "compare", desc := "(II)I" } : Jvm.MethodName)) ∈ lw_all := lw_g (lw_at lw_m6 147 rfl) rfl
theorem q1524 : (Jvm.Cond.static ({ cls := "java/lang/Integer", name := "compare", desc := "(II)I" } : Jvm.MethodName)) ∈ lw_all := lw_g (lw_at lw_m6 148 rfl) rfl
theorem q1525 : (Jvm.Cond.code ({ cls := "java/lang/Integer", name := "compare", desc := "(II)I" } : Jvm.MethodName) prog_32_method_40_code (2 : Nat) (Option.some Jvm.ClassFile.FieldType.int)) ∈ lw_all := lw_g (lw_at lw_m6 149 rfl) rfl
theorem q1615 : (Jvm.Cond.static ({ cls := "java/lang/Integer", name := "numberOfLeadingZeros", desc := "(I)I" } : Jvm.MethodName)) ∈ lw_all := lw_g (lw_at lw_m6 239 rfl) rfl
theorem q1616 : (Jvm.Cond.code ({ cls := "java/lang/Integer", name := "numberOfLeadingZeros", desc := "(I)I" } : Jvm.MethodName) prog_32_method_47_code (2 : Nat) (Option.some Jvm.ClassFile.FieldType.int)) ∈ lw_all := lw_g (lw_at lw_m7 0 rfl) rfl
theorem q1617 : (Jvm.Cond.constant "java/lang/Integer" (264 : Nat) (65536 : Int32)) ∈ lw_all := lw_g (lw_at lw_m7 1 rfl) rfl
theorem q1624 : (Jvm.Cond.static ({ cls := "java/lang/Integer", name := "numberOfTrailingZeros", desc := "(I)I" } : Jvm.MethodName)) ∈ lw_all := lw_g (lw_at lw_m7 8 rfl) rfl
theorem q1625 : (Jvm.Cond.code ({ cls := "java/lang/Integer", name := "numberOfTrailingZeros", desc := "(I)I" } : Jvm.MethodName) prog_32_method_48_code (2 : Nat) (Option.some Jvm.ClassFile.FieldType.int)) ∈ lw_all := lw_g (lw_at lw_m7 9 rfl) rfl
theorem q1960 : (Jvm.Cond.instanceMethod ({ cls := "java/lang/Integer", name := "intValue", desc := "()I" } : Jvm.MethodName)) ∈ lw_all := lw_g (lw_at lw_m8 104 rfl) rfl
theorem q1961 : (Jvm.Cond.selects "java/lang/Integer" ({ cls := "java/lang/Integer", name := "intValue", desc := "()I" } : Jvm.MethodName) ({ cls := "java/lang/Integer", name := "intValue", desc := "()I" } : Jvm.MethodName)) ∈ lw_all := lw_g (lw_at lw_m8 105 rfl) rfl
theorem q1962 : (Jvm.Cond.code ({ cls := "java/lang/Integer", name := "intValue", desc := "()I" } : Jvm.MethodName) prog_32_method_27_code (1 : Nat) (Option.some Jvm.ClassFile.FieldType.int)) ∈ lw_all := lw_g (lw_at lw_m8 106 rfl) rfl
theorem q2742 : (Jvm.Cond.static ({ cls := "java/lang/Integer", name := "bitCount", desc := "(I)I" } : Jvm.MethodName)) ∈ lw_all := lw_g (lw_at lw_m11 166 rfl) rfl
theorem q2743 : (Jvm.Cond.code ({ cls := "java/lang/Integer", name := "bitCount", desc := "(I)I" } : Jvm.MethodName) prog_32_method_49_code (1 : Nat) (Option.some Jvm.ClassFile.FieldType.int)) ∈ lw_all := lw_g (lw_at lw_m11 167 rfl) rfl
theorem q2744 : (Jvm.Cond.constant "java/lang/Integer" (265 : Nat) (1431655765 : Int32)) ∈ lw_all := lw_g (lw_at lw_m11 168 rfl) rfl
theorem q2745 : (Jvm.Cond.constant "java/lang/Integer" (266 : Nat) (858993459 : Int32)) ∈ lw_all := lw_g (lw_at lw_m11 169 rfl) rfl
theorem q2746 : (Jvm.Cond.constant "java/lang/Integer" (267 : Nat) (252645135 : Int32)) ∈ lw_all := lw_g (lw_at lw_m11 170 rfl) rfl
theorem q2827 : (Jvm.Cond.selects "java/lang/Integer" ({ cls := "java/lang/Object", name := "equals", desc := "(Ljava/lang/Object;)Z" } : Jvm.MethodName) ({ cls := "java/lang/Integer", name := "equals", desc := "(Ljava/lang/Object;)Z" } : Jvm.MethodName)) ∈ lw_all := lw_g (lw_at lw_m12 11 rfl) rfl
theorem q2828 : (Jvm.Cond.instanceMethod ({ cls := "java/lang/Integer", name := "equals", desc := "(Ljava/lang/Object;)Z" } : Jvm.MethodName)) ∈ lw_all := lw_g (lw_at lw_m12 12 rfl) rfl
theorem q2829 : (Jvm.Cond.code ({ cls := "java/lang/Integer", name := "equals", desc := "(Ljava/lang/Object;)Z" } : Jvm.MethodName) prog_32_method_34_code (2 : Nat) (Option.some Jvm.ClassFile.FieldType.boolean)) ∈ lw_all := lw_g (lw_at lw_m12 13 rfl) rfl
theorem q2830 : (Jvm.Cond.methodLink "java/lang/Integer" (211 : Nat) ({ cls := "java/lang/Integer", name := "intValue", desc := "()I" } : Jvm.MethodName)) ∈ lw_all := lw_g (lw_at lw_m12 14 rfl) rfl
theorem q4499 : (Jvm.Cond.castable "java/lang/Integer" "java/lang/Object") ∈ lw_tbl := lw_at lw_m19 3 rfl
theorem in_J20 : ∀ w ∈ wsJ200, w ∈ lw_all := lw_in wsJ200 [1477] (by decide +kernel) (by decide +kernel)

/-! java/lang/IndexOutOfBoundsException -/
set_option maxRecDepth 100000
def RJ21 : String := "java/lang/IndexOutOfBoundsException"
def TJ21 : u_T := fun k => match k with
  | 0 => ("java/lang/Throwable", "cause", "Ljava/lang/Throwable;", false)
  | 1 => ("java/lang/Throwable", "stackTrace", "[Ljava/lang/StackTraceElement;", false)
  | 2 => ("java/lang/Throwable", "suppressedExceptions", "Ljava/util/List;", false)
  | 3 => ("java/lang/Throwable", "detailMessage", "Ljava/lang/String;", false)
  | 4 => ("java/lang/Throwable", "backtrace", "Ljava/lang/Object;", false)
  | _ => ("java/lang/Throwable", "depth", "I", false)
def tyJ21 : Nat → FieldType := fun k => match k with
  | 0 => .object "java/lang/Throwable"
  | 1 => .array (.object "java/lang/StackTraceElement")
  | 2 => .object "java/util/List"
  | 3 => .object "java/lang/String"
  | 4 => .object "java/lang/Object"
  | _ => .int
abbrev wsJ210 : List Cond := u_ws RJ21 TJ21 6
theorem nmJ21 : ∀ a, a < 6 → ∀ b, b < 6 → a ≠ b → (TJ21 a).2.1 ≠ (TJ21 b).2.1 := by decide +kernel
theorem tyJ21_ok : ∀ k, k < 6 → parseFieldDescriptor (TJ21 k).2.2.1 = some (tyJ21 k) := by decide +kernel
abbrev cJ21_init : ByteArray := prog_31_method_2_code
def yJ21_init : MethodName := ⟨RJ21, "<init>", "(Ljava/lang/String;)V"⟩
def dkwJ21_init_0 : List UInt8 := [42, 43, 183, 0, 7, 177]
abbrev dktJ21_init_0 : List UInt8 := dkwJ21_init_0 ++ []
theorem dksJ21_init_0 : cJ21_init.data.toList.drop 0 = dktJ21_init_0 := by decide +kernel
theorem dJ21_init_0 : decode cJ21_init 0 = .ok (.aload_n 0, 1) := dk_42 (dk_at dksJ21_init_0 0 rfl rfl)
theorem dJ21_init_1 : decode cJ21_init 1 = .ok (.aload_n 1, 1) := dk_43 (dk_at dksJ21_init_0 1 rfl rfl)
theorem dJ21_init_2 : decode cJ21_init 2 = .ok (.invokespecial 7, 3) := dk_183 0 7 (dk_at dksJ21_init_0 2 rfl rfl)
theorem dJ21_init_5 : decode cJ21_init 5 = .ok (.return_, 1) := dk_177 (dk_at dksJ21_init_0 5 rfl rfl)
abbrev cJ21_init_2 : ByteArray := prog_31_method_1_code
def yJ21_init_2 : MethodName := ⟨RJ21, "<init>", "()V"⟩
theorem dJ21_init_2_0 : decode cJ21_init_2 0 = .ok (.aload_n 0, 1) := by decide +kernel
theorem dJ21_init_2_1 : decode cJ21_init_2 1 = .ok (.invokespecial 1, 3) := by decide +kernel
theorem dJ21_init_2_4 : decode cJ21_init_2 4 = .ok (.return_, 1) := by decide +kernel
theorem q206 : (Jvm.Cond.initialized "java/lang/IndexOutOfBoundsException") ∈ lw_all := lw_g (lw_at lw_m1 30 rfl) rfl
theorem q419 : (Jvm.Cond.selects "java/lang/IndexOutOfBoundsException" ({ cls := "java/lang/Object", name := "getClass", desc := "()Ljava/lang/Class;" } : Jvm.MethodName) ({ cls := "java/lang/Object", name := "getClass", desc := "()Ljava/lang/Class;" } : Jvm.MethodName)) ∈ lw_all := lw_g (lw_at lw_m2 3 rfl) rfl
theorem q833 : (Jvm.Cond.selects "java/lang/IndexOutOfBoundsException" ({ cls := "java/lang/Throwable", name := "fillInStackTrace", desc := "()Ljava/lang/Throwable;" } : Jvm.MethodName) ({ cls := "java/lang/Throwable", name := "fillInStackTrace", desc := "()Ljava/lang/Throwable;" } : Jvm.MethodName)) ∈ lw_all := lw_g (lw_at lw_m3 177 rfl) rfl
theorem q1110 : (Jvm.Cond.instantiable "java/lang/IndexOutOfBoundsException" (6 : Nat)) ∈ lw_all := lw_g (lw_at lw_m4 214 rfl) rfl
theorem q1111 : (Jvm.Cond.castable "java/lang/IndexOutOfBoundsException" "java/lang/IndexOutOfBoundsException") ∈ lw_tbl := lw_at lw_m4 215 rfl
theorem q1112 : (Jvm.Cond.selects "java/lang/IndexOutOfBoundsException" ({ cls := "java/lang/Throwable", name := "fillInStackTrace", desc := "(I)Ljava/lang/Throwable;" } : Jvm.MethodName) ({ cls := "java/lang/Throwable", name := "fillInStackTrace", desc := "(I)Ljava/lang/Throwable;" } : Jvm.MethodName)) ∈ lw_all := lw_g (lw_at lw_m4 216 rfl) rfl
theorem q1113 : (Jvm.Cond.lays "java/lang/IndexOutOfBoundsException" "java/lang/Throwable" "cause" "Ljava/lang/Throwable;") ∈ lw_all := lw_g (lw_at lw_m4 217 rfl) rfl
theorem q1114 : (Jvm.Cond.lays "java/lang/IndexOutOfBoundsException" "java/lang/Throwable" "stackTrace" "[Ljava/lang/StackTraceElement;") ∈ lw_all := lw_g (lw_at lw_m4 218 rfl) rfl
theorem q1115 : (Jvm.Cond.lays "java/lang/IndexOutOfBoundsException" "java/lang/Throwable" "suppressedExceptions" "Ljava/util/List;") ∈ lw_all := lw_g (lw_at lw_m4 219 rfl) rfl
theorem q1116 : (Jvm.Cond.lays "java/lang/IndexOutOfBoundsException" "java/lang/Throwable" "detailMessage" "Ljava/lang/String;") ∈ lw_all := lw_g (lw_at lw_m4 220 rfl) rfl
theorem q1117 : (Jvm.Cond.lays "java/lang/IndexOutOfBoundsException" "java/lang/Throwable" "backtrace" "Ljava/lang/Object;") ∈ lw_all := lw_g (lw_at lw_m4 221 rfl) rfl
theorem q1125 : (Jvm.Cond.instanceMethod ({ cls := "java/lang/IndexOutOfBoundsException", name := "<init>", desc := "(Ljava/lang/String;)V" } : Jvm.MethodName)) ∈ lw_all := lw_g (lw_at lw_m4 229 rfl) rfl
theorem q1126 : (Jvm.Cond.code ({ cls := "java/lang/IndexOutOfBoundsException", name := "<init>", desc := "(Ljava/lang/String;)V" } : Jvm.MethodName) prog_31_method_2_code (2 : Nat) (Option.none : Option Jvm.ClassFile.FieldType)) ∈ lw_all := lw_g (lw_at lw_m4 230 rfl) rfl
theorem q1127 : (Jvm.Cond.methodLink "java/lang/IndexOutOfBoundsException" (7 : Nat) ({ cls := "java/lang/RuntimeException", name := "<init>", desc := "(Ljava/lang/String;)V" } : Jvm.MethodName)) ∈ lw_all := lw_g (lw_at lw_m4 231 rfl) rfl
theorem q1128 : (Jvm.Cond.lays "java/lang/IndexOutOfBoundsException" "java/lang/Throwable" "depth" "I") ∈ lw_all := lw_g (lw_at lw_m4 232 rfl) rfl
theorem q1129 : (Jvm.Cond.superclass "java/lang/IndexOutOfBoundsException" "java/lang/RuntimeException") ∈ lw_all := lw_g (lw_at lw_m4 233 rfl) rfl
theorem q2261 : (Jvm.Cond.selects "java/lang/IndexOutOfBoundsException" ({ cls := "java/lang/Throwable", name := "toString", desc := "()Ljava/lang/String;" } : Jvm.MethodName) ({ cls := "java/lang/Throwable", name := "toString", desc := "()Ljava/lang/String;" } : Jvm.MethodName)) ∈ lw_all := lw_g (lw_at lw_m9 165 rfl) rfl
theorem q2273 : (Jvm.Cond.selects "java/lang/IndexOutOfBoundsException" ({ cls := "java/lang/Throwable", name := "getLocalizedMessage", desc := "()Ljava/lang/String;" } : Jvm.MethodName) ({ cls := "java/lang/Throwable", name := "getLocalizedMessage", desc := "()Ljava/lang/String;" } : Jvm.MethodName)) ∈ lw_all := lw_g (lw_at lw_m9 177 rfl) rfl
theorem q2284 : (Jvm.Cond.selects "java/lang/IndexOutOfBoundsException" ({ cls := "java/lang/Throwable", name := "getMessage", desc := "()Ljava/lang/String;" } : Jvm.MethodName) ({ cls := "java/lang/Throwable", name := "getMessage", desc := "()Ljava/lang/String;" } : Jvm.MethodName)) ∈ lw_all := lw_g (lw_at lw_m9 188 rfl) rfl
theorem q2826 : (Jvm.Cond.selects "java/lang/IndexOutOfBoundsException" ({ cls := "java/lang/Object", name := "equals", desc := "(Ljava/lang/Object;)Z" } : Jvm.MethodName) ({ cls := "java/lang/Object", name := "equals", desc := "(Ljava/lang/Object;)Z" } : Jvm.MethodName)) ∈ lw_all := lw_g (lw_at lw_m12 10 rfl) rfl
theorem q3008 : (Jvm.Cond.declares ({ cls := "java/lang/IndexOutOfBoundsException", name := "<init>", desc := "()V" } : Jvm.MethodName)) ∈ lw_tbl := lw_at lw_m12 192 rfl
theorem q3009 : (Jvm.Cond.declares ({ cls := "java/lang/IndexOutOfBoundsException", name := "<init>", desc := "(Ljava/lang/String;)V" } : Jvm.MethodName)) ∈ lw_tbl := lw_at lw_m12 193 rfl
theorem q3024 : (Jvm.Cond.instanceMethod ({ cls := "java/lang/IndexOutOfBoundsException", name := "<init>", desc := "()V" } : Jvm.MethodName)) ∈ lw_all := lw_g (lw_at lw_m12 208 rfl) rfl
theorem q3025 : (Jvm.Cond.code ({ cls := "java/lang/IndexOutOfBoundsException", name := "<init>", desc := "()V" } : Jvm.MethodName) prog_31_method_1_code (1 : Nat) (Option.none : Option Jvm.ClassFile.FieldType)) ∈ lw_all := lw_g (lw_at lw_m12 209 rfl) rfl
theorem q3026 : (Jvm.Cond.methodLink "java/lang/IndexOutOfBoundsException" (1 : Nat) ({ cls := "java/lang/RuntimeException", name := "<init>", desc := "()V" } : Jvm.MethodName)) ∈ lw_all := lw_g (lw_at lw_m12 210 rfl) rfl
theorem q4494 : (Jvm.Cond.castable "java/lang/IndexOutOfBoundsException" "java/lang/Object") ∈ lw_tbl := lw_at lw_m18 238 rfl
theorem in_J21 : ∀ w ∈ wsJ210, w ∈ lw_all := lw_in wsJ210 [1113, 1114, 1115, 1116, 1117, 1128] (by decide +kernel) (by decide +kernel)

/-! java/util/Objects -/
set_option maxRecDepth 100000
def RJ22 : String := "java/util/Objects"
abbrev cJ22_checkIndex : ByteArray := prog_77_method_17_code
def yJ22_checkIndex : MethodName := ⟨RJ22, "checkIndex", "(II)I"⟩
def dkwJ22_checkIndex_0 : List UInt8 := [26, 27, 1, 184, 0, 105, 172]
abbrev dktJ22_checkIndex_0 : List UInt8 := dkwJ22_checkIndex_0 ++ []
theorem dksJ22_checkIndex_0 : cJ22_checkIndex.data.toList.drop 0 = dktJ22_checkIndex_0 := by decide +kernel
theorem dJ22_checkIndex_0 : decode cJ22_checkIndex 0 = .ok (.iload_n 0, 1) := dk_26 (dk_at dksJ22_checkIndex_0 0 rfl rfl)
theorem dJ22_checkIndex_1 : decode cJ22_checkIndex 1 = .ok (.iload_n 1, 1) := dk_27 (dk_at dksJ22_checkIndex_0 1 rfl rfl)
theorem dJ22_checkIndex_2 : decode cJ22_checkIndex 2 = .ok (.aconst_null, 1) := dk_1 (dk_at dksJ22_checkIndex_0 2 rfl rfl)
theorem dJ22_checkIndex_3 : decode cJ22_checkIndex 3 = .ok (.invokestatic 105, 3) := dk_184 0 105 (dk_at dksJ22_checkIndex_0 3 rfl rfl)
theorem dJ22_checkIndex_6 : decode cJ22_checkIndex 6 = .ok (.ireturn, 1) := dk_172 (dk_at dksJ22_checkIndex_0 6 rfl rfl)
abbrev cJ22_requireNonNull : ByteArray := prog_77_method_10_code
def yJ22_requireNonNull : MethodName := ⟨RJ22, "requireNonNull", "(Ljava/lang/Object;)Ljava/lang/Object;"⟩
def dkwJ22_requireNonNull_0 : List UInt8 := [42, 199, 0, 11, 187, 0, 84, 89, 183, 0, 86, 191, 42, 176]
abbrev dktJ22_requireNonNull_0 : List UInt8 := dkwJ22_requireNonNull_0 ++ []
theorem dksJ22_requireNonNull_0 : cJ22_requireNonNull.data.toList.drop 0 = dktJ22_requireNonNull_0 := by decide +kernel
theorem dJ22_requireNonNull_0 : decode cJ22_requireNonNull 0 = .ok (.aload_n 0, 1) := dk_42 (dk_at dksJ22_requireNonNull_0 0 rfl rfl)
theorem dJ22_requireNonNull_1 : decode cJ22_requireNonNull 1 = .ok (.ifnonnull 11, 3) := dk_199 0 11 (dk_at dksJ22_requireNonNull_0 1 rfl rfl)
theorem dJ22_requireNonNull_4 : decode cJ22_requireNonNull 4 = .ok (.new 84, 3) := dk_187 0 84 (dk_at dksJ22_requireNonNull_0 4 rfl rfl)
theorem dJ22_requireNonNull_7 : decode cJ22_requireNonNull 7 = .ok (.dup, 1) := dk_89 (dk_at dksJ22_requireNonNull_0 7 rfl rfl)
theorem dJ22_requireNonNull_8 : decode cJ22_requireNonNull 8 = .ok (.invokespecial 86, 3) := dk_183 0 86 (dk_at dksJ22_requireNonNull_0 8 rfl rfl)
theorem dJ22_requireNonNull_11 : decode cJ22_requireNonNull 11 = .ok (.athrow, 1) := dk_191 (dk_at dksJ22_requireNonNull_0 11 rfl rfl)
theorem dJ22_requireNonNull_12 : decode cJ22_requireNonNull 12 = .ok (.aload_n 0, 1) := dk_42 (dk_at dksJ22_requireNonNull_0 12 rfl rfl)
theorem dJ22_requireNonNull_13 : decode cJ22_requireNonNull 13 = .ok (.areturn, 1) := dk_176 (dk_at dksJ22_requireNonNull_0 13 rfl rfl)
abbrev cJ22_equals : ByteArray := prog_77_method_2_code
def yJ22_equals : MethodName := ⟨RJ22, "equals", "(Ljava/lang/Object;Ljava/lang/Object;)Z"⟩
def dkwJ22_equals_0 : List UInt8 := [42, 43, 165, 0, 15, 42, 198, 0, 15, 42, 43, 182, 0, 14, 153, 0, 7, 4, 167, 0, 4, 3, 172]
abbrev dktJ22_equals_0 : List UInt8 := dkwJ22_equals_0 ++ []
theorem dksJ22_equals_0 : cJ22_equals.data.toList.drop 0 = dktJ22_equals_0 := by decide +kernel
theorem dJ22_equals_0 : decode cJ22_equals 0 = .ok (.aload_n 0, 1) := dk_42 (dk_at dksJ22_equals_0 0 rfl rfl)
theorem dJ22_equals_1 : decode cJ22_equals 1 = .ok (.aload_n 1, 1) := dk_43 (dk_at dksJ22_equals_0 1 rfl rfl)
theorem dJ22_equals_2 : decode cJ22_equals 2 = .ok (.if_acmp .eq 15, 3) := dk_165 0 15 (dk_at dksJ22_equals_0 2 rfl rfl)
theorem dJ22_equals_5 : decode cJ22_equals 5 = .ok (.aload_n 0, 1) := dk_42 (dk_at dksJ22_equals_0 5 rfl rfl)
theorem dJ22_equals_6 : decode cJ22_equals 6 = .ok (.ifnull 15, 3) := dk_198 0 15 (dk_at dksJ22_equals_0 6 rfl rfl)
theorem dJ22_equals_9 : decode cJ22_equals 9 = .ok (.aload_n 0, 1) := dk_42 (dk_at dksJ22_equals_0 9 rfl rfl)
theorem dJ22_equals_10 : decode cJ22_equals 10 = .ok (.aload_n 1, 1) := dk_43 (dk_at dksJ22_equals_0 10 rfl rfl)
theorem dJ22_equals_11 : decode cJ22_equals 11 = .ok (.invokevirtual 14, 3) := dk_182 0 14 (dk_at dksJ22_equals_0 11 rfl rfl)
theorem dJ22_equals_14 : decode cJ22_equals 14 = .ok (.ifCond .eq 7, 3) := dk_153 0 7 (dk_at dksJ22_equals_0 14 rfl rfl)
theorem dJ22_equals_17 : decode cJ22_equals 17 = .ok (.iconst 1, 1) := dk_4 (dk_at dksJ22_equals_0 17 rfl rfl)
theorem dJ22_equals_18 : decode cJ22_equals 18 = .ok (.goto 4, 3) := dk_167 0 4 (dk_at dksJ22_equals_0 18 rfl rfl)
theorem dJ22_equals_21 : decode cJ22_equals 21 = .ok (.iconst 0, 1) := dk_3 (dk_at dksJ22_equals_0 21 rfl rfl)
theorem dJ22_equals_22 : decode cJ22_equals 22 = .ok (.ireturn, 1) := dk_172 (dk_at dksJ22_equals_0 22 rfl rfl)
theorem q208 : (Jvm.Cond.initialized "java/util/Objects") ∈ lw_all := lw_g (lw_at lw_m1 32 rfl) rfl
theorem q1200 : (Jvm.Cond.static ({ cls := "java/util/Objects", name := "checkIndex", desc := "(II)I" } : Jvm.MethodName)) ∈ lw_all := lw_g (lw_at lw_m5 64 rfl) rfl
theorem q1201 : (Jvm.Cond.code ({ cls := "java/util/Objects", name := "checkIndex", desc := "(II)I" } : Jvm.MethodName) prog_77_method_17_code (2 : Nat) (Option.some Jvm.ClassFile.FieldType.int)) ∈ lw_all := lw_g (lw_at lw_m5 65 rfl) rfl
theorem q1202 : (Jvm.Cond.methodLink "java/util/Objects" (105 : Nat) ({ cls := "jdk/internal/util/Preconditions", name := "checkIndex", desc := "(IILjava/util/function/BiFunction;)I" } : Jvm.MethodName)) ∈ lw_all := lw_g (lw_at lw_m5 66 rfl) rfl
theorem q1751 : (Jvm.Cond.static ({ cls := "java/util/Objects", name := "requireNonNull", desc := "(Ljava/lang/Object;)Ljava/lang/Object;" } : Jvm.MethodName)) ∈ lw_all := lw_g (lw_at lw_m7 135 rfl) rfl
theorem q1752 : (Jvm.Cond.code ({ cls := "java/util/Objects", name := "requireNonNull", desc := "(Ljava/lang/Object;)Ljava/lang/Object;" } : Jvm.MethodName) prog_77_method_10_code (1 : Nat) (Option.some (Jvm.ClassFile.FieldType.object "java/lang/Object"))) ∈ lw_all := lw_g (lw_at lw_m7 136 rfl) rfl
theorem q2802 : (Jvm.Cond.static ({ cls := "java/util/Objects", name := "equals", desc := "(Ljava/lang/Object;Ljava/lang/Object;)Z" } : Jvm.MethodName)) ∈ lw_all := lw_g (lw_at lw_m11 226 rfl) rfl
theorem q2803 : (Jvm.Cond.code ({ cls := "java/util/Objects", name := "equals", desc := "(Ljava/lang/Object;Ljava/lang/Object;)Z" } : Jvm.MethodName) prog_77_method_2_code (2 : Nat) (Option.some Jvm.ClassFile.FieldType.boolean)) ∈ lw_all := lw_g (lw_at lw_m11 227 rfl) rfl
theorem q2805 : (Jvm.Cond.methodLink "java/util/Objects" (14 : Nat) ({ cls := "java/lang/Object", name := "equals", desc := "(Ljava/lang/Object;)Z" } : Jvm.MethodName)) ∈ lw_all := lw_g (lw_at lw_m11 229 rfl) rfl

/-! java/util/AbstractMap -/
set_option maxRecDepth 100000
def RJ23 : String := "java/util/AbstractMap"
abbrev cJ23_init : ByteArray := prog_53_method_1_code
def yJ23_init : MethodName := ⟨RJ23, "<init>", "()V"⟩
theorem dJ23_init_0 : decode cJ23_init 0 = .ok (.aload_n 0, 1) := by decide +kernel
theorem dJ23_init_1 : decode cJ23_init 1 = .ok (.invokespecial 1, 3) := by decide +kernel
theorem dJ23_init_4 : decode cJ23_init 4 = .ok (.return_, 1) := by decide +kernel
abbrev cJ23_isEmpty : ByteArray := prog_53_method_3_code
def yJ23_isEmpty : MethodName := ⟨RJ23, "isEmpty", "()Z"⟩
def dkwJ23_isEmpty_0 : List UInt8 := [42, 182, 0, 19, 154, 0, 7, 4, 167, 0, 4, 3, 172]
abbrev dktJ23_isEmpty_0 : List UInt8 := dkwJ23_isEmpty_0 ++ []
theorem dksJ23_isEmpty_0 : cJ23_isEmpty.data.toList.drop 0 = dktJ23_isEmpty_0 := by decide +kernel
theorem dJ23_isEmpty_0 : decode cJ23_isEmpty 0 = .ok (.aload_n 0, 1) := dk_42 (dk_at dksJ23_isEmpty_0 0 rfl rfl)
theorem dJ23_isEmpty_1 : decode cJ23_isEmpty 1 = .ok (.invokevirtual 19, 3) := dk_182 0 19 (dk_at dksJ23_isEmpty_0 1 rfl rfl)
theorem dJ23_isEmpty_4 : decode cJ23_isEmpty 4 = .ok (.ifCond .ne 7, 3) := dk_154 0 7 (dk_at dksJ23_isEmpty_0 4 rfl rfl)
theorem dJ23_isEmpty_7 : decode cJ23_isEmpty 7 = .ok (.iconst 1, 1) := dk_4 (dk_at dksJ23_isEmpty_0 7 rfl rfl)
theorem dJ23_isEmpty_8 : decode cJ23_isEmpty 8 = .ok (.goto 4, 3) := dk_167 0 4 (dk_at dksJ23_isEmpty_0 8 rfl rfl)
theorem dJ23_isEmpty_11 : decode cJ23_isEmpty 11 = .ok (.iconst 0, 1) := dk_3 (dk_at dksJ23_isEmpty_0 11 rfl rfl)
theorem dJ23_isEmpty_12 : decode cJ23_isEmpty 12 = .ok (.ireturn, 1) := dk_172 (dk_at dksJ23_isEmpty_0 12 rfl rfl)
abbrev cJ23_putAll : ByteArray := prog_53_method_9_code
def yJ23_putAll : MethodName := ⟨RJ23, "putAll", "(Ljava/util/Map;)V"⟩
def dkwJ23_putAll_2 : List UInt8 := [182, 0, 55, 87, 167, 255, 220, 177]
abbrev dktJ23_putAll_2 : List UInt8 := dkwJ23_putAll_2 ++ []
def dkwJ23_putAll_1 : List UInt8 := [185, 0, 30, 1, 0, 192, 0, 34, 78, 42, 45, 185, 0, 43, 1, 0, 45, 185, 0, 36, 1, 0]
abbrev dktJ23_putAll_1 : List UInt8 := dkwJ23_putAll_1 ++ dktJ23_putAll_2
def dkwJ23_putAll_0 : List UInt8 := [43, 185, 0, 52, 1, 0, 185, 0, 20, 1, 0, 77, 44, 185, 0, 24, 1, 0, 153, 0, 33, 44]
abbrev dktJ23_putAll_0 : List UInt8 := dkwJ23_putAll_0 ++ dktJ23_putAll_1
theorem dksJ23_putAll_0 : cJ23_putAll.data.toList.drop 0 = dktJ23_putAll_0 := by decide +kernel
theorem dksJ23_putAll_1 : cJ23_putAll.data.toList.drop 22 = dktJ23_putAll_1 := dk_seg dksJ23_putAll_0 22 rfl rfl
theorem dksJ23_putAll_2 : cJ23_putAll.data.toList.drop 44 = dktJ23_putAll_2 := dk_seg dksJ23_putAll_1 22 rfl rfl
theorem dJ23_putAll_0 : decode cJ23_putAll 0 = .ok (.aload_n 1, 1) := dk_43 (dk_at dksJ23_putAll_0 0 rfl rfl)
theorem dJ23_putAll_1 : decode cJ23_putAll 1 = .ok (.invokeinterface 52 1, 5) := by decide +kernel
theorem dJ23_putAll_6 : decode cJ23_putAll 6 = .ok (.invokeinterface 20 1, 5) := by decide +kernel
theorem dJ23_putAll_11 : decode cJ23_putAll 11 = .ok (.astore_n 2, 1) := dk_77 (dk_at dksJ23_putAll_0 11 rfl rfl)
theorem dJ23_putAll_12 : decode cJ23_putAll 12 = .ok (.aload_n 2, 1) := dk_44 (dk_at dksJ23_putAll_0 12 rfl rfl)
theorem dJ23_putAll_13 : decode cJ23_putAll 13 = .ok (.invokeinterface 24 1, 5) := by decide +kernel
theorem dJ23_putAll_18 : decode cJ23_putAll 18 = .ok (.ifCond .eq 33, 3) := dk_153 0 33 (dk_at dksJ23_putAll_0 18 rfl rfl)
theorem dJ23_putAll_21 : decode cJ23_putAll 21 = .ok (.aload_n 2, 1) := dk_44 (dk_at dksJ23_putAll_0 21 rfl rfl)
theorem dJ23_putAll_22 : decode cJ23_putAll 22 = .ok (.invokeinterface 30 1, 5) := by decide +kernel
theorem dJ23_putAll_27 : decode cJ23_putAll 27 = .ok (.checkcast 34, 3) := dk_192 0 34 (dk_at dksJ23_putAll_1 5 rfl rfl)
theorem dJ23_putAll_30 : decode cJ23_putAll 30 = .ok (.astore_n 3, 1) := dk_78 (dk_at dksJ23_putAll_1 8 rfl rfl)
theorem dJ23_putAll_31 : decode cJ23_putAll 31 = .ok (.aload_n 0, 1) := dk_42 (dk_at dksJ23_putAll_1 9 rfl rfl)
theorem dJ23_putAll_32 : decode cJ23_putAll 32 = .ok (.aload_n 3, 1) := dk_45 (dk_at dksJ23_putAll_1 10 rfl rfl)
theorem dJ23_putAll_33 : decode cJ23_putAll 33 = .ok (.invokeinterface 43 1, 5) := by decide +kernel
theorem dJ23_putAll_38 : decode cJ23_putAll 38 = .ok (.aload_n 3, 1) := dk_45 (dk_at dksJ23_putAll_1 16 rfl rfl)
theorem dJ23_putAll_39 : decode cJ23_putAll 39 = .ok (.invokeinterface 36 1, 5) := by decide +kernel
theorem dJ23_putAll_44 : decode cJ23_putAll 44 = .ok (.invokevirtual 55, 3) := dk_182 0 55 (dk_at dksJ23_putAll_2 0 rfl rfl)
theorem dJ23_putAll_47 : decode cJ23_putAll 47 = .ok (.pop, 1) := dk_87 (dk_at dksJ23_putAll_2 3 rfl rfl)
theorem dJ23_putAll_48 : decode cJ23_putAll 48 = .ok (.goto (-36), 3) := dk_167 255 220 (dk_at dksJ23_putAll_2 4 rfl rfl)
theorem dJ23_putAll_51 : decode cJ23_putAll 51 = .ok (.return_, 1) := dk_177 (dk_at dksJ23_putAll_2 7 rfl rfl)
theorem q210 : (Jvm.Cond.initialized "java/util/AbstractMap") ∈ lw_all := lw_g (lw_at lw_m1 34 rfl) rfl
theorem q1325 : (Jvm.Cond.instanceMethod ({ cls := "java/util/AbstractMap", name := "<init>", desc := "()V" } : Jvm.MethodName)) ∈ lw_all := lw_g (lw_at lw_m5 189 rfl) rfl
theorem q1326 : (Jvm.Cond.code ({ cls := "java/util/AbstractMap", name := "<init>", desc := "()V" } : Jvm.MethodName) prog_53_method_1_code (1 : Nat) (Option.none : Option Jvm.ClassFile.FieldType)) ∈ lw_all := lw_g (lw_at lw_m5 190 rfl) rfl
theorem q1327 : (Jvm.Cond.methodLink "java/util/AbstractMap" (1 : Nat) ({ cls := "java/lang/Object", name := "<init>", desc := "()V" } : Jvm.MethodName)) ∈ lw_all := lw_g (lw_at lw_m5 191 rfl) rfl
theorem q1350 : (Jvm.Cond.soleField "java/util/AbstractMap" "keySet") ∈ lw_all := lw_g (lw_at lw_m5 214 rfl) rfl
theorem q1352 : (Jvm.Cond.soleField "java/util/AbstractMap" "values") ∈ lw_all := lw_g (lw_at lw_m5 216 rfl) rfl
theorem q2654 : (Jvm.Cond.instanceMethod ({ cls := "java/util/AbstractMap", name := "isEmpty", desc := "()Z" } : Jvm.MethodName)) ∈ lw_all := lw_g (lw_at lw_m11 78 rfl) rfl
theorem q2655 : (Jvm.Cond.publicMethod ({ cls := "java/util/AbstractMap", name := "isEmpty", desc := "()Z" } : Jvm.MethodName)) ∈ lw_tbl := lw_at lw_m11 79 rfl
theorem q2656 : (Jvm.Cond.code ({ cls := "java/util/AbstractMap", name := "isEmpty", desc := "()Z" } : Jvm.MethodName) prog_53_method_3_code (1 : Nat) (Option.some Jvm.ClassFile.FieldType.boolean)) ∈ lw_all := lw_g (lw_at lw_m11 80 rfl) rfl
theorem q2657 : (Jvm.Cond.methodLink "java/util/AbstractMap" (19 : Nat) ({ cls := "java/util/AbstractMap", name := "size", desc := "()I" } : Jvm.MethodName)) ∈ lw_all := lw_g (lw_at lw_m11 81 rfl) rfl
theorem q2658 : (Jvm.Cond.instanceMethod ({ cls := "java/util/AbstractMap", name := "size", desc := "()I" } : Jvm.MethodName)) ∈ lw_all := lw_g (lw_at lw_m11 82 rfl) rfl
theorem q2659 : (Jvm.Cond.sameMethod "java/util/AbstractMap" "java/util/AbstractMap" "size" "()I") ∈ lw_all := lw_g (lw_at lw_m11 83 rfl) rfl
theorem q2661 : (Jvm.Cond.declares ({ cls := "java/util/AbstractMap", name := "size", desc := "()I" } : Jvm.MethodName)) ∈ lw_tbl := lw_at lw_m11 85 rfl
theorem q2893 : (Jvm.Cond.instanceMethod ({ cls := "java/util/AbstractMap", name := "putAll", desc := "(Ljava/util/Map;)V" } : Jvm.MethodName)) ∈ lw_all := lw_g (lw_at lw_m12 77 rfl) rfl
theorem q2894 : (Jvm.Cond.code ({ cls := "java/util/AbstractMap", name := "putAll", desc := "(Ljava/util/Map;)V" } : Jvm.MethodName) prog_53_method_9_code (4 : Nat) (Option.none : Option Jvm.ClassFile.FieldType)) ∈ lw_all := lw_g (lw_at lw_m12 78 rfl) rfl
theorem q2895 : (Jvm.Cond.interfaceEntry "java/util/AbstractMap" (52 : Nat)) ∈ lw_tbl := lw_at lw_m12 79 rfl
theorem q2896 : (Jvm.Cond.methodLink "java/util/AbstractMap" (52 : Nat) ({ cls := "java/util/Map", name := "entrySet", desc := "()Ljava/util/Set;" } : Jvm.MethodName)) ∈ lw_all := lw_g (lw_at lw_m12 80 rfl) rfl
theorem q2897 : (Jvm.Cond.interfaceEntry "java/util/AbstractMap" (20 : Nat)) ∈ lw_tbl := lw_at lw_m12 81 rfl
theorem q2898 : (Jvm.Cond.methodLink "java/util/AbstractMap" (20 : Nat) ({ cls := "java/util/Set", name := "iterator", desc := "()Ljava/util/Iterator;" } : Jvm.MethodName)) ∈ lw_all := lw_g (lw_at lw_m12 82 rfl) rfl
theorem q2899 : (Jvm.Cond.interfaceEntry "java/util/AbstractMap" (24 : Nat)) ∈ lw_tbl := lw_at lw_m12 83 rfl
theorem q2900 : (Jvm.Cond.methodLink "java/util/AbstractMap" (24 : Nat) ({ cls := "java/util/Iterator", name := "hasNext", desc := "()Z" } : Jvm.MethodName)) ∈ lw_all := lw_g (lw_at lw_m12 84 rfl) rfl
theorem q2901 : (Jvm.Cond.interfaceEntry "java/util/AbstractMap" (30 : Nat)) ∈ lw_tbl := lw_at lw_m12 85 rfl
theorem q2902 : (Jvm.Cond.methodLink "java/util/AbstractMap" (30 : Nat) ({ cls := "java/util/Iterator", name := "next", desc := "()Ljava/lang/Object;" } : Jvm.MethodName)) ∈ lw_all := lw_g (lw_at lw_m12 86 rfl) rfl
theorem q2903 : (Jvm.Cond.classLink "java/util/AbstractMap" (34 : Nat) "java/util/Map$Entry") ∈ lw_all := lw_g (lw_at lw_m12 87 rfl) rfl
theorem q2904 : (Jvm.Cond.interfaceEntry "java/util/AbstractMap" (43 : Nat)) ∈ lw_tbl := lw_at lw_m12 88 rfl
theorem q2905 : (Jvm.Cond.methodLink "java/util/AbstractMap" (43 : Nat) ({ cls := "java/util/Map$Entry", name := "getKey", desc := "()Ljava/lang/Object;" } : Jvm.MethodName)) ∈ lw_all := lw_g (lw_at lw_m12 89 rfl) rfl
theorem q2906 : (Jvm.Cond.interfaceEntry "java/util/AbstractMap" (36 : Nat)) ∈ lw_tbl := lw_at lw_m12 90 rfl
theorem q2907 : (Jvm.Cond.methodLink "java/util/AbstractMap" (36 : Nat) ({ cls := "java/util/Map$Entry", name := "getValue", desc := "()Ljava/lang/Object;" } : Jvm.MethodName)) ∈ lw_all := lw_g (lw_at lw_m12 91 rfl) rfl
theorem q2908 : (Jvm.Cond.methodLink "java/util/AbstractMap" (55 : Nat) ({ cls := "java/util/AbstractMap", name := "put", desc := "(Ljava/lang/Object;Ljava/lang/Object;)Ljava/lang/Object;" } : Jvm.MethodName)) ∈ lw_all := lw_g (lw_at lw_m12 92 rfl) rfl
theorem q2909 : (Jvm.Cond.instanceMethod ({ cls := "java/util/AbstractMap", name := "put", desc := "(Ljava/lang/Object;Ljava/lang/Object;)Ljava/lang/Object;" } : Jvm.MethodName)) ∈ lw_all := lw_g (lw_at lw_m12 93 rfl) rfl
theorem q2910 : (Jvm.Cond.sameMethod "java/util/AbstractMap" "java/util/AbstractMap" "put" "(Ljava/lang/Object;Ljava/lang/Object;)Ljava/lang/Object;") ∈ lw_all := lw_g (lw_at lw_m12 94 rfl) rfl
theorem q2912 : (Jvm.Cond.declares ({ cls := "java/util/AbstractMap", name := "put", desc := "(Ljava/lang/Object;Ljava/lang/Object;)Ljava/lang/Object;" } : Jvm.MethodName)) ∈ lw_tbl := lw_at lw_m12 96 rfl
theorem q4466 : (Jvm.Cond.sameMethod "java/util/AbstractMap" "java/util/AbstractMap" "putAll" "(Ljava/util/Map;)V") ∈ lw_all := lw_g (lw_at lw_m18 210 rfl) rfl
