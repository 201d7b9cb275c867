/-! java/lang/StringUTF16 -/
set_option maxRecDepth 100000
def RJ3 : String := "java/lang/StringUTF16"
abbrev cJ3_newBytesFor : ByteArray := prog_47_method_2_code
def yJ3_newBytesFor : MethodName := ⟨RJ3, "newBytesFor", "(I)[B"⟩
def dkwJ3_newBytesFor_0 : List UInt8 := [26, 184, 0, 11, 188, 8, 176]
abbrev dktJ3_newBytesFor_0 : List UInt8 := dkwJ3_newBytesFor_0 ++ []
theorem dksJ3_newBytesFor_0 : cJ3_newBytesFor.data.toList.drop 0 = dktJ3_newBytesFor_0 := by decide +kernel
theorem dJ3_newBytesFor_0 : decode cJ3_newBytesFor 0 = .ok (.iload_n 0, 1) := dk_26 (dk_at dksJ3_newBytesFor_0 0 rfl rfl)
theorem dJ3_newBytesFor_1 : decode cJ3_newBytesFor 1 = .ok (.invokestatic 11, 3) := dk_184 0 11 (dk_at dksJ3_newBytesFor_0 1 rfl rfl)
theorem dJ3_newBytesFor_4 : decode cJ3_newBytesFor 4 = .ok (.newarray .byte, 2) := dk_188_8 (dk_at dksJ3_newBytesFor_0 4 rfl rfl)
theorem dJ3_newBytesFor_6 : decode cJ3_newBytesFor 6 = .ok (.areturn, 1) := dk_176 (dk_at dksJ3_newBytesFor_0 6 rfl rfl)
abbrev cJ3_newBytesLength : ByteArray := prog_47_method_3_code
def yJ3_newBytesLength : MethodName := ⟨RJ3, "newBytesLength", "(I)I"⟩
def dkwJ3_newBytesLength_2 : List UInt8 := [182, 0, 32, 182, 0, 37, 183, 0, 41, 191, 26, 4, 120, 172]
abbrev dktJ3_newBytesLength_2 : List UInt8 := dkwJ3_newBytesLength_2 ++ []
def dkwJ3_newBytesLength_1 : List UInt8 := [187, 0, 23, 89, 183, 0, 25, 18, 26, 182, 0, 28, 26, 182, 0, 32, 18, 35, 182, 0, 28, 18, 20]
abbrev dktJ3_newBytesLength_1 : List UInt8 := dkwJ3_newBytesLength_1 ++ dktJ3_newBytesLength_2
def dkwJ3_newBytesLength_0 : List UInt8 := [26, 156, 0, 11, 187, 0, 17, 89, 183, 0, 19, 191, 26, 18, 20, 161, 0, 40, 187, 0, 21, 89]
abbrev dktJ3_newBytesLength_0 : List UInt8 := dkwJ3_newBytesLength_0 ++ dktJ3_newBytesLength_1
theorem dksJ3_newBytesLength_0 : cJ3_newBytesLength.data.toList.drop 0 = dktJ3_newBytesLength_0 := by decide +kernel
theorem dksJ3_newBytesLength_1 : cJ3_newBytesLength.data.toList.drop 22 = dktJ3_newBytesLength_1 := dk_seg dksJ3_newBytesLength_0 22 rfl rfl
theorem dksJ3_newBytesLength_2 : cJ3_newBytesLength.data.toList.drop 45 = dktJ3_newBytesLength_2 := dk_seg dksJ3_newBytesLength_1 23 rfl rfl
theorem dJ3_newBytesLength_0 : decode cJ3_newBytesLength 0 = .ok (.iload_n 0, 1) := dk_26 (dk_at dksJ3_newBytesLength_0 0 rfl rfl)
theorem dJ3_newBytesLength_1 : decode cJ3_newBytesLength 1 = .ok (.ifCond .ge 11, 3) := dk_156 0 11 (dk_at dksJ3_newBytesLength_0 1 rfl rfl)
theorem dJ3_newBytesLength_4 : decode cJ3_newBytesLength 4 = .ok (.new 17, 3) := dk_187 0 17 (dk_at dksJ3_newBytesLength_0 4 rfl rfl)
theorem dJ3_newBytesLength_7 : decode cJ3_newBytesLength 7 = .ok (.dup, 1) := dk_89 (dk_at dksJ3_newBytesLength_0 7 rfl rfl)
theorem dJ3_newBytesLength_8 : decode cJ3_newBytesLength 8 = .ok (.invokespecial 19, 3) := dk_183 0 19 (dk_at dksJ3_newBytesLength_0 8 rfl rfl)
theorem dJ3_newBytesLength_11 : decode cJ3_newBytesLength 11 = .ok (.athrow, 1) := dk_191 (dk_at dksJ3_newBytesLength_0 11 rfl rfl)
theorem dJ3_newBytesLength_12 : decode cJ3_newBytesLength 12 = .ok (.iload_n 0, 1) := dk_26 (dk_at dksJ3_newBytesLength_0 12 rfl rfl)
theorem dJ3_newBytesLength_13 : decode cJ3_newBytesLength 13 = .ok (.ldc 20, 2) := dk_18 20 (dk_at dksJ3_newBytesLength_0 13 rfl rfl)
theorem dJ3_newBytesLength_15 : decode cJ3_newBytesLength 15 = .ok (.if_icmp .lt 40, 3) := dk_161 0 40 (dk_at dksJ3_newBytesLength_0 15 rfl rfl)
theorem dJ3_newBytesLength_18 : decode cJ3_newBytesLength 18 = .ok (.new 21, 3) := dk_187 0 21 (dk_at dksJ3_newBytesLength_0 18 rfl rfl)
theorem dJ3_newBytesLength_21 : decode cJ3_newBytesLength 21 = .ok (.dup, 1) := dk_89 (dk_at dksJ3_newBytesLength_0 21 rfl rfl)
theorem dJ3_newBytesLength_22 : decode cJ3_newBytesLength 22 = .ok (.new 23, 3) := dk_187 0 23 (dk_at dksJ3_newBytesLength_1 0 rfl rfl)
theorem dJ3_newBytesLength_25 : decode cJ3_newBytesLength 25 = .ok (.dup, 1) := dk_89 (dk_at dksJ3_newBytesLength_1 3 rfl rfl)
theorem dJ3_newBytesLength_26 : decode cJ3_newBytesLength 26 = .ok (.invokespecial 25, 3) := dk_183 0 25 (dk_at dksJ3_newBytesLength_1 4 rfl rfl)
theorem dJ3_newBytesLength_29 : decode cJ3_newBytesLength 29 = .ok (.ldc 26, 2) := dk_18 26 (dk_at dksJ3_newBytesLength_1 7 rfl rfl)
theorem dJ3_newBytesLength_31 : decode cJ3_newBytesLength 31 = .ok (.invokevirtual 28, 3) := dk_182 0 28 (dk_at dksJ3_newBytesLength_1 9 rfl rfl)
theorem dJ3_newBytesLength_34 : decode cJ3_newBytesLength 34 = .ok (.iload_n 0, 1) := dk_26 (dk_at dksJ3_newBytesLength_1 12 rfl rfl)
theorem dJ3_newBytesLength_35 : decode cJ3_newBytesLength 35 = .ok (.invokevirtual 32, 3) := dk_182 0 32 (dk_at dksJ3_newBytesLength_1 13 rfl rfl)
theorem dJ3_newBytesLength_38 : decode cJ3_newBytesLength 38 = .ok (.ldc 35, 2) := dk_18 35 (dk_at dksJ3_newBytesLength_1 16 rfl rfl)
theorem dJ3_newBytesLength_40 : decode cJ3_newBytesLength 40 = .ok (.invokevirtual 28, 3) := dk_182 0 28 (dk_at dksJ3_newBytesLength_1 18 rfl rfl)
theorem dJ3_newBytesLength_43 : decode cJ3_newBytesLength 43 = .ok (.ldc 20, 2) := dk_18 20 (dk_at dksJ3_newBytesLength_1 21 rfl rfl)
theorem dJ3_newBytesLength_45 : decode cJ3_newBytesLength 45 = .ok (.invokevirtual 32, 3) := dk_182 0 32 (dk_at dksJ3_newBytesLength_2 0 rfl rfl)
theorem dJ3_newBytesLength_48 : decode cJ3_newBytesLength 48 = .ok (.invokevirtual 37, 3) := dk_182 0 37 (dk_at dksJ3_newBytesLength_2 3 rfl rfl)
theorem dJ3_newBytesLength_51 : decode cJ3_newBytesLength 51 = .ok (.invokespecial 41, 3) := dk_183 0 41 (dk_at dksJ3_newBytesLength_2 6 rfl rfl)
theorem dJ3_newBytesLength_54 : decode cJ3_newBytesLength 54 = .ok (.athrow, 1) := dk_191 (dk_at dksJ3_newBytesLength_2 9 rfl rfl)
theorem dJ3_newBytesLength_55 : decode cJ3_newBytesLength 55 = .ok (.iload_n 0, 1) := dk_26 (dk_at dksJ3_newBytesLength_2 10 rfl rfl)
theorem dJ3_newBytesLength_56 : decode cJ3_newBytesLength 56 = .ok (.iconst 1, 1) := dk_4 (dk_at dksJ3_newBytesLength_2 11 rfl rfl)
theorem dJ3_newBytesLength_57 : decode cJ3_newBytesLength 57 = .ok (.ishl, 1) := dk_120 (dk_at dksJ3_newBytesLength_2 12 rfl rfl)
theorem dJ3_newBytesLength_58 : decode cJ3_newBytesLength 58 = .ok (.ireturn, 1) := dk_172 (dk_at dksJ3_newBytesLength_2 13 rfl rfl)
abbrev cJ3_charAt : ByteArray := prog_47_method_83_code
def yJ3_charAt : MethodName := ⟨RJ3, "charAt", "([BI)C"⟩
def dkwJ3_charAt_0 : List UInt8 := [27, 42, 184, 0, 67, 42, 27, 184, 0, 71, 172]
abbrev dktJ3_charAt_0 : List UInt8 := dkwJ3_charAt_0 ++ []
theorem dksJ3_charAt_0 : cJ3_charAt.data.toList.drop 0 = dktJ3_charAt_0 := by decide +kernel
theorem dJ3_charAt_0 : decode cJ3_charAt 0 = .ok (.iload_n 1, 1) := dk_27 (dk_at dksJ3_charAt_0 0 rfl rfl)
theorem dJ3_charAt_1 : decode cJ3_charAt 1 = .ok (.aload_n 0, 1) := dk_42 (dk_at dksJ3_charAt_0 1 rfl rfl)
theorem dJ3_charAt_2 : decode cJ3_charAt 2 = .ok (.invokestatic 67, 3) := dk_184 0 67 (dk_at dksJ3_charAt_0 2 rfl rfl)
theorem dJ3_charAt_5 : decode cJ3_charAt 5 = .ok (.aload_n 0, 1) := dk_42 (dk_at dksJ3_charAt_0 5 rfl rfl)
theorem dJ3_charAt_6 : decode cJ3_charAt 6 = .ok (.iload_n 1, 1) := dk_27 (dk_at dksJ3_charAt_0 6 rfl rfl)
theorem dJ3_charAt_7 : decode cJ3_charAt 7 = .ok (.invokestatic 71, 3) := dk_184 0 71 (dk_at dksJ3_charAt_0 7 rfl rfl)
theorem dJ3_charAt_10 : decode cJ3_charAt 10 = .ok (.ireturn, 1) := dk_172 (dk_at dksJ3_charAt_0 10 rfl rfl)
abbrev cJ3_checkIndex : ByteArray := prog_47_method_91_code
def yJ3_checkIndex : MethodName := ⟨RJ3, "checkIndex", "(I[B)V"⟩
def dkwJ3_checkIndex_0 : List UInt8 := [26, 43, 184, 0, 48, 184, 1, 158, 177]
abbrev dktJ3_checkIndex_0 : List UInt8 := dkwJ3_checkIndex_0 ++ []
theorem dksJ3_checkIndex_0 : cJ3_checkIndex.data.toList.drop 0 = dktJ3_checkIndex_0 := by decide +kernel
theorem dJ3_checkIndex_0 : decode cJ3_checkIndex 0 = .ok (.iload_n 0, 1) := dk_26 (dk_at dksJ3_checkIndex_0 0 rfl rfl)
theorem dJ3_checkIndex_1 : decode cJ3_checkIndex 1 = .ok (.aload_n 1, 1) := dk_43 (dk_at dksJ3_checkIndex_0 1 rfl rfl)
theorem dJ3_checkIndex_2 : decode cJ3_checkIndex 2 = .ok (.invokestatic 48, 3) := dk_184 0 48 (dk_at dksJ3_checkIndex_0 2 rfl rfl)
theorem dJ3_checkIndex_5 : decode cJ3_checkIndex 5 = .ok (.invokestatic 414, 3) := dk_184 1 158 (dk_at dksJ3_checkIndex_0 5 rfl rfl)
theorem dJ3_checkIndex_8 : decode cJ3_checkIndex 8 = .ok (.return_, 1) := dk_177 (dk_at dksJ3_checkIndex_0 8 rfl rfl)
abbrev cJ3_length : ByteArray := prog_47_method_6_code
def yJ3_length : MethodName := ⟨RJ3, "length", "([B)I"⟩
def dkwJ3_length_0 : List UInt8 := [42, 190, 4, 122, 172]
abbrev dktJ3_length_0 : List UInt8 := dkwJ3_length_0 ++ []
theorem dksJ3_length_0 : cJ3_length.data.toList.drop 0 = dktJ3_length_0 := by decide +kernel
theorem dJ3_length_0 : decode cJ3_length 0 = .ok (.aload_n 0, 1) := dk_42 (dk_at dksJ3_length_0 0 rfl rfl)
theorem dJ3_length_1 : decode cJ3_length 1 = .ok (.arraylength, 1) := dk_190 (dk_at dksJ3_length_0 1 rfl rfl)
theorem dJ3_length_2 : decode cJ3_length 2 = .ok (.iconst 1, 1) := dk_4 (dk_at dksJ3_length_0 2 rfl rfl)
theorem dJ3_length_3 : decode cJ3_length 3 = .ok (.ishr, 1) := dk_122 (dk_at dksJ3_length_0 3 rfl rfl)
theorem dJ3_length_4 : decode cJ3_length 4 = .ok (.ireturn, 1) := dk_172 (dk_at dksJ3_length_0 4 rfl rfl)
abbrev cJ3_getChar : ByteArray := prog_47_method_5_code
def yJ3_getChar : MethodName := ⟨RJ3, "getChar", "([BI)C"⟩
def dkwJ3_getChar_2 : List UInt8 := [51, 17, 0, 255, 126, 178, 0, 63, 120, 128, 146, 172]
abbrev dktJ3_getChar_2 : List UInt8 := dkwJ3_getChar_2 ++ []
def dkwJ3_getChar_1 : List UInt8 := [183, 0, 56, 191, 27, 4, 120, 60, 42, 27, 132, 1, 1, 51, 17, 0, 255, 126, 178, 0, 59, 120, 42, 27]
abbrev dktJ3_getChar_1 : List UInt8 := dkwJ3_getChar_1 ++ dktJ3_getChar_2
def dkwJ3_getChar_0 : List UInt8 := [178, 0, 44, 154, 0, 25, 27, 155, 0, 11, 27, 42, 184, 0, 48, 161, 0, 13, 187, 0, 52, 89, 18, 54]
abbrev dktJ3_getChar_0 : List UInt8 := dkwJ3_getChar_0 ++ dktJ3_getChar_1
theorem dksJ3_getChar_0 : cJ3_getChar.data.toList.drop 0 = dktJ3_getChar_0 := by decide +kernel
theorem dksJ3_getChar_1 : cJ3_getChar.data.toList.drop 24 = dktJ3_getChar_1 := dk_seg dksJ3_getChar_0 24 rfl rfl
theorem dksJ3_getChar_2 : cJ3_getChar.data.toList.drop 48 = dktJ3_getChar_2 := dk_seg dksJ3_getChar_1 24 rfl rfl
theorem dJ3_getChar_0 : decode cJ3_getChar 0 = .ok (.getstatic 44, 3) := dk_178 0 44 (dk_at dksJ3_getChar_0 0 rfl rfl)
theorem dJ3_getChar_3 : decode cJ3_getChar 3 = .ok (.ifCond .ne 25, 3) := dk_154 0 25 (dk_at dksJ3_getChar_0 3 rfl rfl)
theorem dJ3_getChar_6 : decode cJ3_getChar 6 = .ok (.iload_n 1, 1) := dk_27 (dk_at dksJ3_getChar_0 6 rfl rfl)
theorem dJ3_getChar_7 : decode cJ3_getChar 7 = .ok (.ifCond .lt 11, 3) := dk_155 0 11 (dk_at dksJ3_getChar_0 7 rfl rfl)
theorem dJ3_getChar_10 : decode cJ3_getChar 10 = .ok (.iload_n 1, 1) := dk_27 (dk_at dksJ3_getChar_0 10 rfl rfl)
theorem dJ3_getChar_11 : decode cJ3_getChar 11 = .ok (.aload_n 0, 1) := dk_42 (dk_at dksJ3_getChar_0 11 rfl rfl)
theorem dJ3_getChar_12 : decode cJ3_getChar 12 = .ok (.invokestatic 48, 3) := dk_184 0 48 (dk_at dksJ3_getChar_0 12 rfl rfl)
theorem dJ3_getChar_15 : decode cJ3_getChar 15 = .ok (.if_icmp .lt 13, 3) := dk_161 0 13 (dk_at dksJ3_getChar_0 15 rfl rfl)
theorem dJ3_getChar_18 : decode cJ3_getChar 18 = .ok (.new 52, 3) := dk_187 0 52 (dk_at dksJ3_getChar_0 18 rfl rfl)
theorem dJ3_getChar_21 : decode cJ3_getChar 21 = .ok (.dup, 1) := dk_89 (dk_at dksJ3_getChar_0 21 rfl rfl)
theorem dJ3_getChar_22 : decode cJ3_getChar 22 = .ok (.ldc 54, 2) := dk_18 54 (dk_at dksJ3_getChar_0 22 rfl rfl)
theorem dJ3_getChar_24 : decode cJ3_getChar 24 = .ok (.invokespecial 56, 3) := dk_183 0 56 (dk_at dksJ3_getChar_1 0 rfl rfl)
theorem dJ3_getChar_27 : decode cJ3_getChar 27 = .ok (.athrow, 1) := dk_191 (dk_at dksJ3_getChar_1 3 rfl rfl)
theorem dJ3_getChar_28 : decode cJ3_getChar 28 = .ok (.iload_n 1, 1) := dk_27 (dk_at dksJ3_getChar_1 4 rfl rfl)
theorem dJ3_getChar_29 : decode cJ3_getChar 29 = .ok (.iconst 1, 1) := dk_4 (dk_at dksJ3_getChar_1 5 rfl rfl)
theorem dJ3_getChar_30 : decode cJ3_getChar 30 = .ok (.ishl, 1) := dk_120 (dk_at dksJ3_getChar_1 6 rfl rfl)
theorem dJ3_getChar_31 : decode cJ3_getChar 31 = .ok (.istore_n 1, 1) := dk_60 (dk_at dksJ3_getChar_1 7 rfl rfl)
theorem dJ3_getChar_32 : decode cJ3_getChar 32 = .ok (.aload_n 0, 1) := dk_42 (dk_at dksJ3_getChar_1 8 rfl rfl)
theorem dJ3_getChar_33 : decode cJ3_getChar 33 = .ok (.iload_n 1, 1) := dk_27 (dk_at dksJ3_getChar_1 9 rfl rfl)
theorem dJ3_getChar_34 : decode cJ3_getChar 34 = .ok (.iinc 1 1, 3) := dk_132 1 1 (dk_at dksJ3_getChar_1 10 rfl rfl)
theorem dJ3_getChar_37 : decode cJ3_getChar 37 = .ok (.baload, 1) := dk_51 (dk_at dksJ3_getChar_1 13 rfl rfl)
theorem dJ3_getChar_38 : decode cJ3_getChar 38 = .ok (.sipush 255, 3) := dk_17 0 255 (dk_at dksJ3_getChar_1 14 rfl rfl)
theorem dJ3_getChar_41 : decode cJ3_getChar 41 = .ok (.iand, 1) := dk_126 (dk_at dksJ3_getChar_1 17 rfl rfl)
theorem dJ3_getChar_42 : decode cJ3_getChar 42 = .ok (.getstatic 59, 3) := dk_178 0 59 (dk_at dksJ3_getChar_1 18 rfl rfl)
theorem dJ3_getChar_45 : decode cJ3_getChar 45 = .ok (.ishl, 1) := dk_120 (dk_at dksJ3_getChar_1 21 rfl rfl)
theorem dJ3_getChar_46 : decode cJ3_getChar 46 = .ok (.aload_n 0, 1) := dk_42 (dk_at dksJ3_getChar_1 22 rfl rfl)
theorem dJ3_getChar_47 : decode cJ3_getChar 47 = .ok (.iload_n 1, 1) := dk_27 (dk_at dksJ3_getChar_1 23 rfl rfl)
theorem dJ3_getChar_48 : decode cJ3_getChar 48 = .ok (.baload, 1) := dk_51 (dk_at dksJ3_getChar_2 0 rfl rfl)
theorem dJ3_getChar_49 : decode cJ3_getChar 49 = .ok (.sipush 255, 3) := dk_17 0 255 (dk_at dksJ3_getChar_2 1 rfl rfl)
theorem dJ3_getChar_52 : decode cJ3_getChar 52 = .ok (.iand, 1) := dk_126 (dk_at dksJ3_getChar_2 4 rfl rfl)
theorem dJ3_getChar_53 : decode cJ3_getChar 53 = .ok (.getstatic 63, 3) := dk_178 0 63 (dk_at dksJ3_getChar_2 5 rfl rfl)
theorem dJ3_getChar_56 : decode cJ3_getChar 56 = .ok (.ishl, 1) := dk_120 (dk_at dksJ3_getChar_2 8 rfl rfl)
theorem dJ3_getChar_57 : decode cJ3_getChar 57 = .ok (.ior, 1) := dk_128 (dk_at dksJ3_getChar_2 9 rfl rfl)
theorem dJ3_getChar_58 : decode cJ3_getChar 58 = .ok (.i2c, 1) := dk_146 (dk_at dksJ3_getChar_2 10 rfl rfl)
theorem dJ3_getChar_59 : decode cJ3_getChar 59 = .ok (.ireturn, 1) := dk_172 (dk_at dksJ3_getChar_2 11 rfl rfl)
abbrev cJ3_putCharsAt : ByteArray := prog_47_method_81_code
def yJ3_putCharsAt : MethodName := ⟨RJ3, "putCharsAt", "([BICCCC)I"⟩
def dkwJ3_putCharsAt_3 : List UInt8 := [21, 6, 172]
abbrev dktJ3_putCharsAt_3 : List UInt8 := dkwJ3_putCharsAt_3 ++ []
def dkwJ3_putCharsAt_2 : List UInt8 := [184, 0, 111, 178, 0, 44, 154, 0, 17, 27, 21, 6, 159, 0, 11, 187, 0, 52, 89, 183, 0, 66, 191]
abbrev dktJ3_putCharsAt_2 : List UInt8 := dkwJ3_putCharsAt_2 ++ dktJ3_putCharsAt_3
def dkwJ3_putCharsAt_1 : List UInt8 := [132, 1, 1, 29, 184, 0, 111, 42, 27, 132, 1, 1, 21, 4, 184, 0, 111, 42, 27, 132, 1, 1, 21, 5]
abbrev dktJ3_putCharsAt_1 : List UInt8 := dkwJ3_putCharsAt_1 ++ dktJ3_putCharsAt_2
def dkwJ3_putCharsAt_0 : List UInt8 := [27, 7, 96, 54, 6, 27, 21, 6, 42, 184, 0, 96, 42, 27, 132, 1, 1, 28, 184, 0, 111, 42, 27]
abbrev dktJ3_putCharsAt_0 : List UInt8 := dkwJ3_putCharsAt_0 ++ dktJ3_putCharsAt_1
theorem dksJ3_putCharsAt_0 : cJ3_putCharsAt.data.toList.drop 0 = dktJ3_putCharsAt_0 := by decide +kernel
theorem dksJ3_putCharsAt_1 : cJ3_putCharsAt.data.toList.drop 23 = dktJ3_putCharsAt_1 := dk_seg dksJ3_putCharsAt_0 23 rfl rfl
theorem dksJ3_putCharsAt_2 : cJ3_putCharsAt.data.toList.drop 47 = dktJ3_putCharsAt_2 := dk_seg dksJ3_putCharsAt_1 24 rfl rfl
theorem dksJ3_putCharsAt_3 : cJ3_putCharsAt.data.toList.drop 70 = dktJ3_putCharsAt_3 := dk_seg dksJ3_putCharsAt_2 23 rfl rfl
theorem dJ3_putCharsAt_0 : decode cJ3_putCharsAt 0 = .ok (.iload_n 1, 1) := dk_27 (dk_at dksJ3_putCharsAt_0 0 rfl rfl)
theorem dJ3_putCharsAt_1 : decode cJ3_putCharsAt 1 = .ok (.iconst 4, 1) := dk_7 (dk_at dksJ3_putCharsAt_0 1 rfl rfl)
theorem dJ3_putCharsAt_2 : decode cJ3_putCharsAt 2 = .ok (.iadd, 1) := dk_96 (dk_at dksJ3_putCharsAt_0 2 rfl rfl)
theorem dJ3_putCharsAt_3 : decode cJ3_putCharsAt 3 = .ok (.istore 6, 2) := dk_54 6 (dk_at dksJ3_putCharsAt_0 3 rfl rfl)
theorem dJ3_putCharsAt_5 : decode cJ3_putCharsAt 5 = .ok (.iload_n 1, 1) := dk_27 (dk_at dksJ3_putCharsAt_0 5 rfl rfl)
theorem dJ3_putCharsAt_6 : decode cJ3_putCharsAt 6 = .ok (.iload 6, 2) := dk_21 6 (dk_at dksJ3_putCharsAt_0 6 rfl rfl)
theorem dJ3_putCharsAt_8 : decode cJ3_putCharsAt 8 = .ok (.aload_n 0, 1) := dk_42 (dk_at dksJ3_putCharsAt_0 8 rfl rfl)
theorem dJ3_putCharsAt_9 : decode cJ3_putCharsAt 9 = .ok (.invokestatic 96, 3) := dk_184 0 96 (dk_at dksJ3_putCharsAt_0 9 rfl rfl)
theorem dJ3_putCharsAt_12 : decode cJ3_putCharsAt 12 = .ok (.aload_n 0, 1) := dk_42 (dk_at dksJ3_putCharsAt_0 12 rfl rfl)
theorem dJ3_putCharsAt_13 : decode cJ3_putCharsAt 13 = .ok (.iload_n 1, 1) := dk_27 (dk_at dksJ3_putCharsAt_0 13 rfl rfl)
theorem dJ3_putCharsAt_14 : decode cJ3_putCharsAt 14 = .ok (.iinc 1 1, 3) := dk_132 1 1 (dk_at dksJ3_putCharsAt_0 14 rfl rfl)
theorem dJ3_putCharsAt_17 : decode cJ3_putCharsAt 17 = .ok (.iload_n 2, 1) := dk_28 (dk_at dksJ3_putCharsAt_0 17 rfl rfl)
theorem dJ3_putCharsAt_18 : decode cJ3_putCharsAt 18 = .ok (.invokestatic 111, 3) := dk_184 0 111 (dk_at dksJ3_putCharsAt_0 18 rfl rfl)
theorem dJ3_putCharsAt_21 : decode cJ3_putCharsAt 21 = .ok (.aload_n 0, 1) := dk_42 (dk_at dksJ3_putCharsAt_0 21 rfl rfl)
theorem dJ3_putCharsAt_22 : decode cJ3_putCharsAt 22 = .ok (.iload_n 1, 1) := dk_27 (dk_at dksJ3_putCharsAt_0 22 rfl rfl)
theorem dJ3_putCharsAt_23 : decode cJ3_putCharsAt 23 = .ok (.iinc 1 1, 3) := dk_132 1 1 (dk_at dksJ3_putCharsAt_1 0 rfl rfl)
theorem dJ3_putCharsAt_26 : decode cJ3_putCharsAt 26 = .ok (.iload_n 3, 1) := dk_29 (dk_at dksJ3_putCharsAt_1 3 rfl rfl)
theorem dJ3_putCharsAt_27 : decode cJ3_putCharsAt 27 = .ok (.invokestatic 111, 3) := dk_184 0 111 (dk_at dksJ3_putCharsAt_1 4 rfl rfl)
theorem dJ3_putCharsAt_30 : decode cJ3_putCharsAt 30 = .ok (.aload_n 0, 1) := dk_42 (dk_at dksJ3_putCharsAt_1 7 rfl rfl)
theorem dJ3_putCharsAt_31 : decode cJ3_putCharsAt 31 = .ok (.iload_n 1, 1) := dk_27 (dk_at dksJ3_putCharsAt_1 8 rfl rfl)
theorem dJ3_putCharsAt_32 : decode cJ3_putCharsAt 32 = .ok (.iinc 1 1, 3) := dk_132 1 1 (dk_at dksJ3_putCharsAt_1 9 rfl rfl)
theorem dJ3_putCharsAt_35 : decode cJ3_putCharsAt 35 = .ok (.iload 4, 2) := dk_21 4 (dk_at dksJ3_putCharsAt_1 12 rfl rfl)
theorem dJ3_putCharsAt_37 : decode cJ3_putCharsAt 37 = .ok (.invokestatic 111, 3) := dk_184 0 111 (dk_at dksJ3_putCharsAt_1 14 rfl rfl)
theorem dJ3_putCharsAt_40 : decode cJ3_putCharsAt 40 = .ok (.aload_n 0, 1) := dk_42 (dk_at dksJ3_putCharsAt_1 17 rfl rfl)
theorem dJ3_putCharsAt_41 : decode cJ3_putCharsAt 41 = .ok (.iload_n 1, 1) := dk_27 (dk_at dksJ3_putCharsAt_1 18 rfl rfl)
theorem dJ3_putCharsAt_42 : decode cJ3_putCharsAt 42 = .ok (.iinc 1 1, 3) := dk_132 1 1 (dk_at dksJ3_putCharsAt_1 19 rfl rfl)
theorem dJ3_putCharsAt_45 : decode cJ3_putCharsAt 45 = .ok (.iload 5, 2) := dk_21 5 (dk_at dksJ3_putCharsAt_1 22 rfl rfl)
theorem dJ3_putCharsAt_47 : decode cJ3_putCharsAt 47 = .ok (.invokestatic 111, 3) := dk_184 0 111 (dk_at dksJ3_putCharsAt_2 0 rfl rfl)
theorem dJ3_putCharsAt_50 : decode cJ3_putCharsAt 50 = .ok (.getstatic 44, 3) := dk_178 0 44 (dk_at dksJ3_putCharsAt_2 3 rfl rfl)
theorem dJ3_putCharsAt_53 : decode cJ3_putCharsAt 53 = .ok (.ifCond .ne 17, 3) := dk_154 0 17 (dk_at dksJ3_putCharsAt_2 6 rfl rfl)
theorem dJ3_putCharsAt_56 : decode cJ3_putCharsAt 56 = .ok (.iload_n 1, 1) := dk_27 (dk_at dksJ3_putCharsAt_2 9 rfl rfl)
theorem dJ3_putCharsAt_57 : decode cJ3_putCharsAt 57 = .ok (.iload 6, 2) := dk_21 6 (dk_at dksJ3_putCharsAt_2 10 rfl rfl)
theorem dJ3_putCharsAt_59 : decode cJ3_putCharsAt 59 = .ok (.if_icmp .eq 11, 3) := dk_159 0 11 (dk_at dksJ3_putCharsAt_2 12 rfl rfl)
theorem dJ3_putCharsAt_62 : decode cJ3_putCharsAt 62 = .ok (.new 52, 3) := dk_187 0 52 (dk_at dksJ3_putCharsAt_2 15 rfl rfl)
theorem dJ3_putCharsAt_65 : decode cJ3_putCharsAt 65 = .ok (.dup, 1) := dk_89 (dk_at dksJ3_putCharsAt_2 18 rfl rfl)
theorem dJ3_putCharsAt_66 : decode cJ3_putCharsAt 66 = .ok (.invokespecial 66, 3) := dk_183 0 66 (dk_at dksJ3_putCharsAt_2 19 rfl rfl)
theorem dJ3_putCharsAt_69 : decode cJ3_putCharsAt 69 = .ok (.athrow, 1) := dk_191 (dk_at dksJ3_putCharsAt_2 22 rfl rfl)
theorem dJ3_putCharsAt_70 : decode cJ3_putCharsAt 70 = .ok (.iload 6, 2) := dk_21 6 (dk_at dksJ3_putCharsAt_3 0 rfl rfl)
theorem dJ3_putCharsAt_72 : decode cJ3_putCharsAt 72 = .ok (.ireturn, 1) := dk_172 (dk_at dksJ3_putCharsAt_3 2 rfl rfl)
abbrev cJ3_checkBoundsBeginEnd : ByteArray := prog_47_method_93_code
def yJ3_checkBoundsBeginEnd : MethodName := ⟨RJ3, "checkBoundsBeginEnd", "(II[B)V"⟩
def dkwJ3_checkBoundsBeginEnd_0 : List UInt8 := [26, 27, 44, 184, 0, 48, 184, 0, 241, 177]
abbrev dktJ3_checkBoundsBeginEnd_0 : List UInt8 := dkwJ3_checkBoundsBeginEnd_0 ++ []
theorem dksJ3_checkBoundsBeginEnd_0 : cJ3_checkBoundsBeginEnd.data.toList.drop 0 = dktJ3_checkBoundsBeginEnd_0 := by decide +kernel
theorem dJ3_checkBoundsBeginEnd_0 : decode cJ3_checkBoundsBeginEnd 0 = .ok (.iload_n 0, 1) := dk_26 (dk_at dksJ3_checkBoundsBeginEnd_0 0 rfl rfl)
theorem dJ3_checkBoundsBeginEnd_1 : decode cJ3_checkBoundsBeginEnd 1 = .ok (.iload_n 1, 1) := dk_27 (dk_at dksJ3_checkBoundsBeginEnd_0 1 rfl rfl)
theorem dJ3_checkBoundsBeginEnd_2 : decode cJ3_checkBoundsBeginEnd 2 = .ok (.aload_n 2, 1) := dk_44 (dk_at dksJ3_checkBoundsBeginEnd_0 2 rfl rfl)
theorem dJ3_checkBoundsBeginEnd_3 : decode cJ3_checkBoundsBeginEnd 3 = .ok (.invokestatic 48, 3) := dk_184 0 48 (dk_at dksJ3_checkBoundsBeginEnd_0 3 rfl rfl)
theorem dJ3_checkBoundsBeginEnd_6 : decode cJ3_checkBoundsBeginEnd 6 = .ok (.invokestatic 241, 3) := dk_184 0 241 (dk_at dksJ3_checkBoundsBeginEnd_0 6 rfl rfl)
theorem dJ3_checkBoundsBeginEnd_9 : decode cJ3_checkBoundsBeginEnd 9 = .ok (.return_, 1) := dk_177 (dk_at dksJ3_checkBoundsBeginEnd_0 9 rfl rfl)
abbrev cJ3_putChar : ByteArray := prog_47_method_4_code
def yJ3_putChar : MethodName := ⟨RJ3, "putChar", "([BII)V"⟩
def dkwJ3_putChar_2 : List UInt8 := [178, 0, 63, 122, 145, 84, 177]
abbrev dktJ3_putChar_2 : List UInt8 := dkwJ3_putChar_2 ++ []
def dkwJ3_putChar_1 : List UInt8 := [183, 0, 56, 191, 27, 4, 120, 60, 42, 27, 132, 1, 1, 28, 178, 0, 59, 122, 145, 84, 42, 27, 28]
abbrev dktJ3_putChar_1 : List UInt8 := dkwJ3_putChar_1 ++ dktJ3_putChar_2
def dkwJ3_putChar_0 : List UInt8 := [178, 0, 44, 154, 0, 25, 27, 155, 0, 11, 27, 42, 184, 0, 48, 161, 0, 13, 187, 0, 52, 89, 18, 54]
abbrev dktJ3_putChar_0 : List UInt8 := dkwJ3_putChar_0 ++ dktJ3_putChar_1
theorem dksJ3_putChar_0 : cJ3_putChar.data.toList.drop 0 = dktJ3_putChar_0 := by decide +kernel
theorem dksJ3_putChar_1 : cJ3_putChar.data.toList.drop 24 = dktJ3_putChar_1 := dk_seg dksJ3_putChar_0 24 rfl rfl
theorem dksJ3_putChar_2 : cJ3_putChar.data.toList.drop 47 = dktJ3_putChar_2 := dk_seg dksJ3_putChar_1 23 rfl rfl
theorem dJ3_putChar_0 : decode cJ3_putChar 0 = .ok (.getstatic 44, 3) := dk_178 0 44 (dk_at dksJ3_putChar_0 0 rfl rfl)
theorem dJ3_putChar_3 : decode cJ3_putChar 3 = .ok (.ifCond .ne 25, 3) := dk_154 0 25 (dk_at dksJ3_putChar_0 3 rfl rfl)
theorem dJ3_putChar_6 : decode cJ3_putChar 6 = .ok (.iload_n 1, 1) := dk_27 (dk_at dksJ3_putChar_0 6 rfl rfl)
theorem dJ3_putChar_7 : decode cJ3_putChar 7 = .ok (.ifCond .lt 11, 3) := dk_155 0 11 (dk_at dksJ3_putChar_0 7 rfl rfl)
theorem dJ3_putChar_10 : decode cJ3_putChar 10 = .ok (.iload_n 1, 1) := dk_27 (dk_at dksJ3_putChar_0 10 rfl rfl)
theorem dJ3_putChar_11 : decode cJ3_putChar 11 = .ok (.aload_n 0, 1) := dk_42 (dk_at dksJ3_putChar_0 11 rfl rfl)
theorem dJ3_putChar_12 : decode cJ3_putChar 12 = .ok (.invokestatic 48, 3) := dk_184 0 48 (dk_at dksJ3_putChar_0 12 rfl rfl)
theorem dJ3_putChar_15 : decode cJ3_putChar 15 = .ok (.if_icmp .lt 13, 3) := dk_161 0 13 (dk_at dksJ3_putChar_0 15 rfl rfl)
theorem dJ3_putChar_18 : decode cJ3_putChar 18 = .ok (.new 52, 3) := dk_187 0 52 (dk_at dksJ3_putChar_0 18 rfl rfl)
theorem dJ3_putChar_21 : decode cJ3_putChar 21 = .ok (.dup, 1) := dk_89 (dk_at dksJ3_putChar_0 21 rfl rfl)
theorem dJ3_putChar_22 : decode cJ3_putChar 22 = .ok (.ldc 54, 2) := dk_18 54 (dk_at dksJ3_putChar_0 22 rfl rfl)
theorem dJ3_putChar_24 : decode cJ3_putChar 24 = .ok (.invokespecial 56, 3) := dk_183 0 56 (dk_at dksJ3_putChar_1 0 rfl rfl)
theorem dJ3_putChar_27 : decode cJ3_putChar 27 = .ok (.athrow, 1) := dk_191 (dk_at dksJ3_putChar_1 3 rfl rfl)
theorem dJ3_putChar_28 : decode cJ3_putChar 28 = .ok (.iload_n 1, 1) := dk_27 (dk_at dksJ3_putChar_1 4 rfl rfl)
theorem dJ3_putChar_29 : decode cJ3_putChar 29 = .ok (.iconst 1, 1) := dk_4 (dk_at dksJ3_putChar_1 5 rfl rfl)
theorem dJ3_putChar_30 : decode cJ3_putChar 30 = .ok (.ishl, 1) := dk_120 (dk_at dksJ3_putChar_1 6 rfl rfl)
theorem dJ3_putChar_31 : decode cJ3_putChar 31 = .ok (.istore_n 1, 1) := dk_60 (dk_at dksJ3_putChar_1 7 rfl rfl)
theorem dJ3_putChar_32 : decode cJ3_putChar 32 = .ok (.aload_n 0, 1) := dk_42 (dk_at dksJ3_putChar_1 8 rfl rfl)
theorem dJ3_putChar_33 : decode cJ3_putChar 33 = .ok (.iload_n 1, 1) := dk_27 (dk_at dksJ3_putChar_1 9 rfl rfl)
theorem dJ3_putChar_34 : decode cJ3_putChar 34 = .ok (.iinc 1 1, 3) := dk_132 1 1 (dk_at dksJ3_putChar_1 10 rfl rfl)
theorem dJ3_putChar_37 : decode cJ3_putChar 37 = .ok (.iload_n 2, 1) := dk_28 (dk_at dksJ3_putChar_1 13 rfl rfl)
theorem dJ3_putChar_38 : decode cJ3_putChar 38 = .ok (.getstatic 59, 3) := dk_178 0 59 (dk_at dksJ3_putChar_1 14 rfl rfl)
theorem dJ3_putChar_41 : decode cJ3_putChar 41 = .ok (.ishr, 1) := dk_122 (dk_at dksJ3_putChar_1 17 rfl rfl)
theorem dJ3_putChar_42 : decode cJ3_putChar 42 = .ok (.i2b, 1) := dk_145 (dk_at dksJ3_putChar_1 18 rfl rfl)
theorem dJ3_putChar_43 : decode cJ3_putChar 43 = .ok (.bastore, 1) := dk_84 (dk_at dksJ3_putChar_1 19 rfl rfl)
theorem dJ3_putChar_44 : decode cJ3_putChar 44 = .ok (.aload_n 0, 1) := dk_42 (dk_at dksJ3_putChar_1 20 rfl rfl)
theorem dJ3_putChar_45 : decode cJ3_putChar 45 = .ok (.iload_n 1, 1) := dk_27 (dk_at dksJ3_putChar_1 21 rfl rfl)
theorem dJ3_putChar_46 : decode cJ3_putChar 46 = .ok (.iload_n 2, 1) := dk_28 (dk_at dksJ3_putChar_1 22 rfl rfl)
theorem dJ3_putChar_47 : decode cJ3_putChar 47 = .ok (.getstatic 63, 3) := dk_178 0 63 (dk_at dksJ3_putChar_2 0 rfl rfl)
theorem dJ3_putChar_50 : decode cJ3_putChar 50 = .ok (.ishr, 1) := dk_122 (dk_at dksJ3_putChar_2 3 rfl rfl)
theorem dJ3_putChar_51 : decode cJ3_putChar 51 = .ok (.i2b, 1) := dk_145 (dk_at dksJ3_putChar_2 4 rfl rfl)
theorem dJ3_putChar_52 : decode cJ3_putChar 52 = .ok (.bastore, 1) := dk_84 (dk_at dksJ3_putChar_2 5 rfl rfl)
theorem dJ3_putChar_53 : decode cJ3_putChar 53 = .ok (.return_, 1) := dk_177 (dk_at dksJ3_putChar_2 6 rfl rfl)
abbrev cJ3_inflate : ByteArray := prog_47_method_86_code
def yJ3_inflate : MethodName := ⟨RJ3, "inflate", "([BI[BII)V"⟩
def dkwJ3_inflate_1 : List UInt8 := [132, 1, 1, 51, 17, 0, 255, 126, 184, 0, 111, 132, 5, 1, 167, 255, 228, 177]
abbrev dktJ3_inflate_1 : List UInt8 := dkwJ3_inflate_1 ++ []
def dkwJ3_inflate_0 : List UInt8 := [29, 21, 4, 44, 184, 0, 173, 3, 54, 5, 21, 5, 21, 4, 162, 0, 27, 44, 29, 132, 3, 1, 42, 27]
abbrev dktJ3_inflate_0 : List UInt8 := dkwJ3_inflate_0 ++ dktJ3_inflate_1
theorem dksJ3_inflate_0 : cJ3_inflate.data.toList.drop 0 = dktJ3_inflate_0 := by decide +kernel
theorem dksJ3_inflate_1 : cJ3_inflate.data.toList.drop 24 = dktJ3_inflate_1 := dk_seg dksJ3_inflate_0 24 rfl rfl
theorem dJ3_inflate_0 : decode cJ3_inflate 0 = .ok (.iload_n 3, 1) := dk_29 (dk_at dksJ3_inflate_0 0 rfl rfl)
theorem dJ3_inflate_1 : decode cJ3_inflate 1 = .ok (.iload 4, 2) := dk_21 4 (dk_at dksJ3_inflate_0 1 rfl rfl)
theorem dJ3_inflate_3 : decode cJ3_inflate 3 = .ok (.aload_n 2, 1) := dk_44 (dk_at dksJ3_inflate_0 3 rfl rfl)
theorem dJ3_inflate_4 : decode cJ3_inflate 4 = .ok (.invokestatic 173, 3) := dk_184 0 173 (dk_at dksJ3_inflate_0 4 rfl rfl)
theorem dJ3_inflate_7 : decode cJ3_inflate 7 = .ok (.iconst 0, 1) := dk_3 (dk_at dksJ3_inflate_0 7 rfl rfl)
theorem dJ3_inflate_8 : decode cJ3_inflate 8 = .ok (.istore 5, 2) := dk_54 5 (dk_at dksJ3_inflate_0 8 rfl rfl)
theorem dJ3_inflate_10 : decode cJ3_inflate 10 = .ok (.iload 5, 2) := dk_21 5 (dk_at dksJ3_inflate_0 10 rfl rfl)
theorem dJ3_inflate_12 : decode cJ3_inflate 12 = .ok (.iload 4, 2) := dk_21 4 (dk_at dksJ3_inflate_0 12 rfl rfl)
theorem dJ3_inflate_14 : decode cJ3_inflate 14 = .ok (.if_icmp .ge 27, 3) := dk_162 0 27 (dk_at dksJ3_inflate_0 14 rfl rfl)
theorem dJ3_inflate_17 : decode cJ3_inflate 17 = .ok (.aload_n 2, 1) := dk_44 (dk_at dksJ3_inflate_0 17 rfl rfl)
theorem dJ3_inflate_18 : decode cJ3_inflate 18 = .ok (.iload_n 3, 1) := dk_29 (dk_at dksJ3_inflate_0 18 rfl rfl)
theorem dJ3_inflate_19 : decode cJ3_inflate 19 = .ok (.iinc 3 1, 3) := dk_132 3 1 (dk_at dksJ3_inflate_0 19 rfl rfl)
theorem dJ3_inflate_22 : decode cJ3_inflate 22 = .ok (.aload_n 0, 1) := dk_42 (dk_at dksJ3_inflate_0 22 rfl rfl)
theorem dJ3_inflate_23 : decode cJ3_inflate 23 = .ok (.iload_n 1, 1) := dk_27 (dk_at dksJ3_inflate_0 23 rfl rfl)
theorem dJ3_inflate_24 : decode cJ3_inflate 24 = .ok (.iinc 1 1, 3) := dk_132 1 1 (dk_at dksJ3_inflate_1 0 rfl rfl)
theorem dJ3_inflate_27 : decode cJ3_inflate 27 = .ok (.baload, 1) := dk_51 (dk_at dksJ3_inflate_1 3 rfl rfl)
theorem dJ3_inflate_28 : decode cJ3_inflate 28 = .ok (.sipush 255, 3) := dk_17 0 255 (dk_at dksJ3_inflate_1 4 rfl rfl)
theorem dJ3_inflate_31 : decode cJ3_inflate 31 = .ok (.iand, 1) := dk_126 (dk_at dksJ3_inflate_1 7 rfl rfl)
theorem dJ3_inflate_32 : decode cJ3_inflate 32 = .ok (.invokestatic 111, 3) := dk_184 0 111 (dk_at dksJ3_inflate_1 8 rfl rfl)
theorem dJ3_inflate_35 : decode cJ3_inflate 35 = .ok (.iinc 5 1, 3) := dk_132 5 1 (dk_at dksJ3_inflate_1 11 rfl rfl)
theorem dJ3_inflate_38 : decode cJ3_inflate 38 = .ok (.goto (-28), 3) := dk_167 255 228 (dk_at dksJ3_inflate_1 14 rfl rfl)
theorem dJ3_inflate_41 : decode cJ3_inflate 41 = .ok (.return_, 1) := dk_177 (dk_at dksJ3_inflate_1 17 rfl rfl)
abbrev cJ3_checkBoundsOffCount : ByteArray := prog_47_method_94_code
def yJ3_checkBoundsOffCount : MethodName := ⟨RJ3, "checkBoundsOffCount", "(II[B)V"⟩
def dkwJ3_checkBoundsOffCount_0 : List UInt8 := [26, 27, 44, 184, 0, 48, 184, 1, 163, 87, 177]
abbrev dktJ3_checkBoundsOffCount_0 : List UInt8 := dkwJ3_checkBoundsOffCount_0 ++ []
theorem dksJ3_checkBoundsOffCount_0 : cJ3_checkBoundsOffCount.data.toList.drop 0 = dktJ3_checkBoundsOffCount_0 := by decide +kernel
theorem dJ3_checkBoundsOffCount_0 : decode cJ3_checkBoundsOffCount 0 = .ok (.iload_n 0, 1) := dk_26 (dk_at dksJ3_checkBoundsOffCount_0 0 rfl rfl)
theorem dJ3_checkBoundsOffCount_1 : decode cJ3_checkBoundsOffCount 1 = .ok (.iload_n 1, 1) := dk_27 (dk_at dksJ3_checkBoundsOffCount_0 1 rfl rfl)
theorem dJ3_checkBoundsOffCount_2 : decode cJ3_checkBoundsOffCount 2 = .ok (.aload_n 2, 1) := dk_44 (dk_at dksJ3_checkBoundsOffCount_0 2 rfl rfl)
theorem dJ3_checkBoundsOffCount_3 : decode cJ3_checkBoundsOffCount 3 = .ok (.invokestatic 48, 3) := dk_184 0 48 (dk_at dksJ3_checkBoundsOffCount_0 3 rfl rfl)
theorem dJ3_checkBoundsOffCount_6 : decode cJ3_checkBoundsOffCount 6 = .ok (.invokestatic 419, 3) := dk_184 1 163 (dk_at dksJ3_checkBoundsOffCount_0 6 rfl rfl)
theorem dJ3_checkBoundsOffCount_9 : decode cJ3_checkBoundsOffCount 9 = .ok (.pop, 1) := dk_87 (dk_at dksJ3_checkBoundsOffCount_0 9 rfl rfl)
theorem dJ3_checkBoundsOffCount_10 : decode cJ3_checkBoundsOffCount 10 = .ok (.return_, 1) := dk_177 (dk_at dksJ3_checkBoundsOffCount_0 10 rfl rfl)
abbrev cJ3_putCharSB : ByteArray := prog_47_method_71_code
def yJ3_putCharSB : MethodName := ⟨RJ3, "putCharSB", "([BII)V"⟩
def dkwJ3_putCharSB_0 : List UInt8 := [27, 42, 184, 0, 67, 42, 27, 28, 184, 0, 111, 177]
abbrev dktJ3_putCharSB_0 : List UInt8 := dkwJ3_putCharSB_0 ++ []
theorem dksJ3_putCharSB_0 : cJ3_putCharSB.data.toList.drop 0 = dktJ3_putCharSB_0 := by decide +kernel
theorem dJ3_putCharSB_0 : decode cJ3_putCharSB 0 = .ok (.iload_n 1, 1) := dk_27 (dk_at dksJ3_putCharSB_0 0 rfl rfl)
theorem dJ3_putCharSB_1 : decode cJ3_putCharSB 1 = .ok (.aload_n 0, 1) := dk_42 (dk_at dksJ3_putCharSB_0 1 rfl rfl)
theorem dJ3_putCharSB_2 : decode cJ3_putCharSB 2 = .ok (.invokestatic 67, 3) := dk_184 0 67 (dk_at dksJ3_putCharSB_0 2 rfl rfl)
theorem dJ3_putCharSB_5 : decode cJ3_putCharSB 5 = .ok (.aload_n 0, 1) := dk_42 (dk_at dksJ3_putCharSB_0 5 rfl rfl)
theorem dJ3_putCharSB_6 : decode cJ3_putCharSB 6 = .ok (.iload_n 1, 1) := dk_27 (dk_at dksJ3_putCharSB_0 6 rfl rfl)
theorem dJ3_putCharSB_7 : decode cJ3_putCharSB 7 = .ok (.iload_n 2, 1) := dk_28 (dk_at dksJ3_putCharSB_0 7 rfl rfl)
theorem dJ3_putCharSB_8 : decode cJ3_putCharSB 8 = .ok (.invokestatic 111, 3) := dk_184 0 111 (dk_at dksJ3_putCharSB_0 8 rfl rfl)
theorem dJ3_putCharSB_11 : decode cJ3_putCharSB 11 = .ok (.return_, 1) := dk_177 (dk_at dksJ3_putCharSB_0 11 rfl rfl)
abbrev cJ3_compress : ByteArray := prog_47_method_17_code
def yJ3_compress : MethodName := ⟨RJ3, "compress", "([BII)[B"⟩
def dkwJ3_compress_2 : List UInt8 := [25, 5, 3, 45, 3, 28, 184, 0, 123, 28, 159, 0, 6, 25, 5, 176, 45, 176]
abbrev dktJ3_compress_2 : List UInt8 := dkwJ3_compress_2 ++ []
def dkwJ3_compress_1 : List UInt8 := [27, 28, 96, 184, 0, 11, 184, 0, 126, 58, 5, 25, 5, 21, 4, 184, 0, 71, 17, 0, 255, 163, 0, 16]
abbrev dktJ3_compress_1 : List UInt8 := dkwJ3_compress_1 ++ dktJ3_compress_2
def dkwJ3_compress_0 : List UInt8 := [28, 188, 8, 78, 42, 27, 45, 3, 28, 184, 0, 123, 54, 4, 21, 4, 28, 159, 0, 47, 42, 27, 4, 120]
abbrev dktJ3_compress_0 : List UInt8 := dkwJ3_compress_0 ++ dktJ3_compress_1
theorem dksJ3_compress_0 : cJ3_compress.data.toList.drop 0 = dktJ3_compress_0 := by decide +kernel
theorem dksJ3_compress_1 : cJ3_compress.data.toList.drop 24 = dktJ3_compress_1 := dk_seg dksJ3_compress_0 24 rfl rfl
theorem dksJ3_compress_2 : cJ3_compress.data.toList.drop 48 = dktJ3_compress_2 := dk_seg dksJ3_compress_1 24 rfl rfl
theorem dJ3_compress_0 : decode cJ3_compress 0 = .ok (.iload_n 2, 1) := dk_28 (dk_at dksJ3_compress_0 0 rfl rfl)
theorem dJ3_compress_1 : decode cJ3_compress 1 = .ok (.newarray .byte, 2) := dk_188_8 (dk_at dksJ3_compress_0 1 rfl rfl)
theorem dJ3_compress_3 : decode cJ3_compress 3 = .ok (.astore_n 3, 1) := dk_78 (dk_at dksJ3_compress_0 3 rfl rfl)
theorem dJ3_compress_4 : decode cJ3_compress 4 = .ok (.aload_n 0, 1) := dk_42 (dk_at dksJ3_compress_0 4 rfl rfl)
theorem dJ3_compress_5 : decode cJ3_compress 5 = .ok (.iload_n 1, 1) := dk_27 (dk_at dksJ3_compress_0 5 rfl rfl)
theorem dJ3_compress_6 : decode cJ3_compress 6 = .ok (.aload_n 3, 1) := dk_45 (dk_at dksJ3_compress_0 6 rfl rfl)
theorem dJ3_compress_7 : decode cJ3_compress 7 = .ok (.iconst 0, 1) := dk_3 (dk_at dksJ3_compress_0 7 rfl rfl)
theorem dJ3_compress_8 : decode cJ3_compress 8 = .ok (.iload_n 2, 1) := dk_28 (dk_at dksJ3_compress_0 8 rfl rfl)
theorem dJ3_compress_9 : decode cJ3_compress 9 = .ok (.invokestatic 123, 3) := dk_184 0 123 (dk_at dksJ3_compress_0 9 rfl rfl)
theorem dJ3_compress_12 : decode cJ3_compress 12 = .ok (.istore 4, 2) := dk_54 4 (dk_at dksJ3_compress_0 12 rfl rfl)
theorem dJ3_compress_14 : decode cJ3_compress 14 = .ok (.iload 4, 2) := dk_21 4 (dk_at dksJ3_compress_0 14 rfl rfl)
theorem dJ3_compress_16 : decode cJ3_compress 16 = .ok (.iload_n 2, 1) := dk_28 (dk_at dksJ3_compress_0 16 rfl rfl)
theorem dJ3_compress_17 : decode cJ3_compress 17 = .ok (.if_icmp .eq 47, 3) := dk_159 0 47 (dk_at dksJ3_compress_0 17 rfl rfl)
theorem dJ3_compress_20 : decode cJ3_compress 20 = .ok (.aload_n 0, 1) := dk_42 (dk_at dksJ3_compress_0 20 rfl rfl)
theorem dJ3_compress_21 : decode cJ3_compress 21 = .ok (.iload_n 1, 1) := dk_27 (dk_at dksJ3_compress_0 21 rfl rfl)
theorem dJ3_compress_22 : decode cJ3_compress 22 = .ok (.iconst 1, 1) := dk_4 (dk_at dksJ3_compress_0 22 rfl rfl)
theorem dJ3_compress_23 : decode cJ3_compress 23 = .ok (.ishl, 1) := dk_120 (dk_at dksJ3_compress_0 23 rfl rfl)
theorem dJ3_compress_24 : decode cJ3_compress 24 = .ok (.iload_n 1, 1) := dk_27 (dk_at dksJ3_compress_1 0 rfl rfl)
theorem dJ3_compress_25 : decode cJ3_compress 25 = .ok (.iload_n 2, 1) := dk_28 (dk_at dksJ3_compress_1 1 rfl rfl)
theorem dJ3_compress_26 : decode cJ3_compress 26 = .ok (.iadd, 1) := dk_96 (dk_at dksJ3_compress_1 2 rfl rfl)
theorem dJ3_compress_27 : decode cJ3_compress 27 = .ok (.invokestatic 11, 3) := dk_184 0 11 (dk_at dksJ3_compress_1 3 rfl rfl)
theorem dJ3_compress_30 : decode cJ3_compress 30 = .ok (.invokestatic 126, 3) := dk_184 0 126 (dk_at dksJ3_compress_1 6 rfl rfl)
theorem dJ3_compress_33 : decode cJ3_compress 33 = .ok (.astore 5, 2) := dk_58 5 (dk_at dksJ3_compress_1 9 rfl rfl)
theorem dJ3_compress_35 : decode cJ3_compress 35 = .ok (.aload 5, 2) := dk_25 5 (dk_at dksJ3_compress_1 11 rfl rfl)
theorem dJ3_compress_37 : decode cJ3_compress 37 = .ok (.iload 4, 2) := dk_21 4 (dk_at dksJ3_compress_1 13 rfl rfl)
theorem dJ3_compress_39 : decode cJ3_compress 39 = .ok (.invokestatic 71, 3) := dk_184 0 71 (dk_at dksJ3_compress_1 15 rfl rfl)
theorem dJ3_compress_42 : decode cJ3_compress 42 = .ok (.sipush 255, 3) := dk_17 0 255 (dk_at dksJ3_compress_1 18 rfl rfl)
theorem dJ3_compress_45 : decode cJ3_compress 45 = .ok (.if_icmp .gt 16, 3) := dk_163 0 16 (dk_at dksJ3_compress_1 21 rfl rfl)
theorem dJ3_compress_48 : decode cJ3_compress 48 = .ok (.aload 5, 2) := dk_25 5 (dk_at dksJ3_compress_2 0 rfl rfl)
theorem dJ3_compress_50 : decode cJ3_compress 50 = .ok (.iconst 0, 1) := dk_3 (dk_at dksJ3_compress_2 2 rfl rfl)
theorem dJ3_compress_51 : decode cJ3_compress 51 = .ok (.aload_n 3, 1) := dk_45 (dk_at dksJ3_compress_2 3 rfl rfl)
theorem dJ3_compress_52 : decode cJ3_compress 52 = .ok (.iconst 0, 1) := dk_3 (dk_at dksJ3_compress_2 4 rfl rfl)
theorem dJ3_compress_53 : decode cJ3_compress 53 = .ok (.iload_n 2, 1) := dk_28 (dk_at dksJ3_compress_2 5 rfl rfl)
theorem dJ3_compress_54 : decode cJ3_compress 54 = .ok (.invokestatic 123, 3) := dk_184 0 123 (dk_at dksJ3_compress_2 6 rfl rfl)
theorem dJ3_compress_57 : decode cJ3_compress 57 = .ok (.iload_n 2, 1) := dk_28 (dk_at dksJ3_compress_2 9 rfl rfl)
theorem dJ3_compress_58 : decode cJ3_compress 58 = .ok (.if_icmp .eq 6, 3) := dk_159 0 6 (dk_at dksJ3_compress_2 10 rfl rfl)
theorem dJ3_compress_61 : decode cJ3_compress 61 = .ok (.aload 5, 2) := dk_25 5 (dk_at dksJ3_compress_2 13 rfl rfl)
theorem dJ3_compress_63 : decode cJ3_compress 63 = .ok (.areturn, 1) := dk_176 (dk_at dksJ3_compress_2 15 rfl rfl)
theorem dJ3_compress_64 : decode cJ3_compress 64 = .ok (.aload_n 3, 1) := dk_45 (dk_at dksJ3_compress_2 16 rfl rfl)
theorem dJ3_compress_65 : decode cJ3_compress 65 = .ok (.areturn, 1) := dk_176 (dk_at dksJ3_compress_2 17 rfl rfl)
abbrev cJ3_compress_2 : ByteArray := prog_47_method_22_code
def yJ3_compress_2 : MethodName := ⟨RJ3, "compress", "([BI[BII)I"⟩
def dkwJ3_compress_2_2 : List UInt8 := [132, 5, 1, 167, 255, 216, 21, 4, 172]
abbrev dktJ3_compress_2_2 : List UInt8 := dkwJ3_compress_2_2 ++ []
def dkwJ3_compress_2_1 : List UInt8 := [21, 6, 17, 0, 255, 164, 0, 6, 21, 5, 172, 44, 29, 21, 6, 145, 84, 132, 1, 1, 132, 3, 1]
abbrev dktJ3_compress_2_1 : List UInt8 := dkwJ3_compress_2_1 ++ dktJ3_compress_2_2
def dkwJ3_compress_2_0 : List UInt8 := [27, 21, 4, 42, 184, 0, 173, 3, 54, 5, 21, 5, 21, 4, 162, 0, 39, 42, 27, 184, 0, 71, 54, 6]
abbrev dktJ3_compress_2_0 : List UInt8 := dkwJ3_compress_2_0 ++ dktJ3_compress_2_1
theorem dksJ3_compress_2_0 : cJ3_compress_2.data.toList.drop 0 = dktJ3_compress_2_0 := by decide +kernel
theorem dksJ3_compress_2_1 : cJ3_compress_2.data.toList.drop 24 = dktJ3_compress_2_1 := dk_seg dksJ3_compress_2_0 24 rfl rfl
theorem dksJ3_compress_2_2 : cJ3_compress_2.data.toList.drop 47 = dktJ3_compress_2_2 := dk_seg dksJ3_compress_2_1 23 rfl rfl
theorem dJ3_compress_2_0 : decode cJ3_compress_2 0 = .ok (.iload_n 1, 1) := dk_27 (dk_at dksJ3_compress_2_0 0 rfl rfl)
theorem dJ3_compress_2_1 : decode cJ3_compress_2 1 = .ok (.iload 4, 2) := dk_21 4 (dk_at dksJ3_compress_2_0 1 rfl rfl)
theorem dJ3_compress_2_3 : decode cJ3_compress_2 3 = .ok (.aload_n 0, 1) := dk_42 (dk_at dksJ3_compress_2_0 3 rfl rfl)
theorem dJ3_compress_2_4 : decode cJ3_compress_2 4 = .ok (.invokestatic 173, 3) := dk_184 0 173 (dk_at dksJ3_compress_2_0 4 rfl rfl)
theorem dJ3_compress_2_7 : decode cJ3_compress_2 7 = .ok (.iconst 0, 1) := dk_3 (dk_at dksJ3_compress_2_0 7 rfl rfl)
theorem dJ3_compress_2_8 : decode cJ3_compress_2 8 = .ok (.istore 5, 2) := dk_54 5 (dk_at dksJ3_compress_2_0 8 rfl rfl)
theorem dJ3_compress_2_10 : decode cJ3_compress_2 10 = .ok (.iload 5, 2) := dk_21 5 (dk_at dksJ3_compress_2_0 10 rfl rfl)
theorem dJ3_compress_2_12 : decode cJ3_compress_2 12 = .ok (.iload 4, 2) := dk_21 4 (dk_at dksJ3_compress_2_0 12 rfl rfl)
theorem dJ3_compress_2_14 : decode cJ3_compress_2 14 = .ok (.if_icmp .ge 39, 3) := dk_162 0 39 (dk_at dksJ3_compress_2_0 14 rfl rfl)
theorem dJ3_compress_2_17 : decode cJ3_compress_2 17 = .ok (.aload_n 0, 1) := dk_42 (dk_at dksJ3_compress_2_0 17 rfl rfl)
theorem dJ3_compress_2_18 : decode cJ3_compress_2 18 = .ok (.iload_n 1, 1) := dk_27 (dk_at dksJ3_compress_2_0 18 rfl rfl)
theorem dJ3_compress_2_19 : decode cJ3_compress_2 19 = .ok (.invokestatic 71, 3) := dk_184 0 71 (dk_at dksJ3_compress_2_0 19 rfl rfl)
theorem dJ3_compress_2_22 : decode cJ3_compress_2 22 = .ok (.istore 6, 2) := dk_54 6 (dk_at dksJ3_compress_2_0 22 rfl rfl)
theorem dJ3_compress_2_24 : decode cJ3_compress_2 24 = .ok (.iload 6, 2) := dk_21 6 (dk_at dksJ3_compress_2_1 0 rfl rfl)
theorem dJ3_compress_2_26 : decode cJ3_compress_2 26 = .ok (.sipush 255, 3) := dk_17 0 255 (dk_at dksJ3_compress_2_1 2 rfl rfl)
theorem dJ3_compress_2_29 : decode cJ3_compress_2 29 = .ok (.if_icmp .le 6, 3) := dk_164 0 6 (dk_at dksJ3_compress_2_1 5 rfl rfl)
theorem dJ3_compress_2_32 : decode cJ3_compress_2 32 = .ok (.iload 5, 2) := dk_21 5 (dk_at dksJ3_compress_2_1 8 rfl rfl)
theorem dJ3_compress_2_34 : decode cJ3_compress_2 34 = .ok (.ireturn, 1) := dk_172 (dk_at dksJ3_compress_2_1 10 rfl rfl)
theorem dJ3_compress_2_35 : decode cJ3_compress_2 35 = .ok (.aload_n 2, 1) := dk_44 (dk_at dksJ3_compress_2_1 11 rfl rfl)
theorem dJ3_compress_2_36 : decode cJ3_compress_2 36 = .ok (.iload_n 3, 1) := dk_29 (dk_at dksJ3_compress_2_1 12 rfl rfl)
theorem dJ3_compress_2_37 : decode cJ3_compress_2 37 = .ok (.iload 6, 2) := dk_21 6 (dk_at dksJ3_compress_2_1 13 rfl rfl)
theorem dJ3_compress_2_39 : decode cJ3_compress_2 39 = .ok (.i2b, 1) := dk_145 (dk_at dksJ3_compress_2_1 15 rfl rfl)
theorem dJ3_compress_2_40 : decode cJ3_compress_2 40 = .ok (.bastore, 1) := dk_84 (dk_at dksJ3_compress_2_1 16 rfl rfl)
theorem dJ3_compress_2_41 : decode cJ3_compress_2 41 = .ok (.iinc 1 1, 3) := dk_132 1 1 (dk_at dksJ3_compress_2_1 17 rfl rfl)
theorem dJ3_compress_2_44 : decode cJ3_compress_2 44 = .ok (.iinc 3 1, 3) := dk_132 3 1 (dk_at dksJ3_compress_2_1 20 rfl rfl)
theorem dJ3_compress_2_47 : decode cJ3_compress_2 47 = .ok (.iinc 5 1, 3) := dk_132 5 1 (dk_at dksJ3_compress_2_2 0 rfl rfl)
theorem dJ3_compress_2_50 : decode cJ3_compress_2 50 = .ok (.goto (-40), 3) := dk_167 255 216 (dk_at dksJ3_compress_2_2 3 rfl rfl)
theorem dJ3_compress_2_53 : decode cJ3_compress_2 53 = .ok (.iload 4, 2) := dk_21 4 (dk_at dksJ3_compress_2_2 6 rfl rfl)
theorem dJ3_compress_2_55 : decode cJ3_compress_2 55 = .ok (.ireturn, 1) := dk_172 (dk_at dksJ3_compress_2_2 8 rfl rfl)
abbrev cJ3_coderFromArrayLen : ByteArray := prog_47_method_15_code
def yJ3_coderFromArrayLen : MethodName := ⟨RJ3, "coderFromArrayLen", "([BI)B"⟩
def dkwJ3_coderFromArrayLen_0 : List UInt8 := [27, 42, 190, 100, 16, 31, 124, 145, 172]
abbrev dktJ3_coderFromArrayLen_0 : List UInt8 := dkwJ3_coderFromArrayLen_0 ++ []
theorem dksJ3_coderFromArrayLen_0 : cJ3_coderFromArrayLen.data.toList.drop 0 = dktJ3_coderFromArrayLen_0 := by decide +kernel
theorem dJ3_coderFromArrayLen_0 : decode cJ3_coderFromArrayLen 0 = .ok (.iload_n 1, 1) := dk_27 (dk_at dksJ3_coderFromArrayLen_0 0 rfl rfl)
theorem dJ3_coderFromArrayLen_1 : decode cJ3_coderFromArrayLen 1 = .ok (.aload_n 0, 1) := dk_42 (dk_at dksJ3_coderFromArrayLen_0 1 rfl rfl)
theorem dJ3_coderFromArrayLen_2 : decode cJ3_coderFromArrayLen 2 = .ok (.arraylength, 1) := dk_190 (dk_at dksJ3_coderFromArrayLen_0 2 rfl rfl)
theorem dJ3_coderFromArrayLen_3 : decode cJ3_coderFromArrayLen 3 = .ok (.isub, 1) := dk_100 (dk_at dksJ3_coderFromArrayLen_0 3 rfl rfl)
theorem dJ3_coderFromArrayLen_4 : decode cJ3_coderFromArrayLen 4 = .ok (.bipush 31, 2) := dk_16 31 (dk_at dksJ3_coderFromArrayLen_0 4 rfl rfl)
theorem dJ3_coderFromArrayLen_6 : decode cJ3_coderFromArrayLen 6 = .ok (.iushr, 1) := dk_124 (dk_at dksJ3_coderFromArrayLen_0 6 rfl rfl)
theorem dJ3_coderFromArrayLen_7 : decode cJ3_coderFromArrayLen 7 = .ok (.i2b, 1) := dk_145 (dk_at dksJ3_coderFromArrayLen_0 7 rfl rfl)
theorem dJ3_coderFromArrayLen_8 : decode cJ3_coderFromArrayLen 8 = .ok (.ireturn, 1) := dk_172 (dk_at dksJ3_coderFromArrayLen_0 8 rfl rfl)
abbrev cJ3_hashCode : ByteArray := prog_47_method_39_code
def yJ3_hashCode : MethodName := ⟨RJ3, "hashCode", "([B)I"⟩
def dkwJ3_hashCode_2 : List UInt8 := [3, 167, 0, 22, 42, 3, 184, 0, 71, 167, 0, 14, 42, 3, 42, 190, 4, 122, 3, 8, 184, 0, 220, 172]
abbrev dktJ3_hashCode_2 : List UInt8 := dkwJ3_hashCode_2 ++ []
def dkwJ3_hashCode_1 : List UInt8 := [171, 0, 0, 0, 0, 38, 0, 0, 0, 2, 0, 0, 0, 0, 0, 0, 0, 26, 0, 0, 0, 2, 0, 0, 0, 30]
abbrev dktJ3_hashCode_1 : List UInt8 := dkwJ3_hashCode_1 ++ dktJ3_hashCode_2
def dkwJ3_hashCode_0 : List UInt8 := [42, 190]
abbrev dktJ3_hashCode_0 : List UInt8 := dkwJ3_hashCode_0 ++ dktJ3_hashCode_1
theorem dksJ3_hashCode_0 : cJ3_hashCode.data.toList.drop 0 = dktJ3_hashCode_0 := by decide +kernel
theorem dksJ3_hashCode_1 : cJ3_hashCode.data.toList.drop 2 = dktJ3_hashCode_1 := dk_seg dksJ3_hashCode_0 2 rfl rfl
theorem dksJ3_hashCode_2 : cJ3_hashCode.data.toList.drop 28 = dktJ3_hashCode_2 := dk_seg dksJ3_hashCode_1 26 rfl rfl
theorem dJ3_hashCode_0 : decode cJ3_hashCode 0 = .ok (.aload_n 0, 1) := dk_42 (dk_at dksJ3_hashCode_0 0 rfl rfl)
theorem dJ3_hashCode_1 : decode cJ3_hashCode 1 = .ok (.arraylength, 1) := dk_190 (dk_at dksJ3_hashCode_0 1 rfl rfl)
theorem dJ3_hashCode_2 : decode cJ3_hashCode 2 = .ok (.lookupswitch 38 #[(0, 26), (2, 30)], 26) := by decide +kernel
theorem dJ3_hashCode_28 : decode cJ3_hashCode 28 = .ok (.iconst 0, 1) := dk_3 (dk_at dksJ3_hashCode_2 0 rfl rfl)
theorem dJ3_hashCode_29 : decode cJ3_hashCode 29 = .ok (.goto 22, 3) := dk_167 0 22 (dk_at dksJ3_hashCode_2 1 rfl rfl)
theorem dJ3_hashCode_32 : decode cJ3_hashCode 32 = .ok (.aload_n 0, 1) := dk_42 (dk_at dksJ3_hashCode_2 4 rfl rfl)
theorem dJ3_hashCode_33 : decode cJ3_hashCode 33 = .ok (.iconst 0, 1) := dk_3 (dk_at dksJ3_hashCode_2 5 rfl rfl)
theorem dJ3_hashCode_34 : decode cJ3_hashCode 34 = .ok (.invokestatic 71, 3) := dk_184 0 71 (dk_at dksJ3_hashCode_2 6 rfl rfl)
theorem dJ3_hashCode_37 : decode cJ3_hashCode 37 = .ok (.goto 14, 3) := dk_167 0 14 (dk_at dksJ3_hashCode_2 9 rfl rfl)
theorem dJ3_hashCode_40 : decode cJ3_hashCode 40 = .ok (.aload_n 0, 1) := dk_42 (dk_at dksJ3_hashCode_2 12 rfl rfl)
theorem dJ3_hashCode_41 : decode cJ3_hashCode 41 = .ok (.iconst 0, 1) := dk_3 (dk_at dksJ3_hashCode_2 13 rfl rfl)
theorem dJ3_hashCode_42 : decode cJ3_hashCode 42 = .ok (.aload_n 0, 1) := dk_42 (dk_at dksJ3_hashCode_2 14 rfl rfl)
theorem dJ3_hashCode_43 : decode cJ3_hashCode 43 = .ok (.arraylength, 1) := dk_190 (dk_at dksJ3_hashCode_2 15 rfl rfl)
theorem dJ3_hashCode_44 : decode cJ3_hashCode 44 = .ok (.iconst 1, 1) := dk_4 (dk_at dksJ3_hashCode_2 16 rfl rfl)
theorem dJ3_hashCode_45 : decode cJ3_hashCode 45 = .ok (.ishr, 1) := dk_122 (dk_at dksJ3_hashCode_2 17 rfl rfl)
theorem dJ3_hashCode_46 : decode cJ3_hashCode 46 = .ok (.iconst 0, 1) := dk_3 (dk_at dksJ3_hashCode_2 18 rfl rfl)
theorem dJ3_hashCode_47 : decode cJ3_hashCode 47 = .ok (.iconst 5, 1) := dk_8 (dk_at dksJ3_hashCode_2 19 rfl rfl)
theorem dJ3_hashCode_48 : decode cJ3_hashCode 48 = .ok (.invokestatic 220, 3) := dk_184 0 220 (dk_at dksJ3_hashCode_2 20 rfl rfl)
theorem dJ3_hashCode_51 : decode cJ3_hashCode 51 = .ok (.ireturn, 1) := dk_172 (dk_at dksJ3_hashCode_2 23 rfl rfl)
abbrev cJ3_newString : ByteArray := prog_47_method_69_code
def yJ3_newString : MethodName := ⟨RJ3, "newString", "([BII)Ljava/lang/String;"⟩
def dkwJ3_newString_2 : List UInt8 := [42, 27, 4, 120, 29, 4, 120, 184, 0, 126, 4, 183, 1, 7, 176]
abbrev dktJ3_newString_2 : List UInt8 := dkwJ3_newString_2 ++ []
def dkwJ3_newString_1 : List UInt8 := [184, 1, 3, 54, 4, 187, 0, 3, 89, 45, 21, 4, 183, 1, 7, 176, 27, 28, 96, 62, 187, 0, 3, 89]
abbrev dktJ3_newString_1 : List UInt8 := dkwJ3_newString_1 ++ dktJ3_newString_2
def dkwJ3_newString_0 : List UInt8 := [28, 154, 0, 7, 19, 1, 39, 176, 178, 0, 251, 153, 0, 28, 42, 27, 28, 184, 1, 1, 78, 45, 28]
abbrev dktJ3_newString_0 : List UInt8 := dkwJ3_newString_0 ++ dktJ3_newString_1
theorem dksJ3_newString_0 : cJ3_newString.data.toList.drop 0 = dktJ3_newString_0 := by decide +kernel
theorem dksJ3_newString_1 : cJ3_newString.data.toList.drop 23 = dktJ3_newString_1 := dk_seg dksJ3_newString_0 23 rfl rfl
theorem dksJ3_newString_2 : cJ3_newString.data.toList.drop 47 = dktJ3_newString_2 := dk_seg dksJ3_newString_1 24 rfl rfl
theorem dJ3_newString_0 : decode cJ3_newString 0 = .ok (.iload_n 2, 1) := dk_28 (dk_at dksJ3_newString_0 0 rfl rfl)
theorem dJ3_newString_1 : decode cJ3_newString 1 = .ok (.ifCond .ne 7, 3) := dk_154 0 7 (dk_at dksJ3_newString_0 1 rfl rfl)
theorem dJ3_newString_4 : decode cJ3_newString 4 = .ok (.ldc_w 295, 3) := dk_19 1 39 (dk_at dksJ3_newString_0 4 rfl rfl)
theorem dJ3_newString_7 : decode cJ3_newString 7 = .ok (.areturn, 1) := dk_176 (dk_at dksJ3_newString_0 7 rfl rfl)
theorem dJ3_newString_8 : decode cJ3_newString 8 = .ok (.getstatic 251, 3) := dk_178 0 251 (dk_at dksJ3_newString_0 8 rfl rfl)
theorem dJ3_newString_11 : decode cJ3_newString 11 = .ok (.ifCond .eq 28, 3) := dk_153 0 28 (dk_at dksJ3_newString_0 11 rfl rfl)
theorem dJ3_newString_14 : decode cJ3_newString 14 = .ok (.aload_n 0, 1) := dk_42 (dk_at dksJ3_newString_0 14 rfl rfl)
theorem dJ3_newString_15 : decode cJ3_newString 15 = .ok (.iload_n 1, 1) := dk_27 (dk_at dksJ3_newString_0 15 rfl rfl)
theorem dJ3_newString_16 : decode cJ3_newString 16 = .ok (.iload_n 2, 1) := dk_28 (dk_at dksJ3_newString_0 16 rfl rfl)
theorem dJ3_newString_17 : decode cJ3_newString 17 = .ok (.invokestatic 257, 3) := dk_184 1 1 (dk_at dksJ3_newString_0 17 rfl rfl)
theorem dJ3_newString_20 : decode cJ3_newString 20 = .ok (.astore_n 3, 1) := dk_78 (dk_at dksJ3_newString_0 20 rfl rfl)
theorem dJ3_newString_21 : decode cJ3_newString 21 = .ok (.aload_n 3, 1) := dk_45 (dk_at dksJ3_newString_0 21 rfl rfl)
theorem dJ3_newString_22 : decode cJ3_newString 22 = .ok (.iload_n 2, 1) := dk_28 (dk_at dksJ3_newString_0 22 rfl rfl)
theorem dJ3_newString_23 : decode cJ3_newString 23 = .ok (.invokestatic 259, 3) := dk_184 1 3 (dk_at dksJ3_newString_1 0 rfl rfl)
theorem dJ3_newString_26 : decode cJ3_newString 26 = .ok (.istore 4, 2) := dk_54 4 (dk_at dksJ3_newString_1 3 rfl rfl)
theorem dJ3_newString_28 : decode cJ3_newString 28 = .ok (.new 3, 3) := dk_187 0 3 (dk_at dksJ3_newString_1 5 rfl rfl)
theorem dJ3_newString_31 : decode cJ3_newString 31 = .ok (.dup, 1) := dk_89 (dk_at dksJ3_newString_1 8 rfl rfl)
theorem dJ3_newString_32 : decode cJ3_newString 32 = .ok (.aload_n 3, 1) := dk_45 (dk_at dksJ3_newString_1 9 rfl rfl)
theorem dJ3_newString_33 : decode cJ3_newString 33 = .ok (.iload 4, 2) := dk_21 4 (dk_at dksJ3_newString_1 10 rfl rfl)
theorem dJ3_newString_35 : decode cJ3_newString 35 = .ok (.invokespecial 263, 3) := dk_183 1 7 (dk_at dksJ3_newString_1 12 rfl rfl)
theorem dJ3_newString_38 : decode cJ3_newString 38 = .ok (.areturn, 1) := dk_176 (dk_at dksJ3_newString_1 15 rfl rfl)
theorem dJ3_newString_39 : decode cJ3_newString 39 = .ok (.iload_n 1, 1) := dk_27 (dk_at dksJ3_newString_1 16 rfl rfl)
theorem dJ3_newString_40 : decode cJ3_newString 40 = .ok (.iload_n 2, 1) := dk_28 (dk_at dksJ3_newString_1 17 rfl rfl)
theorem dJ3_newString_41 : decode cJ3_newString 41 = .ok (.iadd, 1) := dk_96 (dk_at dksJ3_newString_1 18 rfl rfl)
theorem dJ3_newString_42 : decode cJ3_newString 42 = .ok (.istore_n 3, 1) := dk_62 (dk_at dksJ3_newString_1 19 rfl rfl)
theorem dJ3_newString_43 : decode cJ3_newString 43 = .ok (.new 3, 3) := dk_187 0 3 (dk_at dksJ3_newString_1 20 rfl rfl)
theorem dJ3_newString_46 : decode cJ3_newString 46 = .ok (.dup, 1) := dk_89 (dk_at dksJ3_newString_1 23 rfl rfl)
theorem dJ3_newString_47 : decode cJ3_newString 47 = .ok (.aload_n 0, 1) := dk_42 (dk_at dksJ3_newString_2 0 rfl rfl)
theorem dJ3_newString_48 : decode cJ3_newString 48 = .ok (.iload_n 1, 1) := dk_27 (dk_at dksJ3_newString_2 1 rfl rfl)
theorem dJ3_newString_49 : decode cJ3_newString 49 = .ok (.iconst 1, 1) := dk_4 (dk_at dksJ3_newString_2 2 rfl rfl)
theorem dJ3_newString_50 : decode cJ3_newString 50 = .ok (.ishl, 1) := dk_120 (dk_at dksJ3_newString_2 3 rfl rfl)
theorem dJ3_newString_51 : decode cJ3_newString 51 = .ok (.iload_n 3, 1) := dk_29 (dk_at dksJ3_newString_2 4 rfl rfl)
theorem dJ3_newString_52 : decode cJ3_newString 52 = .ok (.iconst 1, 1) := dk_4 (dk_at dksJ3_newString_2 5 rfl rfl)
theorem dJ3_newString_53 : decode cJ3_newString 53 = .ok (.ishl, 1) := dk_120 (dk_at dksJ3_newString_2 6 rfl rfl)
theorem dJ3_newString_54 : decode cJ3_newString 54 = .ok (.invokestatic 126, 3) := dk_184 0 126 (dk_at dksJ3_newString_2 7 rfl rfl)
theorem dJ3_newString_57 : decode cJ3_newString 57 = .ok (.iconst 1, 1) := dk_4 (dk_at dksJ3_newString_2 10 rfl rfl)
theorem dJ3_newString_58 : decode cJ3_newString 58 = .ok (.invokespecial 263, 3) := dk_183 1 7 (dk_at dksJ3_newString_2 11 rfl rfl)
theorem dJ3_newString_61 : decode cJ3_newString 61 = .ok (.areturn, 1) := dk_176 (dk_at dksJ3_newString_2 14 rfl rfl)
abbrev cJ3_getChars : ByteArray := prog_47_method_77_code
def yJ3_getChars : MethodName := ⟨RJ3, "getChars", "(III[B)I"⟩
def dkwJ3_getChars_1 : List UInt8 := [159, 0, 11, 187, 0, 52, 89, 183, 0, 66, 191, 21, 4, 172]
abbrev dktJ3_getChars_1 : List UInt8 := dkwJ3_getChars_1 ++ []
def dkwJ3_getChars_0 : List UInt8 := [27, 28, 45, 184, 0, 96, 26, 28, 45, 184, 1, 137, 54, 4, 178, 0, 44, 154, 0, 17, 27, 21, 4]
abbrev dktJ3_getChars_0 : List UInt8 := dkwJ3_getChars_0 ++ dktJ3_getChars_1
theorem dksJ3_getChars_0 : cJ3_getChars.data.toList.drop 0 = dktJ3_getChars_0 := by decide +kernel
theorem dksJ3_getChars_1 : cJ3_getChars.data.toList.drop 23 = dktJ3_getChars_1 := dk_seg dksJ3_getChars_0 23 rfl rfl
theorem dJ3_getChars_0 : decode cJ3_getChars 0 = .ok (.iload_n 1, 1) := dk_27 (dk_at dksJ3_getChars_0 0 rfl rfl)
theorem dJ3_getChars_1 : decode cJ3_getChars 1 = .ok (.iload_n 2, 1) := dk_28 (dk_at dksJ3_getChars_0 1 rfl rfl)
theorem dJ3_getChars_2 : decode cJ3_getChars 2 = .ok (.aload_n 3, 1) := dk_45 (dk_at dksJ3_getChars_0 2 rfl rfl)
theorem dJ3_getChars_3 : decode cJ3_getChars 3 = .ok (.invokestatic 96, 3) := dk_184 0 96 (dk_at dksJ3_getChars_0 3 rfl rfl)
theorem dJ3_getChars_6 : decode cJ3_getChars 6 = .ok (.iload_n 0, 1) := dk_26 (dk_at dksJ3_getChars_0 6 rfl rfl)
theorem dJ3_getChars_7 : decode cJ3_getChars 7 = .ok (.iload_n 2, 1) := dk_28 (dk_at dksJ3_getChars_0 7 rfl rfl)
theorem dJ3_getChars_8 : decode cJ3_getChars 8 = .ok (.aload_n 3, 1) := dk_45 (dk_at dksJ3_getChars_0 8 rfl rfl)
theorem dJ3_getChars_9 : decode cJ3_getChars 9 = .ok (.invokestatic 393, 3) := dk_184 1 137 (dk_at dksJ3_getChars_0 9 rfl rfl)
theorem dJ3_getChars_12 : decode cJ3_getChars 12 = .ok (.istore 4, 2) := dk_54 4 (dk_at dksJ3_getChars_0 12 rfl rfl)
theorem dJ3_getChars_14 : decode cJ3_getChars 14 = .ok (.getstatic 44, 3) := dk_178 0 44 (dk_at dksJ3_getChars_0 14 rfl rfl)
theorem dJ3_getChars_17 : decode cJ3_getChars 17 = .ok (.ifCond .ne 17, 3) := dk_154 0 17 (dk_at dksJ3_getChars_0 17 rfl rfl)
theorem dJ3_getChars_20 : decode cJ3_getChars 20 = .ok (.iload_n 1, 1) := dk_27 (dk_at dksJ3_getChars_0 20 rfl rfl)
theorem dJ3_getChars_21 : decode cJ3_getChars 21 = .ok (.iload 4, 2) := dk_21 4 (dk_at dksJ3_getChars_0 21 rfl rfl)
theorem dJ3_getChars_23 : decode cJ3_getChars 23 = .ok (.if_icmp .eq 11, 3) := dk_159 0 11 (dk_at dksJ3_getChars_1 0 rfl rfl)
theorem dJ3_getChars_26 : decode cJ3_getChars 26 = .ok (.new 52, 3) := dk_187 0 52 (dk_at dksJ3_getChars_1 3 rfl rfl)
theorem dJ3_getChars_29 : decode cJ3_getChars 29 = .ok (.dup, 1) := dk_89 (dk_at dksJ3_getChars_1 6 rfl rfl)
theorem dJ3_getChars_30 : decode cJ3_getChars 30 = .ok (.invokespecial 66, 3) := dk_183 0 66 (dk_at dksJ3_getChars_1 7 rfl rfl)
theorem dJ3_getChars_33 : decode cJ3_getChars 33 = .ok (.athrow, 1) := dk_191 (dk_at dksJ3_getChars_1 10 rfl rfl)
theorem dJ3_getChars_34 : decode cJ3_getChars 34 = .ok (.iload 4, 2) := dk_21 4 (dk_at dksJ3_getChars_1 11 rfl rfl)
theorem dJ3_getChars_36 : decode cJ3_getChars 36 = .ok (.ireturn, 1) := dk_172 (dk_at dksJ3_getChars_1 13 rfl rfl)
abbrev cJ3_getChars_2 : ByteArray := prog_47_method_89_code
def yJ3_getChars_2 : MethodName := ⟨RJ3, "getChars", "(II[B)I"⟩
def dkwJ3_getChars_2_5 : List UInt8 := [132, 5, 255, 21, 5, 16, 45, 184, 0, 111, 21, 5, 172]
abbrev dktJ3_getChars_2_5 : List UInt8 := dkwJ3_getChars_2_5 ++ []
def dkwJ3_getChars_2_4 : List UInt8 := [162, 0, 18, 44, 132, 5, 255, 21, 5, 178, 1, 151, 26, 116, 51, 184, 0, 111, 21, 6, 153, 0, 14, 44]
abbrev dktJ3_getChars_2_4 : List UInt8 := dkwJ3_getChars_2_4 ++ dktJ3_getChars_2_5
def dkwJ3_getChars_2_3 : List UInt8 := [184, 0, 111, 167, 255, 205, 44, 132, 5, 255, 21, 5, 178, 1, 147, 26, 116, 51, 184, 0, 111, 26, 16, 247]
abbrev dktJ3_getChars_2_3 : List UInt8 := dkwJ3_getChars_2_3 ++ dktJ3_getChars_2_4
def dkwJ3_getChars_2_2 : List UInt8 := [21, 5, 178, 1, 147, 21, 4, 51, 184, 0, 111, 44, 132, 5, 255, 21, 5, 178, 1, 151, 21, 4, 51]
abbrev dktJ3_getChars_2_2 : List UInt8 := dkwJ3_getChars_2_2 ++ dktJ3_getChars_2_3
def dkwJ3_getChars_2_1 : List UInt8 := [16, 156, 163, 0, 51, 26, 16, 100, 108, 62, 29, 16, 100, 104, 26, 100, 54, 4, 29, 59, 44, 132, 5, 255]
abbrev dktJ3_getChars_2_1 : List UInt8 := dkwJ3_getChars_2_1 ++ dktJ3_getChars_2_2
def dkwJ3_getChars_2_0 : List UInt8 := [27, 54, 5, 26, 156, 0, 7, 4, 167, 0, 4, 3, 54, 6, 21, 6, 154, 0, 6, 26, 116, 59, 26]
abbrev dktJ3_getChars_2_0 : List UInt8 := dkwJ3_getChars_2_0 ++ dktJ3_getChars_2_1
theorem dksJ3_getChars_2_0 : cJ3_getChars_2.data.toList.drop 0 = dktJ3_getChars_2_0 := by decide +kernel
theorem dksJ3_getChars_2_1 : cJ3_getChars_2.data.toList.drop 23 = dktJ3_getChars_2_1 := dk_seg dksJ3_getChars_2_0 23 rfl rfl
theorem dksJ3_getChars_2_2 : cJ3_getChars_2.data.toList.drop 47 = dktJ3_getChars_2_2 := dk_seg dksJ3_getChars_2_1 24 rfl rfl
theorem dksJ3_getChars_2_3 : cJ3_getChars_2.data.toList.drop 70 = dktJ3_getChars_2_3 := dk_seg dksJ3_getChars_2_2 23 rfl rfl
theorem dksJ3_getChars_2_4 : cJ3_getChars_2.data.toList.drop 94 = dktJ3_getChars_2_4 := dk_seg dksJ3_getChars_2_3 24 rfl rfl
theorem dksJ3_getChars_2_5 : cJ3_getChars_2.data.toList.drop 118 = dktJ3_getChars_2_5 := dk_seg dksJ3_getChars_2_4 24 rfl rfl
theorem dJ3_getChars_2_0 : decode cJ3_getChars_2 0 = .ok (.iload_n 1, 1) := dk_27 (dk_at dksJ3_getChars_2_0 0 rfl rfl)
theorem dJ3_getChars_2_1 : decode cJ3_getChars_2 1 = .ok (.istore 5, 2) := dk_54 5 (dk_at dksJ3_getChars_2_0 1 rfl rfl)
theorem dJ3_getChars_2_3 : decode cJ3_getChars_2 3 = .ok (.iload_n 0, 1) := dk_26 (dk_at dksJ3_getChars_2_0 3 rfl rfl)
theorem dJ3_getChars_2_4 : decode cJ3_getChars_2 4 = .ok (.ifCond .ge 7, 3) := dk_156 0 7 (dk_at dksJ3_getChars_2_0 4 rfl rfl)
theorem dJ3_getChars_2_7 : decode cJ3_getChars_2 7 = .ok (.iconst 1, 1) := dk_4 (dk_at dksJ3_getChars_2_0 7 rfl rfl)
theorem dJ3_getChars_2_8 : decode cJ3_getChars_2 8 = .ok (.goto 4, 3) := dk_167 0 4 (dk_at dksJ3_getChars_2_0 8 rfl rfl)
theorem dJ3_getChars_2_11 : decode cJ3_getChars_2 11 = .ok (.iconst 0, 1) := dk_3 (dk_at dksJ3_getChars_2_0 11 rfl rfl)
theorem dJ3_getChars_2_12 : decode cJ3_getChars_2 12 = .ok (.istore 6, 2) := dk_54 6 (dk_at dksJ3_getChars_2_0 12 rfl rfl)
theorem dJ3_getChars_2_14 : decode cJ3_getChars_2 14 = .ok (.iload 6, 2) := dk_21 6 (dk_at dksJ3_getChars_2_0 14 rfl rfl)
theorem dJ3_getChars_2_16 : decode cJ3_getChars_2 16 = .ok (.ifCond .ne 6, 3) := dk_154 0 6 (dk_at dksJ3_getChars_2_0 16 rfl rfl)
theorem dJ3_getChars_2_19 : decode cJ3_getChars_2 19 = .ok (.iload_n 0, 1) := dk_26 (dk_at dksJ3_getChars_2_0 19 rfl rfl)
theorem dJ3_getChars_2_20 : decode cJ3_getChars_2 20 = .ok (.ineg, 1) := dk_116 (dk_at dksJ3_getChars_2_0 20 rfl rfl)
theorem dJ3_getChars_2_21 : decode cJ3_getChars_2 21 = .ok (.istore_n 0, 1) := dk_59 (dk_at dksJ3_getChars_2_0 21 rfl rfl)
theorem dJ3_getChars_2_22 : decode cJ3_getChars_2 22 = .ok (.iload_n 0, 1) := dk_26 (dk_at dksJ3_getChars_2_0 22 rfl rfl)
theorem dJ3_getChars_2_23 : decode cJ3_getChars_2 23 = .ok (.bipush (-100), 2) := dk_16 156 (dk_at dksJ3_getChars_2_1 0 rfl rfl)
theorem dJ3_getChars_2_25 : decode cJ3_getChars_2 25 = .ok (.if_icmp .gt 51, 3) := dk_163 0 51 (dk_at dksJ3_getChars_2_1 2 rfl rfl)
theorem dJ3_getChars_2_28 : decode cJ3_getChars_2 28 = .ok (.iload_n 0, 1) := dk_26 (dk_at dksJ3_getChars_2_1 5 rfl rfl)
theorem dJ3_getChars_2_29 : decode cJ3_getChars_2 29 = .ok (.bipush 100, 2) := dk_16 100 (dk_at dksJ3_getChars_2_1 6 rfl rfl)
theorem dJ3_getChars_2_31 : decode cJ3_getChars_2 31 = .ok (.idiv, 1) := dk_108 (dk_at dksJ3_getChars_2_1 8 rfl rfl)
theorem dJ3_getChars_2_32 : decode cJ3_getChars_2 32 = .ok (.istore_n 3, 1) := dk_62 (dk_at dksJ3_getChars_2_1 9 rfl rfl)
theorem dJ3_getChars_2_33 : decode cJ3_getChars_2 33 = .ok (.iload_n 3, 1) := dk_29 (dk_at dksJ3_getChars_2_1 10 rfl rfl)
theorem dJ3_getChars_2_34 : decode cJ3_getChars_2 34 = .ok (.bipush 100, 2) := dk_16 100 (dk_at dksJ3_getChars_2_1 11 rfl rfl)
theorem dJ3_getChars_2_36 : decode cJ3_getChars_2 36 = .ok (.imul, 1) := dk_104 (dk_at dksJ3_getChars_2_1 13 rfl rfl)
theorem dJ3_getChars_2_37 : decode cJ3_getChars_2 37 = .ok (.iload_n 0, 1) := dk_26 (dk_at dksJ3_getChars_2_1 14 rfl rfl)
theorem dJ3_getChars_2_38 : decode cJ3_getChars_2 38 = .ok (.isub, 1) := dk_100 (dk_at dksJ3_getChars_2_1 15 rfl rfl)
theorem dJ3_getChars_2_39 : decode cJ3_getChars_2 39 = .ok (.istore 4, 2) := dk_54 4 (dk_at dksJ3_getChars_2_1 16 rfl rfl)
theorem dJ3_getChars_2_41 : decode cJ3_getChars_2 41 = .ok (.iload_n 3, 1) := dk_29 (dk_at dksJ3_getChars_2_1 18 rfl rfl)
theorem dJ3_getChars_2_42 : decode cJ3_getChars_2 42 = .ok (.istore_n 0, 1) := dk_59 (dk_at dksJ3_getChars_2_1 19 rfl rfl)
theorem dJ3_getChars_2_43 : decode cJ3_getChars_2 43 = .ok (.aload_n 2, 1) := dk_44 (dk_at dksJ3_getChars_2_1 20 rfl rfl)
theorem dJ3_getChars_2_44 : decode cJ3_getChars_2 44 = .ok (.iinc 5 (-1), 3) := dk_132 5 255 (dk_at dksJ3_getChars_2_1 21 rfl rfl)
theorem dJ3_getChars_2_47 : decode cJ3_getChars_2 47 = .ok (.iload 5, 2) := dk_21 5 (dk_at dksJ3_getChars_2_2 0 rfl rfl)
theorem dJ3_getChars_2_49 : decode cJ3_getChars_2 49 = .ok (.getstatic 403, 3) := dk_178 1 147 (dk_at dksJ3_getChars_2_2 2 rfl rfl)
theorem dJ3_getChars_2_52 : decode cJ3_getChars_2 52 = .ok (.iload 4, 2) := dk_21 4 (dk_at dksJ3_getChars_2_2 5 rfl rfl)
theorem dJ3_getChars_2_54 : decode cJ3_getChars_2 54 = .ok (.baload, 1) := dk_51 (dk_at dksJ3_getChars_2_2 7 rfl rfl)
theorem dJ3_getChars_2_55 : decode cJ3_getChars_2 55 = .ok (.invokestatic 111, 3) := dk_184 0 111 (dk_at dksJ3_getChars_2_2 8 rfl rfl)
theorem dJ3_getChars_2_58 : decode cJ3_getChars_2 58 = .ok (.aload_n 2, 1) := dk_44 (dk_at dksJ3_getChars_2_2 11 rfl rfl)
theorem dJ3_getChars_2_59 : decode cJ3_getChars_2 59 = .ok (.iinc 5 (-1), 3) := dk_132 5 255 (dk_at dksJ3_getChars_2_2 12 rfl rfl)
theorem dJ3_getChars_2_62 : decode cJ3_getChars_2 62 = .ok (.iload 5, 2) := dk_21 5 (dk_at dksJ3_getChars_2_2 15 rfl rfl)
theorem dJ3_getChars_2_64 : decode cJ3_getChars_2 64 = .ok (.getstatic 407, 3) := dk_178 1 151 (dk_at dksJ3_getChars_2_2 17 rfl rfl)
theorem dJ3_getChars_2_67 : decode cJ3_getChars_2 67 = .ok (.iload 4, 2) := dk_21 4 (dk_at dksJ3_getChars_2_2 20 rfl rfl)
theorem dJ3_getChars_2_69 : decode cJ3_getChars_2 69 = .ok (.baload, 1) := dk_51 (dk_at dksJ3_getChars_2_2 22 rfl rfl)
theorem dJ3_getChars_2_70 : decode cJ3_getChars_2 70 = .ok (.invokestatic 111, 3) := dk_184 0 111 (dk_at dksJ3_getChars_2_3 0 rfl rfl)
theorem dJ3_getChars_2_73 : decode cJ3_getChars_2 73 = .ok (.goto (-51), 3) := dk_167 255 205 (dk_at dksJ3_getChars_2_3 3 rfl rfl)
theorem dJ3_getChars_2_76 : decode cJ3_getChars_2 76 = .ok (.aload_n 2, 1) := dk_44 (dk_at dksJ3_getChars_2_3 6 rfl rfl)
theorem dJ3_getChars_2_77 : decode cJ3_getChars_2 77 = .ok (.iinc 5 (-1), 3) := dk_132 5 255 (dk_at dksJ3_getChars_2_3 7 rfl rfl)
theorem dJ3_getChars_2_80 : decode cJ3_getChars_2 80 = .ok (.iload 5, 2) := dk_21 5 (dk_at dksJ3_getChars_2_3 10 rfl rfl)
theorem dJ3_getChars_2_82 : decode cJ3_getChars_2 82 = .ok (.getstatic 403, 3) := dk_178 1 147 (dk_at dksJ3_getChars_2_3 12 rfl rfl)
theorem dJ3_getChars_2_85 : decode cJ3_getChars_2 85 = .ok (.iload_n 0, 1) := dk_26 (dk_at dksJ3_getChars_2_3 15 rfl rfl)
theorem dJ3_getChars_2_86 : decode cJ3_getChars_2 86 = .ok (.ineg, 1) := dk_116 (dk_at dksJ3_getChars_2_3 16 rfl rfl)
theorem dJ3_getChars_2_87 : decode cJ3_getChars_2 87 = .ok (.baload, 1) := dk_51 (dk_at dksJ3_getChars_2_3 17 rfl rfl)
theorem dJ3_getChars_2_88 : decode cJ3_getChars_2 88 = .ok (.invokestatic 111, 3) := dk_184 0 111 (dk_at dksJ3_getChars_2_3 18 rfl rfl)
theorem dJ3_getChars_2_91 : decode cJ3_getChars_2 91 = .ok (.iload_n 0, 1) := dk_26 (dk_at dksJ3_getChars_2_3 21 rfl rfl)
theorem dJ3_getChars_2_92 : decode cJ3_getChars_2 92 = .ok (.bipush (-9), 2) := dk_16 247 (dk_at dksJ3_getChars_2_3 22 rfl rfl)
theorem dJ3_getChars_2_94 : decode cJ3_getChars_2 94 = .ok (.if_icmp .ge 18, 3) := dk_162 0 18 (dk_at dksJ3_getChars_2_4 0 rfl rfl)
theorem dJ3_getChars_2_97 : decode cJ3_getChars_2 97 = .ok (.aload_n 2, 1) := dk_44 (dk_at dksJ3_getChars_2_4 3 rfl rfl)
theorem dJ3_getChars_2_98 : decode cJ3_getChars_2 98 = .ok (.iinc 5 (-1), 3) := dk_132 5 255 (dk_at dksJ3_getChars_2_4 4 rfl rfl)
theorem dJ3_getChars_2_101 : decode cJ3_getChars_2 101 = .ok (.iload 5, 2) := dk_21 5 (dk_at dksJ3_getChars_2_4 7 rfl rfl)
theorem dJ3_getChars_2_103 : decode cJ3_getChars_2 103 = .ok (.getstatic 407, 3) := dk_178 1 151 (dk_at dksJ3_getChars_2_4 9 rfl rfl)
theorem dJ3_getChars_2_106 : decode cJ3_getChars_2 106 = .ok (.iload_n 0, 1) := dk_26 (dk_at dksJ3_getChars_2_4 12 rfl rfl)
theorem dJ3_getChars_2_107 : decode cJ3_getChars_2 107 = .ok (.ineg, 1) := dk_116 (dk_at dksJ3_getChars_2_4 13 rfl rfl)
theorem dJ3_getChars_2_108 : decode cJ3_getChars_2 108 = .ok (.baload, 1) := dk_51 (dk_at dksJ3_getChars_2_4 14 rfl rfl)
theorem dJ3_getChars_2_109 : decode cJ3_getChars_2 109 = .ok (.invokestatic 111, 3) := dk_184 0 111 (dk_at dksJ3_getChars_2_4 15 rfl rfl)
theorem dJ3_getChars_2_112 : decode cJ3_getChars_2 112 = .ok (.iload 6, 2) := dk_21 6 (dk_at dksJ3_getChars_2_4 18 rfl rfl)
theorem dJ3_getChars_2_114 : decode cJ3_getChars_2 114 = .ok (.ifCond .eq 14, 3) := dk_153 0 14 (dk_at dksJ3_getChars_2_4 20 rfl rfl)
theorem dJ3_getChars_2_117 : decode cJ3_getChars_2 117 = .ok (.aload_n 2, 1) := dk_44 (dk_at dksJ3_getChars_2_4 23 rfl rfl)
theorem dJ3_getChars_2_118 : decode cJ3_getChars_2 118 = .ok (.iinc 5 (-1), 3) := dk_132 5 255 (dk_at dksJ3_getChars_2_5 0 rfl rfl)
theorem dJ3_getChars_2_121 : decode cJ3_getChars_2 121 = .ok (.iload 5, 2) := dk_21 5 (dk_at dksJ3_getChars_2_5 3 rfl rfl)
theorem dJ3_getChars_2_123 : decode cJ3_getChars_2 123 = .ok (.bipush 45, 2) := dk_16 45 (dk_at dksJ3_getChars_2_5 5 rfl rfl)
theorem dJ3_getChars_2_125 : decode cJ3_getChars_2 125 = .ok (.invokestatic 111, 3) := dk_184 0 111 (dk_at dksJ3_getChars_2_5 7 rfl rfl)
theorem dJ3_getChars_2_128 : decode cJ3_getChars_2 128 = .ok (.iload 5, 2) := dk_21 5 (dk_at dksJ3_getChars_2_5 10 rfl rfl)
theorem dJ3_getChars_2_130 : decode cJ3_getChars_2 130 = .ok (.ireturn, 1) := dk_172 (dk_at dksJ3_getChars_2_5 12 rfl rfl)
abbrev cJ3_fillNull : ByteArray := prog_47_method_70_code
def yJ3_fillNull : MethodName := ⟨RJ3, "fillNull", "([BII)V"⟩
def dkwJ3_fillNull_0 : List UInt8 := [42, 27, 4, 120, 28, 4, 120, 3, 184, 1, 124, 177]
abbrev dktJ3_fillNull_0 : List UInt8 := dkwJ3_fillNull_0 ++ []
theorem dksJ3_fillNull_0 : cJ3_fillNull.data.toList.drop 0 = dktJ3_fillNull_0 := by decide +kernel
theorem dJ3_fillNull_0 : decode cJ3_fillNull 0 = .ok (.aload_n 0, 1) := dk_42 (dk_at dksJ3_fillNull_0 0 rfl rfl)
theorem dJ3_fillNull_1 : decode cJ3_fillNull 1 = .ok (.iload_n 1, 1) := dk_27 (dk_at dksJ3_fillNull_0 1 rfl rfl)
theorem dJ3_fillNull_2 : decode cJ3_fillNull 2 = .ok (.iconst 1, 1) := dk_4 (dk_at dksJ3_fillNull_0 2 rfl rfl)
theorem dJ3_fillNull_3 : decode cJ3_fillNull 3 = .ok (.ishl, 1) := dk_120 (dk_at dksJ3_fillNull_0 3 rfl rfl)
theorem dJ3_fillNull_4 : decode cJ3_fillNull 4 = .ok (.iload_n 2, 1) := dk_28 (dk_at dksJ3_fillNull_0 4 rfl rfl)
theorem dJ3_fillNull_5 : decode cJ3_fillNull 5 = .ok (.iconst 1, 1) := dk_4 (dk_at dksJ3_fillNull_0 5 rfl rfl)
theorem dJ3_fillNull_6 : decode cJ3_fillNull 6 = .ok (.ishl, 1) := dk_120 (dk_at dksJ3_fillNull_0 6 rfl rfl)
theorem dJ3_fillNull_7 : decode cJ3_fillNull 7 = .ok (.iconst 0, 1) := dk_3 (dk_at dksJ3_fillNull_0 7 rfl rfl)
theorem dJ3_fillNull_8 : decode cJ3_fillNull 8 = .ok (.invokestatic 380, 3) := dk_184 1 124 (dk_at dksJ3_fillNull_0 8 rfl rfl)
theorem dJ3_fillNull_11 : decode cJ3_fillNull 11 = .ok (.return_, 1) := dk_177 (dk_at dksJ3_fillNull_0 11 rfl rfl)
abbrev cJ3_putCharsSB : ByteArray := prog_47_method_73_code
def yJ3_putCharsSB : MethodName := ⟨RJ3, "putCharsSB", "([BILjava/lang/CharSequence;II)V"⟩
def dkwJ3_putCharsSB_1 : List UInt8 := [132, 1, 1, 44, 21, 5, 185, 1, 132, 2, 0, 184, 0, 111, 132, 5, 1, 167, 255, 230, 177]
abbrev dktJ3_putCharsSB_1 : List UInt8 := dkwJ3_putCharsSB_1 ++ []
def dkwJ3_putCharsSB_0 : List UInt8 := [27, 27, 21, 4, 96, 29, 100, 42, 184, 0, 96, 29, 54, 5, 21, 5, 21, 4, 162, 0, 25, 42, 27]
abbrev dktJ3_putCharsSB_0 : List UInt8 := dkwJ3_putCharsSB_0 ++ dktJ3_putCharsSB_1
theorem dksJ3_putCharsSB_0 : cJ3_putCharsSB.data.toList.drop 0 = dktJ3_putCharsSB_0 := by decide +kernel
theorem dksJ3_putCharsSB_1 : cJ3_putCharsSB.data.toList.drop 23 = dktJ3_putCharsSB_1 := dk_seg dksJ3_putCharsSB_0 23 rfl rfl
theorem dJ3_putCharsSB_0 : decode cJ3_putCharsSB 0 = .ok (.iload_n 1, 1) := dk_27 (dk_at dksJ3_putCharsSB_0 0 rfl rfl)
theorem dJ3_putCharsSB_1 : decode cJ3_putCharsSB 1 = .ok (.iload_n 1, 1) := dk_27 (dk_at dksJ3_putCharsSB_0 1 rfl rfl)
theorem dJ3_putCharsSB_2 : decode cJ3_putCharsSB 2 = .ok (.iload 4, 2) := dk_21 4 (dk_at dksJ3_putCharsSB_0 2 rfl rfl)
theorem dJ3_putCharsSB_4 : decode cJ3_putCharsSB 4 = .ok (.iadd, 1) := dk_96 (dk_at dksJ3_putCharsSB_0 4 rfl rfl)
theorem dJ3_putCharsSB_5 : decode cJ3_putCharsSB 5 = .ok (.iload_n 3, 1) := dk_29 (dk_at dksJ3_putCharsSB_0 5 rfl rfl)
theorem dJ3_putCharsSB_6 : decode cJ3_putCharsSB 6 = .ok (.isub, 1) := dk_100 (dk_at dksJ3_putCharsSB_0 6 rfl rfl)
theorem dJ3_putCharsSB_7 : decode cJ3_putCharsSB 7 = .ok (.aload_n 0, 1) := dk_42 (dk_at dksJ3_putCharsSB_0 7 rfl rfl)
theorem dJ3_putCharsSB_8 : decode cJ3_putCharsSB 8 = .ok (.invokestatic 96, 3) := dk_184 0 96 (dk_at dksJ3_putCharsSB_0 8 rfl rfl)
theorem dJ3_putCharsSB_11 : decode cJ3_putCharsSB 11 = .ok (.iload_n 3, 1) := dk_29 (dk_at dksJ3_putCharsSB_0 11 rfl rfl)
theorem dJ3_putCharsSB_12 : decode cJ3_putCharsSB 12 = .ok (.istore 5, 2) := dk_54 5 (dk_at dksJ3_putCharsSB_0 12 rfl rfl)
theorem dJ3_putCharsSB_14 : decode cJ3_putCharsSB 14 = .ok (.iload 5, 2) := dk_21 5 (dk_at dksJ3_putCharsSB_0 14 rfl rfl)
theorem dJ3_putCharsSB_16 : decode cJ3_putCharsSB 16 = .ok (.iload 4, 2) := dk_21 4 (dk_at dksJ3_putCharsSB_0 16 rfl rfl)
theorem dJ3_putCharsSB_18 : decode cJ3_putCharsSB 18 = .ok (.if_icmp .ge 25, 3) := dk_162 0 25 (dk_at dksJ3_putCharsSB_0 18 rfl rfl)
theorem dJ3_putCharsSB_21 : decode cJ3_putCharsSB 21 = .ok (.aload_n 0, 1) := dk_42 (dk_at dksJ3_putCharsSB_0 21 rfl rfl)
theorem dJ3_putCharsSB_22 : decode cJ3_putCharsSB 22 = .ok (.iload_n 1, 1) := dk_27 (dk_at dksJ3_putCharsSB_0 22 rfl rfl)
theorem dJ3_putCharsSB_23 : decode cJ3_putCharsSB 23 = .ok (.iinc 1 1, 3) := dk_132 1 1 (dk_at dksJ3_putCharsSB_1 0 rfl rfl)
theorem dJ3_putCharsSB_26 : decode cJ3_putCharsSB 26 = .ok (.aload_n 2, 1) := dk_44 (dk_at dksJ3_putCharsSB_1 3 rfl rfl)
theorem dJ3_putCharsSB_27 : decode cJ3_putCharsSB 27 = .ok (.iload 5, 2) := dk_21 5 (dk_at dksJ3_putCharsSB_1 4 rfl rfl)
theorem dJ3_putCharsSB_29 : decode cJ3_putCharsSB 29 = .ok (.invokeinterface 388 2, 5) := by decide +kernel
theorem dJ3_putCharsSB_34 : decode cJ3_putCharsSB 34 = .ok (.invokestatic 111, 3) := dk_184 0 111 (dk_at dksJ3_putCharsSB_1 11 rfl rfl)
theorem dJ3_putCharsSB_37 : decode cJ3_putCharsSB 37 = .ok (.iinc 5 1, 3) := dk_132 5 1 (dk_at dksJ3_putCharsSB_1 14 rfl rfl)
theorem dJ3_putCharsSB_40 : decode cJ3_putCharsSB 40 = .ok (.goto (-26), 3) := dk_167 255 230 (dk_at dksJ3_putCharsSB_1 17 rfl rfl)
theorem dJ3_putCharsSB_43 : decode cJ3_putCharsSB 43 = .ok (.return_, 1) := dk_177 (dk_at dksJ3_putCharsSB_1 20 rfl rfl)
theorem q127 : (Jvm.Cond.initialized "java/lang/StringUTF16") ∈ lw_all := lw_g (lw_at lw_m1 7 rfl) rfl
theorem q211 : (Jvm.Cond.static ({ cls := "java/lang/StringUTF16", name := "newBytesFor", desc := "(I)[B" } : Jvm.MethodName)) ∈ lw_all := lw_g (lw_at lw_m1 91 rfl) rfl
theorem q212 : (Jvm.Cond.code ({ cls := "java/lang/StringUTF16", name := "newBytesFor", desc := "(I)[B" } : Jvm.MethodName) prog_47_method_2_code (1 : Nat) (Option.some (Jvm.ClassFile.FieldType.array Jvm.ClassFile.FieldType.byte))) ∈ lw_all := lw_g (lw_at lw_m1 92 rfl) rfl
theorem q213 : (Jvm.Cond.methodLink "java/lang/StringUTF16" (11 : Nat) ({ cls := "java/lang/StringUTF16", name := "newBytesLength", desc := "(I)I" } : Jvm.MethodName)) ∈ lw_all := lw_g (lw_at lw_m1 93 rfl) rfl
theorem q214 : (Jvm.Cond.static ({ cls := "java/lang/StringUTF16", name := "newBytesLength", desc := "(I)I" } : Jvm.MethodName)) ∈ lw_all := lw_g (lw_at lw_m1 94 rfl) rfl
theorem q215 : (Jvm.Cond.code ({ cls := "java/lang/StringUTF16", name := "newBytesLength", desc := "(I)I" } : Jvm.MethodName) prog_47_method_3_code (1 : Nat) (Option.some Jvm.ClassFile.FieldType.int)) ∈ lw_all := lw_g (lw_at lw_m1 95 rfl) rfl
theorem q216 : (Jvm.Cond.classLink "java/lang/StringUTF16" (17 : Nat) "java/lang/NegativeArraySizeException") ∈ lw_all := lw_g (lw_at lw_m1 96 rfl) rfl
theorem q277 : (Jvm.Cond.methodLink "java/lang/StringUTF16" (19 : Nat) ({ cls := "java/lang/NegativeArraySizeException", name := "<init>", desc := "()V" } : Jvm.MethodName)) ∈ lw_all := lw_g (lw_at lw_m1 157 rfl) rfl
theorem q301 : (Jvm.Cond.constant "java/lang/StringUTF16" (20 : Nat) (1073741823 : Int32)) ∈ lw_all := lw_g (lw_at lw_m1 181 rfl) rfl
theorem q909 : (Jvm.Cond.static ({ cls := "java/lang/StringUTF16", name := "charAt", desc := "([BI)C" } : Jvm.MethodName)) ∈ lw_all := lw_g (lw_at lw_m4 69 rfl) rfl
theorem q910 : (Jvm.Cond.code ({ cls := "java/lang/StringUTF16", name := "charAt", desc := "([BI)C" } : Jvm.MethodName) prog_47_method_83_code (2 : Nat) (Option.some Jvm.ClassFile.FieldType.char)) ∈ lw_all := lw_g (lw_at lw_m4 70 rfl) rfl
theorem q911 : (Jvm.Cond.methodLink "java/lang/StringUTF16" (67 : Nat) ({ cls := "java/lang/StringUTF16", name := "checkIndex", desc := "(I[B)V" } : Jvm.MethodName)) ∈ lw_all := lw_g (lw_at lw_m4 71 rfl) rfl
theorem q912 : (Jvm.Cond.static ({ cls := "java/lang/StringUTF16", name := "checkIndex", desc := "(I[B)V" } : Jvm.MethodName)) ∈ lw_all := lw_g (lw_at lw_m4 72 rfl) rfl
theorem q913 : (Jvm.Cond.code ({ cls := "java/lang/StringUTF16", name := "checkIndex", desc := "(I[B)V" } : Jvm.MethodName) prog_47_method_91_code (2 : Nat) (Option.none : Option Jvm.ClassFile.FieldType)) ∈ lw_all := lw_g (lw_at lw_m4 73 rfl) rfl
theorem q914 : (Jvm.Cond.methodLink "java/lang/StringUTF16" (48 : Nat) ({ cls := "java/lang/StringUTF16", name := "length", desc := "([B)I" } : Jvm.MethodName)) ∈ lw_all := lw_g (lw_at lw_m4 74 rfl) rfl
theorem q915 : (Jvm.Cond.static ({ cls := "java/lang/StringUTF16", name := "length", desc := "([B)I" } : Jvm.MethodName)) ∈ lw_all := lw_g (lw_at lw_m4 75 rfl) rfl
theorem q916 : (Jvm.Cond.code ({ cls := "java/lang/StringUTF16", name := "length", desc := "([B)I" } : Jvm.MethodName) prog_47_method_6_code (1 : Nat) (Option.some Jvm.ClassFile.FieldType.int)) ∈ lw_all := lw_g (lw_at lw_m4 76 rfl) rfl
theorem q917 : (Jvm.Cond.methodLink "java/lang/StringUTF16" (414 : Nat) ({ cls := "java/lang/String", name := "checkIndex", desc := "(II)V" } : Jvm.MethodName)) ∈ lw_all := lw_g (lw_at lw_m4 77 rfl) rfl
theorem q918 : (Jvm.Cond.methodLink "java/lang/StringUTF16" (71 : Nat) ({ cls := "java/lang/StringUTF16", name := "getChar", desc := "([BI)C" } : Jvm.MethodName)) ∈ lw_all := lw_g (lw_at lw_m4 78 rfl) rfl
theorem q919 : (Jvm.Cond.static ({ cls := "java/lang/StringUTF16", name := "getChar", desc := "([BI)C" } : Jvm.MethodName)) ∈ lw_all := lw_g (lw_at lw_m4 79 rfl) rfl
theorem q920 : (Jvm.Cond.code ({ cls := "java/lang/StringUTF16", name := "getChar", desc := "([BI)C" } : Jvm.MethodName) prog_47_method_5_code (2 : Nat) (Option.some Jvm.ClassFile.FieldType.char)) ∈ lw_all := lw_g (lw_at lw_m4 80 rfl) rfl
theorem q921 : (Jvm.Cond.fieldLink "java/lang/StringUTF16" (44 : Nat) "java/lang/StringUTF16" "$assertionsDisabled" "Z") ∈ lw_all := lw_g (lw_at lw_m4 81 rfl) rfl
theorem q922 : (Jvm.Cond.laysStatic "java/lang/StringUTF16" "$assertionsDisabled" "Z") ∈ lw_tbl := lw_at lw_m4 82 rfl
theorem q923 : (Jvm.Cond.fieldLink "java/lang/StringUTF16" (59 : Nat) "java/lang/StringUTF16" "HI_BYTE_SHIFT" "I") ∈ lw_all := lw_g (lw_at lw_m4 83 rfl) rfl
theorem q924 : (Jvm.Cond.laysStatic "java/lang/StringUTF16" "HI_BYTE_SHIFT" "I") ∈ lw_tbl := lw_at lw_m4 84 rfl
theorem q925 : (Jvm.Cond.fieldLink "java/lang/StringUTF16" (63 : Nat) "java/lang/StringUTF16" "LO_BYTE_SHIFT" "I") ∈ lw_all := lw_g (lw_at lw_m4 85 rfl) rfl
theorem q926 : (Jvm.Cond.laysStatic "java/lang/StringUTF16" "LO_BYTE_SHIFT" "I") ∈ lw_tbl := lw_at lw_m4 86 rfl
theorem q1064 : (Jvm.Cond.static ({ cls := "java/lang/StringUTF16", name := "putCharsAt", desc := "([BICCCC)I" } : Jvm.MethodName)) ∈ lw_all := lw_g (lw_at lw_m4 224 rfl) rfl
theorem q1065 : (Jvm.Cond.code ({ cls := "java/lang/StringUTF16", name := "putCharsAt", desc := "([BICCCC)I" } : Jvm.MethodName) prog_47_method_81_code (7 : Nat) (Option.some Jvm.ClassFile.FieldType.int)) ∈ lw_all := lw_g (lw_at lw_m4 225 rfl) rfl
theorem q1066 : (Jvm.Cond.methodLink "java/lang/StringUTF16" (96 : Nat) ({ cls := "java/lang/StringUTF16", name := "checkBoundsBeginEnd", desc := "(II[B)V" } : Jvm.MethodName)) ∈ lw_all := lw_g (lw_at lw_m4 226 rfl) rfl
theorem q1067 : (Jvm.Cond.static ({ cls := "java/lang/StringUTF16", name := "checkBoundsBeginEnd", desc := "(II[B)V" } : Jvm.MethodName)) ∈ lw_all := lw_g (lw_at lw_m4 227 rfl) rfl
theorem q1068 : (Jvm.Cond.code ({ cls := "java/lang/StringUTF16", name := "checkBoundsBeginEnd", desc := "(II[B)V" } : Jvm.MethodName) prog_47_method_93_code (3 : Nat) (Option.none : Option Jvm.ClassFile.FieldType)) ∈ lw_all := lw_g (lw_at lw_m4 228 rfl) rfl
theorem q1069 : (Jvm.Cond.methodLink "java/lang/StringUTF16" (241 : Nat) ({ cls := "java/lang/String", name := "checkBoundsBeginEnd", desc := "(III)V" } : Jvm.MethodName)) ∈ lw_all := lw_g (lw_at lw_m4 229 rfl) rfl
theorem q1075 : (Jvm.Cond.methodLink "java/lang/StringUTF16" (111 : Nat) ({ cls := "java/lang/StringUTF16", name := "putChar", desc := "([BII)V" } : Jvm.MethodName)) ∈ lw_all := lw_g (lw_at lw_m4 235 rfl) rfl
theorem q1076 : (Jvm.Cond.static ({ cls := "java/lang/StringUTF16", name := "putChar", desc := "([BII)V" } : Jvm.MethodName)) ∈ lw_all := lw_g (lw_at lw_m4 236 rfl) rfl
theorem q1077 : (Jvm.Cond.code ({ cls := "java/lang/StringUTF16", name := "putChar", desc := "([BII)V" } : Jvm.MethodName) prog_47_method_4_code (3 : Nat) (Option.none : Option Jvm.ClassFile.FieldType)) ∈ lw_all := lw_g (lw_at lw_m4 237 rfl) rfl
theorem q1096 : (Jvm.Cond.static ({ cls := "java/lang/StringUTF16", name := "inflate", desc := "([BI[BII)V" } : Jvm.MethodName)) ∈ lw_all := lw_g (lw_at lw_m5 16 rfl) rfl
theorem q1097 : (Jvm.Cond.code ({ cls := "java/lang/StringUTF16", name := "inflate", desc := "([BI[BII)V" } : Jvm.MethodName) prog_47_method_86_code (6 : Nat) (Option.none : Option Jvm.ClassFile.FieldType)) ∈ lw_all := lw_g (lw_at lw_m5 17 rfl) rfl
theorem q1098 : (Jvm.Cond.methodLink "java/lang/StringUTF16" (173 : Nat) ({ cls := "java/lang/StringUTF16", name := "checkBoundsOffCount", desc := "(II[B)V" } : Jvm.MethodName)) ∈ lw_all := lw_g (lw_at lw_m5 18 rfl) rfl
theorem q1099 : (Jvm.Cond.static ({ cls := "java/lang/StringUTF16", name := "checkBoundsOffCount", desc := "(II[B)V" } : Jvm.MethodName)) ∈ lw_all := lw_g (lw_at lw_m5 19 rfl) rfl
theorem q1100 : (Jvm.Cond.code ({ cls := "java/lang/StringUTF16", name := "checkBoundsOffCount", desc := "(II[B)V" } : Jvm.MethodName) prog_47_method_94_code (3 : Nat) (Option.none : Option Jvm.ClassFile.FieldType)) ∈ lw_all := lw_g (lw_at lw_m5 20 rfl) rfl
theorem q1101 : (Jvm.Cond.methodLink "java/lang/StringUTF16" (419 : Nat) ({ cls := "java/lang/String", name := "checkBoundsOffCount", desc := "(III)I" } : Jvm.MethodName)) ∈ lw_all := lw_g (lw_at lw_m5 21 rfl) rfl
theorem q1124 : (Jvm.Cond.static ({ cls := "java/lang/StringUTF16", name := "putCharSB", desc := "([BII)V" } : Jvm.MethodName)) ∈ lw_all := lw_g (lw_at lw_m5 44 rfl) rfl
theorem q1125 : (Jvm.Cond.code ({ cls := "java/lang/StringUTF16", name := "putCharSB", desc := "([BII)V" } : Jvm.MethodName) prog_47_method_71_code (3 : Nat) (Option.none : Option Jvm.ClassFile.FieldType)) ∈ lw_all := lw_g (lw_at lw_m5 45 rfl) rfl
theorem q1162 : (Jvm.Cond.static ({ cls := "java/lang/StringUTF16", name := "compress", desc := "([BII)[B" } : Jvm.MethodName)) ∈ lw_all := lw_g (lw_at lw_m5 82 rfl) rfl
theorem q1163 : (Jvm.Cond.code ({ cls := "java/lang/StringUTF16", name := "compress", desc := "([BII)[B" } : Jvm.MethodName) prog_47_method_17_code (6 : Nat) (Option.some (Jvm.ClassFile.FieldType.array Jvm.ClassFile.FieldType.byte))) ∈ lw_all := lw_g (lw_at lw_m5 83 rfl) rfl
theorem q1164 : (Jvm.Cond.methodLink "java/lang/StringUTF16" (123 : Nat) ({ cls := "java/lang/StringUTF16", name := "compress", desc := "([BI[BII)I" } : Jvm.MethodName)) ∈ lw_all := lw_g (lw_at lw_m5 84 rfl) rfl
theorem q1165 : (Jvm.Cond.static ({ cls := "java/lang/StringUTF16", name := "compress", desc := "([BI[BII)I" } : Jvm.MethodName)) ∈ lw_all := lw_g (lw_at lw_m5 85 rfl) rfl
theorem q1166 : (Jvm.Cond.code ({ cls := "java/lang/StringUTF16", name := "compress", desc := "([BI[BII)I" } : Jvm.MethodName) prog_47_method_22_code (7 : Nat) (Option.some Jvm.ClassFile.FieldType.int)) ∈ lw_all := lw_g (lw_at lw_m5 86 rfl) rfl
theorem q1167 : (Jvm.Cond.methodLink "java/lang/StringUTF16" (126 : Nat) ({ cls := "java/util/Arrays", name := "copyOfRange", desc := "([BII)[B" } : Jvm.MethodName)) ∈ lw_all := lw_g (lw_at lw_m5 87 rfl) rfl
theorem q1169 : (Jvm.Cond.static ({ cls := "java/lang/StringUTF16", name := "coderFromArrayLen", desc := "([BI)B" } : Jvm.MethodName)) ∈ lw_all := lw_g (lw_at lw_m5 89 rfl) rfl
theorem q1170 : (Jvm.Cond.code ({ cls := "java/lang/StringUTF16", name := "coderFromArrayLen", desc := "([BI)B" } : Jvm.MethodName) prog_47_method_15_code (2 : Nat) (Option.some Jvm.ClassFile.FieldType.byte)) ∈ lw_all := lw_g (lw_at lw_m5 90 rfl) rfl
theorem q1227 : (Jvm.Cond.static ({ cls := "java/lang/StringUTF16", name := "hashCode", desc := "([B)I" } : Jvm.MethodName)) ∈ lw_all := lw_g (lw_at lw_m5 147 rfl) rfl
theorem q1228 : (Jvm.Cond.code ({ cls := "java/lang/StringUTF16", name := "hashCode", desc := "([B)I" } : Jvm.MethodName) prog_47_method_39_code (1 : Nat) (Option.some Jvm.ClassFile.FieldType.int)) ∈ lw_all := lw_g (lw_at lw_m5 148 rfl) rfl
theorem q1229 : (Jvm.Cond.methodLink "java/lang/StringUTF16" (220 : Nat) ({ cls := "jdk/internal/util/ArraysSupport", name := "vectorizedHashCode", desc := "(Ljava/lang/Object;IIII)I" } : Jvm.MethodName)) ∈ lw_all := lw_g (lw_at lw_m5 149 rfl) rfl
theorem q1777 : (Jvm.Cond.static ({ cls := "java/lang/StringUTF16", name := "newString", desc := "([BII)Ljava/lang/String;" } : Jvm.MethodName)) ∈ lw_all := lw_g (lw_at lw_m7 217 rfl) rfl
theorem q1778 : (Jvm.Cond.code ({ cls := "java/lang/StringUTF16", name := "newString", desc := "([BII)Ljava/lang/String;" } : Jvm.MethodName) prog_47_method_69_code (5 : Nat) (Option.some (Jvm.ClassFile.FieldType.object "java/lang/String"))) ∈ lw_all := lw_g (lw_at lw_m7 218 rfl) rfl
theorem q1779 : (Jvm.Cond.stringRef "java/lang/StringUTF16" (295 : Nat) "") ∈ lw_tbl := lw_at lw_m7 219 rfl
theorem q1780 : (Jvm.Cond.fieldLink "java/lang/StringUTF16" (251 : Nat) "java/lang/String" "COMPACT_STRINGS" "Z") ∈ lw_all := lw_g (lw_at lw_m7 220 rfl) rfl
theorem q1781 : (Jvm.Cond.methodLink "java/lang/StringUTF16" (257 : Nat) ({ cls := "java/lang/StringUTF16", name := "compress", desc := "([BII)[B" } : Jvm.MethodName)) ∈ lw_all := lw_g (lw_at lw_m7 221 rfl) rfl
theorem q1782 : (Jvm.Cond.methodLink "java/lang/StringUTF16" (259 : Nat) ({ cls := "java/lang/StringUTF16", name := "coderFromArrayLen", desc := "([BI)B" } : Jvm.MethodName)) ∈ lw_all := lw_g (lw_at lw_m7 222 rfl) rfl
theorem q1783 : (Jvm.Cond.classLink "java/lang/StringUTF16" (3 : Nat) "java/lang/String") ∈ lw_all := lw_g (lw_at lw_m7 223 rfl) rfl
theorem q1784 : (Jvm.Cond.methodLink "java/lang/StringUTF16" (263 : Nat) ({ cls := "java/lang/String", name := "<init>", desc := "([BB)V" } : Jvm.MethodName)) ∈ lw_all := lw_g (lw_at lw_m7 224 rfl) rfl
theorem q1853 : (Jvm.Cond.static ({ cls := "java/lang/StringUTF16", name := "getChars", desc := "(III[B)I" } : Jvm.MethodName)) ∈ lw_all := lw_g (lw_at lw_m8 53 rfl) rfl
theorem q1854 : (Jvm.Cond.code ({ cls := "java/lang/StringUTF16", name := "getChars", desc := "(III[B)I" } : Jvm.MethodName) prog_47_method_77_code (5 : Nat) (Option.some Jvm.ClassFile.FieldType.int)) ∈ lw_all := lw_g (lw_at lw_m8 54 rfl) rfl
theorem q1855 : (Jvm.Cond.methodLink "java/lang/StringUTF16" (393 : Nat) ({ cls := "java/lang/StringUTF16", name := "getChars", desc := "(II[B)I" } : Jvm.MethodName)) ∈ lw_all := lw_g (lw_at lw_m8 55 rfl) rfl
theorem q1856 : (Jvm.Cond.static ({ cls := "java/lang/StringUTF16", name := "getChars", desc := "(II[B)I" } : Jvm.MethodName)) ∈ lw_all := lw_g (lw_at lw_m8 56 rfl) rfl
theorem q1857 : (Jvm.Cond.code ({ cls := "java/lang/StringUTF16", name := "getChars", desc := "(II[B)I" } : Jvm.MethodName) prog_47_method_89_code (7 : Nat) (Option.some Jvm.ClassFile.FieldType.int)) ∈ lw_all := lw_g (lw_at lw_m8 57 rfl) rfl
theorem q1858 : (Jvm.Cond.fieldLink "java/lang/StringUTF16" (403 : Nat) "java/lang/Integer" "DigitOnes" "[B") ∈ lw_all := lw_g (lw_at lw_m8 58 rfl) rfl
theorem q1859 : (Jvm.Cond.fieldLink "java/lang/StringUTF16" (407 : Nat) "java/lang/Integer" "DigitTens" "[B") ∈ lw_all := lw_g (lw_at lw_m8 59 rfl) rfl
theorem q2855 : (Jvm.Cond.static ({ cls := "java/lang/StringUTF16", name := "fillNull", desc := "([BII)V" } : Jvm.MethodName)) ∈ lw_all := lw_g (lw_at lw_m12 95 rfl) rfl
theorem q2856 : (Jvm.Cond.code ({ cls := "java/lang/StringUTF16", name := "fillNull", desc := "([BII)V" } : Jvm.MethodName) prog_47_method_70_code (3 : Nat) (Option.none : Option Jvm.ClassFile.FieldType)) ∈ lw_all := lw_g (lw_at lw_m12 96 rfl) rfl
theorem q2857 : (Jvm.Cond.methodLink "java/lang/StringUTF16" (380 : Nat) ({ cls := "java/util/Arrays", name := "fill", desc := "([BIIB)V" } : Jvm.MethodName)) ∈ lw_all := lw_g (lw_at lw_m12 97 rfl) rfl
theorem q2918 : (Jvm.Cond.static ({ cls := "java/lang/StringUTF16", name := "putCharsSB", desc := "([BILjava/lang/CharSequence;II)V" } : Jvm.MethodName)) ∈ lw_all := lw_g (lw_at lw_m12 158 rfl) rfl
theorem q2919 : (Jvm.Cond.code ({ cls := "java/lang/StringUTF16", name := "putCharsSB", desc := "([BILjava/lang/CharSequence;II)V" } : Jvm.MethodName) prog_47_method_73_code (6 : Nat) (Option.none : Option Jvm.ClassFile.FieldType)) ∈ lw_all := lw_g (lw_at lw_m12 159 rfl) rfl
theorem q2920 : (Jvm.Cond.interfaceEntry "java/lang/StringUTF16" (388 : Nat)) ∈ lw_tbl := lw_at lw_m12 160 rfl
theorem q2921 : (Jvm.Cond.methodLink "java/lang/StringUTF16" (388 : Nat) ({ cls := "java/lang/CharSequence", name := "charAt", desc := "(I)C" } : Jvm.MethodName)) ∈ lw_all := lw_g (lw_at lw_m12 161 rfl) rfl

/-! java/lang/Throwable -/
set_option maxRecDepth 100000
def RJ4 : String := "java/lang/Throwable"
def TJ4 : u_T := fun k => match k with
  | 0 => ("java/lang/Throwable", "cause", "Ljava/lang/Throwable;", false)
  | 1 => ("java/lang/Throwable", "stackTrace", "[Ljava/lang/StackTraceElement;", false)
  | 2 => ("java/lang/Throwable", "suppressedExceptions", "Ljava/util/List;", false)
  | 3 => ("java/lang/Throwable", "detailMessage", "Ljava/lang/String;", false)
  | _ => ("java/lang/Throwable", "backtrace", "Ljava/lang/Object;", false)
def tyJ4 : Nat → FieldType := fun k => match k with
  | 0 => .object "java/lang/Throwable"
  | 1 => .array (.object "java/lang/StackTraceElement")
  | 2 => .object "java/util/List"
  | 3 => .object "java/lang/String"
  | _ => .object "java/lang/Object"
abbrev wsJ40 : List Cond := u_ws RJ4 TJ4 5
theorem nmJ4 : ∀ a, a < 5 → ∀ b, b < 5 → a ≠ b → (TJ4 a).2.1 ≠ (TJ4 b).2.1 := by decide +kernel
theorem tyJ4_ok : ∀ k, k < 5 → parseFieldDescriptor (TJ4 k).2.2.1 = some (tyJ4 k) := by decide +kernel
abbrev cJ4_init : ByteArray := prog_50_method_1_code
def yJ4_init : MethodName := ⟨RJ4, "<init>", "()V"⟩
def dkwJ4_init_1 : List UInt8 := [182, 0, 27, 87, 177]
abbrev dktJ4_init_1 : List UInt8 := dkwJ4_init_1 ++ []
def dkwJ4_init_0 : List UInt8 := [42, 183, 0, 1, 42, 42, 181, 0, 7, 42, 178, 0, 13, 181, 0, 17, 42, 178, 0, 20, 181, 0, 24, 42]
abbrev dktJ4_init_0 : List UInt8 := dkwJ4_init_0 ++ dktJ4_init_1
theorem dksJ4_init_0 : cJ4_init.data.toList.drop 0 = dktJ4_init_0 := by decide +kernel
theorem dksJ4_init_1 : cJ4_init.data.toList.drop 24 = dktJ4_init_1 := dk_seg dksJ4_init_0 24 rfl rfl
theorem dJ4_init_0 : decode cJ4_init 0 = .ok (.aload_n 0, 1) := dk_42 (dk_at dksJ4_init_0 0 rfl rfl)
theorem dJ4_init_1 : decode cJ4_init 1 = .ok (.invokespecial 1, 3) := dk_183 0 1 (dk_at dksJ4_init_0 1 rfl rfl)
theorem dJ4_init_4 : decode cJ4_init 4 = .ok (.aload_n 0, 1) := dk_42 (dk_at dksJ4_init_0 4 rfl rfl)
theorem dJ4_init_5 : decode cJ4_init 5 = .ok (.aload_n 0, 1) := dk_42 (dk_at dksJ4_init_0 5 rfl rfl)
theorem dJ4_init_6 : decode cJ4_init 6 = .ok (.putfield 7, 3) := dk_181 0 7 (dk_at dksJ4_init_0 6 rfl rfl)
theorem dJ4_init_9 : decode cJ4_init 9 = .ok (.aload_n 0, 1) := dk_42 (dk_at dksJ4_init_0 9 rfl rfl)
theorem dJ4_init_10 : decode cJ4_init 10 = .ok (.getstatic 13, 3) := dk_178 0 13 (dk_at dksJ4_init_0 10 rfl rfl)
theorem dJ4_init_13 : decode cJ4_init 13 = .ok (.putfield 17, 3) := dk_181 0 17 (dk_at dksJ4_init_0 13 rfl rfl)
theorem dJ4_init_16 : decode cJ4_init 16 = .ok (.aload_n 0, 1) := dk_42 (dk_at dksJ4_init_0 16 rfl rfl)
theorem dJ4_init_17 : decode cJ4_init 17 = .ok (.getstatic 20, 3) := dk_178 0 20 (dk_at dksJ4_init_0 17 rfl rfl)
theorem dJ4_init_20 : decode cJ4_init 20 = .ok (.putfield 24, 3) := dk_181 0 24 (dk_at dksJ4_init_0 20 rfl rfl)
theorem dJ4_init_23 : decode cJ4_init 23 = .ok (.aload_n 0, 1) := dk_42 (dk_at dksJ4_init_0 23 rfl rfl)
theorem dJ4_init_24 : decode cJ4_init 24 = .ok (.invokevirtual 27, 3) := dk_182 0 27 (dk_at dksJ4_init_1 0 rfl rfl)
theorem dJ4_init_27 : decode cJ4_init 27 = .ok (.pop, 1) := dk_87 (dk_at dksJ4_init_1 3 rfl rfl)
theorem dJ4_init_28 : decode cJ4_init 28 = .ok (.return_, 1) := dk_177 (dk_at dksJ4_init_1 4 rfl rfl)
abbrev cJ4_init_2 : ByteArray := prog_50_method_2_code
def yJ4_init_2 : MethodName := ⟨RJ4, "<init>", "(Ljava/lang/String;)V"⟩
def dkwJ4_init_2_1 : List UInt8 := [182, 0, 27, 87, 42, 43, 181, 0, 31, 177]
abbrev dktJ4_init_2_1 : List UInt8 := dkwJ4_init_2_1 ++ []
def dkwJ4_init_2_0 : List UInt8 := [42, 183, 0, 1, 42, 42, 181, 0, 7, 42, 178, 0, 13, 181, 0, 17, 42, 178, 0, 20, 181, 0, 24, 42]
abbrev dktJ4_init_2_0 : List UInt8 := dkwJ4_init_2_0 ++ dktJ4_init_2_1
theorem dksJ4_init_2_0 : cJ4_init_2.data.toList.drop 0 = dktJ4_init_2_0 := by decide +kernel
theorem dksJ4_init_2_1 : cJ4_init_2.data.toList.drop 24 = dktJ4_init_2_1 := dk_seg dksJ4_init_2_0 24 rfl rfl
theorem dJ4_init_2_0 : decode cJ4_init_2 0 = .ok (.aload_n 0, 1) := dk_42 (dk_at dksJ4_init_2_0 0 rfl rfl)
theorem dJ4_init_2_1 : decode cJ4_init_2 1 = .ok (.invokespecial 1, 3) := dk_183 0 1 (dk_at dksJ4_init_2_0 1 rfl rfl)
theorem dJ4_init_2_4 : decode cJ4_init_2 4 = .ok (.aload_n 0, 1) := dk_42 (dk_at dksJ4_init_2_0 4 rfl rfl)
theorem dJ4_init_2_5 : decode cJ4_init_2 5 = .ok (.aload_n 0, 1) := dk_42 (dk_at dksJ4_init_2_0 5 rfl rfl)
theorem dJ4_init_2_6 : decode cJ4_init_2 6 = .ok (.putfield 7, 3) := dk_181 0 7 (dk_at dksJ4_init_2_0 6 rfl rfl)
theorem dJ4_init_2_9 : decode cJ4_init_2 9 = .ok (.aload_n 0, 1) := dk_42 (dk_at dksJ4_init_2_0 9 rfl rfl)
theorem dJ4_init_2_10 : decode cJ4_init_2 10 = .ok (.getstatic 13, 3) := dk_178 0 13 (dk_at dksJ4_init_2_0 10 rfl rfl)
theorem dJ4_init_2_13 : decode cJ4_init_2 13 = .ok (.putfield 17, 3) := dk_181 0 17 (dk_at dksJ4_init_2_0 13 rfl rfl)
theorem dJ4_init_2_16 : decode cJ4_init_2 16 = .ok (.aload_n 0, 1) := dk_42 (dk_at dksJ4_init_2_0 16 rfl rfl)
theorem dJ4_init_2_17 : decode cJ4_init_2 17 = .ok (.getstatic 20, 3) := dk_178 0 20 (dk_at dksJ4_init_2_0 17 rfl rfl)
theorem dJ4_init_2_20 : decode cJ4_init_2 20 = .ok (.putfield 24, 3) := dk_181 0 24 (dk_at dksJ4_init_2_0 20 rfl rfl)
theorem dJ4_init_2_23 : decode cJ4_init_2 23 = .ok (.aload_n 0, 1) := dk_42 (dk_at dksJ4_init_2_0 23 rfl rfl)
theorem dJ4_init_2_24 : decode cJ4_init_2 24 = .ok (.invokevirtual 27, 3) := dk_182 0 27 (dk_at dksJ4_init_2_1 0 rfl rfl)
theorem dJ4_init_2_27 : decode cJ4_init_2 27 = .ok (.pop, 1) := dk_87 (dk_at dksJ4_init_2_1 3 rfl rfl)
theorem dJ4_init_2_28 : decode cJ4_init_2 28 = .ok (.aload_n 0, 1) := dk_42 (dk_at dksJ4_init_2_1 4 rfl rfl)
theorem dJ4_init_2_29 : decode cJ4_init_2 29 = .ok (.aload_n 1, 1) := dk_43 (dk_at dksJ4_init_2_1 5 rfl rfl)
theorem dJ4_init_2_30 : decode cJ4_init_2 30 = .ok (.putfield 31, 3) := dk_181 0 31 (dk_at dksJ4_init_2_1 6 rfl rfl)
theorem dJ4_init_2_33 : decode cJ4_init_2 33 = .ok (.return_, 1) := dk_177 (dk_at dksJ4_init_2_1 9 rfl rfl)
abbrev cJ4_init_3 : ByteArray := prog_50_method_5_code
def yJ4_init_3 : MethodName := ⟨RJ4, "<init>", "(Ljava/lang/String;Ljava/lang/Throwable;ZZ)V"⟩
def dkwJ4_init_3_2 : List UInt8 := [44, 181, 0, 7, 29, 154, 0, 8, 42, 1, 181, 0, 24, 177]
abbrev dktJ4_init_3_2 : List UInt8 := dkwJ4_init_3_2 ++ []
def dkwJ4_init_3_1 : List UInt8 := [21, 4, 153, 0, 11, 42, 182, 0, 27, 87, 167, 0, 8, 42, 1, 181, 0, 17, 42, 43, 181, 0, 31, 42]
abbrev dktJ4_init_3_1 : List UInt8 := dkwJ4_init_3_1 ++ dktJ4_init_3_2
def dkwJ4_init_3_0 : List UInt8 := [42, 183, 0, 1, 42, 42, 181, 0, 7, 42, 178, 0, 13, 181, 0, 17, 42, 178, 0, 20, 181, 0, 24]
abbrev dktJ4_init_3_0 : List UInt8 := dkwJ4_init_3_0 ++ dktJ4_init_3_1
theorem dksJ4_init_3_0 : cJ4_init_3.data.toList.drop 0 = dktJ4_init_3_0 := by decide +kernel
theorem dksJ4_init_3_1 : cJ4_init_3.data.toList.drop 23 = dktJ4_init_3_1 := dk_seg dksJ4_init_3_0 23 rfl rfl
theorem dksJ4_init_3_2 : cJ4_init_3.data.toList.drop 47 = dktJ4_init_3_2 := dk_seg dksJ4_init_3_1 24 rfl rfl
theorem dJ4_init_3_0 : decode cJ4_init_3 0 = .ok (.aload_n 0, 1) := dk_42 (dk_at dksJ4_init_3_0 0 rfl rfl)
theorem dJ4_init_3_1 : decode cJ4_init_3 1 = .ok (.invokespecial 1, 3) := dk_183 0 1 (dk_at dksJ4_init_3_0 1 rfl rfl)
theorem dJ4_init_3_4 : decode cJ4_init_3 4 = .ok (.aload_n 0, 1) := dk_42 (dk_at dksJ4_init_3_0 4 rfl rfl)
theorem dJ4_init_3_5 : decode cJ4_init_3 5 = .ok (.aload_n 0, 1) := dk_42 (dk_at dksJ4_init_3_0 5 rfl rfl)
theorem dJ4_init_3_6 : decode cJ4_init_3 6 = .ok (.putfield 7, 3) := dk_181 0 7 (dk_at dksJ4_init_3_0 6 rfl rfl)
theorem dJ4_init_3_9 : decode cJ4_init_3 9 = .ok (.aload_n 0, 1) := dk_42 (dk_at dksJ4_init_3_0 9 rfl rfl)
theorem dJ4_init_3_10 : decode cJ4_init_3 10 = .ok (.getstatic 13, 3) := dk_178 0 13 (dk_at dksJ4_init_3_0 10 rfl rfl)
theorem dJ4_init_3_13 : decode cJ4_init_3 13 = .ok (.putfield 17, 3) := dk_181 0 17 (dk_at dksJ4_init_3_0 13 rfl rfl)
theorem dJ4_init_3_16 : decode cJ4_init_3 16 = .ok (.aload_n 0, 1) := dk_42 (dk_at dksJ4_init_3_0 16 rfl rfl)
theorem dJ4_init_3_17 : decode cJ4_init_3 17 = .ok (.getstatic 20, 3) := dk_178 0 20 (dk_at dksJ4_init_3_0 17 rfl rfl)
theorem dJ4_init_3_20 : decode cJ4_init_3 20 = .ok (.putfield 24, 3) := dk_181 0 24 (dk_at dksJ4_init_3_0 20 rfl rfl)
theorem dJ4_init_3_23 : decode cJ4_init_3 23 = .ok (.iload 4, 2) := dk_21 4 (dk_at dksJ4_init_3_1 0 rfl rfl)
theorem dJ4_init_3_25 : decode cJ4_init_3 25 = .ok (.ifCond .eq 11, 3) := dk_153 0 11 (dk_at dksJ4_init_3_1 2 rfl rfl)
theorem dJ4_init_3_28 : decode cJ4_init_3 28 = .ok (.aload_n 0, 1) := dk_42 (dk_at dksJ4_init_3_1 5 rfl rfl)
theorem dJ4_init_3_29 : decode cJ4_init_3 29 = .ok (.invokevirtual 27, 3) := dk_182 0 27 (dk_at dksJ4_init_3_1 6 rfl rfl)
theorem dJ4_init_3_32 : decode cJ4_init_3 32 = .ok (.pop, 1) := dk_87 (dk_at dksJ4_init_3_1 9 rfl rfl)
theorem dJ4_init_3_33 : decode cJ4_init_3 33 = .ok (.goto 8, 3) := dk_167 0 8 (dk_at dksJ4_init_3_1 10 rfl rfl)
theorem dJ4_init_3_36 : decode cJ4_init_3 36 = .ok (.aload_n 0, 1) := dk_42 (dk_at dksJ4_init_3_1 13 rfl rfl)
theorem dJ4_init_3_37 : decode cJ4_init_3 37 = .ok (.aconst_null, 1) := dk_1 (dk_at dksJ4_init_3_1 14 rfl rfl)
theorem dJ4_init_3_38 : decode cJ4_init_3 38 = .ok (.putfield 17, 3) := dk_181 0 17 (dk_at dksJ4_init_3_1 15 rfl rfl)
theorem dJ4_init_3_41 : decode cJ4_init_3 41 = .ok (.aload_n 0, 1) := dk_42 (dk_at dksJ4_init_3_1 18 rfl rfl)
theorem dJ4_init_3_42 : decode cJ4_init_3 42 = .ok (.aload_n 1, 1) := dk_43 (dk_at dksJ4_init_3_1 19 rfl rfl)
theorem dJ4_init_3_43 : decode cJ4_init_3 43 = .ok (.putfield 31, 3) := dk_181 0 31 (dk_at dksJ4_init_3_1 20 rfl rfl)
theorem dJ4_init_3_46 : decode cJ4_init_3 46 = .ok (.aload_n 0, 1) := dk_42 (dk_at dksJ4_init_3_1 23 rfl rfl)
theorem dJ4_init_3_47 : decode cJ4_init_3 47 = .ok (.aload_n 2, 1) := dk_44 (dk_at dksJ4_init_3_2 0 rfl rfl)
theorem dJ4_init_3_48 : decode cJ4_init_3 48 = .ok (.putfield 7, 3) := dk_181 0 7 (dk_at dksJ4_init_3_2 1 rfl rfl)
theorem dJ4_init_3_51 : decode cJ4_init_3 51 = .ok (.iload_n 3, 1) := dk_29 (dk_at dksJ4_init_3_2 4 rfl rfl)
theorem dJ4_init_3_52 : decode cJ4_init_3 52 = .ok (.ifCond .ne 8, 3) := dk_154 0 8 (dk_at dksJ4_init_3_2 5 rfl rfl)
theorem dJ4_init_3_55 : decode cJ4_init_3 55 = .ok (.aload_n 0, 1) := dk_42 (dk_at dksJ4_init_3_2 8 rfl rfl)
theorem dJ4_init_3_56 : decode cJ4_init_3 56 = .ok (.aconst_null, 1) := dk_1 (dk_at dksJ4_init_3_2 9 rfl rfl)
theorem dJ4_init_3_57 : decode cJ4_init_3 57 = .ok (.putfield 24, 3) := dk_181 0 24 (dk_at dksJ4_init_3_2 10 rfl rfl)
theorem dJ4_init_3_60 : decode cJ4_init_3 60 = .ok (.return_, 1) := dk_177 (dk_at dksJ4_init_3_2 13 rfl rfl)
abbrev cJ4_init_4 : ByteArray := prog_50_method_4_code
def yJ4_init_4 : MethodName := ⟨RJ4, "<init>", "(Ljava/lang/Throwable;)V"⟩
def dkwJ4_init_4_2 : List UInt8 := [181, 0, 7, 177]
abbrev dktJ4_init_4_2 : List UInt8 := dkwJ4_init_4_2 ++ []
def dkwJ4_init_4_1 : List UInt8 := [182, 0, 27, 87, 42, 43, 199, 0, 7, 1, 167, 0, 7, 43, 182, 0, 35, 181, 0, 31, 42, 43]
abbrev dktJ4_init_4_1 : List UInt8 := dkwJ4_init_4_1 ++ dktJ4_init_4_2
def dkwJ4_init_4_0 : List UInt8 := [42, 183, 0, 1, 42, 42, 181, 0, 7, 42, 178, 0, 13, 181, 0, 17, 42, 178, 0, 20, 181, 0, 24, 42]
abbrev dktJ4_init_4_0 : List UInt8 := dkwJ4_init_4_0 ++ dktJ4_init_4_1
theorem dksJ4_init_4_0 : cJ4_init_4.data.toList.drop 0 = dktJ4_init_4_0 := by decide +kernel
theorem dksJ4_init_4_1 : cJ4_init_4.data.toList.drop 24 = dktJ4_init_4_1 := dk_seg dksJ4_init_4_0 24 rfl rfl
theorem dksJ4_init_4_2 : cJ4_init_4.data.toList.drop 46 = dktJ4_init_4_2 := dk_seg dksJ4_init_4_1 22 rfl rfl
theorem dJ4_init_4_0 : decode cJ4_init_4 0 = .ok (.aload_n 0, 1) := dk_42 (dk_at dksJ4_init_4_0 0 rfl rfl)
theorem dJ4_init_4_1 : decode cJ4_init_4 1 = .ok (.invokespecial 1, 3) := dk_183 0 1 (dk_at dksJ4_init_4_0 1 rfl rfl)
theorem dJ4_init_4_4 : decode cJ4_init_4 4 = .ok (.aload_n 0, 1) := dk_42 (dk_at dksJ4_init_4_0 4 rfl rfl)
theorem dJ4_init_4_5 : decode cJ4_init_4 5 = .ok (.aload_n 0, 1) := dk_42 (dk_at dksJ4_init_4_0 5 rfl rfl)
theorem dJ4_init_4_6 : decode cJ4_init_4 6 = .ok (.putfield 7, 3) := dk_181 0 7 (dk_at dksJ4_init_4_0 6 rfl rfl)
theorem dJ4_init_4_9 : decode cJ4_init_4 9 = .ok (.aload_n 0, 1) := dk_42 (dk_at dksJ4_init_4_0 9 rfl rfl)
theorem dJ4_init_4_10 : decode cJ4_init_4 10 = .ok (.getstatic 13, 3) := dk_178 0 13 (dk_at dksJ4_init_4_0 10 rfl rfl)
theorem dJ4_init_4_13 : decode cJ4_init_4 13 = .ok (.putfield 17, 3) := dk_181 0 17 (dk_at dksJ4_init_4_0 13 rfl rfl)
theorem dJ4_init_4_16 : decode cJ4_init_4 16 = .ok (.aload_n 0, 1) := dk_42 (dk_at dksJ4_init_4_0 16 rfl rfl)
theorem dJ4_init_4_17 : decode cJ4_init_4 17 = .ok (.getstatic 20, 3) := dk_178 0 20 (dk_at dksJ4_init_4_0 17 rfl rfl)
theorem dJ4_init_4_20 : decode cJ4_init_4 20 = .ok (.putfield 24, 3) := dk_181 0 24 (dk_at dksJ4_init_4_0 20 rfl rfl)
theorem dJ4_init_4_23 : decode cJ4_init_4 23 = .ok (.aload_n 0, 1) := dk_42 (dk_at dksJ4_init_4_0 23 rfl rfl)
theorem dJ4_init_4_24 : decode cJ4_init_4 24 = .ok (.invokevirtual 27, 3) := dk_182 0 27 (dk_at dksJ4_init_4_1 0 rfl rfl)
theorem dJ4_init_4_27 : decode cJ4_init_4 27 = .ok (.pop, 1) := dk_87 (dk_at dksJ4_init_4_1 3 rfl rfl)
theorem dJ4_init_4_28 : decode cJ4_init_4 28 = .ok (.aload_n 0, 1) := dk_42 (dk_at dksJ4_init_4_1 4 rfl rfl)
theorem dJ4_init_4_29 : decode cJ4_init_4 29 = .ok (.aload_n 1, 1) := dk_43 (dk_at dksJ4_init_4_1 5 rfl rfl)
theorem dJ4_init_4_30 : decode cJ4_init_4 30 = .ok (.ifnonnull 7, 3) := dk_199 0 7 (dk_at dksJ4_init_4_1 6 rfl rfl)
theorem dJ4_init_4_33 : decode cJ4_init_4 33 = .ok (.aconst_null, 1) := dk_1 (dk_at dksJ4_init_4_1 9 rfl rfl)
theorem dJ4_init_4_34 : decode cJ4_init_4 34 = .ok (.goto 7, 3) := dk_167 0 7 (dk_at dksJ4_init_4_1 10 rfl rfl)
theorem dJ4_init_4_37 : decode cJ4_init_4 37 = .ok (.aload_n 1, 1) := dk_43 (dk_at dksJ4_init_4_1 13 rfl rfl)
theorem dJ4_init_4_38 : decode cJ4_init_4 38 = .ok (.invokevirtual 35, 3) := dk_182 0 35 (dk_at dksJ4_init_4_1 14 rfl rfl)
theorem dJ4_init_4_41 : decode cJ4_init_4 41 = .ok (.putfield 31, 3) := dk_181 0 31 (dk_at dksJ4_init_4_1 17 rfl rfl)
theorem dJ4_init_4_44 : decode cJ4_init_4 44 = .ok (.aload_n 0, 1) := dk_42 (dk_at dksJ4_init_4_1 20 rfl rfl)
theorem dJ4_init_4_45 : decode cJ4_init_4 45 = .ok (.aload_n 1, 1) := dk_43 (dk_at dksJ4_init_4_1 21 rfl rfl)
theorem dJ4_init_4_46 : decode cJ4_init_4 46 = .ok (.putfield 7, 3) := dk_181 0 7 (dk_at dksJ4_init_4_2 0 rfl rfl)
theorem dJ4_init_4_49 : decode cJ4_init_4 49 = .ok (.return_, 1) := dk_177 (dk_at dksJ4_init_4_2 3 rfl rfl)
abbrev cJ4_toString : ByteArray := prog_50_method_11_code
def yJ4_toString : MethodName := ⟨RJ4, "toString", "()Ljava/lang/String;"⟩
def dkwJ4_toString_1 : List UInt8 := [43, 182, 0, 49, 18, 81, 182, 0, 49, 44, 182, 0, 49, 182, 0, 60, 167, 0, 4, 43, 176]
abbrev dktJ4_toString_1 : List UInt8 := dkwJ4_toString_1 ++ []
def dkwJ4_toString_0 : List UInt8 := [42, 182, 0, 69, 182, 0, 73, 76, 42, 182, 0, 78, 77, 44, 198, 0, 29, 187, 0, 44, 89, 183, 0, 46]
abbrev dktJ4_toString_0 : List UInt8 := dkwJ4_toString_0 ++ dktJ4_toString_1
theorem dksJ4_toString_0 : cJ4_toString.data.toList.drop 0 = dktJ4_toString_0 := by decide +kernel
theorem dksJ4_toString_1 : cJ4_toString.data.toList.drop 24 = dktJ4_toString_1 := dk_seg dksJ4_toString_0 24 rfl rfl
theorem dJ4_toString_0 : decode cJ4_toString 0 = .ok (.aload_n 0, 1) := dk_42 (dk_at dksJ4_toString_0 0 rfl rfl)
theorem dJ4_toString_1 : decode cJ4_toString 1 = .ok (.invokevirtual 69, 3) := dk_182 0 69 (dk_at dksJ4_toString_0 1 rfl rfl)
theorem dJ4_toString_4 : decode cJ4_toString 4 = .ok (.invokevirtual 73, 3) := dk_182 0 73 (dk_at dksJ4_toString_0 4 rfl rfl)
theorem dJ4_toString_7 : decode cJ4_toString 7 = .ok (.astore_n 1, 1) := dk_76 (dk_at dksJ4_toString_0 7 rfl rfl)
theorem dJ4_toString_8 : decode cJ4_toString 8 = .ok (.aload_n 0, 1) := dk_42 (dk_at dksJ4_toString_0 8 rfl rfl)
theorem dJ4_toString_9 : decode cJ4_toString 9 = .ok (.invokevirtual 78, 3) := dk_182 0 78 (dk_at dksJ4_toString_0 9 rfl rfl)
theorem dJ4_toString_12 : decode cJ4_toString 12 = .ok (.astore_n 2, 1) := dk_77 (dk_at dksJ4_toString_0 12 rfl rfl)
theorem dJ4_toString_13 : decode cJ4_toString 13 = .ok (.aload_n 2, 1) := dk_44 (dk_at dksJ4_toString_0 13 rfl rfl)
theorem dJ4_toString_14 : decode cJ4_toString 14 = .ok (.ifnull 29, 3) := dk_198 0 29 (dk_at dksJ4_toString_0 14 rfl rfl)
theorem dJ4_toString_17 : decode cJ4_toString 17 = .ok (.new 44, 3) := dk_187 0 44 (dk_at dksJ4_toString_0 17 rfl rfl)
theorem dJ4_toString_20 : decode cJ4_toString 20 = .ok (.dup, 1) := dk_89 (dk_at dksJ4_toString_0 20 rfl rfl)
theorem dJ4_toString_21 : decode cJ4_toString 21 = .ok (.invokespecial 46, 3) := dk_183 0 46 (dk_at dksJ4_toString_0 21 rfl rfl)
theorem dJ4_toString_24 : decode cJ4_toString 24 = .ok (.aload_n 1, 1) := dk_43 (dk_at dksJ4_toString_1 0 rfl rfl)
theorem dJ4_toString_25 : decode cJ4_toString 25 = .ok (.invokevirtual 49, 3) := dk_182 0 49 (dk_at dksJ4_toString_1 1 rfl rfl)
theorem dJ4_toString_28 : decode cJ4_toString 28 = .ok (.ldc 81, 2) := dk_18 81 (dk_at dksJ4_toString_1 4 rfl rfl)
theorem dJ4_toString_30 : decode cJ4_toString 30 = .ok (.invokevirtual 49, 3) := dk_182 0 49 (dk_at dksJ4_toString_1 6 rfl rfl)
theorem dJ4_toString_33 : decode cJ4_toString 33 = .ok (.aload_n 2, 1) := dk_44 (dk_at dksJ4_toString_1 9 rfl rfl)
theorem dJ4_toString_34 : decode cJ4_toString 34 = .ok (.invokevirtual 49, 3) := dk_182 0 49 (dk_at dksJ4_toString_1 10 rfl rfl)
theorem dJ4_toString_37 : decode cJ4_toString 37 = .ok (.invokevirtual 60, 3) := dk_182 0 60 (dk_at dksJ4_toString_1 13 rfl rfl)
theorem dJ4_toString_40 : decode cJ4_toString 40 = .ok (.goto 4, 3) := dk_167 0 4 (dk_at dksJ4_toString_1 16 rfl rfl)
theorem dJ4_toString_43 : decode cJ4_toString 43 = .ok (.aload_n 1, 1) := dk_43 (dk_at dksJ4_toString_1 19 rfl rfl)
theorem dJ4_toString_44 : decode cJ4_toString 44 = .ok (.areturn, 1) := dk_176 (dk_at dksJ4_toString_1 20 rfl rfl)
abbrev cJ4_getLocalizedMessage : ByteArray := prog_50_method_7_code
def yJ4_getLocalizedMessage : MethodName := ⟨RJ4, "getLocalizedMessage", "()Ljava/lang/String;"⟩
theorem dJ4_getLocalizedMessage_0 : decode cJ4_getLocalizedMessage 0 = .ok (.aload_n 0, 1) := by decide +kernel
theorem dJ4_getLocalizedMessage_1 : decode cJ4_getLocalizedMessage 1 = .ok (.invokevirtual 39, 3) := by decide +kernel
theorem dJ4_getLocalizedMessage_4 : decode cJ4_getLocalizedMessage 4 = .ok (.areturn, 1) := by decide +kernel
abbrev cJ4_getMessage : ByteArray := prog_50_method_6_code
def yJ4_getMessage : MethodName := ⟨RJ4, "getMessage", "()Ljava/lang/String;"⟩
theorem dJ4_getMessage_0 : decode cJ4_getMessage 0 = .ok (.aload_n 0, 1) := by decide +kernel
theorem dJ4_getMessage_1 : decode cJ4_getMessage 1 = .ok (.getfield 31, 3) := by decide +kernel
theorem dJ4_getMessage_4 : decode cJ4_getMessage 4 = .ok (.areturn, 1) := by decide +kernel
theorem q128 : (Jvm.Cond.initialized "java/lang/Throwable") ∈ lw_all := lw_g (lw_at lw_m1 8 rfl) rfl
theorem q223 : (Jvm.Cond.declares ({ cls := "java/lang/Throwable", name := "<init>", desc := "()V" } : Jvm.MethodName)) ∈ lw_tbl := lw_at lw_m1 103 rfl
theorem q224 : (Jvm.Cond.declares ({ cls := "java/lang/Throwable", name := "<init>", desc := "(Ljava/lang/String;)V" } : Jvm.MethodName)) ∈ lw_tbl := lw_at lw_m1 104 rfl
theorem q228 : (Jvm.Cond.lays "java/lang/Throwable" "java/lang/Throwable" "cause" "Ljava/lang/Throwable;") ∈ lw_all := lw_g (lw_at lw_m1 108 rfl) rfl
theorem q230 : (Jvm.Cond.lays "java/lang/Throwable" "java/lang/Throwable" "stackTrace" "[Ljava/lang/StackTraceElement;") ∈ lw_all := lw_g (lw_at lw_m1 110 rfl) rfl
theorem q232 : (Jvm.Cond.lays "java/lang/Throwable" "java/lang/Throwable" "suppressedExceptions" "Ljava/util/List;") ∈ lw_all := lw_g (lw_at lw_m1 112 rfl) rfl
theorem q234 : (Jvm.Cond.lays "java/lang/Throwable" "java/lang/Throwable" "detailMessage" "Ljava/lang/String;") ∈ lw_all := lw_g (lw_at lw_m1 114 rfl) rfl
theorem q236 : (Jvm.Cond.lays "java/lang/Throwable" "java/lang/Throwable" "backtrace" "Ljava/lang/Object;") ∈ lw_all := lw_g (lw_at lw_m1 116 rfl) rfl
theorem q237 : (Jvm.Cond.fieldLink "java/lang/Throwable" (198 : Nat) "java/lang/Throwable" "backtrace" "Ljava/lang/Object;") ∈ lw_all := lw_g (lw_at lw_m1 117 rfl) rfl
theorem q238 : (Jvm.Cond.superclass "java/lang/Throwable" "java/lang/Object") ∈ lw_all := lw_g (lw_at lw_m1 118 rfl) rfl
theorem q239 : (Jvm.Cond.instanceMethod ({ cls := "java/lang/Throwable", name := "<init>", desc := "()V" } : Jvm.MethodName)) ∈ lw_all := lw_g (lw_at lw_m1 119 rfl) rfl
theorem q240 : (Jvm.Cond.code ({ cls := "java/lang/Throwable", name := "<init>", desc := "()V" } : Jvm.MethodName) prog_50_method_1_code (1 : Nat) (Option.none : Option Jvm.ClassFile.FieldType)) ∈ lw_all := lw_g (lw_at lw_m1 120 rfl) rfl
theorem q241 : (Jvm.Cond.methodLink "java/lang/Throwable" (1 : Nat) ({ cls := "java/lang/Object", name := "<init>", desc := "()V" } : Jvm.MethodName)) ∈ lw_all := lw_g (lw_at lw_m1 121 rfl) rfl
theorem q242 : (Jvm.Cond.fieldLink "java/lang/Throwable" (13 : Nat) "java/lang/Throwable" "UNASSIGNED_STACK" "[Ljava/lang/StackTraceElement;") ∈ lw_all := lw_g (lw_at lw_m1 122 rfl) rfl
theorem q243 : (Jvm.Cond.laysStatic "java/lang/Throwable" "UNASSIGNED_STACK" "[Ljava/lang/StackTraceElement;") ∈ lw_tbl := lw_at lw_m1 123 rfl
theorem q244 : (Jvm.Cond.fieldLink "java/lang/Throwable" (20 : Nat) "java/lang/Throwable" "SUPPRESSED_SENTINEL" "Ljava/util/List;") ∈ lw_all := lw_g (lw_at lw_m1 124 rfl) rfl
theorem q245 : (Jvm.Cond.laysStatic "java/lang/Throwable" "SUPPRESSED_SENTINEL" "Ljava/util/List;") ∈ lw_tbl := lw_at lw_m1 125 rfl
theorem q246 : (Jvm.Cond.methodLink "java/lang/Throwable" (27 : Nat) ({ cls := "java/lang/Throwable", name := "fillInStackTrace", desc := "()Ljava/lang/Throwable;" } : Jvm.MethodName)) ∈ lw_all := lw_g (lw_at lw_m1 126 rfl) rfl
theorem q247 : (Jvm.Cond.instanceMethod ({ cls := "java/lang/Throwable", name := "fillInStackTrace", desc := "()Ljava/lang/Throwable;" } : Jvm.MethodName)) ∈ lw_all := lw_g (lw_at lw_m1 127 rfl) rfl
theorem q248 : (Jvm.Cond.sameMethod "java/lang/Throwable" "java/lang/Throwable" "fillInStackTrace" "()Ljava/lang/Throwable;") ∈ lw_all := lw_g (lw_at lw_m1 128 rfl) rfl
theorem q265 : (Jvm.Cond.declares ({ cls := "java/lang/Throwable", name := "fillInStackTrace", desc := "()Ljava/lang/Throwable;" } : Jvm.MethodName)) ∈ lw_tbl := lw_at lw_m1 145 rfl
theorem q269 : (Jvm.Cond.codeSync ({ cls := "java/lang/Throwable", name := "fillInStackTrace", desc := "()Ljava/lang/Throwable;" } : Jvm.MethodName) prog_50_method_18_code (1 : Nat) (Option.some (Jvm.ClassFile.FieldType.object "java/lang/Throwable"))) ∈ lw_all := lw_g (lw_at lw_m1 149 rfl) rfl
theorem q270 : (Jvm.Cond.methodLink "java/lang/Throwable" (202 : Nat) ({ cls := "java/lang/Throwable", name := "fillInStackTrace", desc := "(I)Ljava/lang/Throwable;" } : Jvm.MethodName)) ∈ lw_all := lw_g (lw_at lw_m1 150 rfl) rfl
theorem q271 : (Jvm.Cond.privateMethod ({ cls := "java/lang/Throwable", name := "fillInStackTrace", desc := "(I)Ljava/lang/Throwable;" } : Jvm.MethodName)) ∈ lw_tbl := lw_at lw_m1 151 rfl
theorem q272 : (Jvm.Cond.instanceMethod ({ cls := "java/lang/Throwable", name := "fillInStackTrace", desc := "(I)Ljava/lang/Throwable;" } : Jvm.MethodName)) ∈ lw_all := lw_g (lw_at lw_m1 152 rfl) rfl
theorem q273 : (Jvm.Cond.instantiable "java/lang/Throwable" (6 : Nat)) ∈ lw_all := lw_g (lw_at lw_m1 153 rfl) rfl
theorem q274 : (Jvm.Cond.native ({ cls := "java/lang/Throwable", name := "fillInStackTrace", desc := "(I)Ljava/lang/Throwable;" } : Jvm.MethodName)) ∈ lw_all := lw_g (lw_at lw_m1 154 rfl) rfl
theorem q287 : (Jvm.Cond.fieldLink "java/lang/Throwable" (198 : Nat) "java/lang/Throwable" "backtrace" "Ljava/lang/Object;") ∈ lw_all := lw_g (lw_at lw_m1 167 rfl) rfl
theorem q288 : (Jvm.Cond.fieldLink "java/lang/Throwable" (31 : Nat) "java/lang/Throwable" "detailMessage" "Ljava/lang/String;") ∈ lw_all := lw_g (lw_at lw_m1 168 rfl) rfl
theorem q289 : (Jvm.Cond.fieldLink "java/lang/Throwable" (7 : Nat) "java/lang/Throwable" "cause" "Ljava/lang/Throwable;") ∈ lw_all := lw_g (lw_at lw_m1 169 rfl) rfl
theorem q290 : (Jvm.Cond.fieldLink "java/lang/Throwable" (17 : Nat) "java/lang/Throwable" "stackTrace" "[Ljava/lang/StackTraceElement;") ∈ lw_all := lw_g (lw_at lw_m1 170 rfl) rfl
theorem q291 : (Jvm.Cond.fieldLink "java/lang/Throwable" (24 : Nat) "java/lang/Throwable" "suppressedExceptions" "Ljava/util/List;") ∈ lw_all := lw_g (lw_at lw_m1 171 rfl) rfl
theorem q292 : (Jvm.Cond.soleField "java/lang/Throwable" "backtrace") ∈ lw_all := lw_g (lw_at lw_m1 172 rfl) rfl
theorem q293 : (Jvm.Cond.soleField "java/lang/Throwable" "detailMessage") ∈ lw_all := lw_g (lw_at lw_m1 173 rfl) rfl
theorem q294 : (Jvm.Cond.soleField "java/lang/Throwable" "cause") ∈ lw_all := lw_g (lw_at lw_m1 174 rfl) rfl
theorem q295 : (Jvm.Cond.soleField "java/lang/Throwable" "stackTrace") ∈ lw_all := lw_g (lw_at lw_m1 175 rfl) rfl
theorem q297 : (Jvm.Cond.soleField "java/lang/Throwable" "depth") ∈ lw_all := lw_g (lw_at lw_m1 177 rfl) rfl
theorem q298 : (Jvm.Cond.soleField "java/lang/Throwable" "suppressedExceptions") ∈ lw_all := lw_g (lw_at lw_m1 178 rfl) rfl
theorem q614 : (Jvm.Cond.instanceMethod ({ cls := "java/lang/Throwable", name := "<init>", desc := "(Ljava/lang/String;)V" } : Jvm.MethodName)) ∈ lw_all := lw_g (lw_at lw_m3 14 rfl) rfl
theorem q615 : (Jvm.Cond.code ({ cls := "java/lang/Throwable", name := "<init>", desc := "(Ljava/lang/String;)V" } : Jvm.MethodName) prog_50_method_2_code (2 : Nat) (Option.none : Option Jvm.ClassFile.FieldType)) ∈ lw_all := lw_g (lw_at lw_m3 15 rfl) rfl
theorem q684 : (Jvm.Cond.instanceMethod ({ cls := "java/lang/Throwable", name := "<init>", desc := "(Ljava/lang/String;Ljava/lang/Throwable;ZZ)V" } : Jvm.MethodName)) ∈ lw_all := lw_g (lw_at lw_m3 84 rfl) rfl
theorem q685 : (Jvm.Cond.code ({ cls := "java/lang/Throwable", name := "<init>", desc := "(Ljava/lang/String;Ljava/lang/Throwable;ZZ)V" } : Jvm.MethodName) prog_50_method_5_code (5 : Nat) (Option.none : Option Jvm.ClassFile.FieldType)) ∈ lw_all := lw_g (lw_at lw_m3 85 rfl) rfl
theorem q1888 : (Jvm.Cond.instanceMethod ({ cls := "java/lang/Throwable", name := "<init>", desc := "(Ljava/lang/Throwable;)V" } : Jvm.MethodName)) ∈ lw_all := lw_g (lw_at lw_m8 88 rfl) rfl
theorem q1889 : (Jvm.Cond.code ({ cls := "java/lang/Throwable", name := "<init>", desc := "(Ljava/lang/Throwable;)V" } : Jvm.MethodName) prog_50_method_4_code (2 : Nat) (Option.none : Option Jvm.ClassFile.FieldType)) ∈ lw_all := lw_g (lw_at lw_m8 89 rfl) rfl
theorem q1890 : (Jvm.Cond.methodLink "java/lang/Throwable" (35 : Nat) ({ cls := "java/lang/Throwable", name := "toString", desc := "()Ljava/lang/String;" } : Jvm.MethodName)) ∈ lw_all := lw_g (lw_at lw_m8 90 rfl) rfl
theorem q1891 : (Jvm.Cond.instanceMethod ({ cls := "java/lang/Throwable", name := "toString", desc := "()Ljava/lang/String;" } : Jvm.MethodName)) ∈ lw_all := lw_g (lw_at lw_m8 91 rfl) rfl
theorem q1892 : (Jvm.Cond.sameMethod "java/lang/Throwable" "java/lang/Throwable" "toString" "()Ljava/lang/String;") ∈ lw_all := lw_g (lw_at lw_m8 92 rfl) rfl
theorem q1903 : (Jvm.Cond.code ({ cls := "java/lang/Throwable", name := "toString", desc := "()Ljava/lang/String;" } : Jvm.MethodName) prog_50_method_11_code (3 : Nat) (Option.some (Jvm.ClassFile.FieldType.object "java/lang/String"))) ∈ lw_all := lw_g (lw_at lw_m8 103 rfl) rfl
theorem q1904 : (Jvm.Cond.methodLink "java/lang/Throwable" (69 : Nat) ({ cls := "java/lang/Object", name := "getClass", desc := "()Ljava/lang/Class;" } : Jvm.MethodName)) ∈ lw_all := lw_g (lw_at lw_m8 104 rfl) rfl
theorem q1905 : (Jvm.Cond.methodLink "java/lang/Throwable" (78 : Nat) ({ cls := "java/lang/Throwable", name := "getLocalizedMessage", desc := "()Ljava/lang/String;" } : Jvm.MethodName)) ∈ lw_all := lw_g (lw_at lw_m8 105 rfl) rfl
theorem q1906 : (Jvm.Cond.instanceMethod ({ cls := "java/lang/Throwable", name := "getLocalizedMessage", desc := "()Ljava/lang/String;" } : Jvm.MethodName)) ∈ lw_all := lw_g (lw_at lw_m8 106 rfl) rfl
theorem q1907 : (Jvm.Cond.sameMethod "java/lang/Throwable" "java/lang/Throwable" "getLocalizedMessage" "()Ljava/lang/String;") ∈ lw_all := lw_g (lw_at lw_m8 107 rfl) rfl
theorem q1918 : (Jvm.Cond.code ({ cls := "java/lang/Throwable", name := "getLocalizedMessage", desc := "()Ljava/lang/String;" } : Jvm.MethodName) prog_50_method_7_code (1 : Nat) (Option.some (Jvm.ClassFile.FieldType.object "java/lang/String"))) ∈ lw_all := lw_g (lw_at lw_m8 118 rfl) rfl
theorem q1919 : (Jvm.Cond.methodLink "java/lang/Throwable" (39 : Nat) ({ cls := "java/lang/Throwable", name := "getMessage", desc := "()Ljava/lang/String;" } : Jvm.MethodName)) ∈ lw_all := lw_g (lw_at lw_m8 119 rfl) rfl
theorem q1920 : (Jvm.Cond.instanceMethod ({ cls := "java/lang/Throwable", name := "getMessage", desc := "()Ljava/lang/String;" } : Jvm.MethodName)) ∈ lw_all := lw_g (lw_at lw_m8 120 rfl) rfl
theorem q1921 : (Jvm.Cond.sameMethod "java/lang/Throwable" "java/lang/Throwable" "getMessage" "()Ljava/lang/String;") ∈ lw_all := lw_g (lw_at lw_m8 121 rfl) rfl
theorem q1934 : (Jvm.Cond.declares ({ cls := "java/lang/Throwable", name := "getMessage", desc := "()Ljava/lang/String;" } : Jvm.MethodName)) ∈ lw_tbl := lw_at lw_m8 134 rfl
theorem q1935 : (Jvm.Cond.code ({ cls := "java/lang/Throwable", name := "getMessage", desc := "()Ljava/lang/String;" } : Jvm.MethodName) prog_50_method_6_code (1 : Nat) (Option.some (Jvm.ClassFile.FieldType.object "java/lang/String"))) ∈ lw_all := lw_g (lw_at lw_m8 135 rfl) rfl
theorem q1938 : (Jvm.Cond.classLink "java/lang/Throwable" (44 : Nat) "java/lang/StringBuilder") ∈ lw_all := lw_g (lw_at lw_m8 138 rfl) rfl
theorem q1939 : (Jvm.Cond.methodLink "java/lang/Throwable" (46 : Nat) ({ cls := "java/lang/StringBuilder", name := "<init>", desc := "()V" } : Jvm.MethodName)) ∈ lw_all := lw_g (lw_at lw_m8 139 rfl) rfl
theorem q1940 : (Jvm.Cond.methodLink "java/lang/Throwable" (49 : Nat) ({ cls := "java/lang/StringBuilder", name := "append", desc := "(Ljava/lang/String;)Ljava/lang/StringBuilder;" } : Jvm.MethodName)) ∈ lw_all := lw_g (lw_at lw_m8 140 rfl) rfl
theorem q1941 : (Jvm.Cond.stringRef "java/lang/Throwable" (81 : Nat) ": ") ∈ lw_tbl := lw_at lw_m8 141 rfl
theorem q1942 : (Jvm.Cond.methodLink "java/lang/Throwable" (60 : Nat) ({ cls := "java/lang/StringBuilder", name := "toString", desc := "()Ljava/lang/String;" } : Jvm.MethodName)) ∈ lw_all := lw_g (lw_at lw_m8 142 rfl) rfl
theorem q3579 : (Jvm.Cond.sameMethod "java/lang/Throwable" "java/lang/Throwable" "fillInStackTrace" "(I)Ljava/lang/Throwable;") ∈ lw_all := lw_g (lw_at lw_m15 99 rfl) rfl
theorem q3661 : (Jvm.Cond.castable "java/lang/Throwable" "java/lang/Object") ∈ lw_tbl := lw_at lw_m15 181 rfl
theorem in_J4 : ∀ w ∈ wsJ40, w ∈ lw_all := lw_in wsJ40 [228, 230, 232, 234, 236] (by decide +kernel) (by decide +kernel)

/-! java/lang/Exception -/
set_option maxRecDepth 100000
def RJ5 : String := "java/lang/Exception"
abbrev cJ5_init : ByteArray := prog_34_method_1_code
def yJ5_init : MethodName := ⟨RJ5, "<init>", "()V"⟩
theorem dJ5_init_0 : decode cJ5_init 0 = .ok (.aload_n 0, 1) := by decide +kernel
theorem dJ5_init_1 : decode cJ5_init 1 = .ok (.invokespecial 1, 3) := by decide +kernel
theorem dJ5_init_4 : decode cJ5_init 4 = .ok (.return_, 1) := by decide +kernel
abbrev cJ5_init_2 : ByteArray := prog_34_method_2_code
def yJ5_init_2 : MethodName := ⟨RJ5, "<init>", "(Ljava/lang/String;)V"⟩
def dkwJ5_init_2_0 : List UInt8 := [42, 43, 183, 0, 7, 177]
abbrev dktJ5_init_2_0 : List UInt8 := dkwJ5_init_2_0 ++ []
theorem dksJ5_init_2_0 : cJ5_init_2.data.toList.drop 0 = dktJ5_init_2_0 := by decide +kernel
theorem dJ5_init_2_0 : decode cJ5_init_2 0 = .ok (.aload_n 0, 1) := dk_42 (dk_at dksJ5_init_2_0 0 rfl rfl)
theorem dJ5_init_2_1 : decode cJ5_init_2 1 = .ok (.aload_n 1, 1) := dk_43 (dk_at dksJ5_init_2_0 1 rfl rfl)
theorem dJ5_init_2_2 : decode cJ5_init_2 2 = .ok (.invokespecial 7, 3) := dk_183 0 7 (dk_at dksJ5_init_2_0 2 rfl rfl)
theorem dJ5_init_2_5 : decode cJ5_init_2 5 = .ok (.return_, 1) := dk_177 (dk_at dksJ5_init_2_0 5 rfl rfl)
abbrev cJ5_init_3 : ByteArray := prog_34_method_5_code
def yJ5_init_3 : MethodName := ⟨RJ5, "<init>", "(Ljava/lang/String;Ljava/lang/Throwable;ZZ)V"⟩
def dkwJ5_init_3_0 : List UInt8 := [42, 43, 44, 29, 21, 4, 183, 0, 16, 177]
abbrev dktJ5_init_3_0 : List UInt8 := dkwJ5_init_3_0 ++ []
theorem dksJ5_init_3_0 : cJ5_init_3.data.toList.drop 0 = dktJ5_init_3_0 := by decide +kernel
theorem dJ5_init_3_0 : decode cJ5_init_3 0 = .ok (.aload_n 0, 1) := dk_42 (dk_at dksJ5_init_3_0 0 rfl rfl)
theorem dJ5_init_3_1 : decode cJ5_init_3 1 = .ok (.aload_n 1, 1) := dk_43 (dk_at dksJ5_init_3_0 1 rfl rfl)
theorem dJ5_init_3_2 : decode cJ5_init_3 2 = .ok (.aload_n 2, 1) := dk_44 (dk_at dksJ5_init_3_0 2 rfl rfl)
theorem dJ5_init_3_3 : decode cJ5_init_3 3 = .ok (.iload_n 3, 1) := dk_29 (dk_at dksJ5_init_3_0 3 rfl rfl)
theorem dJ5_init_3_4 : decode cJ5_init_3 4 = .ok (.iload 4, 2) := dk_21 4 (dk_at dksJ5_init_3_0 4 rfl rfl)
theorem dJ5_init_3_6 : decode cJ5_init_3 6 = .ok (.invokespecial 16, 3) := dk_183 0 16 (dk_at dksJ5_init_3_0 6 rfl rfl)
theorem dJ5_init_3_9 : decode cJ5_init_3 9 = .ok (.return_, 1) := dk_177 (dk_at dksJ5_init_3_0 9 rfl rfl)
abbrev cJ5_init_4 : ByteArray := prog_34_method_4_code
def yJ5_init_4 : MethodName := ⟨RJ5, "<init>", "(Ljava/lang/Throwable;)V"⟩
def dkwJ5_init_4_0 : List UInt8 := [42, 43, 183, 0, 13, 177]
abbrev dktJ5_init_4_0 : List UInt8 := dkwJ5_init_4_0 ++ []
theorem dksJ5_init_4_0 : cJ5_init_4.data.toList.drop 0 = dktJ5_init_4_0 := by decide +kernel
theorem dJ5_init_4_0 : decode cJ5_init_4 0 = .ok (.aload_n 0, 1) := dk_42 (dk_at dksJ5_init_4_0 0 rfl rfl)
theorem dJ5_init_4_1 : decode cJ5_init_4 1 = .ok (.aload_n 1, 1) := dk_43 (dk_at dksJ5_init_4_0 1 rfl rfl)
theorem dJ5_init_4_2 : decode cJ5_init_4 2 = .ok (.invokespecial 13, 3) := dk_183 0 13 (dk_at dksJ5_init_4_0 2 rfl rfl)
theorem dJ5_init_4_5 : decode cJ5_init_4 5 = .ok (.return_, 1) := dk_177 (dk_at dksJ5_init_4_0 5 rfl rfl)
theorem q129 : (Jvm.Cond.initialized "java/lang/Exception") ∈ lw_all := lw_g (lw_at lw_m1 9 rfl) rfl
theorem q221 : (Jvm.Cond.declares ({ cls := "java/lang/Exception", name := "<init>", desc := "()V" } : Jvm.MethodName)) ∈ lw_tbl := lw_at lw_m1 101 rfl
theorem q222 : (Jvm.Cond.declares ({ cls := "java/lang/Exception", name := "<init>", desc := "(Ljava/lang/String;)V" } : Jvm.MethodName)) ∈ lw_tbl := lw_at lw_m1 102 rfl
theorem q268 : (Jvm.Cond.superclass "java/lang/Exception" "java/lang/Throwable") ∈ lw_all := lw_g (lw_at lw_m1 148 rfl) rfl
theorem q284 : (Jvm.Cond.instanceMethod ({ cls := "java/lang/Exception", name := "<init>", desc := "()V" } : Jvm.MethodName)) ∈ lw_all := lw_g (lw_at lw_m1 164 rfl) rfl
theorem q285 : (Jvm.Cond.code ({ cls := "java/lang/Exception", name := "<init>", desc := "()V" } : Jvm.MethodName) prog_34_method_1_code (1 : Nat) (Option.none : Option Jvm.ClassFile.FieldType)) ∈ lw_all := lw_g (lw_at lw_m1 165 rfl) rfl
theorem q286 : (Jvm.Cond.methodLink "java/lang/Exception" (1 : Nat) ({ cls := "java/lang/Throwable", name := "<init>", desc := "()V" } : Jvm.MethodName)) ∈ lw_all := lw_g (lw_at lw_m1 166 rfl) rfl
theorem q611 : (Jvm.Cond.instanceMethod ({ cls := "java/lang/Exception", name := "<init>", desc := "(Ljava/lang/String;)V" } : Jvm.MethodName)) ∈ lw_all := lw_g (lw_at lw_m3 11 rfl) rfl
theorem q612 : (Jvm.Cond.code ({ cls := "java/lang/Exception", name := "<init>", desc := "(Ljava/lang/String;)V" } : Jvm.MethodName) prog_34_method_2_code (2 : Nat) (Option.none : Option Jvm.ClassFile.FieldType)) ∈ lw_all := lw_g (lw_at lw_m3 12 rfl) rfl
theorem q613 : (Jvm.Cond.methodLink "java/lang/Exception" (7 : Nat) ({ cls := "java/lang/Throwable", name := "<init>", desc := "(Ljava/lang/String;)V" } : Jvm.MethodName)) ∈ lw_all := lw_g (lw_at lw_m3 13 rfl) rfl
theorem q681 : (Jvm.Cond.instanceMethod ({ cls := "java/lang/Exception", name := "<init>", desc := "(Ljava/lang/String;Ljava/lang/Throwable;ZZ)V" } : Jvm.MethodName)) ∈ lw_all := lw_g (lw_at lw_m3 81 rfl) rfl
theorem q682 : (Jvm.Cond.code ({ cls := "java/lang/Exception", name := "<init>", desc := "(Ljava/lang/String;Ljava/lang/Throwable;ZZ)V" } : Jvm.MethodName) prog_34_method_5_code (5 : Nat) (Option.none : Option Jvm.ClassFile.FieldType)) ∈ lw_all := lw_g (lw_at lw_m3 82 rfl) rfl
theorem q683 : (Jvm.Cond.methodLink "java/lang/Exception" (16 : Nat) ({ cls := "java/lang/Throwable", name := "<init>", desc := "(Ljava/lang/String;Ljava/lang/Throwable;ZZ)V" } : Jvm.MethodName)) ∈ lw_all := lw_g (lw_at lw_m3 83 rfl) rfl
theorem q1885 : (Jvm.Cond.instanceMethod ({ cls := "java/lang/Exception", name := "<init>", desc := "(Ljava/lang/Throwable;)V" } : Jvm.MethodName)) ∈ lw_all := lw_g (lw_at lw_m8 85 rfl) rfl
theorem q1886 : (Jvm.Cond.code ({ cls := "java/lang/Exception", name := "<init>", desc := "(Ljava/lang/Throwable;)V" } : Jvm.MethodName) prog_34_method_4_code (2 : Nat) (Option.none : Option Jvm.ClassFile.FieldType)) ∈ lw_all := lw_g (lw_at lw_m8 86 rfl) rfl
theorem q1887 : (Jvm.Cond.methodLink "java/lang/Exception" (13 : Nat) ({ cls := "java/lang/Throwable", name := "<init>", desc := "(Ljava/lang/Throwable;)V" } : Jvm.MethodName)) ∈ lw_all := lw_g (lw_at lw_m8 87 rfl) rfl

/-! java/lang/RuntimeException -/
set_option maxRecDepth 100000
def RJ6 : String := "java/lang/RuntimeException"
abbrev cJ6_init : ByteArray := prog_42_method_1_code
def yJ6_init : MethodName := ⟨RJ6, "<init>", "()V"⟩
theorem dJ6_init_0 : decode cJ6_init 0 = .ok (.aload_n 0, 1) := by decide +kernel
theorem dJ6_init_1 : decode cJ6_init 1 = .ok (.invokespecial 1, 3) := by decide +kernel
theorem dJ6_init_4 : decode cJ6_init 4 = .ok (.return_, 1) := by decide +kernel
abbrev cJ6_init_2 : ByteArray := prog_42_method_2_code
def yJ6_init_2 : MethodName := ⟨RJ6, "<init>", "(Ljava/lang/String;)V"⟩
def dkwJ6_init_2_0 : List UInt8 := [42, 43, 183, 0, 7, 177]
abbrev dktJ6_init_2_0 : List UInt8 := dkwJ6_init_2_0 ++ []
theorem dksJ6_init_2_0 : cJ6_init_2.data.toList.drop 0 = dktJ6_init_2_0 := by decide +kernel
theorem dJ6_init_2_0 : decode cJ6_init_2 0 = .ok (.aload_n 0, 1) := dk_42 (dk_at dksJ6_init_2_0 0 rfl rfl)
theorem dJ6_init_2_1 : decode cJ6_init_2 1 = .ok (.aload_n 1, 1) := dk_43 (dk_at dksJ6_init_2_0 1 rfl rfl)
theorem dJ6_init_2_2 : decode cJ6_init_2 2 = .ok (.invokespecial 7, 3) := dk_183 0 7 (dk_at dksJ6_init_2_0 2 rfl rfl)
theorem dJ6_init_2_5 : decode cJ6_init_2 5 = .ok (.return_, 1) := dk_177 (dk_at dksJ6_init_2_0 5 rfl rfl)
abbrev cJ6_init_3 : ByteArray := prog_42_method_5_code
def yJ6_init_3 : MethodName := ⟨RJ6, "<init>", "(Ljava/lang/String;Ljava/lang/Throwable;ZZ)V"⟩
def dkwJ6_init_3_0 : List UInt8 := [42, 43, 44, 29, 21, 4, 183, 0, 16, 177]
abbrev dktJ6_init_3_0 : List UInt8 := dkwJ6_init_3_0 ++ []
theorem dksJ6_init_3_0 : cJ6_init_3.data.toList.drop 0 = dktJ6_init_3_0 := by decide +kernel
theorem dJ6_init_3_0 : decode cJ6_init_3 0 = .ok (.aload_n 0, 1) := dk_42 (dk_at dksJ6_init_3_0 0 rfl rfl)
theorem dJ6_init_3_1 : decode cJ6_init_3 1 = .ok (.aload_n 1, 1) := dk_43 (dk_at dksJ6_init_3_0 1 rfl rfl)
theorem dJ6_init_3_2 : decode cJ6_init_3 2 = .ok (.aload_n 2, 1) := dk_44 (dk_at dksJ6_init_3_0 2 rfl rfl)
theorem dJ6_init_3_3 : decode cJ6_init_3 3 = .ok (.iload_n 3, 1) := dk_29 (dk_at dksJ6_init_3_0 3 rfl rfl)
theorem dJ6_init_3_4 : decode cJ6_init_3 4 = .ok (.iload 4, 2) := dk_21 4 (dk_at dksJ6_init_3_0 4 rfl rfl)
theorem dJ6_init_3_6 : decode cJ6_init_3 6 = .ok (.invokespecial 16, 3) := dk_183 0 16 (dk_at dksJ6_init_3_0 6 rfl rfl)
theorem dJ6_init_3_9 : decode cJ6_init_3 9 = .ok (.return_, 1) := dk_177 (dk_at dksJ6_init_3_0 9 rfl rfl)
abbrev cJ6_init_4 : ByteArray := prog_42_method_4_code
def yJ6_init_4 : MethodName := ⟨RJ6, "<init>", "(Ljava/lang/Throwable;)V"⟩
def dkwJ6_init_4_0 : List UInt8 := [42, 43, 183, 0, 13, 177]
abbrev dktJ6_init_4_0 : List UInt8 := dkwJ6_init_4_0 ++ []
theorem dksJ6_init_4_0 : cJ6_init_4.data.toList.drop 0 = dktJ6_init_4_0 := by decide +kernel
theorem dJ6_init_4_0 : decode cJ6_init_4 0 = .ok (.aload_n 0, 1) := dk_42 (dk_at dksJ6_init_4_0 0 rfl rfl)
theorem dJ6_init_4_1 : decode cJ6_init_4 1 = .ok (.aload_n 1, 1) := dk_43 (dk_at dksJ6_init_4_0 1 rfl rfl)
theorem dJ6_init_4_2 : decode cJ6_init_4 2 = .ok (.invokespecial 13, 3) := dk_183 0 13 (dk_at dksJ6_init_4_0 2 rfl rfl)
theorem dJ6_init_4_5 : decode cJ6_init_4 5 = .ok (.return_, 1) := dk_177 (dk_at dksJ6_init_4_0 5 rfl rfl)
theorem q130 : (Jvm.Cond.initialized "java/lang/RuntimeException") ∈ lw_all := lw_g (lw_at lw_m1 10 rfl) rfl
theorem q219 : (Jvm.Cond.declares ({ cls := "java/lang/RuntimeException", name := "<init>", desc := "()V" } : Jvm.MethodName)) ∈ lw_tbl := lw_at lw_m1 99 rfl
theorem q220 : (Jvm.Cond.declares ({ cls := "java/lang/RuntimeException", name := "<init>", desc := "(Ljava/lang/String;)V" } : Jvm.MethodName)) ∈ lw_tbl := lw_at lw_m1 100 rfl
theorem q264 : (Jvm.Cond.sameMethod "java/lang/RuntimeException" "java/lang/Throwable" "fillInStackTrace" "()Ljava/lang/Throwable;") ∈ lw_all := lw_g (lw_at lw_m1 144 rfl) rfl
theorem q267 : (Jvm.Cond.superclass "java/lang/RuntimeException" "java/lang/Exception") ∈ lw_all := lw_g (lw_at lw_m1 147 rfl) rfl
theorem q281 : (Jvm.Cond.instanceMethod ({ cls := "java/lang/RuntimeException", name := "<init>", desc := "()V" } : Jvm.MethodName)) ∈ lw_all := lw_g (lw_at lw_m1 161 rfl) rfl
theorem q282 : (Jvm.Cond.code ({ cls := "java/lang/RuntimeException", name := "<init>", desc := "()V" } : Jvm.MethodName) prog_42_method_1_code (1 : Nat) (Option.none : Option Jvm.ClassFile.FieldType)) ∈ lw_all := lw_g (lw_at lw_m1 162 rfl) rfl
theorem q283 : (Jvm.Cond.methodLink "java/lang/RuntimeException" (1 : Nat) ({ cls := "java/lang/Exception", name := "<init>", desc := "()V" } : Jvm.MethodName)) ∈ lw_all := lw_g (lw_at lw_m1 163 rfl) rfl
theorem q608 : (Jvm.Cond.instanceMethod ({ cls := "java/lang/RuntimeException", name := "<init>", desc := "(Ljava/lang/String;)V" } : Jvm.MethodName)) ∈ lw_all := lw_g (lw_at lw_m3 8 rfl) rfl
theorem q609 : (Jvm.Cond.code ({ cls := "java/lang/RuntimeException", name := "<init>", desc := "(Ljava/lang/String;)V" } : Jvm.MethodName) prog_42_method_2_code (2 : Nat) (Option.none : Option Jvm.ClassFile.FieldType)) ∈ lw_all := lw_g (lw_at lw_m3 9 rfl) rfl
theorem q610 : (Jvm.Cond.methodLink "java/lang/RuntimeException" (7 : Nat) ({ cls := "java/lang/Exception", name := "<init>", desc := "(Ljava/lang/String;)V" } : Jvm.MethodName)) ∈ lw_all := lw_g (lw_at lw_m3 10 rfl) rfl
theorem q678 : (Jvm.Cond.instanceMethod ({ cls := "java/lang/RuntimeException", name := "<init>", desc := "(Ljava/lang/String;Ljava/lang/Throwable;ZZ)V" } : Jvm.MethodName)) ∈ lw_all := lw_g (lw_at lw_m3 78 rfl) rfl
theorem q679 : (Jvm.Cond.code ({ cls := "java/lang/RuntimeException", name := "<init>", desc := "(Ljava/lang/String;Ljava/lang/Throwable;ZZ)V" } : Jvm.MethodName) prog_42_method_5_code (5 : Nat) (Option.none : Option Jvm.ClassFile.FieldType)) ∈ lw_all := lw_g (lw_at lw_m3 79 rfl) rfl
theorem q680 : (Jvm.Cond.methodLink "java/lang/RuntimeException" (16 : Nat) ({ cls := "java/lang/Exception", name := "<init>", desc := "(Ljava/lang/String;Ljava/lang/Throwable;ZZ)V" } : Jvm.MethodName)) ∈ lw_all := lw_g (lw_at lw_m3 80 rfl) rfl
theorem q725 : (Jvm.Cond.castable "java/lang/RuntimeException" "java/lang/Throwable") ∈ lw_tbl := lw_at lw_m3 125 rfl
theorem q1882 : (Jvm.Cond.instanceMethod ({ cls := "java/lang/RuntimeException", name := "<init>", desc := "(Ljava/lang/Throwable;)V" } : Jvm.MethodName)) ∈ lw_all := lw_g (lw_at lw_m8 82 rfl) rfl
theorem q1883 : (Jvm.Cond.code ({ cls := "java/lang/RuntimeException", name := "<init>", desc := "(Ljava/lang/Throwable;)V" } : Jvm.MethodName) prog_42_method_4_code (2 : Nat) (Option.none : Option Jvm.ClassFile.FieldType)) ∈ lw_all := lw_g (lw_at lw_m8 83 rfl) rfl
theorem q1884 : (Jvm.Cond.methodLink "java/lang/RuntimeException" (13 : Nat) ({ cls := "java/lang/Exception", name := "<init>", desc := "(Ljava/lang/Throwable;)V" } : Jvm.MethodName)) ∈ lw_all := lw_g (lw_at lw_m8 84 rfl) rfl
theorem q1933 : (Jvm.Cond.sameMethod "java/lang/RuntimeException" "java/lang/Throwable" "getMessage" "()Ljava/lang/String;") ∈ lw_all := lw_g (lw_at lw_m8 133 rfl) rfl

/-! java/lang/NegativeArraySizeException -/
set_option maxRecDepth 100000
def RJ7 : String := "java/lang/NegativeArraySizeException"
def TJ7 : u_T := fun k => match k with
  | 0 => ("java/lang/Throwable", "cause", "Ljava/lang/Throwable;", false)
  | 1 => ("java/lang/Throwable", "stackTrace", "[Ljava/lang/StackTraceElement;", false)
  | 2 => ("java/lang/Throwable", "suppressedExceptions", "Ljava/util/List;", false)
  | 3 => ("java/lang/Throwable", "detailMessage", "Ljava/lang/String;", false)
  | 4 => ("java/lang/Throwable", "backtrace", "Ljava/lang/Object;", false)
  | _ => ("java/lang/Throwable", "depth", "I", false)
def tyJ7 : Nat → FieldType := fun k => match k with
  | 0 => .object "java/lang/Throwable"
  | 1 => .array (.object "java/lang/StackTraceElement")
  | 2 => .object "java/util/List"
  | 3 => .object "java/lang/String"
  | 4 => .object "java/lang/Object"
  | _ => .int
abbrev wsJ70 : List Cond := u_ws RJ7 TJ7 6
theorem nmJ7 : ∀ a, a < 6 → ∀ b, b < 6 → a ≠ b → (TJ7 a).2.1 ≠ (TJ7 b).2.1 := by decide +kernel
theorem tyJ7_ok : ∀ k, k < 6 → parseFieldDescriptor (TJ7 k).2.2.1 = some (tyJ7 k) := by decide +kernel
abbrev cJ7_init : ByteArray := prog_39_method_1_code
def yJ7_init : MethodName := ⟨RJ7, "<init>", "()V"⟩
theorem dJ7_init_0 : decode cJ7_init 0 = .ok (.aload_n 0, 1) := by decide +kernel
theorem dJ7_init_1 : decode cJ7_init 1 = .ok (.invokespecial 1, 3) := by decide +kernel
theorem dJ7_init_4 : decode cJ7_init 4 = .ok (.return_, 1) := by decide +kernel
abbrev cJ7_init_2 : ByteArray := prog_39_method_2_code
def yJ7_init_2 : MethodName := ⟨RJ7, "<init>", "(Ljava/lang/String;)V"⟩
def dkwJ7_init_2_0 : List UInt8 := [42, 43, 183, 0, 7, 177]
abbrev dktJ7_init_2_0 : List UInt8 := dkwJ7_init_2_0 ++ []
theorem dksJ7_init_2_0 : cJ7_init_2.data.toList.drop 0 = dktJ7_init_2_0 := by decide +kernel
theorem dJ7_init_2_0 : decode cJ7_init_2 0 = .ok (.aload_n 0, 1) := dk_42 (dk_at dksJ7_init_2_0 0 rfl rfl)
theorem dJ7_init_2_1 : decode cJ7_init_2 1 = .ok (.aload_n 1, 1) := dk_43 (dk_at dksJ7_init_2_0 1 rfl rfl)
theorem dJ7_init_2_2 : decode cJ7_init_2 2 = .ok (.invokespecial 7, 3) := dk_183 0 7 (dk_at dksJ7_init_2_0 2 rfl rfl)
theorem dJ7_init_2_5 : decode cJ7_init_2 5 = .ok (.return_, 1) := dk_177 (dk_at dksJ7_init_2_0 5 rfl rfl)
theorem q131 : (Jvm.Cond.initialized "java/lang/NegativeArraySizeException") ∈ lw_all := lw_g (lw_at lw_m1 11 rfl) rfl
theorem q217 : (Jvm.Cond.instantiable "java/lang/NegativeArraySizeException" (6 : Nat)) ∈ lw_all := lw_g (lw_at lw_m1 97 rfl) rfl
theorem q218 : (Jvm.Cond.castable "java/lang/NegativeArraySizeException" "java/lang/NegativeArraySizeException") ∈ lw_tbl := lw_at lw_m1 98 rfl
theorem q225 : (Jvm.Cond.selects "java/lang/NegativeArraySizeException" ({ cls := "java/lang/Throwable", name := "fillInStackTrace", desc := "(I)Ljava/lang/Throwable;" } : Jvm.MethodName) ({ cls := "java/lang/Throwable", name := "fillInStackTrace", desc := "(I)Ljava/lang/Throwable;" } : Jvm.MethodName)) ∈ lw_all := lw_g (lw_at lw_m1 105 rfl) rfl
theorem q226 : (Jvm.Cond.selects "java/lang/NegativeArraySizeException" ({ cls := "java/lang/Throwable", name := "fillInStackTrace", desc := "()Ljava/lang/Throwable;" } : Jvm.MethodName) ({ cls := "java/lang/Throwable", name := "fillInStackTrace", desc := "()Ljava/lang/Throwable;" } : Jvm.MethodName)) ∈ lw_all := lw_g (lw_at lw_m1 106 rfl) rfl
theorem q227 : (Jvm.Cond.lays "java/lang/NegativeArraySizeException" "java/lang/Throwable" "cause" "Ljava/lang/Throwable;") ∈ lw_all := lw_g (lw_at lw_m1 107 rfl) rfl
theorem q229 : (Jvm.Cond.lays "java/lang/NegativeArraySizeException" "java/lang/Throwable" "stackTrace" "[Ljava/lang/StackTraceElement;") ∈ lw_all := lw_g (lw_at lw_m1 109 rfl) rfl
theorem q231 : (Jvm.Cond.lays "java/lang/NegativeArraySizeException" "java/lang/Throwable" "suppressedExceptions" "Ljava/util/List;") ∈ lw_all := lw_g (lw_at lw_m1 111 rfl) rfl
theorem q233 : (Jvm.Cond.lays "java/lang/NegativeArraySizeException" "java/lang/Throwable" "detailMessage" "Ljava/lang/String;") ∈ lw_all := lw_g (lw_at lw_m1 113 rfl) rfl
theorem q235 : (Jvm.Cond.lays "java/lang/NegativeArraySizeException" "java/lang/Throwable" "backtrace" "Ljava/lang/Object;") ∈ lw_all := lw_g (lw_at lw_m1 115 rfl) rfl
theorem q278 : (Jvm.Cond.instanceMethod ({ cls := "java/lang/NegativeArraySizeException", name := "<init>", desc := "()V" } : Jvm.MethodName)) ∈ lw_all := lw_g (lw_at lw_m1 158 rfl) rfl
theorem q279 : (Jvm.Cond.code ({ cls := "java/lang/NegativeArraySizeException", name := "<init>", desc := "()V" } : Jvm.MethodName) prog_39_method_1_code (1 : Nat) (Option.none : Option Jvm.ClassFile.FieldType)) ∈ lw_all := lw_g (lw_at lw_m1 159 rfl) rfl
theorem q280 : (Jvm.Cond.methodLink "java/lang/NegativeArraySizeException" (1 : Nat) ({ cls := "java/lang/RuntimeException", name := "<init>", desc := "()V" } : Jvm.MethodName)) ∈ lw_all := lw_g (lw_at lw_m1 160 rfl) rfl
theorem q296 : (Jvm.Cond.lays "java/lang/NegativeArraySizeException" "java/lang/Throwable" "depth" "I") ∈ lw_all := lw_g (lw_at lw_m1 176 rfl) rfl
theorem q299 : (Jvm.Cond.superclass "java/lang/NegativeArraySizeException" "java/lang/RuntimeException") ∈ lw_all := lw_g (lw_at lw_m1 179 rfl) rfl
theorem q605 : (Jvm.Cond.instanceMethod ({ cls := "java/lang/NegativeArraySizeException", name := "<init>", desc := "(Ljava/lang/String;)V" } : Jvm.MethodName)) ∈ lw_all := lw_g (lw_at lw_m3 5 rfl) rfl
theorem q606 : (Jvm.Cond.code ({ cls := "java/lang/NegativeArraySizeException", name := "<init>", desc := "(Ljava/lang/String;)V" } : Jvm.MethodName) prog_39_method_2_code (2 : Nat) (Option.none : Option Jvm.ClassFile.FieldType)) ∈ lw_all := lw_g (lw_at lw_m3 6 rfl) rfl
theorem q607 : (Jvm.Cond.methodLink "java/lang/NegativeArraySizeException" (7 : Nat) ({ cls := "java/lang/RuntimeException", name := "<init>", desc := "(Ljava/lang/String;)V" } : Jvm.MethodName)) ∈ lw_all := lw_g (lw_at lw_m3 7 rfl) rfl
theorem q1464 : (Jvm.Cond.selects "java/lang/NegativeArraySizeException" ({ cls := "java/lang/Object", name := "getClass", desc := "()Ljava/lang/Class;" } : Jvm.MethodName) ({ cls := "java/lang/Object", name := "getClass", desc := "()Ljava/lang/Class;" } : Jvm.MethodName)) ∈ lw_all := lw_g (lw_at lw_m6 144 rfl) rfl
theorem q1899 : (Jvm.Cond.selects "java/lang/NegativeArraySizeException" ({ cls := "java/lang/Throwable", name := "toString", desc := "()Ljava/lang/String;" } : Jvm.MethodName) ({ cls := "java/lang/Throwable", name := "toString", desc := "()Ljava/lang/String;" } : Jvm.MethodName)) ∈ lw_all := lw_g (lw_at lw_m8 99 rfl) rfl
theorem q1914 : (Jvm.Cond.selects "java/lang/NegativeArraySizeException" ({ cls := "java/lang/Throwable", name := "getLocalizedMessage", desc := "()Ljava/lang/String;" } : Jvm.MethodName) ({ cls := "java/lang/Throwable", name := "getLocalizedMessage", desc := "()Ljava/lang/String;" } : Jvm.MethodName)) ∈ lw_all := lw_g (lw_at lw_m8 114 rfl) rfl
theorem q1928 : (Jvm.Cond.selects "java/lang/NegativeArraySizeException" ({ cls := "java/lang/Throwable", name := "getMessage", desc := "()Ljava/lang/String;" } : Jvm.MethodName) ({ cls := "java/lang/Throwable", name := "getMessage", desc := "()Ljava/lang/String;" } : Jvm.MethodName)) ∈ lw_all := lw_g (lw_at lw_m8 128 rfl) rfl
theorem q3632 : (Jvm.Cond.castable "java/lang/NegativeArraySizeException" "java/lang/Object") ∈ lw_tbl := lw_at lw_m15 152 rfl
theorem in_J7 : ∀ w ∈ wsJ70, w ∈ lw_all := lw_in wsJ70 [227, 229, 231, 233, 235, 296] (by decide +kernel) (by decide +kernel)

/-! java/util/AbstractCollection -/
set_option maxRecDepth 100000
def RJ8 : String := "java/util/AbstractCollection"
abbrev cJ8_init : ByteArray := prog_53_method_1_code
def yJ8_init : MethodName := ⟨RJ8, "<init>", "()V"⟩
theorem dJ8_init_0 : decode cJ8_init 0 = .ok (.aload_n 0, 1) := by decide +kernel
theorem dJ8_init_1 : decode cJ8_init 1 = .ok (.invokespecial 1, 3) := by decide +kernel
theorem dJ8_init_4 : decode cJ8_init 4 = .ok (.return_, 1) := by decide +kernel
abbrev cJ8_isEmpty : ByteArray := prog_53_method_4_code
def yJ8_isEmpty : MethodName := ⟨RJ8, "isEmpty", "()Z"⟩
def dkwJ8_isEmpty_0 : List UInt8 := [42, 182, 0, 7, 154, 0, 7, 4, 167, 0, 4, 3, 172]
abbrev dktJ8_isEmpty_0 : List UInt8 := dkwJ8_isEmpty_0 ++ []
theorem dksJ8_isEmpty_0 : cJ8_isEmpty.data.toList.drop 0 = dktJ8_isEmpty_0 := by decide +kernel
theorem dJ8_isEmpty_0 : decode cJ8_isEmpty 0 = .ok (.aload_n 0, 1) := dk_42 (dk_at dksJ8_isEmpty_0 0 rfl rfl)
theorem dJ8_isEmpty_1 : decode cJ8_isEmpty 1 = .ok (.invokevirtual 7, 3) := dk_182 0 7 (dk_at dksJ8_isEmpty_0 1 rfl rfl)
theorem dJ8_isEmpty_4 : decode cJ8_isEmpty 4 = .ok (.ifCond .ne 7, 3) := dk_154 0 7 (dk_at dksJ8_isEmpty_0 4 rfl rfl)
theorem dJ8_isEmpty_7 : decode cJ8_isEmpty 7 = .ok (.iconst 1, 1) := dk_4 (dk_at dksJ8_isEmpty_0 7 rfl rfl)
theorem dJ8_isEmpty_8 : decode cJ8_isEmpty 8 = .ok (.goto 4, 3) := dk_167 0 4 (dk_at dksJ8_isEmpty_0 8 rfl rfl)
theorem dJ8_isEmpty_11 : decode cJ8_isEmpty 11 = .ok (.iconst 0, 1) := dk_3 (dk_at dksJ8_isEmpty_0 11 rfl rfl)
theorem dJ8_isEmpty_12 : decode cJ8_isEmpty 12 = .ok (.ireturn, 1) := dk_172 (dk_at dksJ8_isEmpty_0 12 rfl rfl)
theorem q132 : (Jvm.Cond.initialized "java/util/AbstractCollection") ∈ lw_all := lw_g (lw_at lw_m1 12 rfl) rfl
theorem q332 : (Jvm.Cond.instanceMethod ({ cls := "java/util/AbstractCollection", name := "<init>", desc := "()V" } : Jvm.MethodName)) ∈ lw_all := lw_g (lw_at lw_m1 212 rfl) rfl
theorem q333 : (Jvm.Cond.code ({ cls := "java/util/AbstractCollection", name := "<init>", desc := "()V" } : Jvm.MethodName) prog_53_method_1_code (1 : Nat) (Option.none : Option Jvm.ClassFile.FieldType)) ∈ lw_all := lw_g (lw_at lw_m1 213 rfl) rfl
theorem q334 : (Jvm.Cond.methodLink "java/util/AbstractCollection" (1 : Nat) ({ cls := "java/lang/Object", name := "<init>", desc := "()V" } : Jvm.MethodName)) ∈ lw_all := lw_g (lw_at lw_m1 214 rfl) rfl
theorem q1690 : (Jvm.Cond.declares ({ cls := "java/util/AbstractCollection", name := "size", desc := "()I" } : Jvm.MethodName)) ∈ lw_tbl := lw_at lw_m7 130 rfl
theorem q2651 : (Jvm.Cond.declares ({ cls := "java/util/AbstractCollection", name := "isEmpty", desc := "()Z" } : Jvm.MethodName)) ∈ lw_tbl := lw_at lw_m11 131 rfl
theorem q2653 : (Jvm.Cond.instanceMethod ({ cls := "java/util/AbstractCollection", name := "isEmpty", desc := "()Z" } : Jvm.MethodName)) ∈ lw_all := lw_g (lw_at lw_m11 133 rfl) rfl
theorem q2654 : (Jvm.Cond.code ({ cls := "java/util/AbstractCollection", name := "isEmpty", desc := "()Z" } : Jvm.MethodName) prog_53_method_4_code (1 : Nat) (Option.some Jvm.ClassFile.FieldType.boolean)) ∈ lw_all := lw_g (lw_at lw_m11 134 rfl) rfl
theorem q2655 : (Jvm.Cond.methodLink "java/util/AbstractCollection" (7 : Nat) ({ cls := "java/util/AbstractCollection", name := "size", desc := "()I" } : Jvm.MethodName)) ∈ lw_all := lw_g (lw_at lw_m11 135 rfl) rfl
theorem q3608 : (Jvm.Cond.sameMethod "java/util/AbstractCollection" "java/util/AbstractCollection" "size" "()I") ∈ lw_all := lw_g (lw_at lw_m15 128 rfl) rfl

/-! java/util/AbstractList -/
set_option maxRecDepth 100000
def RJ9 : String := "java/util/AbstractList"
abbrev cJ9_init : ByteArray := prog_54_method_1_code
def yJ9_init : MethodName := ⟨RJ9, "<init>", "()V"⟩
def dkwJ9_init_0 : List UInt8 := [42, 183, 0, 1, 42, 3, 181, 0, 7, 177]
abbrev dktJ9_init_0 : List UInt8 := dkwJ9_init_0 ++ []
theorem dksJ9_init_0 : cJ9_init.data.toList.drop 0 = dktJ9_init_0 := by decide +kernel
theorem dJ9_init_0 : decode cJ9_init 0 = .ok (.aload_n 0, 1) := dk_42 (dk_at dksJ9_init_0 0 rfl rfl)
theorem dJ9_init_1 : decode cJ9_init 1 = .ok (.invokespecial 1, 3) := dk_183 0 1 (dk_at dksJ9_init_0 1 rfl rfl)
theorem dJ9_init_4 : decode cJ9_init 4 = .ok (.aload_n 0, 1) := dk_42 (dk_at dksJ9_init_0 4 rfl rfl)
theorem dJ9_init_5 : decode cJ9_init 5 = .ok (.iconst 0, 1) := dk_3 (dk_at dksJ9_init_0 5 rfl rfl)
theorem dJ9_init_6 : decode cJ9_init 6 = .ok (.putfield 7, 3) := dk_181 0 7 (dk_at dksJ9_init_0 6 rfl rfl)
theorem dJ9_init_9 : decode cJ9_init 9 = .ok (.return_, 1) := dk_177 (dk_at dksJ9_init_0 9 rfl rfl)
abbrev cJ9_listIterator : ByteArray := prog_54_method_12_code
def yJ9_listIterator : MethodName := ⟨RJ9, "listIterator", "()Ljava/util/ListIterator;"⟩
def dkwJ9_listIterator_0 : List UInt8 := [42, 3, 182, 0, 47, 176]
abbrev dktJ9_listIterator_0 : List UInt8 := dkwJ9_listIterator_0 ++ []
theorem dksJ9_listIterator_0 : cJ9_listIterator.data.toList.drop 0 = dktJ9_listIterator_0 := by decide +kernel
theorem dJ9_listIterator_0 : decode cJ9_listIterator 0 = .ok (.aload_n 0, 1) := dk_42 (dk_at dksJ9_listIterator_0 0 rfl rfl)
theorem dJ9_listIterator_1 : decode cJ9_listIterator 1 = .ok (.iconst 0, 1) := dk_3 (dk_at dksJ9_listIterator_0 1 rfl rfl)
theorem dJ9_listIterator_2 : decode cJ9_listIterator 2 = .ok (.invokevirtual 47, 3) := dk_182 0 47 (dk_at dksJ9_listIterator_0 2 rfl rfl)
theorem dJ9_listIterator_5 : decode cJ9_listIterator 5 = .ok (.areturn, 1) := dk_176 (dk_at dksJ9_listIterator_0 5 rfl rfl)
theorem q133 : (Jvm.Cond.initialized "java/util/AbstractList") ∈ lw_all := lw_g (lw_at lw_m1 13 rfl) rfl
theorem q329 : (Jvm.Cond.instanceMethod ({ cls := "java/util/AbstractList", name := "<init>", desc := "()V" } : Jvm.MethodName)) ∈ lw_all := lw_g (lw_at lw_m1 209 rfl) rfl
theorem q330 : (Jvm.Cond.code ({ cls := "java/util/AbstractList", name := "<init>", desc := "()V" } : Jvm.MethodName) prog_54_method_1_code (1 : Nat) (Option.none : Option Jvm.ClassFile.FieldType)) ∈ lw_all := lw_g (lw_at lw_m1 210 rfl) rfl
theorem q331 : (Jvm.Cond.methodLink "java/util/AbstractList" (1 : Nat) ({ cls := "java/util/AbstractCollection", name := "<init>", desc := "()V" } : Jvm.MethodName)) ∈ lw_all := lw_g (lw_at lw_m1 211 rfl) rfl
theorem q341 : (Jvm.Cond.fieldLink "java/util/AbstractList" (7 : Nat) "java/util/AbstractList" "modCount" "I") ∈ lw_all := lw_g (lw_at lw_m1 221 rfl) rfl
theorem q354 : (Jvm.Cond.soleField "java/util/AbstractList" "modCount") ∈ lw_all := lw_g (lw_at lw_m1 234 rfl) rfl
theorem q1689 : (Jvm.Cond.sameMethod "java/util/AbstractList" "java/util/AbstractCollection" "size" "()I") ∈ lw_all := lw_g (lw_at lw_m7 129 rfl) rfl
theorem q1804 : (Jvm.Cond.declares ({ cls := "java/util/AbstractList", name := "get", desc := "(I)Ljava/lang/Object;" } : Jvm.MethodName)) ∈ lw_tbl := lw_at lw_m8 4 rfl
theorem q1805 : (Jvm.Cond.sameMethod "java/util/AbstractList" "java/util/AbstractList" "get" "(I)Ljava/lang/Object;") ∈ lw_all := lw_g (lw_at lw_m8 5 rfl) rfl
theorem q2941 : (Jvm.Cond.declares ({ cls := "java/util/AbstractList", name := "listIterator", desc := "()Ljava/util/ListIterator;" } : Jvm.MethodName)) ∈ lw_tbl := lw_at lw_m12 181 rfl
theorem q2943 : (Jvm.Cond.instanceMethod ({ cls := "java/util/AbstractList", name := "listIterator", desc := "()Ljava/util/ListIterator;" } : Jvm.MethodName)) ∈ lw_all := lw_g (lw_at lw_m12 183 rfl) rfl
theorem q2944 : (Jvm.Cond.code ({ cls := "java/util/AbstractList", name := "listIterator", desc := "()Ljava/util/ListIterator;" } : Jvm.MethodName) prog_54_method_12_code (1 : Nat) (Option.some (Jvm.ClassFile.FieldType.object "java/util/ListIterator"))) ∈ lw_all := lw_g (lw_at lw_m12 184 rfl) rfl
theorem q2945 : (Jvm.Cond.methodLink "java/util/AbstractList" (47 : Nat) ({ cls := "java/util/AbstractList", name := "listIterator", desc := "(I)Ljava/util/ListIterator;" } : Jvm.MethodName)) ∈ lw_all := lw_g (lw_at lw_m12 185 rfl) rfl
theorem q2946 : (Jvm.Cond.instanceMethod ({ cls := "java/util/AbstractList", name := "listIterator", desc := "(I)Ljava/util/ListIterator;" } : Jvm.MethodName)) ∈ lw_all := lw_g (lw_at lw_m12 186 rfl) rfl
theorem q2947 : (Jvm.Cond.sameMethod "java/util/AbstractList" "java/util/AbstractList" "listIterator" "(I)Ljava/util/ListIterator;") ∈ lw_all := lw_g (lw_at lw_m12 187 rfl) rfl
theorem q3008 : (Jvm.Cond.declares ({ cls := "java/util/AbstractList", name := "listIterator", desc := "(I)Ljava/util/ListIterator;" } : Jvm.MethodName)) ∈ lw_tbl := lw_at lw_m13 8 rfl

/-! java/util/ArrayList -/
set_option maxRecDepth 100000
def RJ10 : String := "java/util/ArrayList"
def TJ10 : u_T := fun k => match k with
  | 0 => ("java/util/AbstractList", "modCount", "I", false)
  | 1 => ("java/util/ArrayList", "elementData", "[Ljava/lang/Object;", false)
  | _ => ("java/util/ArrayList", "size", "I", false)
def tyJ10 : Nat → FieldType := fun k => match k with
  | 0 => .int
  | 1 => .array (.object "java/lang/Object")
  | _ => .int
abbrev wsJ100 : List Cond := u_ws RJ10 TJ10 3
theorem nmJ10 : ∀ a, a < 3 → ∀ b, b < 3 → a ≠ b → (TJ10 a).2.1 ≠ (TJ10 b).2.1 := by decide +kernel
theorem tyJ10_ok : ∀ k, k < 3 → parseFieldDescriptor (TJ10 k).2.2.1 = some (tyJ10 k) := by decide +kernel
abbrev cJ10_init : ByteArray := prog_58_method_2_code
def yJ10_init : MethodName := ⟨RJ10, "<init>", "()V"⟩
def dkwJ10_init_0 : List UInt8 := [42, 183, 0, 1, 42, 178, 0, 39, 181, 0, 9, 177]
abbrev dktJ10_init_0 : List UInt8 := dkwJ10_init_0 ++ []
theorem dksJ10_init_0 : cJ10_init.data.toList.drop 0 = dktJ10_init_0 := by decide +kernel
theorem dJ10_init_0 : decode cJ10_init 0 = .ok (.aload_n 0, 1) := dk_42 (dk_at dksJ10_init_0 0 rfl rfl)
theorem dJ10_init_1 : decode cJ10_init 1 = .ok (.invokespecial 1, 3) := dk_183 0 1 (dk_at dksJ10_init_0 1 rfl rfl)
theorem dJ10_init_4 : decode cJ10_init 4 = .ok (.aload_n 0, 1) := dk_42 (dk_at dksJ10_init_0 4 rfl rfl)
theorem dJ10_init_5 : decode cJ10_init 5 = .ok (.getstatic 39, 3) := dk_178 0 39 (dk_at dksJ10_init_0 5 rfl rfl)
theorem dJ10_init_8 : decode cJ10_init 8 = .ok (.putfield 9, 3) := dk_181 0 9 (dk_at dksJ10_init_0 8 rfl rfl)
theorem dJ10_init_11 : decode cJ10_init 11 = .ok (.return_, 1) := dk_177 (dk_at dksJ10_init_0 11 rfl rfl)
abbrev cJ10_init_2 : ByteArray := prog_58_method_1_code
def yJ10_init_2 : MethodName := ⟨RJ10, "<init>", "(I)V"⟩
def dkwJ10_init_2_2 : List UInt8 := [182, 0, 25, 27, 182, 0, 29, 182, 0, 32, 183, 0, 36, 191, 177]
abbrev dktJ10_init_2_2 : List UInt8 := dkwJ10_init_2_2 ++ []
def dkwJ10_init_2_1 : List UInt8 := [178, 0, 15, 181, 0, 9, 167, 0, 30, 187, 0, 18, 89, 187, 0, 20, 89, 183, 0, 22, 18, 23]
abbrev dktJ10_init_2_1 : List UInt8 := dkwJ10_init_2_1 ++ dktJ10_init_2_2
def dkwJ10_init_2_0 : List UInt8 := [42, 183, 0, 1, 27, 158, 0, 14, 42, 27, 189, 0, 7, 181, 0, 9, 167, 0, 44, 27, 154, 0, 13, 42]
abbrev dktJ10_init_2_0 : List UInt8 := dkwJ10_init_2_0 ++ dktJ10_init_2_1
theorem dksJ10_init_2_0 : cJ10_init_2.data.toList.drop 0 = dktJ10_init_2_0 := by decide +kernel
theorem dksJ10_init_2_1 : cJ10_init_2.data.toList.drop 24 = dktJ10_init_2_1 := dk_seg dksJ10_init_2_0 24 rfl rfl
theorem dksJ10_init_2_2 : cJ10_init_2.data.toList.drop 46 = dktJ10_init_2_2 := dk_seg dksJ10_init_2_1 22 rfl rfl
theorem dJ10_init_2_0 : decode cJ10_init_2 0 = .ok (.aload_n 0, 1) := dk_42 (dk_at dksJ10_init_2_0 0 rfl rfl)
theorem dJ10_init_2_1 : decode cJ10_init_2 1 = .ok (.invokespecial 1, 3) := dk_183 0 1 (dk_at dksJ10_init_2_0 1 rfl rfl)
theorem dJ10_init_2_4 : decode cJ10_init_2 4 = .ok (.iload_n 1, 1) := dk_27 (dk_at dksJ10_init_2_0 4 rfl rfl)
theorem dJ10_init_2_5 : decode cJ10_init_2 5 = .ok (.ifCond .le 14, 3) := dk_158 0 14 (dk_at dksJ10_init_2_0 5 rfl rfl)
theorem dJ10_init_2_8 : decode cJ10_init_2 8 = .ok (.aload_n 0, 1) := dk_42 (dk_at dksJ10_init_2_0 8 rfl rfl)
theorem dJ10_init_2_9 : decode cJ10_init_2 9 = .ok (.iload_n 1, 1) := dk_27 (dk_at dksJ10_init_2_0 9 rfl rfl)
theorem dJ10_init_2_10 : decode cJ10_init_2 10 = .ok (.anewarray 7, 3) := dk_189 0 7 (dk_at dksJ10_init_2_0 10 rfl rfl)
theorem dJ10_init_2_13 : decode cJ10_init_2 13 = .ok (.putfield 9, 3) := dk_181 0 9 (dk_at dksJ10_init_2_0 13 rfl rfl)
theorem dJ10_init_2_16 : decode cJ10_init_2 16 = .ok (.goto 44, 3) := dk_167 0 44 (dk_at dksJ10_init_2_0 16 rfl rfl)
theorem dJ10_init_2_19 : decode cJ10_init_2 19 = .ok (.iload_n 1, 1) := dk_27 (dk_at dksJ10_init_2_0 19 rfl rfl)
theorem dJ10_init_2_20 : decode cJ10_init_2 20 = .ok (.ifCond .ne 13, 3) := dk_154 0 13 (dk_at dksJ10_init_2_0 20 rfl rfl)
theorem dJ10_init_2_23 : decode cJ10_init_2 23 = .ok (.aload_n 0, 1) := dk_42 (dk_at dksJ10_init_2_0 23 rfl rfl)
theorem dJ10_init_2_24 : decode cJ10_init_2 24 = .ok (.getstatic 15, 3) := dk_178 0 15 (dk_at dksJ10_init_2_1 0 rfl rfl)
theorem dJ10_init_2_27 : decode cJ10_init_2 27 = .ok (.putfield 9, 3) := dk_181 0 9 (dk_at dksJ10_init_2_1 3 rfl rfl)
theorem dJ10_init_2_30 : decode cJ10_init_2 30 = .ok (.goto 30, 3) := dk_167 0 30 (dk_at dksJ10_init_2_1 6 rfl rfl)
theorem dJ10_init_2_33 : decode cJ10_init_2 33 = .ok (.new 18, 3) := dk_187 0 18 (dk_at dksJ10_init_2_1 9 rfl rfl)
theorem dJ10_init_2_36 : decode cJ10_init_2 36 = .ok (.dup, 1) := dk_89 (dk_at dksJ10_init_2_1 12 rfl rfl)
theorem dJ10_init_2_37 : decode cJ10_init_2 37 = .ok (.new 20, 3) := dk_187 0 20 (dk_at dksJ10_init_2_1 13 rfl rfl)
theorem dJ10_init_2_40 : decode cJ10_init_2 40 = .ok (.dup, 1) := dk_89 (dk_at dksJ10_init_2_1 16 rfl rfl)
theorem dJ10_init_2_41 : decode cJ10_init_2 41 = .ok (.invokespecial 22, 3) := dk_183 0 22 (dk_at dksJ10_init_2_1 17 rfl rfl)
theorem dJ10_init_2_44 : decode cJ10_init_2 44 = .ok (.ldc 23, 2) := dk_18 23 (dk_at dksJ10_init_2_1 20 rfl rfl)
theorem dJ10_init_2_46 : decode cJ10_init_2 46 = .ok (.invokevirtual 25, 3) := dk_182 0 25 (dk_at dksJ10_init_2_2 0 rfl rfl)
theorem dJ10_init_2_49 : decode cJ10_init_2 49 = .ok (.iload_n 1, 1) := dk_27 (dk_at dksJ10_init_2_2 3 rfl rfl)
theorem dJ10_init_2_50 : decode cJ10_init_2 50 = .ok (.invokevirtual 29, 3) := dk_182 0 29 (dk_at dksJ10_init_2_2 4 rfl rfl)
theorem dJ10_init_2_53 : decode cJ10_init_2 53 = .ok (.invokevirtual 32, 3) := dk_182 0 32 (dk_at dksJ10_init_2_2 7 rfl rfl)
theorem dJ10_init_2_56 : decode cJ10_init_2 56 = .ok (.invokespecial 36, 3) := dk_183 0 36 (dk_at dksJ10_init_2_2 10 rfl rfl)
theorem dJ10_init_2_59 : decode cJ10_init_2 59 = .ok (.athrow, 1) := dk_191 (dk_at dksJ10_init_2_2 13 rfl rfl)
theorem dJ10_init_2_60 : decode cJ10_init_2 60 = .ok (.return_, 1) := dk_177 (dk_at dksJ10_init_2_2 14 rfl rfl)
abbrev cJ10_size : ByteArray := prog_58_method_8_code
def yJ10_size : MethodName := ⟨RJ10, "size", "()I"⟩
theorem dJ10_size_0 : decode cJ10_size 0 = .ok (.aload_n 0, 1) := by decide +kernel
theorem dJ10_size_1 : decode cJ10_size 1 = .ok (.getfield 48, 3) := by decide +kernel
theorem dJ10_size_4 : decode cJ10_size 4 = .ok (.ireturn, 1) := by decide +kernel
abbrev cJ10_get : ByteArray := prog_58_method_20_code
def yJ10_get : MethodName := ⟨RJ10, "get", "(I)Ljava/lang/Object;"⟩
def dkwJ10_get_0 : List UInt8 := [27, 42, 180, 0, 48, 184, 0, 118, 87, 42, 27, 182, 0, 123, 176]
abbrev dktJ10_get_0 : List UInt8 := dkwJ10_get_0 ++ []
theorem dksJ10_get_0 : cJ10_get.data.toList.drop 0 = dktJ10_get_0 := by decide +kernel
theorem dJ10_get_0 : decode cJ10_get 0 = .ok (.iload_n 1, 1) := dk_27 (dk_at dksJ10_get_0 0 rfl rfl)
theorem dJ10_get_1 : decode cJ10_get 1 = .ok (.aload_n 0, 1) := dk_42 (dk_at dksJ10_get_0 1 rfl rfl)
theorem dJ10_get_2 : decode cJ10_get 2 = .ok (.getfield 48, 3) := dk_180 0 48 (dk_at dksJ10_get_0 2 rfl rfl)
theorem dJ10_get_5 : decode cJ10_get 5 = .ok (.invokestatic 118, 3) := dk_184 0 118 (dk_at dksJ10_get_0 5 rfl rfl)
theorem dJ10_get_8 : decode cJ10_get 8 = .ok (.pop, 1) := dk_87 (dk_at dksJ10_get_0 8 rfl rfl)
theorem dJ10_get_9 : decode cJ10_get 9 = .ok (.aload_n 0, 1) := dk_42 (dk_at dksJ10_get_0 9 rfl rfl)
theorem dJ10_get_10 : decode cJ10_get 10 = .ok (.iload_n 1, 1) := dk_27 (dk_at dksJ10_get_0 10 rfl rfl)
theorem dJ10_get_11 : decode cJ10_get 11 = .ok (.invokevirtual 123, 3) := dk_182 0 123 (dk_at dksJ10_get_0 11 rfl rfl)
theorem dJ10_get_14 : decode cJ10_get 14 = .ok (.areturn, 1) := dk_176 (dk_at dksJ10_get_0 14 rfl rfl)
abbrev cJ10_elementData : ByteArray := prog_58_method_18_code
def yJ10_elementData : MethodName := ⟨RJ10, "elementData", "(I)Ljava/lang/Object;"⟩
def dkwJ10_elementData_0 : List UInt8 := [42, 180, 0, 9, 27, 50, 176]
abbrev dktJ10_elementData_0 : List UInt8 := dkwJ10_elementData_0 ++ []
theorem dksJ10_elementData_0 : cJ10_elementData.data.toList.drop 0 = dktJ10_elementData_0 := by decide +kernel
theorem dJ10_elementData_0 : decode cJ10_elementData 0 = .ok (.aload_n 0, 1) := dk_42 (dk_at dksJ10_elementData_0 0 rfl rfl)
theorem dJ10_elementData_1 : decode cJ10_elementData 1 = .ok (.getfield 9, 3) := dk_180 0 9 (dk_at dksJ10_elementData_0 1 rfl rfl)
theorem dJ10_elementData_4 : decode cJ10_elementData 4 = .ok (.iload_n 1, 1) := dk_27 (dk_at dksJ10_elementData_0 4 rfl rfl)
theorem dJ10_elementData_5 : decode cJ10_elementData 5 = .ok (.aaload, 1) := dk_50 (dk_at dksJ10_elementData_0 5 rfl rfl)
theorem dJ10_elementData_6 : decode cJ10_elementData 6 = .ok (.areturn, 1) := dk_176 (dk_at dksJ10_elementData_0 6 rfl rfl)
abbrev cJ10_add : ByteArray := prog_58_method_25_code
def yJ10_add : MethodName := ⟨RJ10, "add", "(Ljava/lang/Object;)Z"⟩
def dkwJ10_add_1 : List UInt8 := [172]
abbrev dktJ10_add_1 : List UInt8 := dkwJ10_add_1 ++ []
def dkwJ10_add_0 : List UInt8 := [42, 89, 180, 0, 63, 4, 96, 181, 0, 63, 42, 43, 42, 180, 0, 9, 42, 180, 0, 48, 182, 0, 131, 4]
abbrev dktJ10_add_0 : List UInt8 := dkwJ10_add_0 ++ dktJ10_add_1
theorem dksJ10_add_0 : cJ10_add.data.toList.drop 0 = dktJ10_add_0 := by decide +kernel
theorem dksJ10_add_1 : cJ10_add.data.toList.drop 24 = dktJ10_add_1 := dk_seg dksJ10_add_0 24 rfl rfl
theorem dJ10_add_0 : decode cJ10_add 0 = .ok (.aload_n 0, 1) := dk_42 (dk_at dksJ10_add_0 0 rfl rfl)
theorem dJ10_add_1 : decode cJ10_add 1 = .ok (.dup, 1) := dk_89 (dk_at dksJ10_add_0 1 rfl rfl)
theorem dJ10_add_2 : decode cJ10_add 2 = .ok (.getfield 63, 3) := dk_180 0 63 (dk_at dksJ10_add_0 2 rfl rfl)
theorem dJ10_add_5 : decode cJ10_add 5 = .ok (.iconst 1, 1) := dk_4 (dk_at dksJ10_add_0 5 rfl rfl)
theorem dJ10_add_6 : decode cJ10_add 6 = .ok (.iadd, 1) := dk_96 (dk_at dksJ10_add_0 6 rfl rfl)
theorem dJ10_add_7 : decode cJ10_add 7 = .ok (.putfield 63, 3) := dk_181 0 63 (dk_at dksJ10_add_0 7 rfl rfl)
theorem dJ10_add_10 : decode cJ10_add 10 = .ok (.aload_n 0, 1) := dk_42 (dk_at dksJ10_add_0 10 rfl rfl)
theorem dJ10_add_11 : decode cJ10_add 11 = .ok (.aload_n 1, 1) := dk_43 (dk_at dksJ10_add_0 11 rfl rfl)
theorem dJ10_add_12 : decode cJ10_add 12 = .ok (.aload_n 0, 1) := dk_42 (dk_at dksJ10_add_0 12 rfl rfl)
theorem dJ10_add_13 : decode cJ10_add 13 = .ok (.getfield 9, 3) := dk_180 0 9 (dk_at dksJ10_add_0 13 rfl rfl)
theorem dJ10_add_16 : decode cJ10_add 16 = .ok (.aload_n 0, 1) := dk_42 (dk_at dksJ10_add_0 16 rfl rfl)
theorem dJ10_add_17 : decode cJ10_add 17 = .ok (.getfield 48, 3) := dk_180 0 48 (dk_at dksJ10_add_0 17 rfl rfl)
theorem dJ10_add_20 : decode cJ10_add 20 = .ok (.invokevirtual 131, 3) := dk_182 0 131 (dk_at dksJ10_add_0 20 rfl rfl)
theorem dJ10_add_23 : decode cJ10_add 23 = .ok (.iconst 1, 1) := dk_4 (dk_at dksJ10_add_0 23 rfl rfl)
theorem dJ10_add_24 : decode cJ10_add 24 = .ok (.ireturn, 1) := dk_172 (dk_at dksJ10_add_1 0 rfl rfl)
abbrev cJ10_add_2 : ByteArray := prog_58_method_24_code
def yJ10_add_2 : MethodName := ⟨RJ10, "add", "(Ljava/lang/Object;[Ljava/lang/Object;I)V"⟩
def dkwJ10_add_2_0 : List UInt8 := [29, 44, 190, 160, 0, 8, 42, 182, 0, 129, 77, 44, 29, 43, 83, 42, 29, 4, 96, 181, 0, 48, 177]
abbrev dktJ10_add_2_0 : List UInt8 := dkwJ10_add_2_0 ++ []
theorem dksJ10_add_2_0 : cJ10_add_2.data.toList.drop 0 = dktJ10_add_2_0 := by decide +kernel
theorem dJ10_add_2_0 : decode cJ10_add_2 0 = .ok (.iload_n 3, 1) := dk_29 (dk_at dksJ10_add_2_0 0 rfl rfl)
theorem dJ10_add_2_1 : decode cJ10_add_2 1 = .ok (.aload_n 2, 1) := dk_44 (dk_at dksJ10_add_2_0 1 rfl rfl)
theorem dJ10_add_2_2 : decode cJ10_add_2 2 = .ok (.arraylength, 1) := dk_190 (dk_at dksJ10_add_2_0 2 rfl rfl)
theorem dJ10_add_2_3 : decode cJ10_add_2 3 = .ok (.if_icmp .ne 8, 3) := dk_160 0 8 (dk_at dksJ10_add_2_0 3 rfl rfl)
theorem dJ10_add_2_6 : decode cJ10_add_2 6 = .ok (.aload_n 0, 1) := dk_42 (dk_at dksJ10_add_2_0 6 rfl rfl)
theorem dJ10_add_2_7 : decode cJ10_add_2 7 = .ok (.invokevirtual 129, 3) := dk_182 0 129 (dk_at dksJ10_add_2_0 7 rfl rfl)
theorem dJ10_add_2_10 : decode cJ10_add_2 10 = .ok (.astore_n 2, 1) := dk_77 (dk_at dksJ10_add_2_0 10 rfl rfl)
theorem dJ10_add_2_11 : decode cJ10_add_2 11 = .ok (.aload_n 2, 1) := dk_44 (dk_at dksJ10_add_2_0 11 rfl rfl)
theorem dJ10_add_2_12 : decode cJ10_add_2 12 = .ok (.iload_n 3, 1) := dk_29 (dk_at dksJ10_add_2_0 12 rfl rfl)
theorem dJ10_add_2_13 : decode cJ10_add_2 13 = .ok (.aload_n 1, 1) := dk_43 (dk_at dksJ10_add_2_0 13 rfl rfl)
theorem dJ10_add_2_14 : decode cJ10_add_2 14 = .ok (.aastore, 1) := dk_83 (dk_at dksJ10_add_2_0 14 rfl rfl)
theorem dJ10_add_2_15 : decode cJ10_add_2 15 = .ok (.aload_n 0, 1) := dk_42 (dk_at dksJ10_add_2_0 15 rfl rfl)
theorem dJ10_add_2_16 : decode cJ10_add_2 16 = .ok (.iload_n 3, 1) := dk_29 (dk_at dksJ10_add_2_0 16 rfl rfl)
theorem dJ10_add_2_17 : decode cJ10_add_2 17 = .ok (.iconst 1, 1) := dk_4 (dk_at dksJ10_add_2_0 17 rfl rfl)
theorem dJ10_add_2_18 : decode cJ10_add_2 18 = .ok (.iadd, 1) := dk_96 (dk_at dksJ10_add_2_0 18 rfl rfl)
theorem dJ10_add_2_19 : decode cJ10_add_2 19 = .ok (.putfield 48, 3) := dk_181 0 48 (dk_at dksJ10_add_2_0 19 rfl rfl)
theorem dJ10_add_2_22 : decode cJ10_add_2 22 = .ok (.return_, 1) := dk_177 (dk_at dksJ10_add_2_0 22 rfl rfl)
abbrev cJ10_grow : ByteArray := prog_58_method_7_code
def yJ10_grow : MethodName := ⟨RJ10, "grow", "()[Ljava/lang/Object;"⟩
def dkwJ10_grow_0 : List UInt8 := [42, 42, 180, 0, 48, 4, 96, 182, 0, 69, 176]
abbrev dktJ10_grow_0 : List UInt8 := dkwJ10_grow_0 ++ []
theorem dksJ10_grow_0 : cJ10_grow.data.toList.drop 0 = dktJ10_grow_0 := by decide +kernel
theorem dJ10_grow_0 : decode cJ10_grow 0 = .ok (.aload_n 0, 1) := dk_42 (dk_at dksJ10_grow_0 0 rfl rfl)
theorem dJ10_grow_1 : decode cJ10_grow 1 = .ok (.aload_n 0, 1) := dk_42 (dk_at dksJ10_grow_0 1 rfl rfl)
theorem dJ10_grow_2 : decode cJ10_grow 2 = .ok (.getfield 48, 3) := dk_180 0 48 (dk_at dksJ10_grow_0 2 rfl rfl)
theorem dJ10_grow_5 : decode cJ10_grow 5 = .ok (.iconst 1, 1) := dk_4 (dk_at dksJ10_grow_0 5 rfl rfl)
theorem dJ10_grow_6 : decode cJ10_grow 6 = .ok (.iadd, 1) := dk_96 (dk_at dksJ10_grow_0 6 rfl rfl)
theorem dJ10_grow_7 : decode cJ10_grow 7 = .ok (.invokevirtual 69, 3) := dk_182 0 69 (dk_at dksJ10_grow_0 7 rfl rfl)
theorem dJ10_grow_10 : decode cJ10_grow 10 = .ok (.areturn, 1) := dk_176 (dk_at dksJ10_grow_0 10 rfl rfl)
abbrev cJ10_grow_2 : ByteArray := prog_58_method_6_code
def yJ10_grow_2 : MethodName := ⟨RJ10, "grow", "(I)[Ljava/lang/Object;"⟩
def dkwJ10_grow_2_2 : List UInt8 := [27, 184, 0, 79, 189, 0, 7, 90, 181, 0, 9, 176]
abbrev dktJ10_grow_2_2 : List UInt8 := dkwJ10_grow_2_2 ++ []
def dkwJ10_grow_2_1 : List UInt8 := [28, 4, 122, 184, 0, 73, 62, 42, 42, 180, 0, 9, 29, 184, 0, 66, 90, 181, 0, 9, 176, 42, 16, 10]
abbrev dktJ10_grow_2_1 : List UInt8 := dkwJ10_grow_2_1 ++ dktJ10_grow_2_2
def dkwJ10_grow_2_0 : List UInt8 := [42, 180, 0, 9, 190, 61, 28, 157, 0, 13, 42, 180, 0, 9, 178, 0, 39, 165, 0, 28, 28, 27, 28, 100]
abbrev dktJ10_grow_2_0 : List UInt8 := dkwJ10_grow_2_0 ++ dktJ10_grow_2_1
theorem dksJ10_grow_2_0 : cJ10_grow_2.data.toList.drop 0 = dktJ10_grow_2_0 := by decide +kernel
theorem dksJ10_grow_2_1 : cJ10_grow_2.data.toList.drop 24 = dktJ10_grow_2_1 := dk_seg dksJ10_grow_2_0 24 rfl rfl
theorem dksJ10_grow_2_2 : cJ10_grow_2.data.toList.drop 48 = dktJ10_grow_2_2 := dk_seg dksJ10_grow_2_1 24 rfl rfl
theorem dJ10_grow_2_0 : decode cJ10_grow_2 0 = .ok (.aload_n 0, 1) := dk_42 (dk_at dksJ10_grow_2_0 0 rfl rfl)
theorem dJ10_grow_2_1 : decode cJ10_grow_2 1 = .ok (.getfield 9, 3) := dk_180 0 9 (dk_at dksJ10_grow_2_0 1 rfl rfl)
theorem dJ10_grow_2_4 : decode cJ10_grow_2 4 = .ok (.arraylength, 1) := dk_190 (dk_at dksJ10_grow_2_0 4 rfl rfl)
theorem dJ10_grow_2_5 : decode cJ10_grow_2 5 = .ok (.istore_n 2, 1) := dk_61 (dk_at dksJ10_grow_2_0 5 rfl rfl)
theorem dJ10_grow_2_6 : decode cJ10_grow_2 6 = .ok (.iload_n 2, 1) := dk_28 (dk_at dksJ10_grow_2_0 6 rfl rfl)
theorem dJ10_grow_2_7 : decode cJ10_grow_2 7 = .ok (.ifCond .gt 13, 3) := dk_157 0 13 (dk_at dksJ10_grow_2_0 7 rfl rfl)
theorem dJ10_grow_2_10 : decode cJ10_grow_2 10 = .ok (.aload_n 0, 1) := dk_42 (dk_at dksJ10_grow_2_0 10 rfl rfl)
theorem dJ10_grow_2_11 : decode cJ10_grow_2 11 = .ok (.getfield 9, 3) := dk_180 0 9 (dk_at dksJ10_grow_2_0 11 rfl rfl)
theorem dJ10_grow_2_14 : decode cJ10_grow_2 14 = .ok (.getstatic 39, 3) := dk_178 0 39 (dk_at dksJ10_grow_2_0 14 rfl rfl)
theorem dJ10_grow_2_17 : decode cJ10_grow_2 17 = .ok (.if_acmp .eq 28, 3) := dk_165 0 28 (dk_at dksJ10_grow_2_0 17 rfl rfl)
theorem dJ10_grow_2_20 : decode cJ10_grow_2 20 = .ok (.iload_n 2, 1) := dk_28 (dk_at dksJ10_grow_2_0 20 rfl rfl)
theorem dJ10_grow_2_21 : decode cJ10_grow_2 21 = .ok (.iload_n 1, 1) := dk_27 (dk_at dksJ10_grow_2_0 21 rfl rfl)
theorem dJ10_grow_2_22 : decode cJ10_grow_2 22 = .ok (.iload_n 2, 1) := dk_28 (dk_at dksJ10_grow_2_0 22 rfl rfl)
theorem dJ10_grow_2_23 : decode cJ10_grow_2 23 = .ok (.isub, 1) := dk_100 (dk_at dksJ10_grow_2_0 23 rfl rfl)
theorem dJ10_grow_2_24 : decode cJ10_grow_2 24 = .ok (.iload_n 2, 1) := dk_28 (dk_at dksJ10_grow_2_1 0 rfl rfl)
theorem dJ10_grow_2_25 : decode cJ10_grow_2 25 = .ok (.iconst 1, 1) := dk_4 (dk_at dksJ10_grow_2_1 1 rfl rfl)
theorem dJ10_grow_2_26 : decode cJ10_grow_2 26 = .ok (.ishr, 1) := dk_122 (dk_at dksJ10_grow_2_1 2 rfl rfl)
theorem dJ10_grow_2_27 : decode cJ10_grow_2 27 = .ok (.invokestatic 73, 3) := dk_184 0 73 (dk_at dksJ10_grow_2_1 3 rfl rfl)
theorem dJ10_grow_2_30 : decode cJ10_grow_2 30 = .ok (.istore_n 3, 1) := dk_62 (dk_at dksJ10_grow_2_1 6 rfl rfl)
theorem dJ10_grow_2_31 : decode cJ10_grow_2 31 = .ok (.aload_n 0, 1) := dk_42 (dk_at dksJ10_grow_2_1 7 rfl rfl)
theorem dJ10_grow_2_32 : decode cJ10_grow_2 32 = .ok (.aload_n 0, 1) := dk_42 (dk_at dksJ10_grow_2_1 8 rfl rfl)
theorem dJ10_grow_2_33 : decode cJ10_grow_2 33 = .ok (.getfield 9, 3) := dk_180 0 9 (dk_at dksJ10_grow_2_1 9 rfl rfl)
theorem dJ10_grow_2_36 : decode cJ10_grow_2 36 = .ok (.iload_n 3, 1) := dk_29 (dk_at dksJ10_grow_2_1 12 rfl rfl)
theorem dJ10_grow_2_37 : decode cJ10_grow_2 37 = .ok (.invokestatic 66, 3) := dk_184 0 66 (dk_at dksJ10_grow_2_1 13 rfl rfl)
theorem dJ10_grow_2_40 : decode cJ10_grow_2 40 = .ok (.dup_x1, 1) := dk_90 (dk_at dksJ10_grow_2_1 16 rfl rfl)
theorem dJ10_grow_2_41 : decode cJ10_grow_2 41 = .ok (.putfield 9, 3) := dk_181 0 9 (dk_at dksJ10_grow_2_1 17 rfl rfl)
theorem dJ10_grow_2_44 : decode cJ10_grow_2 44 = .ok (.areturn, 1) := dk_176 (dk_at dksJ10_grow_2_1 20 rfl rfl)
theorem dJ10_grow_2_45 : decode cJ10_grow_2 45 = .ok (.aload_n 0, 1) := dk_42 (dk_at dksJ10_grow_2_1 21 rfl rfl)
theorem dJ10_grow_2_46 : decode cJ10_grow_2 46 = .ok (.bipush 10, 2) := dk_16 10 (dk_at dksJ10_grow_2_1 22 rfl rfl)
theorem dJ10_grow_2_48 : decode cJ10_grow_2 48 = .ok (.iload_n 1, 1) := dk_27 (dk_at dksJ10_grow_2_2 0 rfl rfl)
theorem dJ10_grow_2_49 : decode cJ10_grow_2 49 = .ok (.invokestatic 79, 3) := dk_184 0 79 (dk_at dksJ10_grow_2_2 1 rfl rfl)
theorem dJ10_grow_2_52 : decode cJ10_grow_2 52 = .ok (.anewarray 7, 3) := dk_189 0 7 (dk_at dksJ10_grow_2_2 4 rfl rfl)
theorem dJ10_grow_2_55 : decode cJ10_grow_2 55 = .ok (.dup_x1, 1) := dk_90 (dk_at dksJ10_grow_2_2 7 rfl rfl)
theorem dJ10_grow_2_56 : decode cJ10_grow_2 56 = .ok (.putfield 9, 3) := dk_181 0 9 (dk_at dksJ10_grow_2_2 8 rfl rfl)
theorem dJ10_grow_2_59 : decode cJ10_grow_2 59 = .ok (.areturn, 1) := dk_176 (dk_at dksJ10_grow_2_2 11 rfl rfl)
abbrev cJ10_set : ByteArray := prog_58_method_23_code
def yJ10_set : MethodName := ⟨RJ10, "set", "(ILjava/lang/Object;)Ljava/lang/Object;"⟩
def dkwJ10_set_0 : List UInt8 := [27, 42, 180, 0, 48, 184, 0, 118, 87, 42, 27, 182, 0, 123, 78, 42, 180, 0, 9, 27, 44, 83, 45, 176]
abbrev dktJ10_set_0 : List UInt8 := dkwJ10_set_0 ++ []
theorem dksJ10_set_0 : cJ10_set.data.toList.drop 0 = dktJ10_set_0 := by decide +kernel
theorem dJ10_set_0 : decode cJ10_set 0 = .ok (.iload_n 1, 1) := dk_27 (dk_at dksJ10_set_0 0 rfl rfl)
theorem dJ10_set_1 : decode cJ10_set 1 = .ok (.aload_n 0, 1) := dk_42 (dk_at dksJ10_set_0 1 rfl rfl)
theorem dJ10_set_2 : decode cJ10_set 2 = .ok (.getfield 48, 3) := dk_180 0 48 (dk_at dksJ10_set_0 2 rfl rfl)
theorem dJ10_set_5 : decode cJ10_set 5 = .ok (.invokestatic 118, 3) := dk_184 0 118 (dk_at dksJ10_set_0 5 rfl rfl)
theorem dJ10_set_8 : decode cJ10_set 8 = .ok (.pop, 1) := dk_87 (dk_at dksJ10_set_0 8 rfl rfl)
theorem dJ10_set_9 : decode cJ10_set 9 = .ok (.aload_n 0, 1) := dk_42 (dk_at dksJ10_set_0 9 rfl rfl)
theorem dJ10_set_10 : decode cJ10_set 10 = .ok (.iload_n 1, 1) := dk_27 (dk_at dksJ10_set_0 10 rfl rfl)
theorem dJ10_set_11 : decode cJ10_set 11 = .ok (.invokevirtual 123, 3) := dk_182 0 123 (dk_at dksJ10_set_0 11 rfl rfl)
theorem dJ10_set_14 : decode cJ10_set 14 = .ok (.astore_n 3, 1) := dk_78 (dk_at dksJ10_set_0 14 rfl rfl)
theorem dJ10_set_15 : decode cJ10_set 15 = .ok (.aload_n 0, 1) := dk_42 (dk_at dksJ10_set_0 15 rfl rfl)
theorem dJ10_set_16 : decode cJ10_set 16 = .ok (.getfield 9, 3) := dk_180 0 9 (dk_at dksJ10_set_0 16 rfl rfl)
theorem dJ10_set_19 : decode cJ10_set 19 = .ok (.iload_n 1, 1) := dk_27 (dk_at dksJ10_set_0 19 rfl rfl)
theorem dJ10_set_20 : decode cJ10_set 20 = .ok (.aload_n 2, 1) := dk_44 (dk_at dksJ10_set_0 20 rfl rfl)
theorem dJ10_set_21 : decode cJ10_set 21 = .ok (.aastore, 1) := dk_83 (dk_at dksJ10_set_0 21 rfl rfl)
theorem dJ10_set_22 : decode cJ10_set 22 = .ok (.aload_n 3, 1) := dk_45 (dk_at dksJ10_set_0 22 rfl rfl)
theorem dJ10_set_23 : decode cJ10_set 23 = .ok (.areturn, 1) := dk_176 (dk_at dksJ10_set_0 23 rfl rfl)
abbrev cJ10_clear : ByteArray := prog_58_method_40_code
def yJ10_clear : MethodName := ⟨RJ10, "clear", "()V"⟩
def dkwJ10_clear_1 : List UInt8 := [181, 0, 48, 62, 29, 28, 162, 0, 13, 43, 29, 1, 83, 132, 3, 1, 167, 255, 244, 177]
abbrev dktJ10_clear_1 : List UInt8 := dkwJ10_clear_1 ++ []
def dkwJ10_clear_0 : List UInt8 := [42, 89, 180, 0, 63, 4, 96, 181, 0, 63, 42, 180, 0, 9, 76, 42, 180, 0, 48, 61, 42, 3, 90]
abbrev dktJ10_clear_0 : List UInt8 := dkwJ10_clear_0 ++ dktJ10_clear_1
theorem dksJ10_clear_0 : cJ10_clear.data.toList.drop 0 = dktJ10_clear_0 := by decide +kernel
theorem dksJ10_clear_1 : cJ10_clear.data.toList.drop 23 = dktJ10_clear_1 := dk_seg dksJ10_clear_0 23 rfl rfl
theorem dJ10_clear_0 : decode cJ10_clear 0 = .ok (.aload_n 0, 1) := dk_42 (dk_at dksJ10_clear_0 0 rfl rfl)
theorem dJ10_clear_1 : decode cJ10_clear 1 = .ok (.dup, 1) := dk_89 (dk_at dksJ10_clear_0 1 rfl rfl)
theorem dJ10_clear_2 : decode cJ10_clear 2 = .ok (.getfield 63, 3) := dk_180 0 63 (dk_at dksJ10_clear_0 2 rfl rfl)
theorem dJ10_clear_5 : decode cJ10_clear 5 = .ok (.iconst 1, 1) := dk_4 (dk_at dksJ10_clear_0 5 rfl rfl)
theorem dJ10_clear_6 : decode cJ10_clear 6 = .ok (.iadd, 1) := dk_96 (dk_at dksJ10_clear_0 6 rfl rfl)
theorem dJ10_clear_7 : decode cJ10_clear 7 = .ok (.putfield 63, 3) := dk_181 0 63 (dk_at dksJ10_clear_0 7 rfl rfl)
theorem dJ10_clear_10 : decode cJ10_clear 10 = .ok (.aload_n 0, 1) := dk_42 (dk_at dksJ10_clear_0 10 rfl rfl)
theorem dJ10_clear_11 : decode cJ10_clear 11 = .ok (.getfield 9, 3) := dk_180 0 9 (dk_at dksJ10_clear_0 11 rfl rfl)
theorem dJ10_clear_14 : decode cJ10_clear 14 = .ok (.astore_n 1, 1) := dk_76 (dk_at dksJ10_clear_0 14 rfl rfl)
theorem dJ10_clear_15 : decode cJ10_clear 15 = .ok (.aload_n 0, 1) := dk_42 (dk_at dksJ10_clear_0 15 rfl rfl)
theorem dJ10_clear_16 : decode cJ10_clear 16 = .ok (.getfield 48, 3) := dk_180 0 48 (dk_at dksJ10_clear_0 16 rfl rfl)
theorem dJ10_clear_19 : decode cJ10_clear 19 = .ok (.istore_n 2, 1) := dk_61 (dk_at dksJ10_clear_0 19 rfl rfl)
theorem dJ10_clear_20 : decode cJ10_clear 20 = .ok (.aload_n 0, 1) := dk_42 (dk_at dksJ10_clear_0 20 rfl rfl)
theorem dJ10_clear_21 : decode cJ10_clear 21 = .ok (.iconst 0, 1) := dk_3 (dk_at dksJ10_clear_0 21 rfl rfl)
theorem dJ10_clear_22 : decode cJ10_clear 22 = .ok (.dup_x1, 1) := dk_90 (dk_at dksJ10_clear_0 22 rfl rfl)
theorem dJ10_clear_23 : decode cJ10_clear 23 = .ok (.putfield 48, 3) := dk_181 0 48 (dk_at dksJ10_clear_1 0 rfl rfl)
theorem dJ10_clear_26 : decode cJ10_clear 26 = .ok (.istore_n 3, 1) := dk_62 (dk_at dksJ10_clear_1 3 rfl rfl)
theorem dJ10_clear_27 : decode cJ10_clear 27 = .ok (.iload_n 3, 1) := dk_29 (dk_at dksJ10_clear_1 4 rfl rfl)
theorem dJ10_clear_28 : decode cJ10_clear 28 = .ok (.iload_n 2, 1) := dk_28 (dk_at dksJ10_clear_1 5 rfl rfl)
theorem dJ10_clear_29 : decode cJ10_clear 29 = .ok (.if_icmp .ge 13, 3) := dk_162 0 13 (dk_at dksJ10_clear_1 6 rfl rfl)
theorem dJ10_clear_32 : decode cJ10_clear 32 = .ok (.aload_n 1, 1) := dk_43 (dk_at dksJ10_clear_1 9 rfl rfl)
theorem dJ10_clear_33 : decode cJ10_clear 33 = .ok (.iload_n 3, 1) := dk_29 (dk_at dksJ10_clear_1 10 rfl rfl)
theorem dJ10_clear_34 : decode cJ10_clear 34 = .ok (.aconst_null, 1) := dk_1 (dk_at dksJ10_clear_1 11 rfl rfl)
theorem dJ10_clear_35 : decode cJ10_clear 35 = .ok (.aastore, 1) := dk_83 (dk_at dksJ10_clear_1 12 rfl rfl)
theorem dJ10_clear_36 : decode cJ10_clear 36 = .ok (.iinc 3 1, 3) := dk_132 3 1 (dk_at dksJ10_clear_1 13 rfl rfl)
theorem dJ10_clear_39 : decode cJ10_clear 39 = .ok (.goto (-12), 3) := dk_167 255 244 (dk_at dksJ10_clear_1 16 rfl rfl)
theorem dJ10_clear_42 : decode cJ10_clear 42 = .ok (.return_, 1) := dk_177 (dk_at dksJ10_clear_1 19 rfl rfl)
abbrev cJ10_addAll : ByteArray := prog_58_method_41_code
def yJ10_addAll : MethodName := ⟨RJ10, "addAll", "(Ljava/util/Collection;)Z"⟩
def dkwJ10_addAll_3 : List UInt8 := [181, 0, 48, 4, 172]
abbrev dktJ10_addAll_3 : List UInt8 := dkwJ10_addAll_3 ++ []
def dkwJ10_addAll_2 : List UInt8 := [21, 5, 29, 96, 182, 0, 69, 58, 4, 44, 3, 25, 4, 21, 5, 29, 184, 0, 112, 42, 21, 5, 29, 96]
abbrev dktJ10_addAll_2 : List UInt8 := dkwJ10_addAll_2 ++ dktJ10_addAll_3
def dkwJ10_addAll_1 : List UInt8 := [3, 172, 29, 42, 180, 0, 9, 89, 58, 4, 190, 42, 180, 0, 48, 89, 54, 5, 100, 164, 0, 13, 42]
abbrev dktJ10_addAll_1 : List UInt8 := dkwJ10_addAll_1 ++ dktJ10_addAll_2
def dkwJ10_addAll_0 : List UInt8 := [43, 185, 0, 42, 1, 0, 77, 42, 89, 180, 0, 63, 4, 96, 181, 0, 63, 44, 190, 62, 29, 154, 0, 5]
abbrev dktJ10_addAll_0 : List UInt8 := dkwJ10_addAll_0 ++ dktJ10_addAll_1
theorem dksJ10_addAll_0 : cJ10_addAll.data.toList.drop 0 = dktJ10_addAll_0 := by decide +kernel
theorem dksJ10_addAll_1 : cJ10_addAll.data.toList.drop 24 = dktJ10_addAll_1 := dk_seg dksJ10_addAll_0 24 rfl rfl
theorem dksJ10_addAll_2 : cJ10_addAll.data.toList.drop 47 = dktJ10_addAll_2 := dk_seg dksJ10_addAll_1 23 rfl rfl
theorem dksJ10_addAll_3 : cJ10_addAll.data.toList.drop 71 = dktJ10_addAll_3 := dk_seg dksJ10_addAll_2 24 rfl rfl
theorem dJ10_addAll_0 : decode cJ10_addAll 0 = .ok (.aload_n 1, 1) := dk_43 (dk_at dksJ10_addAll_0 0 rfl rfl)
theorem dJ10_addAll_1 : decode cJ10_addAll 1 = .ok (.invokeinterface 42 1, 5) := by decide +kernel
theorem dJ10_addAll_6 : decode cJ10_addAll 6 = .ok (.astore_n 2, 1) := dk_77 (dk_at dksJ10_addAll_0 6 rfl rfl)
theorem dJ10_addAll_7 : decode cJ10_addAll 7 = .ok (.aload_n 0, 1) := dk_42 (dk_at dksJ10_addAll_0 7 rfl rfl)
theorem dJ10_addAll_8 : decode cJ10_addAll 8 = .ok (.dup, 1) := dk_89 (dk_at dksJ10_addAll_0 8 rfl rfl)
theorem dJ10_addAll_9 : decode cJ10_addAll 9 = .ok (.getfield 63, 3) := dk_180 0 63 (dk_at dksJ10_addAll_0 9 rfl rfl)
theorem dJ10_addAll_12 : decode cJ10_addAll 12 = .ok (.iconst 1, 1) := dk_4 (dk_at dksJ10_addAll_0 12 rfl rfl)
theorem dJ10_addAll_13 : decode cJ10_addAll 13 = .ok (.iadd, 1) := dk_96 (dk_at dksJ10_addAll_0 13 rfl rfl)
theorem dJ10_addAll_14 : decode cJ10_addAll 14 = .ok (.putfield 63, 3) := dk_181 0 63 (dk_at dksJ10_addAll_0 14 rfl rfl)
theorem dJ10_addAll_17 : decode cJ10_addAll 17 = .ok (.aload_n 2, 1) := dk_44 (dk_at dksJ10_addAll_0 17 rfl rfl)
theorem dJ10_addAll_18 : decode cJ10_addAll 18 = .ok (.arraylength, 1) := dk_190 (dk_at dksJ10_addAll_0 18 rfl rfl)
theorem dJ10_addAll_19 : decode cJ10_addAll 19 = .ok (.istore_n 3, 1) := dk_62 (dk_at dksJ10_addAll_0 19 rfl rfl)
theorem dJ10_addAll_20 : decode cJ10_addAll 20 = .ok (.iload_n 3, 1) := dk_29 (dk_at dksJ10_addAll_0 20 rfl rfl)
theorem dJ10_addAll_21 : decode cJ10_addAll 21 = .ok (.ifCond .ne 5, 3) := dk_154 0 5 (dk_at dksJ10_addAll_0 21 rfl rfl)
theorem dJ10_addAll_24 : decode cJ10_addAll 24 = .ok (.iconst 0, 1) := dk_3 (dk_at dksJ10_addAll_1 0 rfl rfl)
theorem dJ10_addAll_25 : decode cJ10_addAll 25 = .ok (.ireturn, 1) := dk_172 (dk_at dksJ10_addAll_1 1 rfl rfl)
theorem dJ10_addAll_26 : decode cJ10_addAll 26 = .ok (.iload_n 3, 1) := dk_29 (dk_at dksJ10_addAll_1 2 rfl rfl)
theorem dJ10_addAll_27 : decode cJ10_addAll 27 = .ok (.aload_n 0, 1) := dk_42 (dk_at dksJ10_addAll_1 3 rfl rfl)
theorem dJ10_addAll_28 : decode cJ10_addAll 28 = .ok (.getfield 9, 3) := dk_180 0 9 (dk_at dksJ10_addAll_1 4 rfl rfl)
theorem dJ10_addAll_31 : decode cJ10_addAll 31 = .ok (.dup, 1) := dk_89 (dk_at dksJ10_addAll_1 7 rfl rfl)
theorem dJ10_addAll_32 : decode cJ10_addAll 32 = .ok (.astore 4, 2) := dk_58 4 (dk_at dksJ10_addAll_1 8 rfl rfl)
theorem dJ10_addAll_34 : decode cJ10_addAll 34 = .ok (.arraylength, 1) := dk_190 (dk_at dksJ10_addAll_1 10 rfl rfl)
theorem dJ10_addAll_35 : decode cJ10_addAll 35 = .ok (.aload_n 0, 1) := dk_42 (dk_at dksJ10_addAll_1 11 rfl rfl)
theorem dJ10_addAll_36 : decode cJ10_addAll 36 = .ok (.getfield 48, 3) := dk_180 0 48 (dk_at dksJ10_addAll_1 12 rfl rfl)
theorem dJ10_addAll_39 : decode cJ10_addAll 39 = .ok (.dup, 1) := dk_89 (dk_at dksJ10_addAll_1 15 rfl rfl)
theorem dJ10_addAll_40 : decode cJ10_addAll 40 = .ok (.istore 5, 2) := dk_54 5 (dk_at dksJ10_addAll_1 16 rfl rfl)
theorem dJ10_addAll_42 : decode cJ10_addAll 42 = .ok (.isub, 1) := dk_100 (dk_at dksJ10_addAll_1 18 rfl rfl)
theorem dJ10_addAll_43 : decode cJ10_addAll 43 = .ok (.if_icmp .le 13, 3) := dk_164 0 13 (dk_at dksJ10_addAll_1 19 rfl rfl)
theorem dJ10_addAll_46 : decode cJ10_addAll 46 = .ok (.aload_n 0, 1) := dk_42 (dk_at dksJ10_addAll_1 22 rfl rfl)
theorem dJ10_addAll_47 : decode cJ10_addAll 47 = .ok (.iload 5, 2) := dk_21 5 (dk_at dksJ10_addAll_2 0 rfl rfl)
theorem dJ10_addAll_49 : decode cJ10_addAll 49 = .ok (.iload_n 3, 1) := dk_29 (dk_at dksJ10_addAll_2 2 rfl rfl)
theorem dJ10_addAll_50 : decode cJ10_addAll 50 = .ok (.iadd, 1) := dk_96 (dk_at dksJ10_addAll_2 3 rfl rfl)
theorem dJ10_addAll_51 : decode cJ10_addAll 51 = .ok (.invokevirtual 69, 3) := dk_182 0 69 (dk_at dksJ10_addAll_2 4 rfl rfl)
theorem dJ10_addAll_54 : decode cJ10_addAll 54 = .ok (.astore 4, 2) := dk_58 4 (dk_at dksJ10_addAll_2 7 rfl rfl)
theorem dJ10_addAll_56 : decode cJ10_addAll 56 = .ok (.aload_n 2, 1) := dk_44 (dk_at dksJ10_addAll_2 9 rfl rfl)
theorem dJ10_addAll_57 : decode cJ10_addAll 57 = .ok (.iconst 0, 1) := dk_3 (dk_at dksJ10_addAll_2 10 rfl rfl)
theorem dJ10_addAll_58 : decode cJ10_addAll 58 = .ok (.aload 4, 2) := dk_25 4 (dk_at dksJ10_addAll_2 11 rfl rfl)
theorem dJ10_addAll_60 : decode cJ10_addAll 60 = .ok (.iload 5, 2) := dk_21 5 (dk_at dksJ10_addAll_2 13 rfl rfl)
theorem dJ10_addAll_62 : decode cJ10_addAll 62 = .ok (.iload_n 3, 1) := dk_29 (dk_at dksJ10_addAll_2 15 rfl rfl)
theorem dJ10_addAll_63 : decode cJ10_addAll 63 = .ok (.invokestatic 112, 3) := dk_184 0 112 (dk_at dksJ10_addAll_2 16 rfl rfl)
theorem dJ10_addAll_66 : decode cJ10_addAll 66 = .ok (.aload_n 0, 1) := dk_42 (dk_at dksJ10_addAll_2 19 rfl rfl)
theorem dJ10_addAll_67 : decode cJ10_addAll 67 = .ok (.iload 5, 2) := dk_21 5 (dk_at dksJ10_addAll_2 20 rfl rfl)
theorem dJ10_addAll_69 : decode cJ10_addAll 69 = .ok (.iload_n 3, 1) := dk_29 (dk_at dksJ10_addAll_2 22 rfl rfl)
theorem dJ10_addAll_70 : decode cJ10_addAll 70 = .ok (.iadd, 1) := dk_96 (dk_at dksJ10_addAll_2 23 rfl rfl)
theorem dJ10_addAll_71 : decode cJ10_addAll 71 = .ok (.putfield 48, 3) := dk_181 0 48 (dk_at dksJ10_addAll_3 0 rfl rfl)
theorem dJ10_addAll_74 : decode cJ10_addAll 74 = .ok (.iconst 1, 1) := dk_4 (dk_at dksJ10_addAll_3 3 rfl rfl)
theorem dJ10_addAll_75 : decode cJ10_addAll 75 = .ok (.ireturn, 1) := dk_172 (dk_at dksJ10_addAll_3 4 rfl rfl)
abbrev cJ10_toArray : ByteArray := prog_58_method_16_code
def yJ10_toArray : MethodName := ⟨RJ10, "toArray", "()[Ljava/lang/Object;"⟩
def dkwJ10_toArray_0 : List UInt8 := [42, 180, 0, 9, 42, 180, 0, 48, 184, 0, 66, 176]
abbrev dktJ10_toArray_0 : List UInt8 := dkwJ10_toArray_0 ++ []
theorem dksJ10_toArray_0 : cJ10_toArray.data.toList.drop 0 = dktJ10_toArray_0 := by decide +kernel
theorem dJ10_toArray_0 : decode cJ10_toArray 0 = .ok (.aload_n 0, 1) := dk_42 (dk_at dksJ10_toArray_0 0 rfl rfl)
theorem dJ10_toArray_1 : decode cJ10_toArray 1 = .ok (.getfield 9, 3) := dk_180 0 9 (dk_at dksJ10_toArray_0 1 rfl rfl)
theorem dJ10_toArray_4 : decode cJ10_toArray 4 = .ok (.aload_n 0, 1) := dk_42 (dk_at dksJ10_toArray_0 4 rfl rfl)
theorem dJ10_toArray_5 : decode cJ10_toArray 5 = .ok (.getfield 48, 3) := dk_180 0 48 (dk_at dksJ10_toArray_0 5 rfl rfl)
theorem dJ10_toArray_8 : decode cJ10_toArray 8 = .ok (.invokestatic 66, 3) := dk_184 0 66 (dk_at dksJ10_toArray_0 8 rfl rfl)
theorem dJ10_toArray_11 : decode cJ10_toArray 11 = .ok (.areturn, 1) := dk_176 (dk_at dksJ10_toArray_0 11 rfl rfl)
abbrev cJ10_isEmpty : ByteArray := prog_58_method_9_code
def yJ10_isEmpty : MethodName := ⟨RJ10, "isEmpty", "()Z"⟩
def dkwJ10_isEmpty_0 : List UInt8 := [42, 180, 0, 48, 154, 0, 7, 4, 167, 0, 4, 3, 172]
abbrev dktJ10_isEmpty_0 : List UInt8 := dkwJ10_isEmpty_0 ++ []
theorem dksJ10_isEmpty_0 : cJ10_isEmpty.data.toList.drop 0 = dktJ10_isEmpty_0 := by decide +kernel
theorem dJ10_isEmpty_0 : decode cJ10_isEmpty 0 = .ok (.aload_n 0, 1) := dk_42 (dk_at dksJ10_isEmpty_0 0 rfl rfl)
theorem dJ10_isEmpty_1 : decode cJ10_isEmpty 1 = .ok (.getfield 48, 3) := dk_180 0 48 (dk_at dksJ10_isEmpty_0 1 rfl rfl)
theorem dJ10_isEmpty_4 : decode cJ10_isEmpty 4 = .ok (.ifCond .ne 7, 3) := dk_154 0 7 (dk_at dksJ10_isEmpty_0 4 rfl rfl)
theorem dJ10_isEmpty_7 : decode cJ10_isEmpty 7 = .ok (.iconst 1, 1) := dk_4 (dk_at dksJ10_isEmpty_0 7 rfl rfl)
theorem dJ10_isEmpty_8 : decode cJ10_isEmpty 8 = .ok (.goto 4, 3) := dk_167 0 4 (dk_at dksJ10_isEmpty_0 8 rfl rfl)
theorem dJ10_isEmpty_11 : decode cJ10_isEmpty 11 = .ok (.iconst 0, 1) := dk_3 (dk_at dksJ10_isEmpty_0 11 rfl rfl)
theorem dJ10_isEmpty_12 : decode cJ10_isEmpty 12 = .ok (.ireturn, 1) := dk_172 (dk_at dksJ10_isEmpty_0 12 rfl rfl)
abbrev cJ10_remove : ByteArray := prog_58_method_29_code
def yJ10_remove : MethodName := ⟨RJ10, "remove", "(I)Ljava/lang/Object;"⟩
def dkwJ10_remove_1 : List UInt8 := [45, 176]
abbrev dktJ10_remove_1 : List UInt8 := dkwJ10_remove_1 ++ []
def dkwJ10_remove_0 : List UInt8 := [27, 42, 180, 0, 48, 184, 0, 118, 87, 42, 180, 0, 9, 77, 44, 27, 50, 78, 42, 44, 27, 182, 0, 144]
abbrev dktJ10_remove_0 : List UInt8 := dkwJ10_remove_0 ++ dktJ10_remove_1
theorem dksJ10_remove_0 : cJ10_remove.data.toList.drop 0 = dktJ10_remove_0 := by decide +kernel
theorem dksJ10_remove_1 : cJ10_remove.data.toList.drop 24 = dktJ10_remove_1 := dk_seg dksJ10_remove_0 24 rfl rfl
theorem dJ10_remove_0 : decode cJ10_remove 0 = .ok (.iload_n 1, 1) := dk_27 (dk_at dksJ10_remove_0 0 rfl rfl)
theorem dJ10_remove_1 : decode cJ10_remove 1 = .ok (.aload_n 0, 1) := dk_42 (dk_at dksJ10_remove_0 1 rfl rfl)
theorem dJ10_remove_2 : decode cJ10_remove 2 = .ok (.getfield 48, 3) := dk_180 0 48 (dk_at dksJ10_remove_0 2 rfl rfl)
theorem dJ10_remove_5 : decode cJ10_remove 5 = .ok (.invokestatic 118, 3) := dk_184 0 118 (dk_at dksJ10_remove_0 5 rfl rfl)
theorem dJ10_remove_8 : decode cJ10_remove 8 = .ok (.pop, 1) := dk_87 (dk_at dksJ10_remove_0 8 rfl rfl)
theorem dJ10_remove_9 : decode cJ10_remove 9 = .ok (.aload_n 0, 1) := dk_42 (dk_at dksJ10_remove_0 9 rfl rfl)
theorem dJ10_remove_10 : decode cJ10_remove 10 = .ok (.getfield 9, 3) := dk_180 0 9 (dk_at dksJ10_remove_0 10 rfl rfl)
theorem dJ10_remove_13 : decode cJ10_remove 13 = .ok (.astore_n 2, 1) := dk_77 (dk_at dksJ10_remove_0 13 rfl rfl)
theorem dJ10_remove_14 : decode cJ10_remove 14 = .ok (.aload_n 2, 1) := dk_44 (dk_at dksJ10_remove_0 14 rfl rfl)
theorem dJ10_remove_15 : decode cJ10_remove 15 = .ok (.iload_n 1, 1) := dk_27 (dk_at dksJ10_remove_0 15 rfl rfl)
theorem dJ10_remove_16 : decode cJ10_remove 16 = .ok (.aaload, 1) := dk_50 (dk_at dksJ10_remove_0 16 rfl rfl)
theorem dJ10_remove_17 : decode cJ10_remove 17 = .ok (.astore_n 3, 1) := dk_78 (dk_at dksJ10_remove_0 17 rfl rfl)
theorem dJ10_remove_18 : decode cJ10_remove 18 = .ok (.aload_n 0, 1) := dk_42 (dk_at dksJ10_remove_0 18 rfl rfl)
theorem dJ10_remove_19 : decode cJ10_remove 19 = .ok (.aload_n 2, 1) := dk_44 (dk_at dksJ10_remove_0 19 rfl rfl)
theorem dJ10_remove_20 : decode cJ10_remove 20 = .ok (.iload_n 1, 1) := dk_27 (dk_at dksJ10_remove_0 20 rfl rfl)
theorem dJ10_remove_21 : decode cJ10_remove 21 = .ok (.invokevirtual 144, 3) := dk_182 0 144 (dk_at dksJ10_remove_0 21 rfl rfl)
theorem dJ10_remove_24 : decode cJ10_remove 24 = .ok (.aload_n 3, 1) := dk_45 (dk_at dksJ10_remove_1 0 rfl rfl)
theorem dJ10_remove_25 : decode cJ10_remove 25 = .ok (.areturn, 1) := dk_176 (dk_at dksJ10_remove_1 1 rfl rfl)
abbrev cJ10_fastRemove : ByteArray := prog_58_method_39_code
def yJ10_fastRemove : MethodName := ⟨RJ10, "fastRemove", "([Ljava/lang/Object;I)V"⟩
def dkwJ10_fastRemove_1 : List UInt8 := [4, 96, 43, 28, 29, 28, 100, 184, 0, 112, 43, 42, 29, 90, 181, 0, 48, 1, 83, 177]
abbrev dktJ10_fastRemove_1 : List UInt8 := dkwJ10_fastRemove_1 ++ []
def dkwJ10_fastRemove_0 : List UInt8 := [42, 89, 180, 0, 63, 4, 96, 181, 0, 63, 42, 180, 0, 48, 4, 100, 89, 62, 28, 164, 0, 15, 43, 28]
abbrev dktJ10_fastRemove_0 : List UInt8 := dkwJ10_fastRemove_0 ++ dktJ10_fastRemove_1
theorem dksJ10_fastRemove_0 : cJ10_fastRemove.data.toList.drop 0 = dktJ10_fastRemove_0 := by decide +kernel
theorem dksJ10_fastRemove_1 : cJ10_fastRemove.data.toList.drop 24 = dktJ10_fastRemove_1 := dk_seg dksJ10_fastRemove_0 24 rfl rfl
theorem dJ10_fastRemove_0 : decode cJ10_fastRemove 0 = .ok (.aload_n 0, 1) := dk_42 (dk_at dksJ10_fastRemove_0 0 rfl rfl)
theorem dJ10_fastRemove_1 : decode cJ10_fastRemove 1 = .ok (.dup, 1) := dk_89 (dk_at dksJ10_fastRemove_0 1 rfl rfl)
theorem dJ10_fastRemove_2 : decode cJ10_fastRemove 2 = .ok (.getfield 63, 3) := dk_180 0 63 (dk_at dksJ10_fastRemove_0 2 rfl rfl)
theorem dJ10_fastRemove_5 : decode cJ10_fastRemove 5 = .ok (.iconst 1, 1) := dk_4 (dk_at dksJ10_fastRemove_0 5 rfl rfl)
theorem dJ10_fastRemove_6 : decode cJ10_fastRemove 6 = .ok (.iadd, 1) := dk_96 (dk_at dksJ10_fastRemove_0 6 rfl rfl)
theorem dJ10_fastRemove_7 : decode cJ10_fastRemove 7 = .ok (.putfield 63, 3) := dk_181 0 63 (dk_at dksJ10_fastRemove_0 7 rfl rfl)
theorem dJ10_fastRemove_10 : decode cJ10_fastRemove 10 = .ok (.aload_n 0, 1) := dk_42 (dk_at dksJ10_fastRemove_0 10 rfl rfl)
theorem dJ10_fastRemove_11 : decode cJ10_fastRemove 11 = .ok (.getfield 48, 3) := dk_180 0 48 (dk_at dksJ10_fastRemove_0 11 rfl rfl)
theorem dJ10_fastRemove_14 : decode cJ10_fastRemove 14 = .ok (.iconst 1, 1) := dk_4 (dk_at dksJ10_fastRemove_0 14 rfl rfl)
theorem dJ10_fastRemove_15 : decode cJ10_fastRemove 15 = .ok (.isub, 1) := dk_100 (dk_at dksJ10_fastRemove_0 15 rfl rfl)
theorem dJ10_fastRemove_16 : decode cJ10_fastRemove 16 = .ok (.dup, 1) := dk_89 (dk_at dksJ10_fastRemove_0 16 rfl rfl)
theorem dJ10_fastRemove_17 : decode cJ10_fastRemove 17 = .ok (.istore_n 3, 1) := dk_62 (dk_at dksJ10_fastRemove_0 17 rfl rfl)
theorem dJ10_fastRemove_18 : decode cJ10_fastRemove 18 = .ok (.iload_n 2, 1) := dk_28 (dk_at dksJ10_fastRemove_0 18 rfl rfl)
theorem dJ10_fastRemove_19 : decode cJ10_fastRemove 19 = .ok (.if_icmp .le 15, 3) := dk_164 0 15 (dk_at dksJ10_fastRemove_0 19 rfl rfl)
theorem dJ10_fastRemove_22 : decode cJ10_fastRemove 22 = .ok (.aload_n 1, 1) := dk_43 (dk_at dksJ10_fastRemove_0 22 rfl rfl)
theorem dJ10_fastRemove_23 : decode cJ10_fastRemove 23 = .ok (.iload_n 2, 1) := dk_28 (dk_at dksJ10_fastRemove_0 23 rfl rfl)
theorem dJ10_fastRemove_24 : decode cJ10_fastRemove 24 = .ok (.iconst 1, 1) := dk_4 (dk_at dksJ10_fastRemove_1 0 rfl rfl)
theorem dJ10_fastRemove_25 : decode cJ10_fastRemove 25 = .ok (.iadd, 1) := dk_96 (dk_at dksJ10_fastRemove_1 1 rfl rfl)
theorem dJ10_fastRemove_26 : decode cJ10_fastRemove 26 = .ok (.aload_n 1, 1) := dk_43 (dk_at dksJ10_fastRemove_1 2 rfl rfl)
theorem dJ10_fastRemove_27 : decode cJ10_fastRemove 27 = .ok (.iload_n 2, 1) := dk_28 (dk_at dksJ10_fastRemove_1 3 rfl rfl)
theorem dJ10_fastRemove_28 : decode cJ10_fastRemove 28 = .ok (.iload_n 3, 1) := dk_29 (dk_at dksJ10_fastRemove_1 4 rfl rfl)
theorem dJ10_fastRemove_29 : decode cJ10_fastRemove 29 = .ok (.iload_n 2, 1) := dk_28 (dk_at dksJ10_fastRemove_1 5 rfl rfl)
theorem dJ10_fastRemove_30 : decode cJ10_fastRemove 30 = .ok (.isub, 1) := dk_100 (dk_at dksJ10_fastRemove_1 6 rfl rfl)
theorem dJ10_fastRemove_31 : decode cJ10_fastRemove 31 = .ok (.invokestatic 112, 3) := dk_184 0 112 (dk_at dksJ10_fastRemove_1 7 rfl rfl)
theorem dJ10_fastRemove_34 : decode cJ10_fastRemove 34 = .ok (.aload_n 1, 1) := dk_43 (dk_at dksJ10_fastRemove_1 10 rfl rfl)
theorem dJ10_fastRemove_35 : decode cJ10_fastRemove 35 = .ok (.aload_n 0, 1) := dk_42 (dk_at dksJ10_fastRemove_1 11 rfl rfl)
theorem dJ10_fastRemove_36 : decode cJ10_fastRemove 36 = .ok (.iload_n 3, 1) := dk_29 (dk_at dksJ10_fastRemove_1 12 rfl rfl)
theorem dJ10_fastRemove_37 : decode cJ10_fastRemove 37 = .ok (.dup_x1, 1) := dk_90 (dk_at dksJ10_fastRemove_1 13 rfl rfl)
theorem dJ10_fastRemove_38 : decode cJ10_fastRemove 38 = .ok (.putfield 48, 3) := dk_181 0 48 (dk_at dksJ10_fastRemove_1 14 rfl rfl)
theorem dJ10_fastRemove_41 : decode cJ10_fastRemove 41 = .ok (.aconst_null, 1) := dk_1 (dk_at dksJ10_fastRemove_1 17 rfl rfl)
theorem dJ10_fastRemove_42 : decode cJ10_fastRemove 42 = .ok (.aastore, 1) := dk_83 (dk_at dksJ10_fastRemove_1 18 rfl rfl)
theorem dJ10_fastRemove_43 : decode cJ10_fastRemove 43 = .ok (.return_, 1) := dk_177 (dk_at dksJ10_fastRemove_1 19 rfl rfl)
abbrev cJ10_listIterator : ByteArray := prog_58_method_53_code
def yJ10_listIterator : MethodName := ⟨RJ10, "listIterator", "(I)Ljava/util/ListIterator;"⟩
def dkwJ10_listIterator_0 : List UInt8 := [42, 27, 182, 0, 135, 187, 1, 6, 89, 42, 27, 183, 1, 8, 176]
abbrev dktJ10_listIterator_0 : List UInt8 := dkwJ10_listIterator_0 ++ []
theorem dksJ10_listIterator_0 : cJ10_listIterator.data.toList.drop 0 = dktJ10_listIterator_0 := by decide +kernel
theorem dJ10_listIterator_0 : decode cJ10_listIterator 0 = .ok (.aload_n 0, 1) := dk_42 (dk_at dksJ10_listIterator_0 0 rfl rfl)
theorem dJ10_listIterator_1 : decode cJ10_listIterator 1 = .ok (.iload_n 1, 1) := dk_27 (dk_at dksJ10_listIterator_0 1 rfl rfl)
theorem dJ10_listIterator_2 : decode cJ10_listIterator 2 = .ok (.invokevirtual 135, 3) := dk_182 0 135 (dk_at dksJ10_listIterator_0 2 rfl rfl)
theorem dJ10_listIterator_5 : decode cJ10_listIterator 5 = .ok (.new 262, 3) := dk_187 1 6 (dk_at dksJ10_listIterator_0 5 rfl rfl)
theorem dJ10_listIterator_8 : decode cJ10_listIterator 8 = .ok (.dup, 1) := dk_89 (dk_at dksJ10_listIterator_0 8 rfl rfl)
theorem dJ10_listIterator_9 : decode cJ10_listIterator 9 = .ok (.aload_n 0, 1) := dk_42 (dk_at dksJ10_listIterator_0 9 rfl rfl)
theorem dJ10_listIterator_10 : decode cJ10_listIterator 10 = .ok (.iload_n 1, 1) := dk_27 (dk_at dksJ10_listIterator_0 10 rfl rfl)
theorem dJ10_listIterator_11 : decode cJ10_listIterator 11 = .ok (.invokespecial 264, 3) := dk_183 1 8 (dk_at dksJ10_listIterator_0 11 rfl rfl)
theorem dJ10_listIterator_14 : decode cJ10_listIterator 14 = .ok (.areturn, 1) := dk_176 (dk_at dksJ10_listIterator_0 14 rfl rfl)
abbrev cJ10_rangeCheckForAdd : ByteArray := prog_58_method_45_code
def yJ10_rangeCheckForAdd : MethodName := ⟨RJ10, "rangeCheckForAdd", "(I)V"⟩
def dkwJ10_rangeCheckForAdd_1 : List UInt8 := [191, 177]
abbrev dktJ10_rangeCheckForAdd_1 : List UInt8 := dkwJ10_rangeCheckForAdd_1 ++ []
def dkwJ10_rangeCheckForAdd_0 : List UInt8 := [27, 42, 180, 0, 48, 163, 0, 7, 27, 156, 0, 16, 187, 0, 187, 89, 42, 27, 182, 0, 198, 183, 0, 193]
abbrev dktJ10_rangeCheckForAdd_0 : List UInt8 := dkwJ10_rangeCheckForAdd_0 ++ dktJ10_rangeCheckForAdd_1
theorem dksJ10_rangeCheckForAdd_0 : cJ10_rangeCheckForAdd.data.toList.drop 0 = dktJ10_rangeCheckForAdd_0 := by decide +kernel
theorem dksJ10_rangeCheckForAdd_1 : cJ10_rangeCheckForAdd.data.toList.drop 24 = dktJ10_rangeCheckForAdd_1 := dk_seg dksJ10_rangeCheckForAdd_0 24 rfl rfl
theorem dJ10_rangeCheckForAdd_0 : decode cJ10_rangeCheckForAdd 0 = .ok (.iload_n 1, 1) := dk_27 (dk_at dksJ10_rangeCheckForAdd_0 0 rfl rfl)
theorem dJ10_rangeCheckForAdd_1 : decode cJ10_rangeCheckForAdd 1 = .ok (.aload_n 0, 1) := dk_42 (dk_at dksJ10_rangeCheckForAdd_0 1 rfl rfl)
theorem dJ10_rangeCheckForAdd_2 : decode cJ10_rangeCheckForAdd 2 = .ok (.getfield 48, 3) := dk_180 0 48 (dk_at dksJ10_rangeCheckForAdd_0 2 rfl rfl)
theorem dJ10_rangeCheckForAdd_5 : decode cJ10_rangeCheckForAdd 5 = .ok (.if_icmp .gt 7, 3) := dk_163 0 7 (dk_at dksJ10_rangeCheckForAdd_0 5 rfl rfl)
theorem dJ10_rangeCheckForAdd_8 : decode cJ10_rangeCheckForAdd 8 = .ok (.iload_n 1, 1) := dk_27 (dk_at dksJ10_rangeCheckForAdd_0 8 rfl rfl)
theorem dJ10_rangeCheckForAdd_9 : decode cJ10_rangeCheckForAdd 9 = .ok (.ifCond .ge 16, 3) := dk_156 0 16 (dk_at dksJ10_rangeCheckForAdd_0 9 rfl rfl)
theorem dJ10_rangeCheckForAdd_12 : decode cJ10_rangeCheckForAdd 12 = .ok (.new 187, 3) := dk_187 0 187 (dk_at dksJ10_rangeCheckForAdd_0 12 rfl rfl)
theorem dJ10_rangeCheckForAdd_15 : decode cJ10_rangeCheckForAdd 15 = .ok (.dup, 1) := dk_89 (dk_at dksJ10_rangeCheckForAdd_0 15 rfl rfl)
theorem dJ10_rangeCheckForAdd_16 : decode cJ10_rangeCheckForAdd 16 = .ok (.aload_n 0, 1) := dk_42 (dk_at dksJ10_rangeCheckForAdd_0 16 rfl rfl)
theorem dJ10_rangeCheckForAdd_17 : decode cJ10_rangeCheckForAdd 17 = .ok (.iload_n 1, 1) := dk_27 (dk_at dksJ10_rangeCheckForAdd_0 17 rfl rfl)
theorem dJ10_rangeCheckForAdd_18 : decode cJ10_rangeCheckForAdd 18 = .ok (.invokevirtual 198, 3) := dk_182 0 198 (dk_at dksJ10_rangeCheckForAdd_0 18 rfl rfl)
theorem dJ10_rangeCheckForAdd_21 : decode cJ10_rangeCheckForAdd 21 = .ok (.invokespecial 193, 3) := dk_183 0 193 (dk_at dksJ10_rangeCheckForAdd_0 21 rfl rfl)
theorem dJ10_rangeCheckForAdd_24 : decode cJ10_rangeCheckForAdd 24 = .ok (.athrow, 1) := dk_191 (dk_at dksJ10_rangeCheckForAdd_1 0 rfl rfl)
theorem dJ10_rangeCheckForAdd_25 : decode cJ10_rangeCheckForAdd 25 = .ok (.return_, 1) := dk_177 (dk_at dksJ10_rangeCheckForAdd_1 1 rfl rfl)
abbrev cJ10_outOfBoundsMsg : ByteArray := prog_58_method_46_code
def yJ10_outOfBoundsMsg : MethodName := ⟨RJ10, "outOfBoundsMsg", "(I)Ljava/lang/String;"⟩
def dkwJ10_outOfBoundsMsg_1 : List UInt8 := [180, 0, 48, 182, 0, 29, 182, 0, 32, 176]
abbrev dktJ10_outOfBoundsMsg_1 : List UInt8 := dkwJ10_outOfBoundsMsg_1 ++ []
def dkwJ10_outOfBoundsMsg_0 : List UInt8 := [187, 0, 20, 89, 183, 0, 22, 18, 201, 182, 0, 25, 27, 182, 0, 29, 18, 203, 182, 0, 25, 42]
abbrev dktJ10_outOfBoundsMsg_0 : List UInt8 := dkwJ10_outOfBoundsMsg_0 ++ dktJ10_outOfBoundsMsg_1
theorem dksJ10_outOfBoundsMsg_0 : cJ10_outOfBoundsMsg.data.toList.drop 0 = dktJ10_outOfBoundsMsg_0 := by decide +kernel
theorem dksJ10_outOfBoundsMsg_1 : cJ10_outOfBoundsMsg.data.toList.drop 22 = dktJ10_outOfBoundsMsg_1 := dk_seg dksJ10_outOfBoundsMsg_0 22 rfl rfl
theorem dJ10_outOfBoundsMsg_0 : decode cJ10_outOfBoundsMsg 0 = .ok (.new 20, 3) := dk_187 0 20 (dk_at dksJ10_outOfBoundsMsg_0 0 rfl rfl)
theorem dJ10_outOfBoundsMsg_3 : decode cJ10_outOfBoundsMsg 3 = .ok (.dup, 1) := dk_89 (dk_at dksJ10_outOfBoundsMsg_0 3 rfl rfl)
theorem dJ10_outOfBoundsMsg_4 : decode cJ10_outOfBoundsMsg 4 = .ok (.invokespecial 22, 3) := dk_183 0 22 (dk_at dksJ10_outOfBoundsMsg_0 4 rfl rfl)
theorem dJ10_outOfBoundsMsg_7 : decode cJ10_outOfBoundsMsg 7 = .ok (.ldc 201, 2) := dk_18 201 (dk_at dksJ10_outOfBoundsMsg_0 7 rfl rfl)
theorem dJ10_outOfBoundsMsg_9 : decode cJ10_outOfBoundsMsg 9 = .ok (.invokevirtual 25, 3) := dk_182 0 25 (dk_at dksJ10_outOfBoundsMsg_0 9 rfl rfl)
theorem dJ10_outOfBoundsMsg_12 : decode cJ10_outOfBoundsMsg 12 = .ok (.iload_n 1, 1) := dk_27 (dk_at dksJ10_outOfBoundsMsg_0 12 rfl rfl)
theorem dJ10_outOfBoundsMsg_13 : decode cJ10_outOfBoundsMsg 13 = .ok (.invokevirtual 29, 3) := dk_182 0 29 (dk_at dksJ10_outOfBoundsMsg_0 13 rfl rfl)
theorem dJ10_outOfBoundsMsg_16 : decode cJ10_outOfBoundsMsg 16 = .ok (.ldc 203, 2) := dk_18 203 (dk_at dksJ10_outOfBoundsMsg_0 16 rfl rfl)
theorem dJ10_outOfBoundsMsg_18 : decode cJ10_outOfBoundsMsg 18 = .ok (.invokevirtual 25, 3) := dk_182 0 25 (dk_at dksJ10_outOfBoundsMsg_0 18 rfl rfl)
theorem dJ10_outOfBoundsMsg_21 : decode cJ10_outOfBoundsMsg 21 = .ok (.aload_n 0, 1) := dk_42 (dk_at dksJ10_outOfBoundsMsg_0 21 rfl rfl)
theorem dJ10_outOfBoundsMsg_22 : decode cJ10_outOfBoundsMsg 22 = .ok (.getfield 48, 3) := dk_180 0 48 (dk_at dksJ10_outOfBoundsMsg_1 0 rfl rfl)
theorem dJ10_outOfBoundsMsg_25 : decode cJ10_outOfBoundsMsg 25 = .ok (.invokevirtual 29, 3) := dk_182 0 29 (dk_at dksJ10_outOfBoundsMsg_1 3 rfl rfl)
theorem dJ10_outOfBoundsMsg_28 : decode cJ10_outOfBoundsMsg 28 = .ok (.invokevirtual 32, 3) := dk_182 0 32 (dk_at dksJ10_outOfBoundsMsg_1 6 rfl rfl)
theorem dJ10_outOfBoundsMsg_31 : decode cJ10_outOfBoundsMsg 31 = .ok (.areturn, 1) := dk_176 (dk_at dksJ10_outOfBoundsMsg_1 9 rfl rfl)
theorem q134 : (Jvm.Cond.initialized "java/util/ArrayList") ∈ lw_all := lw_g (lw_at lw_m1 14 rfl) rfl
theorem q324 : (Jvm.Cond.instantiable "java/util/ArrayList" (3 : Nat)) ∈ lw_all := lw_g (lw_at lw_m1 204 rfl) rfl
theorem q326 : (Jvm.Cond.instanceMethod ({ cls := "java/util/ArrayList", name := "<init>", desc := "()V" } : Jvm.MethodName)) ∈ lw_all := lw_g (lw_at lw_m1 206 rfl) rfl
theorem q327 : (Jvm.Cond.code ({ cls := "java/util/ArrayList", name := "<init>", desc := "()V" } : Jvm.MethodName) prog_58_method_2_code (1 : Nat) (Option.none : Option Jvm.ClassFile.FieldType)) ∈ lw_all := lw_g (lw_at lw_m1 207 rfl) rfl
theorem q328 : (Jvm.Cond.methodLink "java/util/ArrayList" (1 : Nat) ({ cls := "java/util/AbstractList", name := "<init>", desc := "()V" } : Jvm.MethodName)) ∈ lw_all := lw_g (lw_at lw_m1 208 rfl) rfl
theorem q335 : (Jvm.Cond.fieldLink "java/util/ArrayList" (39 : Nat) "java/util/ArrayList" "DEFAULTCAPACITY_EMPTY_ELEMENTDATA" "[Ljava/lang/Object;") ∈ lw_all := lw_g (lw_at lw_m1 215 rfl) rfl
theorem q336 : (Jvm.Cond.laysStatic "java/util/ArrayList" "DEFAULTCAPACITY_EMPTY_ELEMENTDATA" "[Ljava/lang/Object;") ∈ lw_tbl := lw_at lw_m1 216 rfl
theorem q337 : (Jvm.Cond.fieldLink "java/util/ArrayList" (9 : Nat) "java/util/ArrayList" "elementData" "[Ljava/lang/Object;") ∈ lw_all := lw_g (lw_at lw_m1 217 rfl) rfl
theorem q340 : (Jvm.Cond.fieldLink "java/util/ArrayList" (48 : Nat) "java/util/ArrayList" "size" "I") ∈ lw_all := lw_g (lw_at lw_m1 220 rfl) rfl
theorem q345 : (Jvm.Cond.sameField "java/util/ArrayList" "java/util/AbstractList" "modCount" "I") ∈ lw_all := lw_g (lw_at lw_m1 225 rfl) rfl
theorem q348 : (Jvm.Cond.fieldLink "java/util/ArrayList" (63 : Nat) "java/util/ArrayList" "modCount" "I") ∈ lw_all := lw_g (lw_at lw_m1 228 rfl) rfl
theorem q349 : (Jvm.Cond.lays "java/util/ArrayList" "java/util/ArrayList" "elementData" "[Ljava/lang/Object;") ∈ lw_all := lw_g (lw_at lw_m1 229 rfl) rfl
theorem q350 : (Jvm.Cond.soleField "java/util/ArrayList" "elementData") ∈ lw_all := lw_g (lw_at lw_m1 230 rfl) rfl
theorem q351 : (Jvm.Cond.lays "java/util/ArrayList" "java/util/ArrayList" "size" "I") ∈ lw_all := lw_g (lw_at lw_m1 231 rfl) rfl
theorem q352 : (Jvm.Cond.soleField "java/util/ArrayList" "size") ∈ lw_all := lw_g (lw_at lw_m1 232 rfl) rfl
theorem q353 : (Jvm.Cond.lays "java/util/ArrayList" "java/util/AbstractList" "modCount" "I") ∈ lw_all := lw_g (lw_at lw_m1 233 rfl) rfl
theorem q355 : (Jvm.Cond.superclass "java/util/ArrayList" "java/util/AbstractList") ∈ lw_all := lw_g (lw_at lw_m1 235 rfl) rfl
theorem q402 : (Jvm.Cond.instanceMethod ({ cls := "java/util/ArrayList", name := "<init>", desc := "(I)V" } : Jvm.MethodName)) ∈ lw_all := lw_g (lw_at lw_m2 42 rfl) rfl
theorem q403 : (Jvm.Cond.code ({ cls := "java/util/ArrayList", name := "<init>", desc := "(I)V" } : Jvm.MethodName) prog_58_method_1_code (2 : Nat) (Option.none : Option Jvm.ClassFile.FieldType)) ∈ lw_all := lw_g (lw_at lw_m2 43 rfl) rfl
theorem q404 : (Jvm.Cond.classLink "java/util/ArrayList" (7 : Nat) "java/lang/Object") ∈ lw_all := lw_g (lw_at lw_m2 44 rfl) rfl
theorem q406 : (Jvm.Cond.fieldLink "java/util/ArrayList" (15 : Nat) "java/util/ArrayList" "EMPTY_ELEMENTDATA" "[Ljava/lang/Object;") ∈ lw_all := lw_g (lw_at lw_m2 46 rfl) rfl
theorem q407 : (Jvm.Cond.laysStatic "java/util/ArrayList" "EMPTY_ELEMENTDATA" "[Ljava/lang/Object;") ∈ lw_tbl := lw_at lw_m2 47 rfl
theorem q811 : (Jvm.Cond.instanceMethod ({ cls := "java/util/ArrayList", name := "size", desc := "()I" } : Jvm.MethodName)) ∈ lw_all := lw_g (lw_at lw_m3 211 rfl) rfl
theorem q812 : (Jvm.Cond.selects "java/util/ArrayList" ({ cls := "java/util/ArrayList", name := "size", desc := "()I" } : Jvm.MethodName) ({ cls := "java/util/ArrayList", name := "size", desc := "()I" } : Jvm.MethodName)) ∈ lw_all := lw_g (lw_at lw_m3 212 rfl) rfl
theorem q813 : (Jvm.Cond.code ({ cls := "java/util/ArrayList", name := "size", desc := "()I" } : Jvm.MethodName) prog_58_method_8_code (1 : Nat) (Option.some Jvm.ClassFile.FieldType.int)) ∈ lw_all := lw_g (lw_at lw_m3 213 rfl) rfl
theorem q819 : (Jvm.Cond.instanceMethod ({ cls := "java/util/ArrayList", name := "get", desc := "(I)Ljava/lang/Object;" } : Jvm.MethodName)) ∈ lw_all := lw_g (lw_at lw_m3 219 rfl) rfl
theorem q820 : (Jvm.Cond.selects "java/util/ArrayList" ({ cls := "java/util/ArrayList", name := "get", desc := "(I)Ljava/lang/Object;" } : Jvm.MethodName) ({ cls := "java/util/ArrayList", name := "get", desc := "(I)Ljava/lang/Object;" } : Jvm.MethodName)) ∈ lw_all := lw_g (lw_at lw_m3 220 rfl) rfl
theorem q821 : (Jvm.Cond.code ({ cls := "java/util/ArrayList", name := "get", desc := "(I)Ljava/lang/Object;" } : Jvm.MethodName) prog_58_method_20_code (2 : Nat) (Option.some (Jvm.ClassFile.FieldType.object "java/lang/Object"))) ∈ lw_all := lw_g (lw_at lw_m3 221 rfl) rfl
theorem q822 : (Jvm.Cond.methodLink "java/util/ArrayList" (118 : Nat) ({ cls := "java/util/Objects", name := "checkIndex", desc := "(II)I" } : Jvm.MethodName)) ∈ lw_all := lw_g (lw_at lw_m3 222 rfl) rfl
theorem q828 : (Jvm.Cond.methodLink "java/util/ArrayList" (123 : Nat) ({ cls := "java/util/ArrayList", name := "elementData", desc := "(I)Ljava/lang/Object;" } : Jvm.MethodName)) ∈ lw_all := lw_g (lw_at lw_m3 228 rfl) rfl
theorem q829 : (Jvm.Cond.instanceMethod ({ cls := "java/util/ArrayList", name := "elementData", desc := "(I)Ljava/lang/Object;" } : Jvm.MethodName)) ∈ lw_all := lw_g (lw_at lw_m3 229 rfl) rfl
theorem q830 : (Jvm.Cond.selects "java/util/ArrayList" ({ cls := "java/util/ArrayList", name := "elementData", desc := "(I)Ljava/lang/Object;" } : Jvm.MethodName) ({ cls := "java/util/ArrayList", name := "elementData", desc := "(I)Ljava/lang/Object;" } : Jvm.MethodName)) ∈ lw_all := lw_g (lw_at lw_m3 230 rfl) rfl
theorem q831 : (Jvm.Cond.code ({ cls := "java/util/ArrayList", name := "elementData", desc := "(I)Ljava/lang/Object;" } : Jvm.MethodName) prog_58_method_18_code (2 : Nat) (Option.some (Jvm.ClassFile.FieldType.object "java/lang/Object"))) ∈ lw_all := lw_g (lw_at lw_m3 231 rfl) rfl
theorem q1420 : (Jvm.Cond.instanceMethod ({ cls := "java/util/ArrayList", name := "add", desc := "(Ljava/lang/Object;)Z" } : Jvm.MethodName)) ∈ lw_all := lw_g (lw_at lw_m6 100 rfl) rfl
theorem q1421 : (Jvm.Cond.selects "java/util/ArrayList" ({ cls := "java/util/ArrayList", name := "add", desc := "(Ljava/lang/Object;)Z" } : Jvm.MethodName) ({ cls := "java/util/ArrayList", name := "add", desc := "(Ljava/lang/Object;)Z" } : Jvm.MethodName)) ∈ lw_all := lw_g (lw_at lw_m6 101 rfl) rfl
theorem q1422 : (Jvm.Cond.code ({ cls := "java/util/ArrayList", name := "add", desc := "(Ljava/lang/Object;)Z" } : Jvm.MethodName) prog_58_method_25_code (2 : Nat) (Option.some Jvm.ClassFile.FieldType.boolean)) ∈ lw_all := lw_g (lw_at lw_m6 102 rfl) rfl
theorem q1423 : (Jvm.Cond.methodLink "java/util/ArrayList" (131 : Nat) ({ cls := "java/util/ArrayList", name := "add", desc := "(Ljava/lang/Object;[Ljava/lang/Object;I)V" } : Jvm.MethodName)) ∈ lw_all := lw_g (lw_at lw_m6 103 rfl) rfl
theorem q1424 : (Jvm.Cond.privateMethod ({ cls := "java/util/ArrayList", name := "add", desc := "(Ljava/lang/Object;[Ljava/lang/Object;I)V" } : Jvm.MethodName)) ∈ lw_tbl := lw_at lw_m6 104 rfl
theorem q1425 : (Jvm.Cond.instanceMethod ({ cls := "java/util/ArrayList", name := "add", desc := "(Ljava/lang/Object;[Ljava/lang/Object;I)V" } : Jvm.MethodName)) ∈ lw_all := lw_g (lw_at lw_m6 105 rfl) rfl
theorem q1426 : (Jvm.Cond.code ({ cls := "java/util/ArrayList", name := "add", desc := "(Ljava/lang/Object;[Ljava/lang/Object;I)V" } : Jvm.MethodName) prog_58_method_24_code (4 : Nat) (Option.none : Option Jvm.ClassFile.FieldType)) ∈ lw_all := lw_g (lw_at lw_m6 106 rfl) rfl
theorem q1427 : (Jvm.Cond.methodLink "java/util/ArrayList" (129 : Nat) ({ cls := "java/util/ArrayList", name := "grow", desc := "()[Ljava/lang/Object;" } : Jvm.MethodName)) ∈ lw_all := lw_g (lw_at lw_m6 107 rfl) rfl
theorem q1428 : (Jvm.Cond.privateMethod ({ cls := "java/util/ArrayList", name := "grow", desc := "()[Ljava/lang/Object;" } : Jvm.MethodName)) ∈ lw_tbl := lw_at lw_m6 108 rfl
theorem q1429 : (Jvm.Cond.instanceMethod ({ cls := "java/util/ArrayList", name := "grow", desc := "()[Ljava/lang/Object;" } : Jvm.MethodName)) ∈ lw_all := lw_g (lw_at lw_m6 109 rfl) rfl
theorem q1430 : (Jvm.Cond.code ({ cls := "java/util/ArrayList", name := "grow", desc := "()[Ljava/lang/Object;" } : Jvm.MethodName) prog_58_method_7_code (1 : Nat) (Option.some (Jvm.ClassFile.FieldType.array (Jvm.ClassFile.FieldType.object "java/lang/Object")))) ∈ lw_all := lw_g (lw_at lw_m6 110 rfl) rfl
theorem q1431 : (Jvm.Cond.methodLink "java/util/ArrayList" (69 : Nat) ({ cls := "java/util/ArrayList", name := "grow", desc := "(I)[Ljava/lang/Object;" } : Jvm.MethodName)) ∈ lw_all := lw_g (lw_at lw_m6 111 rfl) rfl
theorem q1432 : (Jvm.Cond.privateMethod ({ cls := "java/util/ArrayList", name := "grow", desc := "(I)[Ljava/lang/Object;" } : Jvm.MethodName)) ∈ lw_tbl := lw_at lw_m6 112 rfl
theorem q1433 : (Jvm.Cond.instanceMethod ({ cls := "java/util/ArrayList", name := "grow", desc := "(I)[Ljava/lang/Object;" } : Jvm.MethodName)) ∈ lw_all := lw_g (lw_at lw_m6 113 rfl) rfl
theorem q1434 : (Jvm.Cond.code ({ cls := "java/util/ArrayList", name := "grow", desc := "(I)[Ljava/lang/Object;" } : Jvm.MethodName) prog_58_method_6_code (4 : Nat) (Option.some (Jvm.ClassFile.FieldType.array (Jvm.ClassFile.FieldType.object "java/lang/Object")))) ∈ lw_all := lw_g (lw_at lw_m6 114 rfl) rfl
theorem q1435 : (Jvm.Cond.methodLink "java/util/ArrayList" (73 : Nat) ({ cls := "jdk/internal/util/ArraysSupport", name := "newLength", desc := "(III)I" } : Jvm.MethodName)) ∈ lw_all := lw_g (lw_at lw_m6 115 rfl) rfl
theorem q1436 : (Jvm.Cond.methodLink "java/util/ArrayList" (66 : Nat) ({ cls := "java/util/Arrays", name := "copyOf", desc := "([Ljava/lang/Object;I)[Ljava/lang/Object;" } : Jvm.MethodName)) ∈ lw_all := lw_g (lw_at lw_m6 116 rfl) rfl
theorem q1471 : (Jvm.Cond.selects "java/util/ArrayList" ({ cls := "java/lang/Object", name := "getClass", desc := "()Ljava/lang/Class;" } : Jvm.MethodName) ({ cls := "java/lang/Object", name := "getClass", desc := "()Ljava/lang/Class;" } : Jvm.MethodName)) ∈ lw_all := lw_g (lw_at lw_m6 151 rfl) rfl
theorem q1484 : (Jvm.Cond.methodLink "java/util/ArrayList" (79 : Nat) ({ cls := "java/lang/Math", name := "max", desc := "(II)I" } : Jvm.MethodName)) ∈ lw_all := lw_g (lw_at lw_m6 164 rfl) rfl
theorem q1542 : (Jvm.Cond.instanceMethod ({ cls := "java/util/ArrayList", name := "set", desc := "(ILjava/lang/Object;)Ljava/lang/Object;" } : Jvm.MethodName)) ∈ lw_all := lw_g (lw_at lw_m6 222 rfl) rfl
theorem q1543 : (Jvm.Cond.selects "java/util/ArrayList" ({ cls := "java/util/ArrayList", name := "set", desc := "(ILjava/lang/Object;)Ljava/lang/Object;" } : Jvm.MethodName) ({ cls := "java/util/ArrayList", name := "set", desc := "(ILjava/lang/Object;)Ljava/lang/Object;" } : Jvm.MethodName)) ∈ lw_all := lw_g (lw_at lw_m6 223 rfl) rfl
theorem q1544 : (Jvm.Cond.code ({ cls := "java/util/ArrayList", name := "set", desc := "(ILjava/lang/Object;)Ljava/lang/Object;" } : Jvm.MethodName) prog_58_method_23_code (4 : Nat) (Option.some (Jvm.ClassFile.FieldType.object "java/lang/Object"))) ∈ lw_all := lw_g (lw_at lw_m6 224 rfl) rfl
theorem q1691 : (Jvm.Cond.selects "java/util/ArrayList" ({ cls := "java/util/AbstractList", name := "size", desc := "()I" } : Jvm.MethodName) ({ cls := "java/util/ArrayList", name := "size", desc := "()I" } : Jvm.MethodName)) ∈ lw_all := lw_g (lw_at lw_m7 131 rfl) rfl
theorem q1806 : (Jvm.Cond.selects "java/util/ArrayList" ({ cls := "java/util/AbstractList", name := "get", desc := "(I)Ljava/lang/Object;" } : Jvm.MethodName) ({ cls := "java/util/ArrayList", name := "get", desc := "(I)Ljava/lang/Object;" } : Jvm.MethodName)) ∈ lw_all := lw_g (lw_at lw_m8 6 rfl) rfl
theorem q2060 : (Jvm.Cond.instanceMethod ({ cls := "java/util/ArrayList", name := "clear", desc := "()V" } : Jvm.MethodName)) ∈ lw_all := lw_g (lw_at lw_m9 20 rfl) rfl
theorem q2061 : (Jvm.Cond.selects "java/util/ArrayList" ({ cls := "java/util/ArrayList", name := "clear", desc := "()V" } : Jvm.MethodName) ({ cls := "java/util/ArrayList", name := "clear", desc := "()V" } : Jvm.MethodName)) ∈ lw_all := lw_g (lw_at lw_m9 21 rfl) rfl
theorem q2062 : (Jvm.Cond.code ({ cls := "java/util/ArrayList", name := "clear", desc := "()V" } : Jvm.MethodName) prog_58_method_40_code (4 : Nat) (Option.none : Option Jvm.ClassFile.FieldType)) ∈ lw_all := lw_g (lw_at lw_m9 22 rfl) rfl
theorem q2251 : (Jvm.Cond.instanceMethod ({ cls := "java/util/ArrayList", name := "addAll", desc := "(Ljava/util/Collection;)Z" } : Jvm.MethodName)) ∈ lw_all := lw_g (lw_at lw_m9 211 rfl) rfl
theorem q2252 : (Jvm.Cond.selects "java/util/ArrayList" ({ cls := "java/util/ArrayList", name := "addAll", desc := "(Ljava/util/Collection;)Z" } : Jvm.MethodName) ({ cls := "java/util/ArrayList", name := "addAll", desc := "(Ljava/util/Collection;)Z" } : Jvm.MethodName)) ∈ lw_all := lw_g (lw_at lw_m9 212 rfl) rfl
theorem q2253 : (Jvm.Cond.code ({ cls := "java/util/ArrayList", name := "addAll", desc := "(Ljava/util/Collection;)Z" } : Jvm.MethodName) prog_58_method_41_code (6 : Nat) (Option.some Jvm.ClassFile.FieldType.boolean)) ∈ lw_all := lw_g (lw_at lw_m9 213 rfl) rfl
theorem q2254 : (Jvm.Cond.interfaceEntry "java/util/ArrayList" (42 : Nat)) ∈ lw_tbl := lw_at lw_m9 214 rfl
theorem q2255 : (Jvm.Cond.methodLink "java/util/ArrayList" (42 : Nat) ({ cls := "java/util/Collection", name := "toArray", desc := "()[Ljava/lang/Object;" } : Jvm.MethodName)) ∈ lw_all := lw_g (lw_at lw_m9 215 rfl) rfl
theorem q2258 : (Jvm.Cond.castable "java/util/ArrayList" "java/util/Collection") ∈ lw_tbl := lw_at lw_m9 218 rfl
theorem q2259 : (Jvm.Cond.selects "java/util/ArrayList" ({ cls := "java/util/Collection", name := "toArray", desc := "()[Ljava/lang/Object;" } : Jvm.MethodName) ({ cls := "java/util/ArrayList", name := "toArray", desc := "()[Ljava/lang/Object;" } : Jvm.MethodName)) ∈ lw_all := lw_g (lw_at lw_m9 219 rfl) rfl
theorem q2260 : (Jvm.Cond.unhidden "java/util/ArrayList" "toArray" "()[Ljava/lang/Object;") ∈ lw_tbl := lw_at lw_m9 220 rfl
theorem q2261 : (Jvm.Cond.instanceMethod ({ cls := "java/util/ArrayList", name := "toArray", desc := "()[Ljava/lang/Object;" } : Jvm.MethodName)) ∈ lw_all := lw_g (lw_at lw_m9 221 rfl) rfl
theorem q2262 : (Jvm.Cond.publicMethod ({ cls := "java/util/ArrayList", name := "toArray", desc := "()[Ljava/lang/Object;" } : Jvm.MethodName)) ∈ lw_tbl := lw_at lw_m9 222 rfl
theorem q2263 : (Jvm.Cond.code ({ cls := "java/util/ArrayList", name := "toArray", desc := "()[Ljava/lang/Object;" } : Jvm.MethodName) prog_58_method_16_code (1 : Nat) (Option.some (Jvm.ClassFile.FieldType.array (Jvm.ClassFile.FieldType.object "java/lang/Object")))) ∈ lw_all := lw_g (lw_at lw_m9 223 rfl) rfl
theorem q2271 : (Jvm.Cond.methodLink "java/util/ArrayList" (112 : Nat) ({ cls := "java/lang/System", name := "arraycopy", desc := "(Ljava/lang/Object;ILjava/lang/Object;II)V" } : Jvm.MethodName)) ∈ lw_all := lw_g (lw_at lw_m9 231 rfl) rfl
theorem q2299 : (Jvm.Cond.instanceMethod ({ cls := "java/util/ArrayList", name := "isEmpty", desc := "()Z" } : Jvm.MethodName)) ∈ lw_all := lw_g (lw_at lw_m10 19 rfl) rfl
theorem q2300 : (Jvm.Cond.selects "java/util/ArrayList" ({ cls := "java/util/ArrayList", name := "isEmpty", desc := "()Z" } : Jvm.MethodName) ({ cls := "java/util/ArrayList", name := "isEmpty", desc := "()Z" } : Jvm.MethodName)) ∈ lw_all := lw_g (lw_at lw_m10 20 rfl) rfl
theorem q2301 : (Jvm.Cond.code ({ cls := "java/util/ArrayList", name := "isEmpty", desc := "()Z" } : Jvm.MethodName) prog_58_method_9_code (1 : Nat) (Option.some Jvm.ClassFile.FieldType.boolean)) ∈ lw_all := lw_g (lw_at lw_m10 21 rfl) rfl
theorem q2305 : (Jvm.Cond.instanceMethod ({ cls := "java/util/ArrayList", name := "remove", desc := "(I)Ljava/lang/Object;" } : Jvm.MethodName)) ∈ lw_all := lw_g (lw_at lw_m10 25 rfl) rfl
theorem q2306 : (Jvm.Cond.selects "java/util/ArrayList" ({ cls := "java/util/ArrayList", name := "remove", desc := "(I)Ljava/lang/Object;" } : Jvm.MethodName) ({ cls := "java/util/ArrayList", name := "remove", desc := "(I)Ljava/lang/Object;" } : Jvm.MethodName)) ∈ lw_all := lw_g (lw_at lw_m10 26 rfl) rfl
theorem q2307 : (Jvm.Cond.code ({ cls := "java/util/ArrayList", name := "remove", desc := "(I)Ljava/lang/Object;" } : Jvm.MethodName) prog_58_method_29_code (4 : Nat) (Option.some (Jvm.ClassFile.FieldType.object "java/lang/Object"))) ∈ lw_all := lw_g (lw_at lw_m10 27 rfl) rfl
theorem q2308 : (Jvm.Cond.methodLink "java/util/ArrayList" (144 : Nat) ({ cls := "java/util/ArrayList", name := "fastRemove", desc := "([Ljava/lang/Object;I)V" } : Jvm.MethodName)) ∈ lw_all := lw_g (lw_at lw_m10 28 rfl) rfl
theorem q2309 : (Jvm.Cond.privateMethod ({ cls := "java/util/ArrayList", name := "fastRemove", desc := "([Ljava/lang/Object;I)V" } : Jvm.MethodName)) ∈ lw_tbl := lw_at lw_m10 29 rfl
theorem q2310 : (Jvm.Cond.instanceMethod ({ cls := "java/util/ArrayList", name := "fastRemove", desc := "([Ljava/lang/Object;I)V" } : Jvm.MethodName)) ∈ lw_all := lw_g (lw_at lw_m10 30 rfl) rfl
theorem q2311 : (Jvm.Cond.code ({ cls := "java/util/ArrayList", name := "fastRemove", desc := "([Ljava/lang/Object;I)V" } : Jvm.MethodName) prog_58_method_39_code (4 : Nat) (Option.none : Option Jvm.ClassFile.FieldType)) ∈ lw_all := lw_g (lw_at lw_m10 31 rfl) rfl
theorem q2948 : (Jvm.Cond.selects "java/util/ArrayList" ({ cls := "java/util/AbstractList", name := "listIterator", desc := "(I)Ljava/util/ListIterator;" } : Jvm.MethodName) ({ cls := "java/util/ArrayList", name := "listIterator", desc := "(I)Ljava/util/ListIterator;" } : Jvm.MethodName)) ∈ lw_all := lw_g (lw_at lw_m12 188 rfl) rfl
theorem q2949 : (Jvm.Cond.instanceMethod ({ cls := "java/util/ArrayList", name := "listIterator", desc := "(I)Ljava/util/ListIterator;" } : Jvm.MethodName)) ∈ lw_all := lw_g (lw_at lw_m12 189 rfl) rfl
theorem q2950 : (Jvm.Cond.code ({ cls := "java/util/ArrayList", name := "listIterator", desc := "(I)Ljava/util/ListIterator;" } : Jvm.MethodName) prog_58_method_53_code (2 : Nat) (Option.some (Jvm.ClassFile.FieldType.object "java/util/ListIterator"))) ∈ lw_all := lw_g (lw_at lw_m12 190 rfl) rfl
theorem q2951 : (Jvm.Cond.methodLink "java/util/ArrayList" (135 : Nat) ({ cls := "java/util/ArrayList", name := "rangeCheckForAdd", desc := "(I)V" } : Jvm.MethodName)) ∈ lw_all := lw_g (lw_at lw_m12 191 rfl) rfl
theorem q2952 : (Jvm.Cond.privateMethod ({ cls := "java/util/ArrayList", name := "rangeCheckForAdd", desc := "(I)V" } : Jvm.MethodName)) ∈ lw_tbl := lw_at lw_m12 192 rfl
theorem q2953 : (Jvm.Cond.instanceMethod ({ cls := "java/util/ArrayList", name := "rangeCheckForAdd", desc := "(I)V" } : Jvm.MethodName)) ∈ lw_all := lw_g (lw_at lw_m12 193 rfl) rfl
theorem q2954 : (Jvm.Cond.code ({ cls := "java/util/ArrayList", name := "rangeCheckForAdd", desc := "(I)V" } : Jvm.MethodName) prog_58_method_45_code (2 : Nat) (Option.none : Option Jvm.ClassFile.FieldType)) ∈ lw_all := lw_g (lw_at lw_m12 194 rfl) rfl
theorem q2955 : (Jvm.Cond.classLink "java/util/ArrayList" (187 : Nat) "java/lang/IndexOutOfBoundsException") ∈ lw_all := lw_g (lw_at lw_m12 195 rfl) rfl
theorem q2956 : (Jvm.Cond.methodLink "java/util/ArrayList" (198 : Nat) ({ cls := "java/util/ArrayList", name := "outOfBoundsMsg", desc := "(I)Ljava/lang/String;" } : Jvm.MethodName)) ∈ lw_all := lw_g (lw_at lw_m12 196 rfl) rfl
theorem q2957 : (Jvm.Cond.privateMethod ({ cls := "java/util/ArrayList", name := "outOfBoundsMsg", desc := "(I)Ljava/lang/String;" } : Jvm.MethodName)) ∈ lw_tbl := lw_at lw_m12 197 rfl
theorem q2958 : (Jvm.Cond.instanceMethod ({ cls := "java/util/ArrayList", name := "outOfBoundsMsg", desc := "(I)Ljava/lang/String;" } : Jvm.MethodName)) ∈ lw_all := lw_g (lw_at lw_m12 198 rfl) rfl
theorem q2959 : (Jvm.Cond.code ({ cls := "java/util/ArrayList", name := "outOfBoundsMsg", desc := "(I)Ljava/lang/String;" } : Jvm.MethodName) prog_58_method_46_code (2 : Nat) (Option.some (Jvm.ClassFile.FieldType.object "java/lang/String"))) ∈ lw_all := lw_g (lw_at lw_m12 199 rfl) rfl
theorem q2960 : (Jvm.Cond.classLink "java/util/ArrayList" (20 : Nat) "java/lang/StringBuilder") ∈ lw_all := lw_g (lw_at lw_m12 200 rfl) rfl
theorem q2961 : (Jvm.Cond.methodLink "java/util/ArrayList" (22 : Nat) ({ cls := "java/lang/StringBuilder", name := "<init>", desc := "()V" } : Jvm.MethodName)) ∈ lw_all := lw_g (lw_at lw_m12 201 rfl) rfl
theorem q2962 : (Jvm.Cond.stringRef "java/util/ArrayList" (201 : Nat) "Index: ") ∈ lw_tbl := lw_at lw_m12 202 rfl
theorem q2963 : (Jvm.Cond.methodLink "java/util/ArrayList" (25 : Nat) ({ cls := "java/lang/StringBuilder", name := "append", desc := "(Ljava/lang/String;)Ljava/lang/StringBuilder;" } : Jvm.MethodName)) ∈ lw_all := lw_g (lw_at lw_m12 203 rfl) rfl
theorem q2964 : (Jvm.Cond.methodLink "java/util/ArrayList" (29 : Nat) ({ cls := "java/lang/StringBuilder", name := "append", desc := "(I)Ljava/lang/StringBuilder;" } : Jvm.MethodName)) ∈ lw_all := lw_g (lw_at lw_m12 204 rfl) rfl
theorem q2965 : (Jvm.Cond.stringRef "java/util/ArrayList" (203 : Nat) ", Size: ") ∈ lw_tbl := lw_at lw_m12 205 rfl
theorem q2966 : (Jvm.Cond.methodLink "java/util/ArrayList" (32 : Nat) ({ cls := "java/lang/StringBuilder", name := "toString", desc := "()Ljava/lang/String;" } : Jvm.MethodName)) ∈ lw_all := lw_g (lw_at lw_m12 206 rfl) rfl
theorem q2967 : (Jvm.Cond.methodLink "java/util/ArrayList" (193 : Nat) ({ cls := "java/lang/IndexOutOfBoundsException", name := "<init>", desc := "(Ljava/lang/String;)V" } : Jvm.MethodName)) ∈ lw_all := lw_g (lw_at lw_m12 207 rfl) rfl
theorem q2968 : (Jvm.Cond.classLink "java/util/ArrayList" (262 : Nat) "java/util/ArrayList$ListItr") ∈ lw_all := lw_g (lw_at lw_m12 208 rfl) rfl
theorem q2970 : (Jvm.Cond.methodLink "java/util/ArrayList" (264 : Nat) ({ cls := "java/util/ArrayList$ListItr", name := "<init>", desc := "(Ljava/util/ArrayList;I)V" } : Jvm.MethodName)) ∈ lw_all := lw_g (lw_at lw_m12 210 rfl) rfl
theorem q3609 : (Jvm.Cond.selects "java/util/ArrayList" ({ cls := "java/util/AbstractCollection", name := "size", desc := "()I" } : Jvm.MethodName) ({ cls := "java/util/ArrayList", name := "size", desc := "()I" } : Jvm.MethodName)) ∈ lw_all := lw_g (lw_at lw_m15 129 rfl) rfl
theorem q3633 : (Jvm.Cond.castable "java/util/ArrayList" "java/lang/Object") ∈ lw_tbl := lw_at lw_m15 153 rfl
theorem in_J10 : ∀ w ∈ wsJ100, w ∈ lw_all := lw_in wsJ100 [353, 349, 351] (by decide +kernel) (by decide +kernel)

/-! java/util/AbstractSequentialList -/
set_option maxRecDepth 100000
def RJ11 : String := "java/util/AbstractSequentialList"
abbrev cJ11_init : ByteArray := prog_57_method_1_code
def yJ11_init : MethodName := ⟨RJ11, "<init>", "()V"⟩
theorem dJ11_init_0 : decode cJ11_init 0 = .ok (.aload_n 0, 1) := by decide +kernel
theorem dJ11_init_1 : decode cJ11_init 1 = .ok (.invokespecial 1, 3) := by decide +kernel
theorem dJ11_init_4 : decode cJ11_init 4 = .ok (.return_, 1) := by decide +kernel
abbrev cJ11_iterator : ByteArray := prog_57_method_7_code
def yJ11_iterator : MethodName := ⟨RJ11, "iterator", "()Ljava/util/Iterator;"⟩
theorem dJ11_iterator_0 : decode cJ11_iterator 0 = .ok (.aload_n 0, 1) := by decide +kernel
theorem dJ11_iterator_1 : decode cJ11_iterator 1 = .ok (.invokevirtual 65, 3) := by decide +kernel
theorem dJ11_iterator_4 : decode cJ11_iterator 4 = .ok (.areturn, 1) := by decide +kernel
theorem q143 : (Jvm.Cond.initialized "java/util/AbstractSequentialList") ∈ lw_all := lw_g (lw_at lw_m1 23 rfl) rfl
theorem q456 : (Jvm.Cond.instanceMethod ({ cls := "java/util/AbstractSequentialList", name := "<init>", desc := "()V" } : Jvm.MethodName)) ∈ lw_all := lw_g (lw_at lw_m2 96 rfl) rfl
theorem q457 : (Jvm.Cond.code ({ cls := "java/util/AbstractSequentialList", name := "<init>", desc := "()V" } : Jvm.MethodName) prog_57_method_1_code (1 : Nat) (Option.none : Option Jvm.ClassFile.FieldType)) ∈ lw_all := lw_g (lw_at lw_m2 97 rfl) rfl
theorem q458 : (Jvm.Cond.methodLink "java/util/AbstractSequentialList" (1 : Nat) ({ cls := "java/util/AbstractList", name := "<init>", desc := "()V" } : Jvm.MethodName)) ∈ lw_all := lw_g (lw_at lw_m2 98 rfl) rfl
theorem q2935 : (Jvm.Cond.declares ({ cls := "java/util/AbstractSequentialList", name := "iterator", desc := "()Ljava/util/Iterator;" } : Jvm.MethodName)) ∈ lw_tbl := lw_at lw_m12 175 rfl
theorem q2937 : (Jvm.Cond.instanceMethod ({ cls := "java/util/AbstractSequentialList", name := "iterator", desc := "()Ljava/util/Iterator;" } : Jvm.MethodName)) ∈ lw_all := lw_g (lw_at lw_m12 177 rfl) rfl
theorem q2938 : (Jvm.Cond.code ({ cls := "java/util/AbstractSequentialList", name := "iterator", desc := "()Ljava/util/Iterator;" } : Jvm.MethodName) prog_57_method_7_code (1 : Nat) (Option.some (Jvm.ClassFile.FieldType.object "java/util/Iterator"))) ∈ lw_all := lw_g (lw_at lw_m12 178 rfl) rfl
theorem q2939 : (Jvm.Cond.methodLink "java/util/AbstractSequentialList" (65 : Nat) ({ cls := "java/util/AbstractSequentialList", name := "listIterator", desc := "()Ljava/util/ListIterator;" } : Jvm.MethodName)) ∈ lw_all := lw_g (lw_at lw_m12 179 rfl) rfl
theorem q2940 : (Jvm.Cond.sameMethod "java/util/AbstractSequentialList" "java/util/AbstractList" "listIterator" "()Ljava/util/ListIterator;") ∈ lw_all := lw_g (lw_at lw_m12 180 rfl) rfl

/-! java/util/LinkedList -/
set_option maxRecDepth 100000
def RJ12 : String := "java/util/LinkedList"
def TJ12 : u_T := fun k => match k with
  | 0 => ("java/util/AbstractList", "modCount", "I", false)
  | 1 => ("java/util/LinkedList", "size", "I", false)
  | 2 => ("java/util/LinkedList", "first", "Ljava/util/LinkedList$Node;", false)
  | _ => ("java/util/LinkedList", "last", "Ljava/util/LinkedList$Node;", false)
def tyJ12 : Nat → FieldType := fun k => match k with
  | 0 => .int
  | 1 => .int
  | 2 => .object "java/util/LinkedList$Node"
  | _ => .object "java/util/LinkedList$Node"
abbrev wsJ120 : List Cond := u_ws RJ12 TJ12 4
theorem nmJ12 : ∀ a, a < 4 → ∀ b, b < 4 → a ≠ b → (TJ12 a).2.1 ≠ (TJ12 b).2.1 := by decide +kernel
theorem tyJ12_ok : ∀ k, k < 4 → parseFieldDescriptor (TJ12 k).2.2.1 = some (tyJ12 k) := by decide +kernel
abbrev cJ12_init : ByteArray := prog_65_method_1_code
def yJ12_init : MethodName := ⟨RJ12, "<init>", "()V"⟩
def dkwJ12_init_0 : List UInt8 := [42, 183, 0, 1, 42, 3, 181, 0, 7, 177]
abbrev dktJ12_init_0 : List UInt8 := dkwJ12_init_0 ++ []
theorem dksJ12_init_0 : cJ12_init.data.toList.drop 0 = dktJ12_init_0 := by decide +kernel
theorem dJ12_init_0 : decode cJ12_init 0 = .ok (.aload_n 0, 1) := dk_42 (dk_at dksJ12_init_0 0 rfl rfl)
theorem dJ12_init_1 : decode cJ12_init 1 = .ok (.invokespecial 1, 3) := dk_183 0 1 (dk_at dksJ12_init_0 1 rfl rfl)
theorem dJ12_init_4 : decode cJ12_init 4 = .ok (.aload_n 0, 1) := dk_42 (dk_at dksJ12_init_0 4 rfl rfl)
theorem dJ12_init_5 : decode cJ12_init 5 = .ok (.iconst 0, 1) := dk_3 (dk_at dksJ12_init_0 5 rfl rfl)
theorem dJ12_init_6 : decode cJ12_init 6 = .ok (.putfield 7, 3) := dk_181 0 7 (dk_at dksJ12_init_0 6 rfl rfl)
theorem dJ12_init_9 : decode cJ12_init 9 = .ok (.return_, 1) := dk_177 (dk_at dksJ12_init_0 9 rfl rfl)
abbrev cJ12_size : ByteArray := prog_65_method_16_code
def yJ12_size : MethodName := ⟨RJ12, "size", "()I"⟩
theorem dJ12_size_0 : decode cJ12_size 0 = .ok (.aload_n 0, 1) := by decide +kernel
theorem dJ12_size_1 : decode cJ12_size 1 = .ok (.getfield 7, 3) := by decide +kernel
theorem dJ12_size_4 : decode cJ12_size 4 = .ok (.ireturn, 1) := by decide +kernel
abbrev cJ12_get : ByteArray := prog_65_method_22_code
def yJ12_get : MethodName := ⟨RJ12, "get", "(I)Ljava/lang/Object;"⟩
def dkwJ12_get_0 : List UInt8 := [42, 27, 182, 0, 90, 42, 27, 182, 0, 86, 180, 0, 39, 176]
abbrev dktJ12_get_0 : List UInt8 := dkwJ12_get_0 ++ []
theorem dksJ12_get_0 : cJ12_get.data.toList.drop 0 = dktJ12_get_0 := by decide +kernel
theorem dJ12_get_0 : decode cJ12_get 0 = .ok (.aload_n 0, 1) := dk_42 (dk_at dksJ12_get_0 0 rfl rfl)
theorem dJ12_get_1 : decode cJ12_get 1 = .ok (.iload_n 1, 1) := dk_27 (dk_at dksJ12_get_0 1 rfl rfl)
theorem dJ12_get_2 : decode cJ12_get 2 = .ok (.invokevirtual 90, 3) := dk_182 0 90 (dk_at dksJ12_get_0 2 rfl rfl)
theorem dJ12_get_5 : decode cJ12_get 5 = .ok (.aload_n 0, 1) := dk_42 (dk_at dksJ12_get_0 5 rfl rfl)
theorem dJ12_get_6 : decode cJ12_get 6 = .ok (.iload_n 1, 1) := dk_27 (dk_at dksJ12_get_0 6 rfl rfl)
theorem dJ12_get_7 : decode cJ12_get 7 = .ok (.invokevirtual 86, 3) := dk_182 0 86 (dk_at dksJ12_get_0 7 rfl rfl)
theorem dJ12_get_10 : decode cJ12_get 10 = .ok (.getfield 39, 3) := dk_180 0 39 (dk_at dksJ12_get_0 10 rfl rfl)
theorem dJ12_get_13 : decode cJ12_get 13 = .ok (.areturn, 1) := dk_176 (dk_at dksJ12_get_0 13 rfl rfl)
abbrev cJ12_checkElementIndex : ByteArray := prog_65_method_29_code
def yJ12_checkElementIndex : MethodName := ⟨RJ12, "checkElementIndex", "(I)V"⟩
def dkwJ12_checkElementIndex_0 : List UInt8 := [42, 27, 182, 0, 115, 154, 0, 16, 187, 0, 119, 89, 42, 27, 182, 0, 121, 183, 0, 125, 191, 177]
abbrev dktJ12_checkElementIndex_0 : List UInt8 := dkwJ12_checkElementIndex_0 ++ []
theorem dksJ12_checkElementIndex_0 : cJ12_checkElementIndex.data.toList.drop 0 = dktJ12_checkElementIndex_0 := by decide +kernel
theorem dJ12_checkElementIndex_0 : decode cJ12_checkElementIndex 0 = .ok (.aload_n 0, 1) := dk_42 (dk_at dksJ12_checkElementIndex_0 0 rfl rfl)
theorem dJ12_checkElementIndex_1 : decode cJ12_checkElementIndex 1 = .ok (.iload_n 1, 1) := dk_27 (dk_at dksJ12_checkElementIndex_0 1 rfl rfl)
theorem dJ12_checkElementIndex_2 : decode cJ12_checkElementIndex 2 = .ok (.invokevirtual 115, 3) := dk_182 0 115 (dk_at dksJ12_checkElementIndex_0 2 rfl rfl)
theorem dJ12_checkElementIndex_5 : decode cJ12_checkElementIndex 5 = .ok (.ifCond .ne 16, 3) := dk_154 0 16 (dk_at dksJ12_checkElementIndex_0 5 rfl rfl)
theorem dJ12_checkElementIndex_8 : decode cJ12_checkElementIndex 8 = .ok (.new 119, 3) := dk_187 0 119 (dk_at dksJ12_checkElementIndex_0 8 rfl rfl)
theorem dJ12_checkElementIndex_11 : decode cJ12_checkElementIndex 11 = .ok (.dup, 1) := dk_89 (dk_at dksJ12_checkElementIndex_0 11 rfl rfl)
theorem dJ12_checkElementIndex_12 : decode cJ12_checkElementIndex 12 = .ok (.aload_n 0, 1) := dk_42 (dk_at dksJ12_checkElementIndex_0 12 rfl rfl)
theorem dJ12_checkElementIndex_13 : decode cJ12_checkElementIndex 13 = .ok (.iload_n 1, 1) := dk_27 (dk_at dksJ12_checkElementIndex_0 13 rfl rfl)
theorem dJ12_checkElementIndex_14 : decode cJ12_checkElementIndex 14 = .ok (.invokevirtual 121, 3) := dk_182 0 121 (dk_at dksJ12_checkElementIndex_0 14 rfl rfl)
theorem dJ12_checkElementIndex_17 : decode cJ12_checkElementIndex 17 = .ok (.invokespecial 125, 3) := dk_183 0 125 (dk_at dksJ12_checkElementIndex_0 17 rfl rfl)
theorem dJ12_checkElementIndex_20 : decode cJ12_checkElementIndex 20 = .ok (.athrow, 1) := dk_191 (dk_at dksJ12_checkElementIndex_0 20 rfl rfl)
theorem dJ12_checkElementIndex_21 : decode cJ12_checkElementIndex 21 = .ok (.return_, 1) := dk_177 (dk_at dksJ12_checkElementIndex_0 21 rfl rfl)
abbrev cJ12_isElementIndex : ByteArray := prog_65_method_26_code
def yJ12_isElementIndex : MethodName := ⟨RJ12, "isElementIndex", "(I)Z"⟩
def dkwJ12_isElementIndex_0 : List UInt8 := [27, 155, 0, 15, 27, 42, 180, 0, 7, 162, 0, 7, 4, 167, 0, 4, 3, 172]
abbrev dktJ12_isElementIndex_0 : List UInt8 := dkwJ12_isElementIndex_0 ++ []
theorem dksJ12_isElementIndex_0 : cJ12_isElementIndex.data.toList.drop 0 = dktJ12_isElementIndex_0 := by decide +kernel
theorem dJ12_isElementIndex_0 : decode cJ12_isElementIndex 0 = .ok (.iload_n 1, 1) := dk_27 (dk_at dksJ12_isElementIndex_0 0 rfl rfl)
theorem dJ12_isElementIndex_1 : decode cJ12_isElementIndex 1 = .ok (.ifCond .lt 15, 3) := dk_155 0 15 (dk_at dksJ12_isElementIndex_0 1 rfl rfl)
theorem dJ12_isElementIndex_4 : decode cJ12_isElementIndex 4 = .ok (.iload_n 1, 1) := dk_27 (dk_at dksJ12_isElementIndex_0 4 rfl rfl)
theorem dJ12_isElementIndex_5 : decode cJ12_isElementIndex 5 = .ok (.aload_n 0, 1) := dk_42 (dk_at dksJ12_isElementIndex_0 5 rfl rfl)
theorem dJ12_isElementIndex_6 : decode cJ12_isElementIndex 6 = .ok (.getfield 7, 3) := dk_180 0 7 (dk_at dksJ12_isElementIndex_0 6 rfl rfl)
theorem dJ12_isElementIndex_9 : decode cJ12_isElementIndex 9 = .ok (.if_icmp .ge 7, 3) := dk_162 0 7 (dk_at dksJ12_isElementIndex_0 9 rfl rfl)
theorem dJ12_isElementIndex_12 : decode cJ12_isElementIndex 12 = .ok (.iconst 1, 1) := dk_4 (dk_at dksJ12_isElementIndex_0 12 rfl rfl)
theorem dJ12_isElementIndex_13 : decode cJ12_isElementIndex 13 = .ok (.goto 4, 3) := dk_167 0 4 (dk_at dksJ12_isElementIndex_0 13 rfl rfl)
theorem dJ12_isElementIndex_16 : decode cJ12_isElementIndex 16 = .ok (.iconst 0, 1) := dk_3 (dk_at dksJ12_isElementIndex_0 16 rfl rfl)
theorem dJ12_isElementIndex_17 : decode cJ12_isElementIndex 17 = .ok (.ireturn, 1) := dk_172 (dk_at dksJ12_isElementIndex_0 17 rfl rfl)
abbrev cJ12_outOfBoundsMsg : ByteArray := prog_65_method_28_code
def yJ12_outOfBoundsMsg : MethodName := ⟨RJ12, "outOfBoundsMsg", "(I)Ljava/lang/String;"⟩
def dkwJ12_outOfBoundsMsg_1 : List UInt8 := [180, 0, 7, 182, 0, 106, 182, 0, 111, 176]
abbrev dktJ12_outOfBoundsMsg_1 : List UInt8 := dkwJ12_outOfBoundsMsg_1 ++ []
def dkwJ12_outOfBoundsMsg_0 : List UInt8 := [187, 0, 97, 89, 183, 0, 99, 18, 100, 182, 0, 102, 27, 182, 0, 106, 18, 109, 182, 0, 102, 42]
abbrev dktJ12_outOfBoundsMsg_0 : List UInt8 := dkwJ12_outOfBoundsMsg_0 ++ dktJ12_outOfBoundsMsg_1
theorem dksJ12_outOfBoundsMsg_0 : cJ12_outOfBoundsMsg.data.toList.drop 0 = dktJ12_outOfBoundsMsg_0 := by decide +kernel
theorem dksJ12_outOfBoundsMsg_1 : cJ12_outOfBoundsMsg.data.toList.drop 22 = dktJ12_outOfBoundsMsg_1 := dk_seg dksJ12_outOfBoundsMsg_0 22 rfl rfl
theorem dJ12_outOfBoundsMsg_0 : decode cJ12_outOfBoundsMsg 0 = .ok (.new 97, 3) := dk_187 0 97 (dk_at dksJ12_outOfBoundsMsg_0 0 rfl rfl)
theorem dJ12_outOfBoundsMsg_3 : decode cJ12_outOfBoundsMsg 3 = .ok (.dup, 1) := dk_89 (dk_at dksJ12_outOfBoundsMsg_0 3 rfl rfl)
theorem dJ12_outOfBoundsMsg_4 : decode cJ12_outOfBoundsMsg 4 = .ok (.invokespecial 99, 3) := dk_183 0 99 (dk_at dksJ12_outOfBoundsMsg_0 4 rfl rfl)
theorem dJ12_outOfBoundsMsg_7 : decode cJ12_outOfBoundsMsg 7 = .ok (.ldc 100, 2) := dk_18 100 (dk_at dksJ12_outOfBoundsMsg_0 7 rfl rfl)
theorem dJ12_outOfBoundsMsg_9 : decode cJ12_outOfBoundsMsg 9 = .ok (.invokevirtual 102, 3) := dk_182 0 102 (dk_at dksJ12_outOfBoundsMsg_0 9 rfl rfl)
theorem dJ12_outOfBoundsMsg_12 : decode cJ12_outOfBoundsMsg 12 = .ok (.iload_n 1, 1) := dk_27 (dk_at dksJ12_outOfBoundsMsg_0 12 rfl rfl)
theorem dJ12_outOfBoundsMsg_13 : decode cJ12_outOfBoundsMsg 13 = .ok (.invokevirtual 106, 3) := dk_182 0 106 (dk_at dksJ12_outOfBoundsMsg_0 13 rfl rfl)
theorem dJ12_outOfBoundsMsg_16 : decode cJ12_outOfBoundsMsg 16 = .ok (.ldc 109, 2) := dk_18 109 (dk_at dksJ12_outOfBoundsMsg_0 16 rfl rfl)
theorem dJ12_outOfBoundsMsg_18 : decode cJ12_outOfBoundsMsg 18 = .ok (.invokevirtual 102, 3) := dk_182 0 102 (dk_at dksJ12_outOfBoundsMsg_0 18 rfl rfl)
theorem dJ12_outOfBoundsMsg_21 : decode cJ12_outOfBoundsMsg 21 = .ok (.aload_n 0, 1) := dk_42 (dk_at dksJ12_outOfBoundsMsg_0 21 rfl rfl)
theorem dJ12_outOfBoundsMsg_22 : decode cJ12_outOfBoundsMsg 22 = .ok (.getfield 7, 3) := dk_180 0 7 (dk_at dksJ12_outOfBoundsMsg_1 0 rfl rfl)
theorem dJ12_outOfBoundsMsg_25 : decode cJ12_outOfBoundsMsg 25 = .ok (.invokevirtual 106, 3) := dk_182 0 106 (dk_at dksJ12_outOfBoundsMsg_1 3 rfl rfl)
theorem dJ12_outOfBoundsMsg_28 : decode cJ12_outOfBoundsMsg 28 = .ok (.invokevirtual 111, 3) := dk_182 0 111 (dk_at dksJ12_outOfBoundsMsg_1 6 rfl rfl)
theorem dJ12_outOfBoundsMsg_31 : decode cJ12_outOfBoundsMsg 31 = .ok (.areturn, 1) := dk_176 (dk_at dksJ12_outOfBoundsMsg_1 9 rfl rfl)
abbrev cJ12_node : ByteArray := prog_65_method_31_code
def yJ12_node : MethodName := ⟨RJ12, "node", "(I)Ljava/util/LinkedList$Node;"⟩
def dkwJ12_node_2 : List UInt8 := [29, 27, 164, 0, 14, 44, 180, 0, 30, 77, 132, 3, 255, 167, 255, 243, 44, 176]
abbrev dktJ12_node_2 : List UInt8 := dkwJ12_node_2 ++ []
def dkwJ12_node_1 : List UInt8 := [180, 0, 36, 77, 132, 3, 1, 167, 255, 243, 44, 176, 42, 180, 0, 27, 77, 42, 180, 0, 7, 4, 100, 62]
abbrev dktJ12_node_1 : List UInt8 := dkwJ12_node_1 ++ dktJ12_node_2
def dkwJ12_node_0 : List UInt8 := [27, 42, 180, 0, 7, 4, 122, 162, 0, 28, 42, 180, 0, 18, 77, 3, 62, 29, 27, 162, 0, 14, 44]
abbrev dktJ12_node_0 : List UInt8 := dkwJ12_node_0 ++ dktJ12_node_1
theorem dksJ12_node_0 : cJ12_node.data.toList.drop 0 = dktJ12_node_0 := by decide +kernel
theorem dksJ12_node_1 : cJ12_node.data.toList.drop 23 = dktJ12_node_1 := dk_seg dksJ12_node_0 23 rfl rfl
theorem dksJ12_node_2 : cJ12_node.data.toList.drop 47 = dktJ12_node_2 := dk_seg dksJ12_node_1 24 rfl rfl
theorem dJ12_node_0 : decode cJ12_node 0 = .ok (.iload_n 1, 1) := dk_27 (dk_at dksJ12_node_0 0 rfl rfl)
theorem dJ12_node_1 : decode cJ12_node 1 = .ok (.aload_n 0, 1) := dk_42 (dk_at dksJ12_node_0 1 rfl rfl)
theorem dJ12_node_2 : decode cJ12_node 2 = .ok (.getfield 7, 3) := dk_180 0 7 (dk_at dksJ12_node_0 2 rfl rfl)
theorem dJ12_node_5 : decode cJ12_node 5 = .ok (.iconst 1, 1) := dk_4 (dk_at dksJ12_node_0 5 rfl rfl)
theorem dJ12_node_6 : decode cJ12_node 6 = .ok (.ishr, 1) := dk_122 (dk_at dksJ12_node_0 6 rfl rfl)
theorem dJ12_node_7 : decode cJ12_node 7 = .ok (.if_icmp .ge 28, 3) := dk_162 0 28 (dk_at dksJ12_node_0 7 rfl rfl)
theorem dJ12_node_10 : decode cJ12_node 10 = .ok (.aload_n 0, 1) := dk_42 (dk_at dksJ12_node_0 10 rfl rfl)
theorem dJ12_node_11 : decode cJ12_node 11 = .ok (.getfield 18, 3) := dk_180 0 18 (dk_at dksJ12_node_0 11 rfl rfl)
theorem dJ12_node_14 : decode cJ12_node 14 = .ok (.astore_n 2, 1) := dk_77 (dk_at dksJ12_node_0 14 rfl rfl)
theorem dJ12_node_15 : decode cJ12_node 15 = .ok (.iconst 0, 1) := dk_3 (dk_at dksJ12_node_0 15 rfl rfl)
theorem dJ12_node_16 : decode cJ12_node 16 = .ok (.istore_n 3, 1) := dk_62 (dk_at dksJ12_node_0 16 rfl rfl)
theorem dJ12_node_17 : decode cJ12_node 17 = .ok (.iload_n 3, 1) := dk_29 (dk_at dksJ12_node_0 17 rfl rfl)
theorem dJ12_node_18 : decode cJ12_node 18 = .ok (.iload_n 1, 1) := dk_27 (dk_at dksJ12_node_0 18 rfl rfl)
theorem dJ12_node_19 : decode cJ12_node 19 = .ok (.if_icmp .ge 14, 3) := dk_162 0 14 (dk_at dksJ12_node_0 19 rfl rfl)
theorem dJ12_node_22 : decode cJ12_node 22 = .ok (.aload_n 2, 1) := dk_44 (dk_at dksJ12_node_0 22 rfl rfl)
theorem dJ12_node_23 : decode cJ12_node 23 = .ok (.getfield 36, 3) := dk_180 0 36 (dk_at dksJ12_node_1 0 rfl rfl)
theorem dJ12_node_26 : decode cJ12_node 26 = .ok (.astore_n 2, 1) := dk_77 (dk_at dksJ12_node_1 3 rfl rfl)
theorem dJ12_node_27 : decode cJ12_node 27 = .ok (.iinc 3 1, 3) := dk_132 3 1 (dk_at dksJ12_node_1 4 rfl rfl)
theorem dJ12_node_30 : decode cJ12_node 30 = .ok (.goto (-13), 3) := dk_167 255 243 (dk_at dksJ12_node_1 7 rfl rfl)
theorem dJ12_node_33 : decode cJ12_node 33 = .ok (.aload_n 2, 1) := dk_44 (dk_at dksJ12_node_1 10 rfl rfl)
theorem dJ12_node_34 : decode cJ12_node 34 = .ok (.areturn, 1) := dk_176 (dk_at dksJ12_node_1 11 rfl rfl)
theorem dJ12_node_35 : decode cJ12_node 35 = .ok (.aload_n 0, 1) := dk_42 (dk_at dksJ12_node_1 12 rfl rfl)
theorem dJ12_node_36 : decode cJ12_node 36 = .ok (.getfield 27, 3) := dk_180 0 27 (dk_at dksJ12_node_1 13 rfl rfl)
theorem dJ12_node_39 : decode cJ12_node 39 = .ok (.astore_n 2, 1) := dk_77 (dk_at dksJ12_node_1 16 rfl rfl)
theorem dJ12_node_40 : decode cJ12_node 40 = .ok (.aload_n 0, 1) := dk_42 (dk_at dksJ12_node_1 17 rfl rfl)
theorem dJ12_node_41 : decode cJ12_node 41 = .ok (.getfield 7, 3) := dk_180 0 7 (dk_at dksJ12_node_1 18 rfl rfl)
theorem dJ12_node_44 : decode cJ12_node 44 = .ok (.iconst 1, 1) := dk_4 (dk_at dksJ12_node_1 21 rfl rfl)
theorem dJ12_node_45 : decode cJ12_node 45 = .ok (.isub, 1) := dk_100 (dk_at dksJ12_node_1 22 rfl rfl)
theorem dJ12_node_46 : decode cJ12_node 46 = .ok (.istore_n 3, 1) := dk_62 (dk_at dksJ12_node_1 23 rfl rfl)
theorem dJ12_node_47 : decode cJ12_node 47 = .ok (.iload_n 3, 1) := dk_29 (dk_at dksJ12_node_2 0 rfl rfl)
theorem dJ12_node_48 : decode cJ12_node 48 = .ok (.iload_n 1, 1) := dk_27 (dk_at dksJ12_node_2 1 rfl rfl)
theorem dJ12_node_49 : decode cJ12_node 49 = .ok (.if_icmp .le 14, 3) := dk_164 0 14 (dk_at dksJ12_node_2 2 rfl rfl)
theorem dJ12_node_52 : decode cJ12_node 52 = .ok (.aload_n 2, 1) := dk_44 (dk_at dksJ12_node_2 5 rfl rfl)
theorem dJ12_node_53 : decode cJ12_node 53 = .ok (.getfield 30, 3) := dk_180 0 30 (dk_at dksJ12_node_2 6 rfl rfl)
theorem dJ12_node_56 : decode cJ12_node 56 = .ok (.astore_n 2, 1) := dk_77 (dk_at dksJ12_node_2 9 rfl rfl)
theorem dJ12_node_57 : decode cJ12_node 57 = .ok (.iinc 3 (-1), 3) := dk_132 3 255 (dk_at dksJ12_node_2 10 rfl rfl)
theorem dJ12_node_60 : decode cJ12_node 60 = .ok (.goto (-13), 3) := dk_167 255 243 (dk_at dksJ12_node_2 13 rfl rfl)
theorem dJ12_node_63 : decode cJ12_node 63 = .ok (.aload_n 2, 1) := dk_44 (dk_at dksJ12_node_2 16 rfl rfl)
theorem dJ12_node_64 : decode cJ12_node 64 = .ok (.areturn, 1) := dk_176 (dk_at dksJ12_node_2 17 rfl rfl)
abbrev cJ12_toArray : ByteArray := prog_65_method_53_code
def yJ12_toArray : MethodName := ⟨RJ12, "toArray", "()[Ljava/lang/Object;"⟩
def dkwJ12_toArray_1 : List UInt8 := [45, 180, 0, 39, 83, 45, 180, 0, 36, 78, 167, 255, 237, 43, 176]
abbrev dktJ12_toArray_1 : List UInt8 := dkwJ12_toArray_1 ++ []
def dkwJ12_toArray_0 : List UInt8 := [42, 180, 0, 7, 189, 0, 68, 76, 3, 61, 42, 180, 0, 18, 78, 45, 198, 0, 21, 43, 28, 132, 2, 1]
abbrev dktJ12_toArray_0 : List UInt8 := dkwJ12_toArray_0 ++ dktJ12_toArray_1
theorem dksJ12_toArray_0 : cJ12_toArray.data.toList.drop 0 = dktJ12_toArray_0 := by decide +kernel
theorem dksJ12_toArray_1 : cJ12_toArray.data.toList.drop 24 = dktJ12_toArray_1 := dk_seg dksJ12_toArray_0 24 rfl rfl
theorem dJ12_toArray_0 : decode cJ12_toArray 0 = .ok (.aload_n 0, 1) := dk_42 (dk_at dksJ12_toArray_0 0 rfl rfl)
theorem dJ12_toArray_1 : decode cJ12_toArray 1 = .ok (.getfield 7, 3) := dk_180 0 7 (dk_at dksJ12_toArray_0 1 rfl rfl)
theorem dJ12_toArray_4 : decode cJ12_toArray 4 = .ok (.anewarray 68, 3) := dk_189 0 68 (dk_at dksJ12_toArray_0 4 rfl rfl)
theorem dJ12_toArray_7 : decode cJ12_toArray 7 = .ok (.astore_n 1, 1) := dk_76 (dk_at dksJ12_toArray_0 7 rfl rfl)
theorem dJ12_toArray_8 : decode cJ12_toArray 8 = .ok (.iconst 0, 1) := dk_3 (dk_at dksJ12_toArray_0 8 rfl rfl)
theorem dJ12_toArray_9 : decode cJ12_toArray 9 = .ok (.istore_n 2, 1) := dk_61 (dk_at dksJ12_toArray_0 9 rfl rfl)
theorem dJ12_toArray_10 : decode cJ12_toArray 10 = .ok (.aload_n 0, 1) := dk_42 (dk_at dksJ12_toArray_0 10 rfl rfl)
theorem dJ12_toArray_11 : decode cJ12_toArray 11 = .ok (.getfield 18, 3) := dk_180 0 18 (dk_at dksJ12_toArray_0 11 rfl rfl)
theorem dJ12_toArray_14 : decode cJ12_toArray 14 = .ok (.astore_n 3, 1) := dk_78 (dk_at dksJ12_toArray_0 14 rfl rfl)
theorem dJ12_toArray_15 : decode cJ12_toArray 15 = .ok (.aload_n 3, 1) := dk_45 (dk_at dksJ12_toArray_0 15 rfl rfl)
theorem dJ12_toArray_16 : decode cJ12_toArray 16 = .ok (.ifnull 21, 3) := dk_198 0 21 (dk_at dksJ12_toArray_0 16 rfl rfl)
theorem dJ12_toArray_19 : decode cJ12_toArray 19 = .ok (.aload_n 1, 1) := dk_43 (dk_at dksJ12_toArray_0 19 rfl rfl)
theorem dJ12_toArray_20 : decode cJ12_toArray 20 = .ok (.iload_n 2, 1) := dk_28 (dk_at dksJ12_toArray_0 20 rfl rfl)
theorem dJ12_toArray_21 : decode cJ12_toArray 21 = .ok (.iinc 2 1, 3) := dk_132 2 1 (dk_at dksJ12_toArray_0 21 rfl rfl)
theorem dJ12_toArray_24 : decode cJ12_toArray 24 = .ok (.aload_n 3, 1) := dk_45 (dk_at dksJ12_toArray_1 0 rfl rfl)
theorem dJ12_toArray_25 : decode cJ12_toArray 25 = .ok (.getfield 39, 3) := dk_180 0 39 (dk_at dksJ12_toArray_1 1 rfl rfl)
theorem dJ12_toArray_28 : decode cJ12_toArray 28 = .ok (.aastore, 1) := dk_83 (dk_at dksJ12_toArray_1 4 rfl rfl)
theorem dJ12_toArray_29 : decode cJ12_toArray 29 = .ok (.aload_n 3, 1) := dk_45 (dk_at dksJ12_toArray_1 5 rfl rfl)
theorem dJ12_toArray_30 : decode cJ12_toArray 30 = .ok (.getfield 36, 3) := dk_180 0 36 (dk_at dksJ12_toArray_1 6 rfl rfl)
theorem dJ12_toArray_33 : decode cJ12_toArray 33 = .ok (.astore_n 3, 1) := dk_78 (dk_at dksJ12_toArray_1 9 rfl rfl)
theorem dJ12_toArray_34 : decode cJ12_toArray 34 = .ok (.goto (-19), 3) := dk_167 255 237 (dk_at dksJ12_toArray_1 10 rfl rfl)
theorem dJ12_toArray_37 : decode cJ12_toArray 37 = .ok (.aload_n 1, 1) := dk_43 (dk_at dksJ12_toArray_1 13 rfl rfl)
theorem dJ12_toArray_38 : decode cJ12_toArray 38 = .ok (.areturn, 1) := dk_176 (dk_at dksJ12_toArray_1 14 rfl rfl)
abbrev cJ12_clear : ByteArray := prog_65_method_21_code
def yJ12_clear : MethodName := ⟨RJ12, "clear", "()V"⟩
def dkwJ12_clear_2 : List UInt8 := [181, 0, 7, 42, 89, 180, 0, 33, 4, 96, 181, 0, 33, 177]
abbrev dktJ12_clear_2 : List UInt8 := dkwJ12_clear_2 ++ []
def dkwJ12_clear_1 : List UInt8 := [43, 1, 181, 0, 30, 44, 76, 167, 255, 230, 42, 42, 1, 90, 181, 0, 27, 181, 0, 18, 42, 3]
abbrev dktJ12_clear_1 : List UInt8 := dkwJ12_clear_1 ++ dktJ12_clear_2
def dkwJ12_clear_0 : List UInt8 := [42, 180, 0, 18, 76, 43, 198, 0, 28, 43, 180, 0, 36, 77, 43, 1, 181, 0, 39, 43, 1, 181, 0, 36]
abbrev dktJ12_clear_0 : List UInt8 := dkwJ12_clear_0 ++ dktJ12_clear_1
theorem dksJ12_clear_0 : cJ12_clear.data.toList.drop 0 = dktJ12_clear_0 := by decide +kernel
theorem dksJ12_clear_1 : cJ12_clear.data.toList.drop 24 = dktJ12_clear_1 := dk_seg dksJ12_clear_0 24 rfl rfl
theorem dksJ12_clear_2 : cJ12_clear.data.toList.drop 46 = dktJ12_clear_2 := dk_seg dksJ12_clear_1 22 rfl rfl
theorem dJ12_clear_0 : decode cJ12_clear 0 = .ok (.aload_n 0, 1) := dk_42 (dk_at dksJ12_clear_0 0 rfl rfl)
theorem dJ12_clear_1 : decode cJ12_clear 1 = .ok (.getfield 18, 3) := dk_180 0 18 (dk_at dksJ12_clear_0 1 rfl rfl)
theorem dJ12_clear_4 : decode cJ12_clear 4 = .ok (.astore_n 1, 1) := dk_76 (dk_at dksJ12_clear_0 4 rfl rfl)
theorem dJ12_clear_5 : decode cJ12_clear 5 = .ok (.aload_n 1, 1) := dk_43 (dk_at dksJ12_clear_0 5 rfl rfl)
theorem dJ12_clear_6 : decode cJ12_clear 6 = .ok (.ifnull 28, 3) := dk_198 0 28 (dk_at dksJ12_clear_0 6 rfl rfl)
theorem dJ12_clear_9 : decode cJ12_clear 9 = .ok (.aload_n 1, 1) := dk_43 (dk_at dksJ12_clear_0 9 rfl rfl)
theorem dJ12_clear_10 : decode cJ12_clear 10 = .ok (.getfield 36, 3) := dk_180 0 36 (dk_at dksJ12_clear_0 10 rfl rfl)
theorem dJ12_clear_13 : decode cJ12_clear 13 = .ok (.astore_n 2, 1) := dk_77 (dk_at dksJ12_clear_0 13 rfl rfl)
theorem dJ12_clear_14 : decode cJ12_clear 14 = .ok (.aload_n 1, 1) := dk_43 (dk_at dksJ12_clear_0 14 rfl rfl)
theorem dJ12_clear_15 : decode cJ12_clear 15 = .ok (.aconst_null, 1) := dk_1 (dk_at dksJ12_clear_0 15 rfl rfl)
theorem dJ12_clear_16 : decode cJ12_clear 16 = .ok (.putfield 39, 3) := dk_181 0 39 (dk_at dksJ12_clear_0 16 rfl rfl)
theorem dJ12_clear_19 : decode cJ12_clear 19 = .ok (.aload_n 1, 1) := dk_43 (dk_at dksJ12_clear_0 19 rfl rfl)
theorem dJ12_clear_20 : decode cJ12_clear 20 = .ok (.aconst_null, 1) := dk_1 (dk_at dksJ12_clear_0 20 rfl rfl)
theorem dJ12_clear_21 : decode cJ12_clear 21 = .ok (.putfield 36, 3) := dk_181 0 36 (dk_at dksJ12_clear_0 21 rfl rfl)
theorem dJ12_clear_24 : decode cJ12_clear 24 = .ok (.aload_n 1, 1) := dk_43 (dk_at dksJ12_clear_1 0 rfl rfl)
theorem dJ12_clear_25 : decode cJ12_clear 25 = .ok (.aconst_null, 1) := dk_1 (dk_at dksJ12_clear_1 1 rfl rfl)
theorem dJ12_clear_26 : decode cJ12_clear 26 = .ok (.putfield 30, 3) := dk_181 0 30 (dk_at dksJ12_clear_1 2 rfl rfl)
theorem dJ12_clear_29 : decode cJ12_clear 29 = .ok (.aload_n 2, 1) := dk_44 (dk_at dksJ12_clear_1 5 rfl rfl)
theorem dJ12_clear_30 : decode cJ12_clear 30 = .ok (.astore_n 1, 1) := dk_76 (dk_at dksJ12_clear_1 6 rfl rfl)
theorem dJ12_clear_31 : decode cJ12_clear 31 = .ok (.goto (-26), 3) := dk_167 255 230 (dk_at dksJ12_clear_1 7 rfl rfl)
theorem dJ12_clear_34 : decode cJ12_clear 34 = .ok (.aload_n 0, 1) := dk_42 (dk_at dksJ12_clear_1 10 rfl rfl)
theorem dJ12_clear_35 : decode cJ12_clear 35 = .ok (.aload_n 0, 1) := dk_42 (dk_at dksJ12_clear_1 11 rfl rfl)
theorem dJ12_clear_36 : decode cJ12_clear 36 = .ok (.aconst_null, 1) := dk_1 (dk_at dksJ12_clear_1 12 rfl rfl)
theorem dJ12_clear_37 : decode cJ12_clear 37 = .ok (.dup_x1, 1) := dk_90 (dk_at dksJ12_clear_1 13 rfl rfl)
theorem dJ12_clear_38 : decode cJ12_clear 38 = .ok (.putfield 27, 3) := dk_181 0 27 (dk_at dksJ12_clear_1 14 rfl rfl)
theorem dJ12_clear_41 : decode cJ12_clear 41 = .ok (.putfield 18, 3) := dk_181 0 18 (dk_at dksJ12_clear_1 17 rfl rfl)
theorem dJ12_clear_44 : decode cJ12_clear 44 = .ok (.aload_n 0, 1) := dk_42 (dk_at dksJ12_clear_1 20 rfl rfl)
theorem dJ12_clear_45 : decode cJ12_clear 45 = .ok (.iconst 0, 1) := dk_3 (dk_at dksJ12_clear_1 21 rfl rfl)
theorem dJ12_clear_46 : decode cJ12_clear 46 = .ok (.putfield 7, 3) := dk_181 0 7 (dk_at dksJ12_clear_2 0 rfl rfl)
theorem dJ12_clear_49 : decode cJ12_clear 49 = .ok (.aload_n 0, 1) := dk_42 (dk_at dksJ12_clear_2 3 rfl rfl)
theorem dJ12_clear_50 : decode cJ12_clear 50 = .ok (.dup, 1) := dk_89 (dk_at dksJ12_clear_2 4 rfl rfl)
theorem dJ12_clear_51 : decode cJ12_clear 51 = .ok (.getfield 33, 3) := dk_180 0 33 (dk_at dksJ12_clear_2 5 rfl rfl)
theorem dJ12_clear_54 : decode cJ12_clear 54 = .ok (.iconst 1, 1) := dk_4 (dk_at dksJ12_clear_2 8 rfl rfl)
theorem dJ12_clear_55 : decode cJ12_clear 55 = .ok (.iadd, 1) := dk_96 (dk_at dksJ12_clear_2 9 rfl rfl)
theorem dJ12_clear_56 : decode cJ12_clear 56 = .ok (.putfield 33, 3) := dk_181 0 33 (dk_at dksJ12_clear_2 10 rfl rfl)
theorem dJ12_clear_59 : decode cJ12_clear 59 = .ok (.return_, 1) := dk_177 (dk_at dksJ12_clear_2 13 rfl rfl)
abbrev cJ12_removeFirst : ByteArray := prog_65_method_11_code
def yJ12_removeFirst : MethodName := ⟨RJ12, "removeFirst", "()Ljava/lang/Object;"⟩
def dkwJ12_removeFirst_0 : List UInt8 := [42, 180, 0, 18, 76, 43, 199, 0, 11, 187, 0, 43, 89, 183, 0, 45, 191, 42, 43, 182, 0, 46, 176]
abbrev dktJ12_removeFirst_0 : List UInt8 := dkwJ12_removeFirst_0 ++ []
theorem dksJ12_removeFirst_0 : cJ12_removeFirst.data.toList.drop 0 = dktJ12_removeFirst_0 := by decide +kernel
theorem dJ12_removeFirst_0 : decode cJ12_removeFirst 0 = .ok (.aload_n 0, 1) := dk_42 (dk_at dksJ12_removeFirst_0 0 rfl rfl)
theorem dJ12_removeFirst_1 : decode cJ12_removeFirst 1 = .ok (.getfield 18, 3) := dk_180 0 18 (dk_at dksJ12_removeFirst_0 1 rfl rfl)
theorem dJ12_removeFirst_4 : decode cJ12_removeFirst 4 = .ok (.astore_n 1, 1) := dk_76 (dk_at dksJ12_removeFirst_0 4 rfl rfl)
theorem dJ12_removeFirst_5 : decode cJ12_removeFirst 5 = .ok (.aload_n 1, 1) := dk_43 (dk_at dksJ12_removeFirst_0 5 rfl rfl)
theorem dJ12_removeFirst_6 : decode cJ12_removeFirst 6 = .ok (.ifnonnull 11, 3) := dk_199 0 11 (dk_at dksJ12_removeFirst_0 6 rfl rfl)
theorem dJ12_removeFirst_9 : decode cJ12_removeFirst 9 = .ok (.new 43, 3) := dk_187 0 43 (dk_at dksJ12_removeFirst_0 9 rfl rfl)
theorem dJ12_removeFirst_12 : decode cJ12_removeFirst 12 = .ok (.dup, 1) := dk_89 (dk_at dksJ12_removeFirst_0 12 rfl rfl)
theorem dJ12_removeFirst_13 : decode cJ12_removeFirst 13 = .ok (.invokespecial 45, 3) := dk_183 0 45 (dk_at dksJ12_removeFirst_0 13 rfl rfl)
theorem dJ12_removeFirst_16 : decode cJ12_removeFirst 16 = .ok (.athrow, 1) := dk_191 (dk_at dksJ12_removeFirst_0 16 rfl rfl)
theorem dJ12_removeFirst_17 : decode cJ12_removeFirst 17 = .ok (.aload_n 0, 1) := dk_42 (dk_at dksJ12_removeFirst_0 17 rfl rfl)
theorem dJ12_removeFirst_18 : decode cJ12_removeFirst 18 = .ok (.aload_n 1, 1) := dk_43 (dk_at dksJ12_removeFirst_0 18 rfl rfl)
theorem dJ12_removeFirst_19 : decode cJ12_removeFirst 19 = .ok (.invokevirtual 46, 3) := dk_182 0 46 (dk_at dksJ12_removeFirst_0 19 rfl rfl)
theorem dJ12_removeFirst_22 : decode cJ12_removeFirst 22 = .ok (.areturn, 1) := dk_176 (dk_at dksJ12_removeFirst_0 22 rfl rfl)
abbrev cJ12_unlinkFirst : ByteArray := prog_65_method_6_code
def yJ12_unlinkFirst : MethodName := ⟨RJ12, "unlinkFirst", "(Ljava/util/LinkedList$Node;)Ljava/lang/Object;"⟩
def dkwJ12_unlinkFirst_2 : List UInt8 := [180, 0, 7, 4, 100, 181, 0, 7, 42, 89, 180, 0, 33, 4, 96, 181, 0, 33, 44, 176]
abbrev dktJ12_unlinkFirst_2 : List UInt8 := dkwJ12_unlinkFirst_2 ++ []
def dkwJ12_unlinkFirst_1 : List UInt8 := [181, 0, 18, 45, 199, 0, 11, 42, 1, 181, 0, 27, 167, 0, 8, 45, 1, 181, 0, 30, 42, 89]
abbrev dktJ12_unlinkFirst_1 : List UInt8 := dkwJ12_unlinkFirst_1 ++ dktJ12_unlinkFirst_2
def dkwJ12_unlinkFirst_0 : List UInt8 := [43, 180, 0, 39, 77, 43, 180, 0, 36, 78, 43, 1, 181, 0, 39, 43, 1, 181, 0, 36, 42, 45]
abbrev dktJ12_unlinkFirst_0 : List UInt8 := dkwJ12_unlinkFirst_0 ++ dktJ12_unlinkFirst_1
theorem dksJ12_unlinkFirst_0 : cJ12_unlinkFirst.data.toList.drop 0 = dktJ12_unlinkFirst_0 := by decide +kernel
theorem dksJ12_unlinkFirst_1 : cJ12_unlinkFirst.data.toList.drop 22 = dktJ12_unlinkFirst_1 := dk_seg dksJ12_unlinkFirst_0 22 rfl rfl
theorem dksJ12_unlinkFirst_2 : cJ12_unlinkFirst.data.toList.drop 44 = dktJ12_unlinkFirst_2 := dk_seg dksJ12_unlinkFirst_1 22 rfl rfl
theorem dJ12_unlinkFirst_0 : decode cJ12_unlinkFirst 0 = .ok (.aload_n 1, 1) := dk_43 (dk_at dksJ12_unlinkFirst_0 0 rfl rfl)
theorem dJ12_unlinkFirst_1 : decode cJ12_unlinkFirst 1 = .ok (.getfield 39, 3) := dk_180 0 39 (dk_at dksJ12_unlinkFirst_0 1 rfl rfl)
theorem dJ12_unlinkFirst_4 : decode cJ12_unlinkFirst 4 = .ok (.astore_n 2, 1) := dk_77 (dk_at dksJ12_unlinkFirst_0 4 rfl rfl)
theorem dJ12_unlinkFirst_5 : decode cJ12_unlinkFirst 5 = .ok (.aload_n 1, 1) := dk_43 (dk_at dksJ12_unlinkFirst_0 5 rfl rfl)
theorem dJ12_unlinkFirst_6 : decode cJ12_unlinkFirst 6 = .ok (.getfield 36, 3) := dk_180 0 36 (dk_at dksJ12_unlinkFirst_0 6 rfl rfl)
theorem dJ12_unlinkFirst_9 : decode cJ12_unlinkFirst 9 = .ok (.astore_n 3, 1) := dk_78 (dk_at dksJ12_unlinkFirst_0 9 rfl rfl)
theorem dJ12_unlinkFirst_10 : decode cJ12_unlinkFirst 10 = .ok (.aload_n 1, 1) := dk_43 (dk_at dksJ12_unlinkFirst_0 10 rfl rfl)
theorem dJ12_unlinkFirst_11 : decode cJ12_unlinkFirst 11 = .ok (.aconst_null, 1) := dk_1 (dk_at dksJ12_unlinkFirst_0 11 rfl rfl)
theorem dJ12_unlinkFirst_12 : decode cJ12_unlinkFirst 12 = .ok (.putfield 39, 3) := dk_181 0 39 (dk_at dksJ12_unlinkFirst_0 12 rfl rfl)
theorem dJ12_unlinkFirst_15 : decode cJ12_unlinkFirst 15 = .ok (.aload_n 1, 1) := dk_43 (dk_at dksJ12_unlinkFirst_0 15 rfl rfl)
theorem dJ12_unlinkFirst_16 : decode cJ12_unlinkFirst 16 = .ok (.aconst_null, 1) := dk_1 (dk_at dksJ12_unlinkFirst_0 16 rfl rfl)
theorem dJ12_unlinkFirst_17 : decode cJ12_unlinkFirst 17 = .ok (.putfield 36, 3) := dk_181 0 36 (dk_at dksJ12_unlinkFirst_0 17 rfl rfl)
theorem dJ12_unlinkFirst_20 : decode cJ12_unlinkFirst 20 = .ok (.aload_n 0, 1) := dk_42 (dk_at dksJ12_unlinkFirst_0 20 rfl rfl)
theorem dJ12_unlinkFirst_21 : decode cJ12_unlinkFirst 21 = .ok (.aload_n 3, 1) := dk_45 (dk_at dksJ12_unlinkFirst_0 21 rfl rfl)
theorem dJ12_unlinkFirst_22 : decode cJ12_unlinkFirst 22 = .ok (.putfield 18, 3) := dk_181 0 18 (dk_at dksJ12_unlinkFirst_1 0 rfl rfl)
theorem dJ12_unlinkFirst_25 : decode cJ12_unlinkFirst 25 = .ok (.aload_n 3, 1) := dk_45 (dk_at dksJ12_unlinkFirst_1 3 rfl rfl)
theorem dJ12_unlinkFirst_26 : decode cJ12_unlinkFirst 26 = .ok (.ifnonnull 11, 3) := dk_199 0 11 (dk_at dksJ12_unlinkFirst_1 4 rfl rfl)
theorem dJ12_unlinkFirst_29 : decode cJ12_unlinkFirst 29 = .ok (.aload_n 0, 1) := dk_42 (dk_at dksJ12_unlinkFirst_1 7 rfl rfl)
theorem dJ12_unlinkFirst_30 : decode cJ12_unlinkFirst 30 = .ok (.aconst_null, 1) := dk_1 (dk_at dksJ12_unlinkFirst_1 8 rfl rfl)
theorem dJ12_unlinkFirst_31 : decode cJ12_unlinkFirst 31 = .ok (.putfield 27, 3) := dk_181 0 27 (dk_at dksJ12_unlinkFirst_1 9 rfl rfl)
theorem dJ12_unlinkFirst_34 : decode cJ12_unlinkFirst 34 = .ok (.goto 8, 3) := dk_167 0 8 (dk_at dksJ12_unlinkFirst_1 12 rfl rfl)
theorem dJ12_unlinkFirst_37 : decode cJ12_unlinkFirst 37 = .ok (.aload_n 3, 1) := dk_45 (dk_at dksJ12_unlinkFirst_1 15 rfl rfl)
theorem dJ12_unlinkFirst_38 : decode cJ12_unlinkFirst 38 = .ok (.aconst_null, 1) := dk_1 (dk_at dksJ12_unlinkFirst_1 16 rfl rfl)
theorem dJ12_unlinkFirst_39 : decode cJ12_unlinkFirst 39 = .ok (.putfield 30, 3) := dk_181 0 30 (dk_at dksJ12_unlinkFirst_1 17 rfl rfl)
theorem dJ12_unlinkFirst_42 : decode cJ12_unlinkFirst 42 = .ok (.aload_n 0, 1) := dk_42 (dk_at dksJ12_unlinkFirst_1 20 rfl rfl)
theorem dJ12_unlinkFirst_43 : decode cJ12_unlinkFirst 43 = .ok (.dup, 1) := dk_89 (dk_at dksJ12_unlinkFirst_1 21 rfl rfl)
theorem dJ12_unlinkFirst_44 : decode cJ12_unlinkFirst 44 = .ok (.getfield 7, 3) := dk_180 0 7 (dk_at dksJ12_unlinkFirst_2 0 rfl rfl)
theorem dJ12_unlinkFirst_47 : decode cJ12_unlinkFirst 47 = .ok (.iconst 1, 1) := dk_4 (dk_at dksJ12_unlinkFirst_2 3 rfl rfl)
theorem dJ12_unlinkFirst_48 : decode cJ12_unlinkFirst 48 = .ok (.isub, 1) := dk_100 (dk_at dksJ12_unlinkFirst_2 4 rfl rfl)
theorem dJ12_unlinkFirst_49 : decode cJ12_unlinkFirst 49 = .ok (.putfield 7, 3) := dk_181 0 7 (dk_at dksJ12_unlinkFirst_2 5 rfl rfl)
theorem dJ12_unlinkFirst_52 : decode cJ12_unlinkFirst 52 = .ok (.aload_n 0, 1) := dk_42 (dk_at dksJ12_unlinkFirst_2 8 rfl rfl)
theorem dJ12_unlinkFirst_53 : decode cJ12_unlinkFirst 53 = .ok (.dup, 1) := dk_89 (dk_at dksJ12_unlinkFirst_2 9 rfl rfl)
theorem dJ12_unlinkFirst_54 : decode cJ12_unlinkFirst 54 = .ok (.getfield 33, 3) := dk_180 0 33 (dk_at dksJ12_unlinkFirst_2 10 rfl rfl)
theorem dJ12_unlinkFirst_57 : decode cJ12_unlinkFirst 57 = .ok (.iconst 1, 1) := dk_4 (dk_at dksJ12_unlinkFirst_2 13 rfl rfl)
theorem dJ12_unlinkFirst_58 : decode cJ12_unlinkFirst 58 = .ok (.iadd, 1) := dk_96 (dk_at dksJ12_unlinkFirst_2 14 rfl rfl)
theorem dJ12_unlinkFirst_59 : decode cJ12_unlinkFirst 59 = .ok (.putfield 33, 3) := dk_181 0 33 (dk_at dksJ12_unlinkFirst_2 15 rfl rfl)
theorem dJ12_unlinkFirst_62 : decode cJ12_unlinkFirst 62 = .ok (.aload_n 2, 1) := dk_44 (dk_at dksJ12_unlinkFirst_2 18 rfl rfl)
theorem dJ12_unlinkFirst_63 : decode cJ12_unlinkFirst 63 = .ok (.areturn, 1) := dk_176 (dk_at dksJ12_unlinkFirst_2 19 rfl rfl)
abbrev cJ12_addLast : ByteArray := prog_65_method_14_code
def yJ12_addLast : MethodName := ⟨RJ12, "addLast", "(Ljava/lang/Object;)V"⟩
def dkwJ12_addLast_0 : List UInt8 := [42, 43, 182, 0, 57, 177]
abbrev dktJ12_addLast_0 : List UInt8 := dkwJ12_addLast_0 ++ []
theorem dksJ12_addLast_0 : cJ12_addLast.data.toList.drop 0 = dktJ12_addLast_0 := by decide +kernel
theorem dJ12_addLast_0 : decode cJ12_addLast 0 = .ok (.aload_n 0, 1) := dk_42 (dk_at dksJ12_addLast_0 0 rfl rfl)
theorem dJ12_addLast_1 : decode cJ12_addLast 1 = .ok (.aload_n 1, 1) := dk_43 (dk_at dksJ12_addLast_0 1 rfl rfl)
theorem dJ12_addLast_2 : decode cJ12_addLast 2 = .ok (.invokevirtual 57, 3) := dk_182 0 57 (dk_at dksJ12_addLast_0 2 rfl rfl)
theorem dJ12_addLast_5 : decode cJ12_addLast 5 = .ok (.return_, 1) := dk_177 (dk_at dksJ12_addLast_0 5 rfl rfl)
abbrev cJ12_linkLast : ByteArray := prog_65_method_4_code
def yJ12_linkLast : MethodName := ⟨RJ12, "linkLast", "(Ljava/lang/Object;)V"⟩
def dkwJ12_linkLast_2 : List UInt8 := [181, 0, 7, 42, 89, 180, 0, 33, 4, 96, 181, 0, 33, 177]
abbrev dktJ12_linkLast_2 : List UInt8 := dkwJ12_linkLast_2 ++ []
def dkwJ12_linkLast_1 : List UInt8 := [199, 0, 11, 42, 45, 181, 0, 18, 167, 0, 8, 44, 45, 181, 0, 36, 42, 89, 180, 0, 7, 4, 96]
abbrev dktJ12_linkLast_1 : List UInt8 := dkwJ12_linkLast_1 ++ dktJ12_linkLast_2
def dkwJ12_linkLast_0 : List UInt8 := [42, 180, 0, 27, 77, 187, 0, 22, 89, 44, 43, 1, 183, 0, 24, 78, 42, 45, 181, 0, 27, 44]
abbrev dktJ12_linkLast_0 : List UInt8 := dkwJ12_linkLast_0 ++ dktJ12_linkLast_1
theorem dksJ12_linkLast_0 : cJ12_linkLast.data.toList.drop 0 = dktJ12_linkLast_0 := by decide +kernel
theorem dksJ12_linkLast_1 : cJ12_linkLast.data.toList.drop 22 = dktJ12_linkLast_1 := dk_seg dksJ12_linkLast_0 22 rfl rfl
theorem dksJ12_linkLast_2 : cJ12_linkLast.data.toList.drop 45 = dktJ12_linkLast_2 := dk_seg dksJ12_linkLast_1 23 rfl rfl
theorem dJ12_linkLast_0 : decode cJ12_linkLast 0 = .ok (.aload_n 0, 1) := dk_42 (dk_at dksJ12_linkLast_0 0 rfl rfl)
theorem dJ12_linkLast_1 : decode cJ12_linkLast 1 = .ok (.getfield 27, 3) := dk_180 0 27 (dk_at dksJ12_linkLast_0 1 rfl rfl)
theorem dJ12_linkLast_4 : decode cJ12_linkLast 4 = .ok (.astore_n 2, 1) := dk_77 (dk_at dksJ12_linkLast_0 4 rfl rfl)
theorem dJ12_linkLast_5 : decode cJ12_linkLast 5 = .ok (.new 22, 3) := dk_187 0 22 (dk_at dksJ12_linkLast_0 5 rfl rfl)
theorem dJ12_linkLast_8 : decode cJ12_linkLast 8 = .ok (.dup, 1) := dk_89 (dk_at dksJ12_linkLast_0 8 rfl rfl)
theorem dJ12_linkLast_9 : decode cJ12_linkLast 9 = .ok (.aload_n 2, 1) := dk_44 (dk_at dksJ12_linkLast_0 9 rfl rfl)
theorem dJ12_linkLast_10 : decode cJ12_linkLast 10 = .ok (.aload_n 1, 1) := dk_43 (dk_at dksJ12_linkLast_0 10 rfl rfl)
theorem dJ12_linkLast_11 : decode cJ12_linkLast 11 = .ok (.aconst_null, 1) := dk_1 (dk_at dksJ12_linkLast_0 11 rfl rfl)
theorem dJ12_linkLast_12 : decode cJ12_linkLast 12 = .ok (.invokespecial 24, 3) := dk_183 0 24 (dk_at dksJ12_linkLast_0 12 rfl rfl)
theorem dJ12_linkLast_15 : decode cJ12_linkLast 15 = .ok (.astore_n 3, 1) := dk_78 (dk_at dksJ12_linkLast_0 15 rfl rfl)
theorem dJ12_linkLast_16 : decode cJ12_linkLast 16 = .ok (.aload_n 0, 1) := dk_42 (dk_at dksJ12_linkLast_0 16 rfl rfl)
theorem dJ12_linkLast_17 : decode cJ12_linkLast 17 = .ok (.aload_n 3, 1) := dk_45 (dk_at dksJ12_linkLast_0 17 rfl rfl)
theorem dJ12_linkLast_18 : decode cJ12_linkLast 18 = .ok (.putfield 27, 3) := dk_181 0 27 (dk_at dksJ12_linkLast_0 18 rfl rfl)
theorem dJ12_linkLast_21 : decode cJ12_linkLast 21 = .ok (.aload_n 2, 1) := dk_44 (dk_at dksJ12_linkLast_0 21 rfl rfl)
theorem dJ12_linkLast_22 : decode cJ12_linkLast 22 = .ok (.ifnonnull 11, 3) := dk_199 0 11 (dk_at dksJ12_linkLast_1 0 rfl rfl)
theorem dJ12_linkLast_25 : decode cJ12_linkLast 25 = .ok (.aload_n 0, 1) := dk_42 (dk_at dksJ12_linkLast_1 3 rfl rfl)
theorem dJ12_linkLast_26 : decode cJ12_linkLast 26 = .ok (.aload_n 3, 1) := dk_45 (dk_at dksJ12_linkLast_1 4 rfl rfl)
theorem dJ12_linkLast_27 : decode cJ12_linkLast 27 = .ok (.putfield 18, 3) := dk_181 0 18 (dk_at dksJ12_linkLast_1 5 rfl rfl)
theorem dJ12_linkLast_30 : decode cJ12_linkLast 30 = .ok (.goto 8, 3) := dk_167 0 8 (dk_at dksJ12_linkLast_1 8 rfl rfl)
theorem dJ12_linkLast_33 : decode cJ12_linkLast 33 = .ok (.aload_n 2, 1) := dk_44 (dk_at dksJ12_linkLast_1 11 rfl rfl)
theorem dJ12_linkLast_34 : decode cJ12_linkLast 34 = .ok (.aload_n 3, 1) := dk_45 (dk_at dksJ12_linkLast_1 12 rfl rfl)
theorem dJ12_linkLast_35 : decode cJ12_linkLast 35 = .ok (.putfield 36, 3) := dk_181 0 36 (dk_at dksJ12_linkLast_1 13 rfl rfl)
theorem dJ12_linkLast_38 : decode cJ12_linkLast 38 = .ok (.aload_n 0, 1) := dk_42 (dk_at dksJ12_linkLast_1 16 rfl rfl)
theorem dJ12_linkLast_39 : decode cJ12_linkLast 39 = .ok (.dup, 1) := dk_89 (dk_at dksJ12_linkLast_1 17 rfl rfl)
theorem dJ12_linkLast_40 : decode cJ12_linkLast 40 = .ok (.getfield 7, 3) := dk_180 0 7 (dk_at dksJ12_linkLast_1 18 rfl rfl)
theorem dJ12_linkLast_43 : decode cJ12_linkLast 43 = .ok (.iconst 1, 1) := dk_4 (dk_at dksJ12_linkLast_1 21 rfl rfl)
theorem dJ12_linkLast_44 : decode cJ12_linkLast 44 = .ok (.iadd, 1) := dk_96 (dk_at dksJ12_linkLast_1 22 rfl rfl)
theorem dJ12_linkLast_45 : decode cJ12_linkLast 45 = .ok (.putfield 7, 3) := dk_181 0 7 (dk_at dksJ12_linkLast_2 0 rfl rfl)
theorem dJ12_linkLast_48 : decode cJ12_linkLast 48 = .ok (.aload_n 0, 1) := dk_42 (dk_at dksJ12_linkLast_2 3 rfl rfl)
theorem dJ12_linkLast_49 : decode cJ12_linkLast 49 = .ok (.dup, 1) := dk_89 (dk_at dksJ12_linkLast_2 4 rfl rfl)
theorem dJ12_linkLast_50 : decode cJ12_linkLast 50 = .ok (.getfield 33, 3) := dk_180 0 33 (dk_at dksJ12_linkLast_2 5 rfl rfl)
theorem dJ12_linkLast_53 : decode cJ12_linkLast 53 = .ok (.iconst 1, 1) := dk_4 (dk_at dksJ12_linkLast_2 8 rfl rfl)
theorem dJ12_linkLast_54 : decode cJ12_linkLast 54 = .ok (.iadd, 1) := dk_96 (dk_at dksJ12_linkLast_2 9 rfl rfl)
theorem dJ12_linkLast_55 : decode cJ12_linkLast 55 = .ok (.putfield 33, 3) := dk_181 0 33 (dk_at dksJ12_linkLast_2 10 rfl rfl)
theorem dJ12_linkLast_58 : decode cJ12_linkLast 58 = .ok (.return_, 1) := dk_177 (dk_at dksJ12_linkLast_2 13 rfl rfl)
abbrev cJ12_descendingIterator : ByteArray := prog_65_method_50_code
def yJ12_descendingIterator : MethodName := ⟨RJ12, "descendingIterator", "()Ljava/util/Iterator;"⟩
def dkwJ12_descendingIterator_0 : List UInt8 := [187, 0, 155, 89, 42, 183, 0, 157, 176]
abbrev dktJ12_descendingIterator_0 : List UInt8 := dkwJ12_descendingIterator_0 ++ []
theorem dksJ12_descendingIterator_0 : cJ12_descendingIterator.data.toList.drop 0 = dktJ12_descendingIterator_0 := by decide +kernel
theorem dJ12_descendingIterator_0 : decode cJ12_descendingIterator 0 = .ok (.new 155, 3) := dk_187 0 155 (dk_at dksJ12_descendingIterator_0 0 rfl rfl)
theorem dJ12_descendingIterator_3 : decode cJ12_descendingIterator 3 = .ok (.dup, 1) := dk_89 (dk_at dksJ12_descendingIterator_0 3 rfl rfl)
theorem dJ12_descendingIterator_4 : decode cJ12_descendingIterator 4 = .ok (.aload_n 0, 1) := dk_42 (dk_at dksJ12_descendingIterator_0 4 rfl rfl)
theorem dJ12_descendingIterator_5 : decode cJ12_descendingIterator 5 = .ok (.invokespecial 157, 3) := dk_183 0 157 (dk_at dksJ12_descendingIterator_0 5 rfl rfl)
theorem dJ12_descendingIterator_8 : decode cJ12_descendingIterator 8 = .ok (.areturn, 1) := dk_176 (dk_at dksJ12_descendingIterator_0 8 rfl rfl)
abbrev cJ12_getLast : ByteArray := prog_65_method_10_code
def yJ12_getLast : MethodName := ⟨RJ12, "getLast", "()Ljava/lang/Object;"⟩
def dkwJ12_getLast_0 : List UInt8 := [42, 180, 0, 27, 76, 43, 199, 0, 11, 187, 0, 43, 89, 183, 0, 45, 191, 43, 180, 0, 39, 176]
abbrev dktJ12_getLast_0 : List UInt8 := dkwJ12_getLast_0 ++ []
theorem dksJ12_getLast_0 : cJ12_getLast.data.toList.drop 0 = dktJ12_getLast_0 := by decide +kernel
theorem dJ12_getLast_0 : decode cJ12_getLast 0 = .ok (.aload_n 0, 1) := dk_42 (dk_at dksJ12_getLast_0 0 rfl rfl)
theorem dJ12_getLast_1 : decode cJ12_getLast 1 = .ok (.getfield 27, 3) := dk_180 0 27 (dk_at dksJ12_getLast_0 1 rfl rfl)
theorem dJ12_getLast_4 : decode cJ12_getLast 4 = .ok (.astore_n 1, 1) := dk_76 (dk_at dksJ12_getLast_0 4 rfl rfl)
theorem dJ12_getLast_5 : decode cJ12_getLast 5 = .ok (.aload_n 1, 1) := dk_43 (dk_at dksJ12_getLast_0 5 rfl rfl)
theorem dJ12_getLast_6 : decode cJ12_getLast 6 = .ok (.ifnonnull 11, 3) := dk_199 0 11 (dk_at dksJ12_getLast_0 6 rfl rfl)
theorem dJ12_getLast_9 : decode cJ12_getLast 9 = .ok (.new 43, 3) := dk_187 0 43 (dk_at dksJ12_getLast_0 9 rfl rfl)
theorem dJ12_getLast_12 : decode cJ12_getLast 12 = .ok (.dup, 1) := dk_89 (dk_at dksJ12_getLast_0 12 rfl rfl)
theorem dJ12_getLast_13 : decode cJ12_getLast 13 = .ok (.invokespecial 45, 3) := dk_183 0 45 (dk_at dksJ12_getLast_0 13 rfl rfl)
theorem dJ12_getLast_16 : decode cJ12_getLast 16 = .ok (.athrow, 1) := dk_191 (dk_at dksJ12_getLast_0 16 rfl rfl)
theorem dJ12_getLast_17 : decode cJ12_getLast 17 = .ok (.aload_n 1, 1) := dk_43 (dk_at dksJ12_getLast_0 17 rfl rfl)
theorem dJ12_getLast_18 : decode cJ12_getLast 18 = .ok (.getfield 39, 3) := dk_180 0 39 (dk_at dksJ12_getLast_0 18 rfl rfl)
theorem dJ12_getLast_21 : decode cJ12_getLast 21 = .ok (.areturn, 1) := dk_176 (dk_at dksJ12_getLast_0 21 rfl rfl)
abbrev cJ12_removeLast : ByteArray := prog_65_method_12_code
def yJ12_removeLast : MethodName := ⟨RJ12, "removeLast", "()Ljava/lang/Object;"⟩
def dkwJ12_removeLast_0 : List UInt8 := [42, 180, 0, 27, 76, 43, 199, 0, 11, 187, 0, 43, 89, 183, 0, 45, 191, 42, 43, 182, 0, 50, 176]
abbrev dktJ12_removeLast_0 : List UInt8 := dkwJ12_removeLast_0 ++ []
theorem dksJ12_removeLast_0 : cJ12_removeLast.data.toList.drop 0 = dktJ12_removeLast_0 := by decide +kernel
theorem dJ12_removeLast_0 : decode cJ12_removeLast 0 = .ok (.aload_n 0, 1) := dk_42 (dk_at dksJ12_removeLast_0 0 rfl rfl)
theorem dJ12_removeLast_1 : decode cJ12_removeLast 1 = .ok (.getfield 27, 3) := dk_180 0 27 (dk_at dksJ12_removeLast_0 1 rfl rfl)
theorem dJ12_removeLast_4 : decode cJ12_removeLast 4 = .ok (.astore_n 1, 1) := dk_76 (dk_at dksJ12_removeLast_0 4 rfl rfl)
theorem dJ12_removeLast_5 : decode cJ12_removeLast 5 = .ok (.aload_n 1, 1) := dk_43 (dk_at dksJ12_removeLast_0 5 rfl rfl)
theorem dJ12_removeLast_6 : decode cJ12_removeLast 6 = .ok (.ifnonnull 11, 3) := dk_199 0 11 (dk_at dksJ12_removeLast_0 6 rfl rfl)
theorem dJ12_removeLast_9 : decode cJ12_removeLast 9 = .ok (.new 43, 3) := dk_187 0 43 (dk_at dksJ12_removeLast_0 9 rfl rfl)
theorem dJ12_removeLast_12 : decode cJ12_removeLast 12 = .ok (.dup, 1) := dk_89 (dk_at dksJ12_removeLast_0 12 rfl rfl)
theorem dJ12_removeLast_13 : decode cJ12_removeLast 13 = .ok (.invokespecial 45, 3) := dk_183 0 45 (dk_at dksJ12_removeLast_0 13 rfl rfl)
theorem dJ12_removeLast_16 : decode cJ12_removeLast 16 = .ok (.athrow, 1) := dk_191 (dk_at dksJ12_removeLast_0 16 rfl rfl)
theorem dJ12_removeLast_17 : decode cJ12_removeLast 17 = .ok (.aload_n 0, 1) := dk_42 (dk_at dksJ12_removeLast_0 17 rfl rfl)
theorem dJ12_removeLast_18 : decode cJ12_removeLast 18 = .ok (.aload_n 1, 1) := dk_43 (dk_at dksJ12_removeLast_0 18 rfl rfl)
theorem dJ12_removeLast_19 : decode cJ12_removeLast 19 = .ok (.invokevirtual 50, 3) := dk_182 0 50 (dk_at dksJ12_removeLast_0 19 rfl rfl)
theorem dJ12_removeLast_22 : decode cJ12_removeLast 22 = .ok (.areturn, 1) := dk_176 (dk_at dksJ12_removeLast_0 22 rfl rfl)
abbrev cJ12_unlinkLast : ByteArray := prog_65_method_7_code
def yJ12_unlinkLast : MethodName := ⟨RJ12, "unlinkLast", "(Ljava/util/LinkedList$Node;)Ljava/lang/Object;"⟩
def dkwJ12_unlinkLast_2 : List UInt8 := [180, 0, 7, 4, 100, 181, 0, 7, 42, 89, 180, 0, 33, 4, 96, 181, 0, 33, 44, 176]
abbrev dktJ12_unlinkLast_2 : List UInt8 := dkwJ12_unlinkLast_2 ++ []
def dkwJ12_unlinkLast_1 : List UInt8 := [181, 0, 27, 45, 199, 0, 11, 42, 1, 181, 0, 18, 167, 0, 8, 45, 1, 181, 0, 36, 42, 89]
abbrev dktJ12_unlinkLast_1 : List UInt8 := dkwJ12_unlinkLast_1 ++ dktJ12_unlinkLast_2
def dkwJ12_unlinkLast_0 : List UInt8 := [43, 180, 0, 39, 77, 43, 180, 0, 30, 78, 43, 1, 181, 0, 39, 43, 1, 181, 0, 30, 42, 45]
abbrev dktJ12_unlinkLast_0 : List UInt8 := dkwJ12_unlinkLast_0 ++ dktJ12_unlinkLast_1
theorem dksJ12_unlinkLast_0 : cJ12_unlinkLast.data.toList.drop 0 = dktJ12_unlinkLast_0 := by decide +kernel
theorem dksJ12_unlinkLast_1 : cJ12_unlinkLast.data.toList.drop 22 = dktJ12_unlinkLast_1 := dk_seg dksJ12_unlinkLast_0 22 rfl rfl
theorem dksJ12_unlinkLast_2 : cJ12_unlinkLast.data.toList.drop 44 = dktJ12_unlinkLast_2 := dk_seg dksJ12_unlinkLast_1 22 rfl rfl
theorem dJ12_unlinkLast_0 : decode cJ12_unlinkLast 0 = .ok (.aload_n 1, 1) := dk_43 (dk_at dksJ12_unlinkLast_0 0 rfl rfl)
theorem dJ12_unlinkLast_1 : decode cJ12_unlinkLast 1 = .ok (.getfield 39, 3) := dk_180 0 39 (dk_at dksJ12_unlinkLast_0 1 rfl rfl)
theorem dJ12_unlinkLast_4 : decode cJ12_unlinkLast 4 = .ok (.astore_n 2, 1) := dk_77 (dk_at dksJ12_unlinkLast_0 4 rfl rfl)
theorem dJ12_unlinkLast_5 : decode cJ12_unlinkLast 5 = .ok (.aload_n 1, 1) := dk_43 (dk_at dksJ12_unlinkLast_0 5 rfl rfl)
theorem dJ12_unlinkLast_6 : decode cJ12_unlinkLast 6 = .ok (.getfield 30, 3) := dk_180 0 30 (dk_at dksJ12_unlinkLast_0 6 rfl rfl)
theorem dJ12_unlinkLast_9 : decode cJ12_unlinkLast 9 = .ok (.astore_n 3, 1) := dk_78 (dk_at dksJ12_unlinkLast_0 9 rfl rfl)
theorem dJ12_unlinkLast_10 : decode cJ12_unlinkLast 10 = .ok (.aload_n 1, 1) := dk_43 (dk_at dksJ12_unlinkLast_0 10 rfl rfl)
theorem dJ12_unlinkLast_11 : decode cJ12_unlinkLast 11 = .ok (.aconst_null, 1) := dk_1 (dk_at dksJ12_unlinkLast_0 11 rfl rfl)
theorem dJ12_unlinkLast_12 : decode cJ12_unlinkLast 12 = .ok (.putfield 39, 3) := dk_181 0 39 (dk_at dksJ12_unlinkLast_0 12 rfl rfl)
theorem dJ12_unlinkLast_15 : decode cJ12_unlinkLast 15 = .ok (.aload_n 1, 1) := dk_43 (dk_at dksJ12_unlinkLast_0 15 rfl rfl)
theorem dJ12_unlinkLast_16 : decode cJ12_unlinkLast 16 = .ok (.aconst_null, 1) := dk_1 (dk_at dksJ12_unlinkLast_0 16 rfl rfl)
theorem dJ12_unlinkLast_17 : decode cJ12_unlinkLast 17 = .ok (.putfield 30, 3) := dk_181 0 30 (dk_at dksJ12_unlinkLast_0 17 rfl rfl)
theorem dJ12_unlinkLast_20 : decode cJ12_unlinkLast 20 = .ok (.aload_n 0, 1) := dk_42 (dk_at dksJ12_unlinkLast_0 20 rfl rfl)
theorem dJ12_unlinkLast_21 : decode cJ12_unlinkLast 21 = .ok (.aload_n 3, 1) := dk_45 (dk_at dksJ12_unlinkLast_0 21 rfl rfl)
theorem dJ12_unlinkLast_22 : decode cJ12_unlinkLast 22 = .ok (.putfield 27, 3) := dk_181 0 27 (dk_at dksJ12_unlinkLast_1 0 rfl rfl)
theorem dJ12_unlinkLast_25 : decode cJ12_unlinkLast 25 = .ok (.aload_n 3, 1) := dk_45 (dk_at dksJ12_unlinkLast_1 3 rfl rfl)
theorem dJ12_unlinkLast_26 : decode cJ12_unlinkLast 26 = .ok (.ifnonnull 11, 3) := dk_199 0 11 (dk_at dksJ12_unlinkLast_1 4 rfl rfl)
theorem dJ12_unlinkLast_29 : decode cJ12_unlinkLast 29 = .ok (.aload_n 0, 1) := dk_42 (dk_at dksJ12_unlinkLast_1 7 rfl rfl)
theorem dJ12_unlinkLast_30 : decode cJ12_unlinkLast 30 = .ok (.aconst_null, 1) := dk_1 (dk_at dksJ12_unlinkLast_1 8 rfl rfl)
theorem dJ12_unlinkLast_31 : decode cJ12_unlinkLast 31 = .ok (.putfield 18, 3) := dk_181 0 18 (dk_at dksJ12_unlinkLast_1 9 rfl rfl)
theorem dJ12_unlinkLast_34 : decode cJ12_unlinkLast 34 = .ok (.goto 8, 3) := dk_167 0 8 (dk_at dksJ12_unlinkLast_1 12 rfl rfl)
theorem dJ12_unlinkLast_37 : decode cJ12_unlinkLast 37 = .ok (.aload_n 3, 1) := dk_45 (dk_at dksJ12_unlinkLast_1 15 rfl rfl)
theorem dJ12_unlinkLast_38 : decode cJ12_unlinkLast 38 = .ok (.aconst_null, 1) := dk_1 (dk_at dksJ12_unlinkLast_1 16 rfl rfl)
theorem dJ12_unlinkLast_39 : decode cJ12_unlinkLast 39 = .ok (.putfield 36, 3) := dk_181 0 36 (dk_at dksJ12_unlinkLast_1 17 rfl rfl)
theorem dJ12_unlinkLast_42 : decode cJ12_unlinkLast 42 = .ok (.aload_n 0, 1) := dk_42 (dk_at dksJ12_unlinkLast_1 20 rfl rfl)
theorem dJ12_unlinkLast_43 : decode cJ12_unlinkLast 43 = .ok (.dup, 1) := dk_89 (dk_at dksJ12_unlinkLast_1 21 rfl rfl)
theorem dJ12_unlinkLast_44 : decode cJ12_unlinkLast 44 = .ok (.getfield 7, 3) := dk_180 0 7 (dk_at dksJ12_unlinkLast_2 0 rfl rfl)
theorem dJ12_unlinkLast_47 : decode cJ12_unlinkLast 47 = .ok (.iconst 1, 1) := dk_4 (dk_at dksJ12_unlinkLast_2 3 rfl rfl)
theorem dJ12_unlinkLast_48 : decode cJ12_unlinkLast 48 = .ok (.isub, 1) := dk_100 (dk_at dksJ12_unlinkLast_2 4 rfl rfl)
theorem dJ12_unlinkLast_49 : decode cJ12_unlinkLast 49 = .ok (.putfield 7, 3) := dk_181 0 7 (dk_at dksJ12_unlinkLast_2 5 rfl rfl)
theorem dJ12_unlinkLast_52 : decode cJ12_unlinkLast 52 = .ok (.aload_n 0, 1) := dk_42 (dk_at dksJ12_unlinkLast_2 8 rfl rfl)
theorem dJ12_unlinkLast_53 : decode cJ12_unlinkLast 53 = .ok (.dup, 1) := dk_89 (dk_at dksJ12_unlinkLast_2 9 rfl rfl)
theorem dJ12_unlinkLast_54 : decode cJ12_unlinkLast 54 = .ok (.getfield 33, 3) := dk_180 0 33 (dk_at dksJ12_unlinkLast_2 10 rfl rfl)
theorem dJ12_unlinkLast_57 : decode cJ12_unlinkLast 57 = .ok (.iconst 1, 1) := dk_4 (dk_at dksJ12_unlinkLast_2 13 rfl rfl)
theorem dJ12_unlinkLast_58 : decode cJ12_unlinkLast 58 = .ok (.iadd, 1) := dk_96 (dk_at dksJ12_unlinkLast_2 14 rfl rfl)
theorem dJ12_unlinkLast_59 : decode cJ12_unlinkLast 59 = .ok (.putfield 33, 3) := dk_181 0 33 (dk_at dksJ12_unlinkLast_2 15 rfl rfl)
theorem dJ12_unlinkLast_62 : decode cJ12_unlinkLast 62 = .ok (.aload_n 2, 1) := dk_44 (dk_at dksJ12_unlinkLast_2 18 rfl rfl)
theorem dJ12_unlinkLast_63 : decode cJ12_unlinkLast 63 = .ok (.areturn, 1) := dk_176 (dk_at dksJ12_unlinkLast_2 19 rfl rfl)
abbrev cJ12_listIterator : ByteArray := prog_65_method_49_code
def yJ12_listIterator : MethodName := ⟨RJ12, "listIterator", "(I)Ljava/util/ListIterator;"⟩
def dkwJ12_listIterator_0 : List UInt8 := [42, 27, 182, 0, 76, 187, 0, 150, 89, 42, 27, 183, 0, 152, 176]
abbrev dktJ12_listIterator_0 : List UInt8 := dkwJ12_listIterator_0 ++ []
theorem dksJ12_listIterator_0 : cJ12_listIterator.data.toList.drop 0 = dktJ12_listIterator_0 := by decide +kernel
theorem dJ12_listIterator_0 : decode cJ12_listIterator 0 = .ok (.aload_n 0, 1) := dk_42 (dk_at dksJ12_listIterator_0 0 rfl rfl)
theorem dJ12_listIterator_1 : decode cJ12_listIterator 1 = .ok (.iload_n 1, 1) := dk_27 (dk_at dksJ12_listIterator_0 1 rfl rfl)
theorem dJ12_listIterator_2 : decode cJ12_listIterator 2 = .ok (.invokevirtual 76, 3) := dk_182 0 76 (dk_at dksJ12_listIterator_0 2 rfl rfl)
theorem dJ12_listIterator_5 : decode cJ12_listIterator 5 = .ok (.new 150, 3) := dk_187 0 150 (dk_at dksJ12_listIterator_0 5 rfl rfl)
theorem dJ12_listIterator_8 : decode cJ12_listIterator 8 = .ok (.dup, 1) := dk_89 (dk_at dksJ12_listIterator_0 8 rfl rfl)
theorem dJ12_listIterator_9 : decode cJ12_listIterator 9 = .ok (.aload_n 0, 1) := dk_42 (dk_at dksJ12_listIterator_0 9 rfl rfl)
theorem dJ12_listIterator_10 : decode cJ12_listIterator 10 = .ok (.iload_n 1, 1) := dk_27 (dk_at dksJ12_listIterator_0 10 rfl rfl)
theorem dJ12_listIterator_11 : decode cJ12_listIterator 11 = .ok (.invokespecial 152, 3) := dk_183 0 152 (dk_at dksJ12_listIterator_0 11 rfl rfl)
theorem dJ12_listIterator_14 : decode cJ12_listIterator 14 = .ok (.areturn, 1) := dk_176 (dk_at dksJ12_listIterator_0 14 rfl rfl)
abbrev cJ12_checkPositionIndex : ByteArray := prog_65_method_30_code
def yJ12_checkPositionIndex : MethodName := ⟨RJ12, "checkPositionIndex", "(I)V"⟩
def dkwJ12_checkPositionIndex_0 : List UInt8 := [42, 27, 182, 0, 128, 154, 0, 16, 187, 0, 119, 89, 42, 27, 182, 0, 121, 183, 0, 125, 191, 177]
abbrev dktJ12_checkPositionIndex_0 : List UInt8 := dkwJ12_checkPositionIndex_0 ++ []
theorem dksJ12_checkPositionIndex_0 : cJ12_checkPositionIndex.data.toList.drop 0 = dktJ12_checkPositionIndex_0 := by decide +kernel
theorem dJ12_checkPositionIndex_0 : decode cJ12_checkPositionIndex 0 = .ok (.aload_n 0, 1) := dk_42 (dk_at dksJ12_checkPositionIndex_0 0 rfl rfl)
theorem dJ12_checkPositionIndex_1 : decode cJ12_checkPositionIndex 1 = .ok (.iload_n 1, 1) := dk_27 (dk_at dksJ12_checkPositionIndex_0 1 rfl rfl)
theorem dJ12_checkPositionIndex_2 : decode cJ12_checkPositionIndex 2 = .ok (.invokevirtual 128, 3) := dk_182 0 128 (dk_at dksJ12_checkPositionIndex_0 2 rfl rfl)
theorem dJ12_checkPositionIndex_5 : decode cJ12_checkPositionIndex 5 = .ok (.ifCond .ne 16, 3) := dk_154 0 16 (dk_at dksJ12_checkPositionIndex_0 5 rfl rfl)
theorem dJ12_checkPositionIndex_8 : decode cJ12_checkPositionIndex 8 = .ok (.new 119, 3) := dk_187 0 119 (dk_at dksJ12_checkPositionIndex_0 8 rfl rfl)
theorem dJ12_checkPositionIndex_11 : decode cJ12_checkPositionIndex 11 = .ok (.dup, 1) := dk_89 (dk_at dksJ12_checkPositionIndex_0 11 rfl rfl)
theorem dJ12_checkPositionIndex_12 : decode cJ12_checkPositionIndex 12 = .ok (.aload_n 0, 1) := dk_42 (dk_at dksJ12_checkPositionIndex_0 12 rfl rfl)
theorem dJ12_checkPositionIndex_13 : decode cJ12_checkPositionIndex 13 = .ok (.iload_n 1, 1) := dk_27 (dk_at dksJ12_checkPositionIndex_0 13 rfl rfl)
theorem dJ12_checkPositionIndex_14 : decode cJ12_checkPositionIndex 14 = .ok (.invokevirtual 121, 3) := dk_182 0 121 (dk_at dksJ12_checkPositionIndex_0 14 rfl rfl)
theorem dJ12_checkPositionIndex_17 : decode cJ12_checkPositionIndex 17 = .ok (.invokespecial 125, 3) := dk_183 0 125 (dk_at dksJ12_checkPositionIndex_0 17 rfl rfl)
theorem dJ12_checkPositionIndex_20 : decode cJ12_checkPositionIndex 20 = .ok (.athrow, 1) := dk_191 (dk_at dksJ12_checkPositionIndex_0 20 rfl rfl)
theorem dJ12_checkPositionIndex_21 : decode cJ12_checkPositionIndex 21 = .ok (.return_, 1) := dk_177 (dk_at dksJ12_checkPositionIndex_0 21 rfl rfl)
abbrev cJ12_isPositionIndex : ByteArray := prog_65_method_27_code
def yJ12_isPositionIndex : MethodName := ⟨RJ12, "isPositionIndex", "(I)Z"⟩
def dkwJ12_isPositionIndex_0 : List UInt8 := [27, 155, 0, 15, 27, 42, 180, 0, 7, 163, 0, 7, 4, 167, 0, 4, 3, 172]
abbrev dktJ12_isPositionIndex_0 : List UInt8 := dkwJ12_isPositionIndex_0 ++ []
theorem dksJ12_isPositionIndex_0 : cJ12_isPositionIndex.data.toList.drop 0 = dktJ12_isPositionIndex_0 := by decide +kernel
theorem dJ12_isPositionIndex_0 : decode cJ12_isPositionIndex 0 = .ok (.iload_n 1, 1) := dk_27 (dk_at dksJ12_isPositionIndex_0 0 rfl rfl)
theorem dJ12_isPositionIndex_1 : decode cJ12_isPositionIndex 1 = .ok (.ifCond .lt 15, 3) := dk_155 0 15 (dk_at dksJ12_isPositionIndex_0 1 rfl rfl)
theorem dJ12_isPositionIndex_4 : decode cJ12_isPositionIndex 4 = .ok (.iload_n 1, 1) := dk_27 (dk_at dksJ12_isPositionIndex_0 4 rfl rfl)
theorem dJ12_isPositionIndex_5 : decode cJ12_isPositionIndex 5 = .ok (.aload_n 0, 1) := dk_42 (dk_at dksJ12_isPositionIndex_0 5 rfl rfl)
theorem dJ12_isPositionIndex_6 : decode cJ12_isPositionIndex 6 = .ok (.getfield 7, 3) := dk_180 0 7 (dk_at dksJ12_isPositionIndex_0 6 rfl rfl)
theorem dJ12_isPositionIndex_9 : decode cJ12_isPositionIndex 9 = .ok (.if_icmp .gt 7, 3) := dk_163 0 7 (dk_at dksJ12_isPositionIndex_0 9 rfl rfl)
theorem dJ12_isPositionIndex_12 : decode cJ12_isPositionIndex 12 = .ok (.iconst 1, 1) := dk_4 (dk_at dksJ12_isPositionIndex_0 12 rfl rfl)
theorem dJ12_isPositionIndex_13 : decode cJ12_isPositionIndex 13 = .ok (.goto 4, 3) := dk_167 0 4 (dk_at dksJ12_isPositionIndex_0 13 rfl rfl)
theorem dJ12_isPositionIndex_16 : decode cJ12_isPositionIndex 16 = .ok (.iconst 0, 1) := dk_3 (dk_at dksJ12_isPositionIndex_0 16 rfl rfl)
theorem dJ12_isPositionIndex_17 : decode cJ12_isPositionIndex 17 = .ok (.ireturn, 1) := dk_172 (dk_at dksJ12_isPositionIndex_0 17 rfl rfl)
theorem q144 : (Jvm.Cond.initialized "java/util/LinkedList") ∈ lw_all := lw_g (lw_at lw_m1 24 rfl) rfl
theorem q343 : (Jvm.Cond.sameField "java/util/LinkedList" "java/util/AbstractList" "modCount" "I") ∈ lw_all := lw_g (lw_at lw_m1 223 rfl) rfl
theorem q347 : (Jvm.Cond.fieldLink "java/util/LinkedList" (33 : Nat) "java/util/LinkedList" "modCount" "I") ∈ lw_all := lw_g (lw_at lw_m1 227 rfl) rfl
theorem q451 : (Jvm.Cond.instantiable "java/util/LinkedList" (4 : Nat)) ∈ lw_all := lw_g (lw_at lw_m2 91 rfl) rfl
theorem q453 : (Jvm.Cond.instanceMethod ({ cls := "java/util/LinkedList", name := "<init>", desc := "()V" } : Jvm.MethodName)) ∈ lw_all := lw_g (lw_at lw_m2 93 rfl) rfl
theorem q454 : (Jvm.Cond.code ({ cls := "java/util/LinkedList", name := "<init>", desc := "()V" } : Jvm.MethodName) prog_65_method_1_code (1 : Nat) (Option.none : Option Jvm.ClassFile.FieldType)) ∈ lw_all := lw_g (lw_at lw_m2 94 rfl) rfl
theorem q455 : (Jvm.Cond.methodLink "java/util/LinkedList" (1 : Nat) ({ cls := "java/util/AbstractSequentialList", name := "<init>", desc := "()V" } : Jvm.MethodName)) ∈ lw_all := lw_g (lw_at lw_m2 95 rfl) rfl
theorem q459 : (Jvm.Cond.fieldLink "java/util/LinkedList" (7 : Nat) "java/util/LinkedList" "size" "I") ∈ lw_all := lw_g (lw_at lw_m2 99 rfl) rfl
theorem q461 : (Jvm.Cond.fieldLink "java/util/LinkedList" (18 : Nat) "java/util/LinkedList" "first" "Ljava/util/LinkedList$Node;") ∈ lw_all := lw_g (lw_at lw_m2 101 rfl) rfl
theorem q462 : (Jvm.Cond.fieldLink "java/util/LinkedList" (27 : Nat) "java/util/LinkedList" "last" "Ljava/util/LinkedList$Node;") ∈ lw_all := lw_g (lw_at lw_m2 102 rfl) rfl
theorem q464 : (Jvm.Cond.lays "java/util/LinkedList" "java/util/LinkedList" "size" "I") ∈ lw_all := lw_g (lw_at lw_m2 104 rfl) rfl
theorem q465 : (Jvm.Cond.soleField "java/util/LinkedList" "size") ∈ lw_all := lw_g (lw_at lw_m2 105 rfl) rfl
theorem q466 : (Jvm.Cond.lays "java/util/LinkedList" "java/util/LinkedList" "first" "Ljava/util/LinkedList$Node;") ∈ lw_all := lw_g (lw_at lw_m2 106 rfl) rfl
theorem q467 : (Jvm.Cond.soleField "java/util/LinkedList" "first") ∈ lw_all := lw_g (lw_at lw_m2 107 rfl) rfl
theorem q468 : (Jvm.Cond.lays "java/util/LinkedList" "java/util/LinkedList" "last" "Ljava/util/LinkedList$Node;") ∈ lw_all := lw_g (lw_at lw_m2 108 rfl) rfl
theorem q469 : (Jvm.Cond.soleField "java/util/LinkedList" "last") ∈ lw_all := lw_g (lw_at lw_m2 109 rfl) rfl
theorem q470 : (Jvm.Cond.lays "java/util/LinkedList" "java/util/AbstractList" "modCount" "I") ∈ lw_all := lw_g (lw_at lw_m2 110 rfl) rfl
theorem q471 : (Jvm.Cond.superclass "java/util/LinkedList" "java/util/AbstractSequentialList") ∈ lw_all := lw_g (lw_at lw_m2 111 rfl) rfl
theorem q1473 : (Jvm.Cond.selects "java/util/LinkedList" ({ cls := "java/lang/Object", name := "getClass", desc := "()Ljava/lang/Class;" } : Jvm.MethodName) ({ cls := "java/lang/Object", name := "getClass", desc := "()Ljava/lang/Class;" } : Jvm.MethodName)) ∈ lw_all := lw_g (lw_at lw_m6 153 rfl) rfl
theorem q1692 : (Jvm.Cond.selects "java/util/LinkedList" ({ cls := "java/util/AbstractList", name := "size", desc := "()I" } : Jvm.MethodName) ({ cls := "java/util/LinkedList", name := "size", desc := "()I" } : Jvm.MethodName)) ∈ lw_all := lw_g (lw_at lw_m7 132 rfl) rfl
theorem q1693 : (Jvm.Cond.instanceMethod ({ cls := "java/util/LinkedList", name := "size", desc := "()I" } : Jvm.MethodName)) ∈ lw_all := lw_g (lw_at lw_m7 133 rfl) rfl
theorem q1694 : (Jvm.Cond.code ({ cls := "java/util/LinkedList", name := "size", desc := "()I" } : Jvm.MethodName) prog_65_method_16_code (1 : Nat) (Option.some Jvm.ClassFile.FieldType.int)) ∈ lw_all := lw_g (lw_at lw_m7 134 rfl) rfl
theorem q1807 : (Jvm.Cond.selects "java/util/LinkedList" ({ cls := "java/util/AbstractList", name := "get", desc := "(I)Ljava/lang/Object;" } : Jvm.MethodName) ({ cls := "java/util/LinkedList", name := "get", desc := "(I)Ljava/lang/Object;" } : Jvm.MethodName)) ∈ lw_all := lw_g (lw_at lw_m8 7 rfl) rfl
theorem q1808 : (Jvm.Cond.instanceMethod ({ cls := "java/util/LinkedList", name := "get", desc := "(I)Ljava/lang/Object;" } : Jvm.MethodName)) ∈ lw_all := lw_g (lw_at lw_m8 8 rfl) rfl
theorem q1809 : (Jvm.Cond.code ({ cls := "java/util/LinkedList", name := "get", desc := "(I)Ljava/lang/Object;" } : Jvm.MethodName) prog_65_method_22_code (2 : Nat) (Option.some (Jvm.ClassFile.FieldType.object "java/lang/Object"))) ∈ lw_all := lw_g (lw_at lw_m8 9 rfl) rfl
theorem q1810 : (Jvm.Cond.methodLink "java/util/LinkedList" (90 : Nat) ({ cls := "java/util/LinkedList", name := "checkElementIndex", desc := "(I)V" } : Jvm.MethodName)) ∈ lw_all := lw_g (lw_at lw_m8 10 rfl) rfl
theorem q1811 : (Jvm.Cond.privateMethod ({ cls := "java/util/LinkedList", name := "checkElementIndex", desc := "(I)V" } : Jvm.MethodName)) ∈ lw_tbl := lw_at lw_m8 11 rfl
theorem q1812 : (Jvm.Cond.instanceMethod ({ cls := "java/util/LinkedList", name := "checkElementIndex", desc := "(I)V" } : Jvm.MethodName)) ∈ lw_all := lw_g (lw_at lw_m8 12 rfl) rfl
theorem q1813 : (Jvm.Cond.code ({ cls := "java/util/LinkedList", name := "checkElementIndex", desc := "(I)V" } : Jvm.MethodName) prog_65_method_29_code (2 : Nat) (Option.none : Option Jvm.ClassFile.FieldType)) ∈ lw_all := lw_g (lw_at lw_m8 13 rfl) rfl
theorem q1814 : (Jvm.Cond.methodLink "java/util/LinkedList" (115 : Nat) ({ cls := "java/util/LinkedList", name := "isElementIndex", desc := "(I)Z" } : Jvm.MethodName)) ∈ lw_all := lw_g (lw_at lw_m8 14 rfl) rfl
theorem q1815 : (Jvm.Cond.privateMethod ({ cls := "java/util/LinkedList", name := "isElementIndex", desc := "(I)Z" } : Jvm.MethodName)) ∈ lw_tbl := lw_at lw_m8 15 rfl
theorem q1816 : (Jvm.Cond.instanceMethod ({ cls := "java/util/LinkedList", name := "isElementIndex", desc := "(I)Z" } : Jvm.MethodName)) ∈ lw_all := lw_g (lw_at lw_m8 16 rfl) rfl
theorem q1817 : (Jvm.Cond.code ({ cls := "java/util/LinkedList", name := "isElementIndex", desc := "(I)Z" } : Jvm.MethodName) prog_65_method_26_code (2 : Nat) (Option.some Jvm.ClassFile.FieldType.boolean)) ∈ lw_all := lw_g (lw_at lw_m8 17 rfl) rfl
theorem q1818 : (Jvm.Cond.classLink "java/util/LinkedList" (119 : Nat) "java/lang/IndexOutOfBoundsException") ∈ lw_all := lw_g (lw_at lw_m8 18 rfl) rfl
theorem q1827 : (Jvm.Cond.methodLink "java/util/LinkedList" (121 : Nat) ({ cls := "java/util/LinkedList", name := "outOfBoundsMsg", desc := "(I)Ljava/lang/String;" } : Jvm.MethodName)) ∈ lw_all := lw_g (lw_at lw_m8 27 rfl) rfl
theorem q1828 : (Jvm.Cond.privateMethod ({ cls := "java/util/LinkedList", name := "outOfBoundsMsg", desc := "(I)Ljava/lang/String;" } : Jvm.MethodName)) ∈ lw_tbl := lw_at lw_m8 28 rfl
theorem q1829 : (Jvm.Cond.instanceMethod ({ cls := "java/util/LinkedList", name := "outOfBoundsMsg", desc := "(I)Ljava/lang/String;" } : Jvm.MethodName)) ∈ lw_all := lw_g (lw_at lw_m8 29 rfl) rfl
theorem q1830 : (Jvm.Cond.code ({ cls := "java/util/LinkedList", name := "outOfBoundsMsg", desc := "(I)Ljava/lang/String;" } : Jvm.MethodName) prog_65_method_28_code (2 : Nat) (Option.some (Jvm.ClassFile.FieldType.object "java/lang/String"))) ∈ lw_all := lw_g (lw_at lw_m8 30 rfl) rfl
theorem q1831 : (Jvm.Cond.classLink "java/util/LinkedList" (97 : Nat) "java/lang/StringBuilder") ∈ lw_all := lw_g (lw_at lw_m8 31 rfl) rfl
theorem q1832 : (Jvm.Cond.methodLink "java/util/LinkedList" (99 : Nat) ({ cls := "java/lang/StringBuilder", name := "<init>", desc := "()V" } : Jvm.MethodName)) ∈ lw_all := lw_g (lw_at lw_m8 32 rfl) rfl
theorem q1833 : (Jvm.Cond.stringRef "java/util/LinkedList" (100 : Nat) "Index: ") ∈ lw_tbl := lw_at lw_m8 33 rfl
theorem q1834 : (Jvm.Cond.methodLink "java/util/LinkedList" (102 : Nat) ({ cls := "java/lang/StringBuilder", name := "append", desc := "(Ljava/lang/String;)Ljava/lang/StringBuilder;" } : Jvm.MethodName)) ∈ lw_all := lw_g (lw_at lw_m8 34 rfl) rfl
theorem q1835 : (Jvm.Cond.methodLink "java/util/LinkedList" (106 : Nat) ({ cls := "java/lang/StringBuilder", name := "append", desc := "(I)Ljava/lang/StringBuilder;" } : Jvm.MethodName)) ∈ lw_all := lw_g (lw_at lw_m8 35 rfl) rfl
theorem q1860 : (Jvm.Cond.stringRef "java/util/LinkedList" (109 : Nat) ", Size: ") ∈ lw_tbl := lw_at lw_m8 60 rfl
theorem q1861 : (Jvm.Cond.methodLink "java/util/LinkedList" (111 : Nat) ({ cls := "java/lang/StringBuilder", name := "toString", desc := "()Ljava/lang/String;" } : Jvm.MethodName)) ∈ lw_all := lw_g (lw_at lw_m8 61 rfl) rfl
theorem q1862 : (Jvm.Cond.methodLink "java/util/LinkedList" (125 : Nat) ({ cls := "java/lang/IndexOutOfBoundsException", name := "<init>", desc := "(Ljava/lang/String;)V" } : Jvm.MethodName)) ∈ lw_all := lw_g (lw_at lw_m8 62 rfl) rfl
theorem q1865 : (Jvm.Cond.methodLink "java/util/LinkedList" (86 : Nat) ({ cls := "java/util/LinkedList", name := "node", desc := "(I)Ljava/util/LinkedList$Node;" } : Jvm.MethodName)) ∈ lw_all := lw_g (lw_at lw_m8 65 rfl) rfl
theorem q1866 : (Jvm.Cond.instanceMethod ({ cls := "java/util/LinkedList", name := "node", desc := "(I)Ljava/util/LinkedList$Node;" } : Jvm.MethodName)) ∈ lw_all := lw_g (lw_at lw_m8 66 rfl) rfl
theorem q1867 : (Jvm.Cond.selects "java/util/LinkedList" ({ cls := "java/util/LinkedList", name := "node", desc := "(I)Ljava/util/LinkedList$Node;" } : Jvm.MethodName) ({ cls := "java/util/LinkedList", name := "node", desc := "(I)Ljava/util/LinkedList$Node;" } : Jvm.MethodName)) ∈ lw_all := lw_g (lw_at lw_m8 67 rfl) rfl
theorem q1868 : (Jvm.Cond.code ({ cls := "java/util/LinkedList", name := "node", desc := "(I)Ljava/util/LinkedList$Node;" } : Jvm.MethodName) prog_65_method_31_code (4 : Nat) (Option.some (Jvm.ClassFile.FieldType.object "java/util/LinkedList$Node"))) ∈ lw_all := lw_g (lw_at lw_m8 68 rfl) rfl
theorem q2264 : (Jvm.Cond.castable "java/util/LinkedList" "java/util/Collection") ∈ lw_tbl := lw_at lw_m9 224 rfl
theorem q2265 : (Jvm.Cond.selects "java/util/LinkedList" ({ cls := "java/util/Collection", name := "toArray", desc := "()[Ljava/lang/Object;" } : Jvm.MethodName) ({ cls := "java/util/LinkedList", name := "toArray", desc := "()[Ljava/lang/Object;" } : Jvm.MethodName)) ∈ lw_all := lw_g (lw_at lw_m9 225 rfl) rfl
theorem q2266 : (Jvm.Cond.unhidden "java/util/LinkedList" "toArray" "()[Ljava/lang/Object;") ∈ lw_tbl := lw_at lw_m9 226 rfl
theorem q2267 : (Jvm.Cond.instanceMethod ({ cls := "java/util/LinkedList", name := "toArray", desc := "()[Ljava/lang/Object;" } : Jvm.MethodName)) ∈ lw_all := lw_g (lw_at lw_m9 227 rfl) rfl
theorem q2268 : (Jvm.Cond.publicMethod ({ cls := "java/util/LinkedList", name := "toArray", desc := "()[Ljava/lang/Object;" } : Jvm.MethodName)) ∈ lw_tbl := lw_at lw_m9 228 rfl
theorem q2269 : (Jvm.Cond.code ({ cls := "java/util/LinkedList", name := "toArray", desc := "()[Ljava/lang/Object;" } : Jvm.MethodName) prog_65_method_53_code (4 : Nat) (Option.some (Jvm.ClassFile.FieldType.array (Jvm.ClassFile.FieldType.object "java/lang/Object")))) ∈ lw_all := lw_g (lw_at lw_m9 229 rfl) rfl
theorem q2270 : (Jvm.Cond.classLink "java/util/LinkedList" (68 : Nat) "java/lang/Object") ∈ lw_all := lw_g (lw_at lw_m9 230 rfl) rfl
theorem q2273 : (Jvm.Cond.instanceMethod ({ cls := "java/util/LinkedList", name := "clear", desc := "()V" } : Jvm.MethodName)) ∈ lw_all := lw_g (lw_at lw_m9 233 rfl) rfl
theorem q2274 : (Jvm.Cond.selects "java/util/LinkedList" ({ cls := "java/util/LinkedList", name := "clear", desc := "()V" } : Jvm.MethodName) ({ cls := "java/util/LinkedList", name := "clear", desc := "()V" } : Jvm.MethodName)) ∈ lw_all := lw_g (lw_at lw_m9 234 rfl) rfl
theorem q2275 : (Jvm.Cond.code ({ cls := "java/util/LinkedList", name := "clear", desc := "()V" } : Jvm.MethodName) prog_65_method_21_code (3 : Nat) (Option.none : Option Jvm.ClassFile.FieldType)) ∈ lw_all := lw_g (lw_at lw_m9 235 rfl) rfl
theorem q2286 : (Jvm.Cond.instanceMethod ({ cls := "java/util/LinkedList", name := "removeFirst", desc := "()Ljava/lang/Object;" } : Jvm.MethodName)) ∈ lw_all := lw_g (lw_at lw_m10 6 rfl) rfl
theorem q2287 : (Jvm.Cond.selects "java/util/LinkedList" ({ cls := "java/util/LinkedList", name := "removeFirst", desc := "()Ljava/lang/Object;" } : Jvm.MethodName) ({ cls := "java/util/LinkedList", name := "removeFirst", desc := "()Ljava/lang/Object;" } : Jvm.MethodName)) ∈ lw_all := lw_g (lw_at lw_m10 7 rfl) rfl
theorem q2288 : (Jvm.Cond.code ({ cls := "java/util/LinkedList", name := "removeFirst", desc := "()Ljava/lang/Object;" } : Jvm.MethodName) prog_65_method_11_code (2 : Nat) (Option.some (Jvm.ClassFile.FieldType.object "java/lang/Object"))) ∈ lw_all := lw_g (lw_at lw_m10 8 rfl) rfl
theorem q2289 : (Jvm.Cond.methodLink "java/util/LinkedList" (46 : Nat) ({ cls := "java/util/LinkedList", name := "unlinkFirst", desc := "(Ljava/util/LinkedList$Node;)Ljava/lang/Object;" } : Jvm.MethodName)) ∈ lw_all := lw_g (lw_at lw_m10 9 rfl) rfl
theorem q2290 : (Jvm.Cond.privateMethod ({ cls := "java/util/LinkedList", name := "unlinkFirst", desc := "(Ljava/util/LinkedList$Node;)Ljava/lang/Object;" } : Jvm.MethodName)) ∈ lw_tbl := lw_at lw_m10 10 rfl
theorem q2291 : (Jvm.Cond.instanceMethod ({ cls := "java/util/LinkedList", name := "unlinkFirst", desc := "(Ljava/util/LinkedList$Node;)Ljava/lang/Object;" } : Jvm.MethodName)) ∈ lw_all := lw_g (lw_at lw_m10 11 rfl) rfl
theorem q2292 : (Jvm.Cond.code ({ cls := "java/util/LinkedList", name := "unlinkFirst", desc := "(Ljava/util/LinkedList$Node;)Ljava/lang/Object;" } : Jvm.MethodName) prog_65_method_6_code (4 : Nat) (Option.some (Jvm.ClassFile.FieldType.object "java/lang/Object"))) ∈ lw_all := lw_g (lw_at lw_m10 12 rfl) rfl
theorem q2313 : (Jvm.Cond.instanceMethod ({ cls := "java/util/LinkedList", name := "addLast", desc := "(Ljava/lang/Object;)V" } : Jvm.MethodName)) ∈ lw_all := lw_g (lw_at lw_m10 33 rfl) rfl
theorem q2314 : (Jvm.Cond.selects "java/util/LinkedList" ({ cls := "java/util/LinkedList", name := "addLast", desc := "(Ljava/lang/Object;)V" } : Jvm.MethodName) ({ cls := "java/util/LinkedList", name := "addLast", desc := "(Ljava/lang/Object;)V" } : Jvm.MethodName)) ∈ lw_all := lw_g (lw_at lw_m10 34 rfl) rfl
theorem q2315 : (Jvm.Cond.code ({ cls := "java/util/LinkedList", name := "addLast", desc := "(Ljava/lang/Object;)V" } : Jvm.MethodName) prog_65_method_14_code (2 : Nat) (Option.none : Option Jvm.ClassFile.FieldType)) ∈ lw_all := lw_g (lw_at lw_m10 35 rfl) rfl
theorem q2316 : (Jvm.Cond.methodLink "java/util/LinkedList" (57 : Nat) ({ cls := "java/util/LinkedList", name := "linkLast", desc := "(Ljava/lang/Object;)V" } : Jvm.MethodName)) ∈ lw_all := lw_g (lw_at lw_m10 36 rfl) rfl
theorem q2317 : (Jvm.Cond.instanceMethod ({ cls := "java/util/LinkedList", name := "linkLast", desc := "(Ljava/lang/Object;)V" } : Jvm.MethodName)) ∈ lw_all := lw_g (lw_at lw_m10 37 rfl) rfl
theorem q2318 : (Jvm.Cond.selects "java/util/LinkedList" ({ cls := "java/util/LinkedList", name := "linkLast", desc := "(Ljava/lang/Object;)V" } : Jvm.MethodName) ({ cls := "java/util/LinkedList", name := "linkLast", desc := "(Ljava/lang/Object;)V" } : Jvm.MethodName)) ∈ lw_all := lw_g (lw_at lw_m10 38 rfl) rfl
theorem q2319 : (Jvm.Cond.code ({ cls := "java/util/LinkedList", name := "linkLast", desc := "(Ljava/lang/Object;)V" } : Jvm.MethodName) prog_65_method_4_code (4 : Nat) (Option.none : Option Jvm.ClassFile.FieldType)) ∈ lw_all := lw_g (lw_at lw_m10 39 rfl) rfl
theorem q2320 : (Jvm.Cond.classLink "java/util/LinkedList" (22 : Nat) "java/util/LinkedList$Node") ∈ lw_all := lw_g (lw_at lw_m10 40 rfl) rfl
theorem q2322 : (Jvm.Cond.methodLink "java/util/LinkedList" (24 : Nat) ({ cls := "java/util/LinkedList$Node", name := "<init>", desc := "(Ljava/util/LinkedList$Node;Ljava/lang/Object;Ljava/util/LinkedList$Node;)V" } : Jvm.MethodName)) ∈ lw_all := lw_g (lw_at lw_m10 42 rfl) rfl
theorem q2328 : (Jvm.Cond.fieldLink "java/util/LinkedList" (39 : Nat) "java/util/LinkedList$Node" "item" "Ljava/lang/Object;") ∈ lw_all := lw_g (lw_at lw_m10 48 rfl) rfl
theorem q2331 : (Jvm.Cond.fieldLink "java/util/LinkedList" (36 : Nat) "java/util/LinkedList$Node" "next" "Ljava/util/LinkedList$Node;") ∈ lw_all := lw_g (lw_at lw_m10 51 rfl) rfl
theorem q2334 : (Jvm.Cond.fieldLink "java/util/LinkedList" (30 : Nat) "java/util/LinkedList$Node" "prev" "Ljava/util/LinkedList$Node;") ∈ lw_all := lw_g (lw_at lw_m10 54 rfl) rfl
theorem q2571 : (Jvm.Cond.instanceMethod ({ cls := "java/util/LinkedList", name := "descendingIterator", desc := "()Ljava/util/Iterator;" } : Jvm.MethodName)) ∈ lw_all := lw_g (lw_at lw_m11 51 rfl) rfl
theorem q2572 : (Jvm.Cond.selects "java/util/LinkedList" ({ cls := "java/util/LinkedList", name := "descendingIterator", desc := "()Ljava/util/Iterator;" } : Jvm.MethodName) ({ cls := "java/util/LinkedList", name := "descendingIterator", desc := "()Ljava/util/Iterator;" } : Jvm.MethodName)) ∈ lw_all := lw_g (lw_at lw_m11 52 rfl) rfl
theorem q2573 : (Jvm.Cond.code ({ cls := "java/util/LinkedList", name := "descendingIterator", desc := "()Ljava/util/Iterator;" } : Jvm.MethodName) prog_65_method_50_code (1 : Nat) (Option.some (Jvm.ClassFile.FieldType.object "java/util/Iterator"))) ∈ lw_all := lw_g (lw_at lw_m11 53 rfl) rfl
theorem q2574 : (Jvm.Cond.classLink "java/util/LinkedList" (155 : Nat) "java/util/LinkedList$DescendingIterator") ∈ lw_all := lw_g (lw_at lw_m11 54 rfl) rfl
theorem q2576 : (Jvm.Cond.methodLinkNest "java/util/LinkedList" (157 : Nat) ({ cls := "java/util/LinkedList$DescendingIterator", name := "<init>", desc := "(Ljava/util/LinkedList;)V" } : Jvm.MethodName) "java/util/LinkedList") ∈ lw_tbl := lw_at lw_m11 56 rfl
theorem q2650 : (Jvm.Cond.sameMethod "java/util/LinkedList" "java/util/AbstractCollection" "isEmpty" "()Z") ∈ lw_all := lw_g (lw_at lw_m11 130 rfl) rfl
theorem q2652 : (Jvm.Cond.selects "java/util/LinkedList" ({ cls := "java/util/LinkedList", name := "isEmpty", desc := "()Z" } : Jvm.MethodName) ({ cls := "java/util/AbstractCollection", name := "isEmpty", desc := "()Z" } : Jvm.MethodName)) ∈ lw_all := lw_g (lw_at lw_m11 132 rfl) rfl
theorem q2657 : (Jvm.Cond.instanceMethod ({ cls := "java/util/LinkedList", name := "getLast", desc := "()Ljava/lang/Object;" } : Jvm.MethodName)) ∈ lw_all := lw_g (lw_at lw_m11 137 rfl) rfl
theorem q2658 : (Jvm.Cond.selects "java/util/LinkedList" ({ cls := "java/util/LinkedList", name := "getLast", desc := "()Ljava/lang/Object;" } : Jvm.MethodName) ({ cls := "java/util/LinkedList", name := "getLast", desc := "()Ljava/lang/Object;" } : Jvm.MethodName)) ∈ lw_all := lw_g (lw_at lw_m11 138 rfl) rfl
theorem q2659 : (Jvm.Cond.code ({ cls := "java/util/LinkedList", name := "getLast", desc := "()Ljava/lang/Object;" } : Jvm.MethodName) prog_65_method_10_code (2 : Nat) (Option.some (Jvm.ClassFile.FieldType.object "java/lang/Object"))) ∈ lw_all := lw_g (lw_at lw_m11 139 rfl) rfl
theorem q2665 : (Jvm.Cond.instanceMethod ({ cls := "java/util/LinkedList", name := "removeLast", desc := "()Ljava/lang/Object;" } : Jvm.MethodName)) ∈ lw_all := lw_g (lw_at lw_m11 145 rfl) rfl
theorem q2666 : (Jvm.Cond.selects "java/util/LinkedList" ({ cls := "java/util/LinkedList", name := "removeLast", desc := "()Ljava/lang/Object;" } : Jvm.MethodName) ({ cls := "java/util/LinkedList", name := "removeLast", desc := "()Ljava/lang/Object;" } : Jvm.MethodName)) ∈ lw_all := lw_g (lw_at lw_m11 146 rfl) rfl
theorem q2667 : (Jvm.Cond.code ({ cls := "java/util/LinkedList", name := "removeLast", desc := "()Ljava/lang/Object;" } : Jvm.MethodName) prog_65_method_12_code (2 : Nat) (Option.some (Jvm.ClassFile.FieldType.object "java/lang/Object"))) ∈ lw_all := lw_g (lw_at lw_m11 147 rfl) rfl
theorem q2668 : (Jvm.Cond.methodLink "java/util/LinkedList" (50 : Nat) ({ cls := "java/util/LinkedList", name := "unlinkLast", desc := "(Ljava/util/LinkedList$Node;)Ljava/lang/Object;" } : Jvm.MethodName)) ∈ lw_all := lw_g (lw_at lw_m11 148 rfl) rfl
theorem q2669 : (Jvm.Cond.privateMethod ({ cls := "java/util/LinkedList", name := "unlinkLast", desc := "(Ljava/util/LinkedList$Node;)Ljava/lang/Object;" } : Jvm.MethodName)) ∈ lw_tbl := lw_at lw_m11 149 rfl
theorem q2670 : (Jvm.Cond.instanceMethod ({ cls := "java/util/LinkedList", name := "unlinkLast", desc := "(Ljava/util/LinkedList$Node;)Ljava/lang/Object;" } : Jvm.MethodName)) ∈ lw_all := lw_g (lw_at lw_m11 150 rfl) rfl
theorem q2671 : (Jvm.Cond.code ({ cls := "java/util/LinkedList", name := "unlinkLast", desc := "(Ljava/util/LinkedList$Node;)Ljava/lang/Object;" } : Jvm.MethodName) prog_65_method_7_code (4 : Nat) (Option.some (Jvm.ClassFile.FieldType.object "java/lang/Object"))) ∈ lw_all := lw_g (lw_at lw_m11 151 rfl) rfl
theorem q2934 : (Jvm.Cond.sameMethod "java/util/LinkedList" "java/util/AbstractSequentialList" "iterator" "()Ljava/util/Iterator;") ∈ lw_all := lw_g (lw_at lw_m12 174 rfl) rfl
theorem q2936 : (Jvm.Cond.selects "java/util/LinkedList" ({ cls := "java/util/LinkedList", name := "iterator", desc := "()Ljava/util/Iterator;" } : Jvm.MethodName) ({ cls := "java/util/AbstractSequentialList", name := "iterator", desc := "()Ljava/util/Iterator;" } : Jvm.MethodName)) ∈ lw_all := lw_g (lw_at lw_m12 176 rfl) rfl
theorem q2942 : (Jvm.Cond.selects "java/util/LinkedList" ({ cls := "java/util/AbstractSequentialList", name := "listIterator", desc := "()Ljava/util/ListIterator;" } : Jvm.MethodName) ({ cls := "java/util/AbstractList", name := "listIterator", desc := "()Ljava/util/ListIterator;" } : Jvm.MethodName)) ∈ lw_all := lw_g (lw_at lw_m12 182 rfl) rfl
theorem q2995 : (Jvm.Cond.selects "java/util/LinkedList" ({ cls := "java/util/AbstractList", name := "listIterator", desc := "(I)Ljava/util/ListIterator;" } : Jvm.MethodName) ({ cls := "java/util/LinkedList", name := "listIterator", desc := "(I)Ljava/util/ListIterator;" } : Jvm.MethodName)) ∈ lw_all := lw_g (lw_at lw_m12 235 rfl) rfl
theorem q2996 : (Jvm.Cond.instanceMethod ({ cls := "java/util/LinkedList", name := "listIterator", desc := "(I)Ljava/util/ListIterator;" } : Jvm.MethodName)) ∈ lw_all := lw_g (lw_at lw_m12 236 rfl) rfl
theorem q2997 : (Jvm.Cond.code ({ cls := "java/util/LinkedList", name := "listIterator", desc := "(I)Ljava/util/ListIterator;" } : Jvm.MethodName) prog_65_method_49_code (2 : Nat) (Option.some (Jvm.ClassFile.FieldType.object "java/util/ListIterator"))) ∈ lw_all := lw_g (lw_at lw_m12 237 rfl) rfl
theorem q2998 : (Jvm.Cond.methodLink "java/util/LinkedList" (76 : Nat) ({ cls := "java/util/LinkedList", name := "checkPositionIndex", desc := "(I)V" } : Jvm.MethodName)) ∈ lw_all := lw_g (lw_at lw_m12 238 rfl) rfl
theorem q2999 : (Jvm.Cond.privateMethod ({ cls := "java/util/LinkedList", name := "checkPositionIndex", desc := "(I)V" } : Jvm.MethodName)) ∈ lw_tbl := lw_at lw_m12 239 rfl
theorem q3000 : (Jvm.Cond.instanceMethod ({ cls := "java/util/LinkedList", name := "checkPositionIndex", desc := "(I)V" } : Jvm.MethodName)) ∈ lw_all := lw_g (lw_at lw_m13 0 rfl) rfl
theorem q3001 : (Jvm.Cond.code ({ cls := "java/util/LinkedList", name := "checkPositionIndex", desc := "(I)V" } : Jvm.MethodName) prog_65_method_30_code (2 : Nat) (Option.none : Option Jvm.ClassFile.FieldType)) ∈ lw_all := lw_g (lw_at lw_m13 1 rfl) rfl
theorem q3002 : (Jvm.Cond.methodLink "java/util/LinkedList" (128 : Nat) ({ cls := "java/util/LinkedList", name := "isPositionIndex", desc := "(I)Z" } : Jvm.MethodName)) ∈ lw_all := lw_g (lw_at lw_m13 2 rfl) rfl
theorem q3003 : (Jvm.Cond.privateMethod ({ cls := "java/util/LinkedList", name := "isPositionIndex", desc := "(I)Z" } : Jvm.MethodName)) ∈ lw_tbl := lw_at lw_m13 3 rfl
theorem q3004 : (Jvm.Cond.instanceMethod ({ cls := "java/util/LinkedList", name := "isPositionIndex", desc := "(I)Z" } : Jvm.MethodName)) ∈ lw_all := lw_g (lw_at lw_m13 4 rfl) rfl
theorem q3005 : (Jvm.Cond.code ({ cls := "java/util/LinkedList", name := "isPositionIndex", desc := "(I)Z" } : Jvm.MethodName) prog_65_method_27_code (2 : Nat) (Option.some Jvm.ClassFile.FieldType.boolean)) ∈ lw_all := lw_g (lw_at lw_m13 5 rfl) rfl
theorem q3006 : (Jvm.Cond.classLink "java/util/LinkedList" (150 : Nat) "java/util/LinkedList$ListItr") ∈ lw_all := lw_g (lw_at lw_m13 6 rfl) rfl
theorem q3007 : (Jvm.Cond.methodLink "java/util/LinkedList" (152 : Nat) ({ cls := "java/util/LinkedList$ListItr", name := "<init>", desc := "(Ljava/util/LinkedList;I)V" } : Jvm.MethodName)) ∈ lw_all := lw_g (lw_at lw_m13 7 rfl) rfl
theorem q3603 : (Jvm.Cond.selects "java/util/LinkedList" ({ cls := "java/util/LinkedList", name := "size", desc := "()I" } : Jvm.MethodName) ({ cls := "java/util/LinkedList", name := "size", desc := "()I" } : Jvm.MethodName)) ∈ lw_all := lw_g (lw_at lw_m15 123 rfl) rfl
theorem q3610 : (Jvm.Cond.selects "java/util/LinkedList" ({ cls := "java/util/AbstractCollection", name := "size", desc := "()I" } : Jvm.MethodName) ({ cls := "java/util/LinkedList", name := "size", desc := "()I" } : Jvm.MethodName)) ∈ lw_all := lw_g (lw_at lw_m15 130 rfl) rfl
theorem q3638 : (Jvm.Cond.castable "java/util/LinkedList" "java/lang/Object") ∈ lw_tbl := lw_at lw_m15 158 rfl
theorem in_J12 : ∀ w ∈ wsJ120, w ∈ lw_all := lw_in wsJ120 [470, 464, 466, 468] (by decide +kernel) (by decide +kernel)

/-! java/lang/IndexOutOfBoundsException -/
set_option maxRecDepth 100000
def RJ13 : String := "java/lang/IndexOutOfBoundsException"
def TJ13 : u_T := fun k => match k with
  | 0 => ("java/lang/Throwable", "cause", "Ljava/lang/Throwable;", false)
  | 1 => ("java/lang/Throwable", "stackTrace", "[Ljava/lang/StackTraceElement;", false)
  | 2 => ("java/lang/Throwable", "suppressedExceptions", "Ljava/util/List;", false)
  | 3 => ("java/lang/Throwable", "detailMessage", "Ljava/lang/String;", false)
  | 4 => ("java/lang/Throwable", "backtrace", "Ljava/lang/Object;", false)
  | _ => ("java/lang/Throwable", "depth", "I", false)
def tyJ13 : Nat → FieldType := fun k => match k with
  | 0 => .object "java/lang/Throwable"
  | 1 => .array (.object "java/lang/StackTraceElement")
  | 2 => .object "java/util/List"
  | 3 => .object "java/lang/String"
  | 4 => .object "java/lang/Object"
  | _ => .int
abbrev wsJ130 : List Cond := u_ws RJ13 TJ13 6
theorem nmJ13 : ∀ a, a < 6 → ∀ b, b < 6 → a ≠ b → (TJ13 a).2.1 ≠ (TJ13 b).2.1 := by decide +kernel
theorem tyJ13_ok : ∀ k, k < 6 → parseFieldDescriptor (TJ13 k).2.2.1 = some (tyJ13 k) := by decide +kernel
abbrev cJ13_init : ByteArray := prog_35_method_2_code
def yJ13_init : MethodName := ⟨RJ13, "<init>", "(Ljava/lang/String;)V"⟩
def dkwJ13_init_0 : List UInt8 := [42, 43, 183, 0, 7, 177]
abbrev dktJ13_init_0 : List UInt8 := dkwJ13_init_0 ++ []
theorem dksJ13_init_0 : cJ13_init.data.toList.drop 0 = dktJ13_init_0 := by decide +kernel
theorem dJ13_init_0 : decode cJ13_init 0 = .ok (.aload_n 0, 1) := dk_42 (dk_at dksJ13_init_0 0 rfl rfl)
theorem dJ13_init_1 : decode cJ13_init 1 = .ok (.aload_n 1, 1) := dk_43 (dk_at dksJ13_init_0 1 rfl rfl)
theorem dJ13_init_2 : decode cJ13_init 2 = .ok (.invokespecial 7, 3) := dk_183 0 7 (dk_at dksJ13_init_0 2 rfl rfl)
theorem dJ13_init_5 : decode cJ13_init 5 = .ok (.return_, 1) := dk_177 (dk_at dksJ13_init_0 5 rfl rfl)
theorem q147 : (Jvm.Cond.initialized "java/lang/IndexOutOfBoundsException") ∈ lw_all := lw_g (lw_at lw_m1 27 rfl) rfl
theorem q254 : (Jvm.Cond.selects "java/lang/IndexOutOfBoundsException" ({ cls := "java/lang/Throwable", name := "fillInStackTrace", desc := "()Ljava/lang/Throwable;" } : Jvm.MethodName) ({ cls := "java/lang/Throwable", name := "fillInStackTrace", desc := "()Ljava/lang/Throwable;" } : Jvm.MethodName)) ∈ lw_all := lw_g (lw_at lw_m1 134 rfl) rfl
theorem q647 : (Jvm.Cond.instanceMethod ({ cls := "java/lang/IndexOutOfBoundsException", name := "<init>", desc := "(Ljava/lang/String;)V" } : Jvm.MethodName)) ∈ lw_all := lw_g (lw_at lw_m3 47 rfl) rfl
theorem q648 : (Jvm.Cond.code ({ cls := "java/lang/IndexOutOfBoundsException", name := "<init>", desc := "(Ljava/lang/String;)V" } : Jvm.MethodName) prog_35_method_2_code (2 : Nat) (Option.none : Option Jvm.ClassFile.FieldType)) ∈ lw_all := lw_g (lw_at lw_m3 48 rfl) rfl
theorem q649 : (Jvm.Cond.methodLink "java/lang/IndexOutOfBoundsException" (7 : Nat) ({ cls := "java/lang/RuntimeException", name := "<init>", desc := "(Ljava/lang/String;)V" } : Jvm.MethodName)) ∈ lw_all := lw_g (lw_at lw_m3 49 rfl) rfl
theorem q658 : (Jvm.Cond.declares ({ cls := "java/lang/IndexOutOfBoundsException", name := "<init>", desc := "()V" } : Jvm.MethodName)) ∈ lw_tbl := lw_at lw_m3 58 rfl
theorem q659 : (Jvm.Cond.declares ({ cls := "java/lang/IndexOutOfBoundsException", name := "<init>", desc := "(Ljava/lang/String;)V" } : Jvm.MethodName)) ∈ lw_tbl := lw_at lw_m3 59 rfl
theorem q1463 : (Jvm.Cond.selects "java/lang/IndexOutOfBoundsException" ({ cls := "java/lang/Object", name := "getClass", desc := "()Ljava/lang/Class;" } : Jvm.MethodName) ({ cls := "java/lang/Object", name := "getClass", desc := "()Ljava/lang/Class;" } : Jvm.MethodName)) ∈ lw_all := lw_g (lw_at lw_m6 143 rfl) rfl
theorem q1819 : (Jvm.Cond.instantiable "java/lang/IndexOutOfBoundsException" (6 : Nat)) ∈ lw_all := lw_g (lw_at lw_m8 19 rfl) rfl
theorem q1820 : (Jvm.Cond.castable "java/lang/IndexOutOfBoundsException" "java/lang/IndexOutOfBoundsException") ∈ lw_tbl := lw_at lw_m8 20 rfl
theorem q1821 : (Jvm.Cond.selects "java/lang/IndexOutOfBoundsException" ({ cls := "java/lang/Throwable", name := "fillInStackTrace", desc := "(I)Ljava/lang/Throwable;" } : Jvm.MethodName) ({ cls := "java/lang/Throwable", name := "fillInStackTrace", desc := "(I)Ljava/lang/Throwable;" } : Jvm.MethodName)) ∈ lw_all := lw_g (lw_at lw_m8 21 rfl) rfl
theorem q1822 : (Jvm.Cond.lays "java/lang/IndexOutOfBoundsException" "java/lang/Throwable" "cause" "Ljava/lang/Throwable;") ∈ lw_all := lw_g (lw_at lw_m8 22 rfl) rfl
theorem q1823 : (Jvm.Cond.lays "java/lang/IndexOutOfBoundsException" "java/lang/Throwable" "stackTrace" "[Ljava/lang/StackTraceElement;") ∈ lw_all := lw_g (lw_at lw_m8 23 rfl) rfl
theorem q1824 : (Jvm.Cond.lays "java/lang/IndexOutOfBoundsException" "java/lang/Throwable" "suppressedExceptions" "Ljava/util/List;") ∈ lw_all := lw_g (lw_at lw_m8 24 rfl) rfl
theorem q1825 : (Jvm.Cond.lays "java/lang/IndexOutOfBoundsException" "java/lang/Throwable" "detailMessage" "Ljava/lang/String;") ∈ lw_all := lw_g (lw_at lw_m8 25 rfl) rfl
theorem q1826 : (Jvm.Cond.lays "java/lang/IndexOutOfBoundsException" "java/lang/Throwable" "backtrace" "Ljava/lang/Object;") ∈ lw_all := lw_g (lw_at lw_m8 26 rfl) rfl
theorem q1863 : (Jvm.Cond.lays "java/lang/IndexOutOfBoundsException" "java/lang/Throwable" "depth" "I") ∈ lw_all := lw_g (lw_at lw_m8 63 rfl) rfl
theorem q1864 : (Jvm.Cond.superclass "java/lang/IndexOutOfBoundsException" "java/lang/RuntimeException") ∈ lw_all := lw_g (lw_at lw_m8 64 rfl) rfl
theorem q1898 : (Jvm.Cond.selects "java/lang/IndexOutOfBoundsException" ({ cls := "java/lang/Throwable", name := "toString", desc := "()Ljava/lang/String;" } : Jvm.MethodName) ({ cls := "java/lang/Throwable", name := "toString", desc := "()Ljava/lang/String;" } : Jvm.MethodName)) ∈ lw_all := lw_g (lw_at lw_m8 98 rfl) rfl
theorem q1913 : (Jvm.Cond.selects "java/lang/IndexOutOfBoundsException" ({ cls := "java/lang/Throwable", name := "getLocalizedMessage", desc := "()Ljava/lang/String;" } : Jvm.MethodName) ({ cls := "java/lang/Throwable", name := "getLocalizedMessage", desc := "()Ljava/lang/String;" } : Jvm.MethodName)) ∈ lw_all := lw_g (lw_at lw_m8 113 rfl) rfl
theorem q1927 : (Jvm.Cond.selects "java/lang/IndexOutOfBoundsException" ({ cls := "java/lang/Throwable", name := "getMessage", desc := "()Ljava/lang/String;" } : Jvm.MethodName) ({ cls := "java/lang/Throwable", name := "getMessage", desc := "()Ljava/lang/String;" } : Jvm.MethodName)) ∈ lw_all := lw_g (lw_at lw_m8 127 rfl) rfl
theorem q3657 : (Jvm.Cond.castable "java/lang/IndexOutOfBoundsException" "java/lang/Object") ∈ lw_tbl := lw_at lw_m15 177 rfl
theorem in_J13 : ∀ w ∈ wsJ130, w ∈ lw_all := lw_in wsJ130 [1822, 1823, 1824, 1825, 1826, 1863] (by decide +kernel) (by decide +kernel)

/-! java/lang/ArrayIndexOutOfBoundsException -/
set_option maxRecDepth 100000
def RJ14 : String := "java/lang/ArrayIndexOutOfBoundsException"
def TJ14 : u_T := fun k => match k with
  | 0 => ("java/lang/Throwable", "backtrace", "Ljava/lang/Object;", false)
  | 1 => ("java/lang/Throwable", "detailMessage", "Ljava/lang/String;", false)
  | 2 => ("java/lang/Throwable", "cause", "Ljava/lang/Throwable;", false)
  | 3 => ("java/lang/Throwable", "stackTrace", "[Ljava/lang/StackTraceElement;", false)
  | 4 => ("java/lang/Throwable", "depth", "I", false)
  | _ => ("java/lang/Throwable", "suppressedExceptions", "Ljava/util/List;", false)
def tyJ14 : Nat → FieldType := fun k => match k with
  | 0 => .object "java/lang/Object"
  | 1 => .object "java/lang/String"
  | 2 => .object "java/lang/Throwable"
  | 3 => .array (.object "java/lang/StackTraceElement")
  | 4 => .int
  | _ => .object "java/util/List"
abbrev wsJ140 : List Cond := u_ws RJ14 TJ14 6
theorem nmJ14 : ∀ a, a < 6 → ∀ b, b < 6 → a ≠ b → (TJ14 a).2.1 ≠ (TJ14 b).2.1 := by decide +kernel
theorem tyJ14_ok : ∀ k, k < 6 → parseFieldDescriptor (TJ14 k).2.2.1 = some (tyJ14 k) := by decide +kernel
abbrev cJ14_init : ByteArray := prog_28_method_2_code
def yJ14_init : MethodName := ⟨RJ14, "<init>", "(Ljava/lang/String;)V"⟩
def dkwJ14_init_0 : List UInt8 := [42, 43, 183, 0, 7, 177]
abbrev dktJ14_init_0 : List UInt8 := dkwJ14_init_0 ++ []
theorem dksJ14_init_0 : cJ14_init.data.toList.drop 0 = dktJ14_init_0 := by decide +kernel
theorem dJ14_init_0 : decode cJ14_init 0 = .ok (.aload_n 0, 1) := dk_42 (dk_at dksJ14_init_0 0 rfl rfl)
theorem dJ14_init_1 : decode cJ14_init 1 = .ok (.aload_n 1, 1) := dk_43 (dk_at dksJ14_init_0 1 rfl rfl)
theorem dJ14_init_2 : decode cJ14_init 2 = .ok (.invokespecial 7, 3) := dk_183 0 7 (dk_at dksJ14_init_0 2 rfl rfl)
theorem dJ14_init_5 : decode cJ14_init 5 = .ok (.return_, 1) := dk_177 (dk_at dksJ14_init_0 5 rfl rfl)
abbrev cJ14_init_2 : ByteArray := prog_28_method_3_code
def yJ14_init_2 : MethodName := ⟨RJ14, "<init>", "(I)V"⟩
def dkwJ14_init_2_0 : List UInt8 := [42, 187, 0, 10, 89, 183, 0, 12, 18, 13, 182, 0, 15, 27, 182, 0, 19, 182, 0, 22, 183, 0, 7, 177]
abbrev dktJ14_init_2_0 : List UInt8 := dkwJ14_init_2_0 ++ []
theorem dksJ14_init_2_0 : cJ14_init_2.data.toList.drop 0 = dktJ14_init_2_0 := by decide +kernel
theorem dJ14_init_2_0 : decode cJ14_init_2 0 = .ok (.aload_n 0, 1) := dk_42 (dk_at dksJ14_init_2_0 0 rfl rfl)
theorem dJ14_init_2_1 : decode cJ14_init_2 1 = .ok (.new 10, 3) := dk_187 0 10 (dk_at dksJ14_init_2_0 1 rfl rfl)
theorem dJ14_init_2_4 : decode cJ14_init_2 4 = .ok (.dup, 1) := dk_89 (dk_at dksJ14_init_2_0 4 rfl rfl)
theorem dJ14_init_2_5 : decode cJ14_init_2 5 = .ok (.invokespecial 12, 3) := dk_183 0 12 (dk_at dksJ14_init_2_0 5 rfl rfl)
theorem dJ14_init_2_8 : decode cJ14_init_2 8 = .ok (.ldc 13, 2) := dk_18 13 (dk_at dksJ14_init_2_0 8 rfl rfl)
theorem dJ14_init_2_10 : decode cJ14_init_2 10 = .ok (.invokevirtual 15, 3) := dk_182 0 15 (dk_at dksJ14_init_2_0 10 rfl rfl)
theorem dJ14_init_2_13 : decode cJ14_init_2 13 = .ok (.iload_n 1, 1) := dk_27 (dk_at dksJ14_init_2_0 13 rfl rfl)
theorem dJ14_init_2_14 : decode cJ14_init_2 14 = .ok (.invokevirtual 19, 3) := dk_182 0 19 (dk_at dksJ14_init_2_0 14 rfl rfl)
theorem dJ14_init_2_17 : decode cJ14_init_2 17 = .ok (.invokevirtual 22, 3) := dk_182 0 22 (dk_at dksJ14_init_2_0 17 rfl rfl)
theorem dJ14_init_2_20 : decode cJ14_init_2 20 = .ok (.invokespecial 7, 3) := dk_183 0 7 (dk_at dksJ14_init_2_0 20 rfl rfl)
theorem dJ14_init_2_23 : decode cJ14_init_2 23 = .ok (.return_, 1) := dk_177 (dk_at dksJ14_init_2_0 23 rfl rfl)
theorem q148 : (Jvm.Cond.initialized "java/lang/ArrayIndexOutOfBoundsException") ∈ lw_all := lw_g (lw_at lw_m1 28 rfl) rfl
theorem q251 : (Jvm.Cond.selects "java/lang/ArrayIndexOutOfBoundsException" ({ cls := "java/lang/Throwable", name := "fillInStackTrace", desc := "()Ljava/lang/Throwable;" } : Jvm.MethodName) ({ cls := "java/lang/Throwable", name := "fillInStackTrace", desc := "()Ljava/lang/Throwable;" } : Jvm.MethodName)) ∈ lw_all := lw_g (lw_at lw_m1 131 rfl) rfl
theorem q643 : (Jvm.Cond.instantiable "java/lang/ArrayIndexOutOfBoundsException" (6 : Nat)) ∈ lw_all := lw_g (lw_at lw_m3 43 rfl) rfl
theorem q644 : (Jvm.Cond.instanceMethod ({ cls := "java/lang/ArrayIndexOutOfBoundsException", name := "<init>", desc := "(Ljava/lang/String;)V" } : Jvm.MethodName)) ∈ lw_all := lw_g (lw_at lw_m3 44 rfl) rfl
theorem q645 : (Jvm.Cond.code ({ cls := "java/lang/ArrayIndexOutOfBoundsException", name := "<init>", desc := "(Ljava/lang/String;)V" } : Jvm.MethodName) prog_28_method_2_code (2 : Nat) (Option.none : Option Jvm.ClassFile.FieldType)) ∈ lw_all := lw_g (lw_at lw_m3 45 rfl) rfl
theorem q646 : (Jvm.Cond.methodLink "java/lang/ArrayIndexOutOfBoundsException" (7 : Nat) ({ cls := "java/lang/IndexOutOfBoundsException", name := "<init>", desc := "(Ljava/lang/String;)V" } : Jvm.MethodName)) ∈ lw_all := lw_g (lw_at lw_m3 46 rfl) rfl
theorem q650 : (Jvm.Cond.lays "java/lang/ArrayIndexOutOfBoundsException" "java/lang/Throwable" "backtrace" "Ljava/lang/Object;") ∈ lw_all := lw_g (lw_at lw_m3 50 rfl) rfl
theorem q651 : (Jvm.Cond.lays "java/lang/ArrayIndexOutOfBoundsException" "java/lang/Throwable" "detailMessage" "Ljava/lang/String;") ∈ lw_all := lw_g (lw_at lw_m3 51 rfl) rfl
theorem q652 : (Jvm.Cond.lays "java/lang/ArrayIndexOutOfBoundsException" "java/lang/Throwable" "cause" "Ljava/lang/Throwable;") ∈ lw_all := lw_g (lw_at lw_m3 52 rfl) rfl
theorem q653 : (Jvm.Cond.lays "java/lang/ArrayIndexOutOfBoundsException" "java/lang/Throwable" "stackTrace" "[Ljava/lang/StackTraceElement;") ∈ lw_all := lw_g (lw_at lw_m3 53 rfl) rfl
theorem q654 : (Jvm.Cond.lays "java/lang/ArrayIndexOutOfBoundsException" "java/lang/Throwable" "depth" "I") ∈ lw_all := lw_g (lw_at lw_m3 54 rfl) rfl
theorem q655 : (Jvm.Cond.lays "java/lang/ArrayIndexOutOfBoundsException" "java/lang/Throwable" "suppressedExceptions" "Ljava/util/List;") ∈ lw_all := lw_g (lw_at lw_m3 55 rfl) rfl
theorem q656 : (Jvm.Cond.superclass "java/lang/ArrayIndexOutOfBoundsException" "java/lang/IndexOutOfBoundsException") ∈ lw_all := lw_g (lw_at lw_m3 56 rfl) rfl
theorem q657 : (Jvm.Cond.castable "java/lang/ArrayIndexOutOfBoundsException" "java/lang/ArrayIndexOutOfBoundsException") ∈ lw_tbl := lw_at lw_m3 57 rfl
theorem q660 : (Jvm.Cond.selects "java/lang/ArrayIndexOutOfBoundsException" ({ cls := "java/lang/Throwable", name := "fillInStackTrace", desc := "(I)Ljava/lang/Throwable;" } : Jvm.MethodName) ({ cls := "java/lang/Throwable", name := "fillInStackTrace", desc := "(I)Ljava/lang/Throwable;" } : Jvm.MethodName)) ∈ lw_all := lw_g (lw_at lw_m3 60 rfl) rfl
theorem q1460 : (Jvm.Cond.selects "java/lang/ArrayIndexOutOfBoundsException" ({ cls := "java/lang/Object", name := "getClass", desc := "()Ljava/lang/Class;" } : Jvm.MethodName) ({ cls := "java/lang/Object", name := "getClass", desc := "()Ljava/lang/Class;" } : Jvm.MethodName)) ∈ lw_all := lw_g (lw_at lw_m6 140 rfl) rfl
theorem q1895 : (Jvm.Cond.selects "java/lang/ArrayIndexOutOfBoundsException" ({ cls := "java/lang/Throwable", name := "toString", desc := "()Ljava/lang/String;" } : Jvm.MethodName) ({ cls := "java/lang/Throwable", name := "toString", desc := "()Ljava/lang/String;" } : Jvm.MethodName)) ∈ lw_all := lw_g (lw_at lw_m8 95 rfl) rfl
theorem q1910 : (Jvm.Cond.selects "java/lang/ArrayIndexOutOfBoundsException" ({ cls := "java/lang/Throwable", name := "getLocalizedMessage", desc := "()Ljava/lang/String;" } : Jvm.MethodName) ({ cls := "java/lang/Throwable", name := "getLocalizedMessage", desc := "()Ljava/lang/String;" } : Jvm.MethodName)) ∈ lw_all := lw_g (lw_at lw_m8 110 rfl) rfl
theorem q1924 : (Jvm.Cond.selects "java/lang/ArrayIndexOutOfBoundsException" ({ cls := "java/lang/Throwable", name := "getMessage", desc := "()Ljava/lang/String;" } : Jvm.MethodName) ({ cls := "java/lang/Throwable", name := "getMessage", desc := "()Ljava/lang/String;" } : Jvm.MethodName)) ∈ lw_all := lw_g (lw_at lw_m8 124 rfl) rfl
theorem q2846 : (Jvm.Cond.instanceMethod ({ cls := "java/lang/ArrayIndexOutOfBoundsException", name := "<init>", desc := "(I)V" } : Jvm.MethodName)) ∈ lw_all := lw_g (lw_at lw_m12 86 rfl) rfl
theorem q2847 : (Jvm.Cond.code ({ cls := "java/lang/ArrayIndexOutOfBoundsException", name := "<init>", desc := "(I)V" } : Jvm.MethodName) prog_28_method_3_code (2 : Nat) (Option.none : Option Jvm.ClassFile.FieldType)) ∈ lw_all := lw_g (lw_at lw_m12 87 rfl) rfl
theorem q2848 : (Jvm.Cond.classLink "java/lang/ArrayIndexOutOfBoundsException" (10 : Nat) "java/lang/StringBuilder") ∈ lw_all := lw_g (lw_at lw_m12 88 rfl) rfl
theorem q2849 : (Jvm.Cond.methodLink "java/lang/ArrayIndexOutOfBoundsException" (12 : Nat) ({ cls := "java/lang/StringBuilder", name := "<init>", desc := "()V" } : Jvm.MethodName)) ∈ lw_all := lw_g (lw_at lw_m12 89 rfl) rfl
theorem q2850 : (Jvm.Cond.stringRef "java/lang/ArrayIndexOutOfBoundsException" (13 : Nat) "Array index out of range: ") ∈ lw_tbl := lw_at lw_m12 90 rfl
theorem q2851 : (Jvm.Cond.methodLink "java/lang/ArrayIndexOutOfBoundsException" (15 : Nat) ({ cls := "java/lang/StringBuilder", name := "append", desc := "(Ljava/lang/String;)Ljava/lang/StringBuilder;" } : Jvm.MethodName)) ∈ lw_all := lw_g (lw_at lw_m12 91 rfl) rfl
theorem q2852 : (Jvm.Cond.methodLink "java/lang/ArrayIndexOutOfBoundsException" (19 : Nat) ({ cls := "java/lang/StringBuilder", name := "append", desc := "(I)Ljava/lang/StringBuilder;" } : Jvm.MethodName)) ∈ lw_all := lw_g (lw_at lw_m12 92 rfl) rfl
theorem q2853 : (Jvm.Cond.methodLink "java/lang/ArrayIndexOutOfBoundsException" (22 : Nat) ({ cls := "java/lang/StringBuilder", name := "toString", desc := "()Ljava/lang/String;" } : Jvm.MethodName)) ∈ lw_all := lw_g (lw_at lw_m12 93 rfl) rfl
theorem q3618 : (Jvm.Cond.castable "java/lang/ArrayIndexOutOfBoundsException" "java/lang/IndexOutOfBoundsException") ∈ lw_tbl := lw_at lw_m15 138 rfl
theorem q3640 : (Jvm.Cond.castable "java/lang/ArrayIndexOutOfBoundsException" "java/lang/Object") ∈ lw_tbl := lw_at lw_m15 160 rfl
theorem in_J14 : ∀ w ∈ wsJ140, w ∈ lw_all := lw_in wsJ140 [650, 651, 652, 653, 654, 655] (by decide +kernel) (by decide +kernel)

/-! java/lang/NullPointerException -/
set_option maxRecDepth 100000
def RJ15 : String := "java/lang/NullPointerException"
def TJ15 : u_T := fun k => match k with
  | 0 => ("java/lang/Throwable", "backtrace", "Ljava/lang/Object;", false)
  | 1 => ("java/lang/Throwable", "detailMessage", "Ljava/lang/String;", false)
  | 2 => ("java/lang/Throwable", "cause", "Ljava/lang/Throwable;", false)
  | 3 => ("java/lang/Throwable", "stackTrace", "[Ljava/lang/StackTraceElement;", false)
  | 4 => ("java/lang/Throwable", "depth", "I", false)
  | 5 => ("java/lang/Throwable", "suppressedExceptions", "Ljava/util/List;", false)
  | 6 => ("java/lang/NullPointerException", "extendedMessageState", "I", false)
  | _ => ("java/lang/NullPointerException", "extendedMessage", "Ljava/lang/String;", false)
def tyJ15 : Nat → FieldType := fun k => match k with
  | 0 => .object "java/lang/Object"
  | 1 => .object "java/lang/String"
  | 2 => .object "java/lang/Throwable"
  | 3 => .array (.object "java/lang/StackTraceElement")
  | 4 => .int
  | 5 => .object "java/util/List"
  | 6 => .int
  | _ => .object "java/lang/String"
abbrev wsJ150 : List Cond := u_ws RJ15 TJ15 8
theorem nmJ15 : ∀ a, a < 8 → ∀ b, b < 8 → a ≠ b → (TJ15 a).2.1 ≠ (TJ15 b).2.1 := by decide +kernel
theorem tyJ15_ok : ∀ k, k < 8 → parseFieldDescriptor (TJ15 k).2.2.1 = some (tyJ15 k) := by decide +kernel
abbrev cJ15_init : ByteArray := prog_40_method_1_code
def yJ15_init : MethodName := ⟨RJ15, "<init>", "()V"⟩
theorem dJ15_init_0 : decode cJ15_init 0 = .ok (.aload_n 0, 1) := by decide +kernel
theorem dJ15_init_1 : decode cJ15_init 1 = .ok (.invokespecial 1, 3) := by decide +kernel
theorem dJ15_init_4 : decode cJ15_init 4 = .ok (.return_, 1) := by decide +kernel
abbrev cJ15_getMessage : ByteArray := prog_40_method_4_code
def yJ15_getMessage : MethodName := ⟨RJ15, "getMessage", "()Ljava/lang/String;"⟩
def dkwJ15_getMessage_2 : List UInt8 := [176]
abbrev dktJ15_getMessage_2 : List UInt8 := dkwJ15_getMessage_2 ++ []
def dkwJ15_getMessage_1 : List UInt8 := [182, 0, 16, 181, 0, 20, 42, 5, 181, 0, 10, 42, 180, 0, 20, 44, 195, 176, 78, 44, 195, 45, 191, 43]
abbrev dktJ15_getMessage_1 : List UInt8 := dkwJ15_getMessage_1 ++ dktJ15_getMessage_2
def dkwJ15_getMessage_0 : List UInt8 := [42, 183, 0, 28, 76, 43, 199, 0, 40, 42, 89, 77, 194, 42, 180, 0, 10, 4, 160, 0, 16, 42, 42]
abbrev dktJ15_getMessage_0 : List UInt8 := dkwJ15_getMessage_0 ++ dktJ15_getMessage_1
theorem dksJ15_getMessage_0 : cJ15_getMessage.data.toList.drop 0 = dktJ15_getMessage_0 := by decide +kernel
theorem dksJ15_getMessage_1 : cJ15_getMessage.data.toList.drop 23 = dktJ15_getMessage_1 := dk_seg dksJ15_getMessage_0 23 rfl rfl
theorem dksJ15_getMessage_2 : cJ15_getMessage.data.toList.drop 47 = dktJ15_getMessage_2 := dk_seg dksJ15_getMessage_1 24 rfl rfl
theorem dJ15_getMessage_0 : decode cJ15_getMessage 0 = .ok (.aload_n 0, 1) := dk_42 (dk_at dksJ15_getMessage_0 0 rfl rfl)
theorem dJ15_getMessage_1 : decode cJ15_getMessage 1 = .ok (.invokespecial 28, 3) := dk_183 0 28 (dk_at dksJ15_getMessage_0 1 rfl rfl)
theorem dJ15_getMessage_4 : decode cJ15_getMessage 4 = .ok (.astore_n 1, 1) := dk_76 (dk_at dksJ15_getMessage_0 4 rfl rfl)
theorem dJ15_getMessage_5 : decode cJ15_getMessage 5 = .ok (.aload_n 1, 1) := dk_43 (dk_at dksJ15_getMessage_0 5 rfl rfl)
theorem dJ15_getMessage_6 : decode cJ15_getMessage 6 = .ok (.ifnonnull 40, 3) := dk_199 0 40 (dk_at dksJ15_getMessage_0 6 rfl rfl)
theorem dJ15_getMessage_9 : decode cJ15_getMessage 9 = .ok (.aload_n 0, 1) := dk_42 (dk_at dksJ15_getMessage_0 9 rfl rfl)
theorem dJ15_getMessage_10 : decode cJ15_getMessage 10 = .ok (.dup, 1) := dk_89 (dk_at dksJ15_getMessage_0 10 rfl rfl)
theorem dJ15_getMessage_11 : decode cJ15_getMessage 11 = .ok (.astore_n 2, 1) := dk_77 (dk_at dksJ15_getMessage_0 11 rfl rfl)
theorem dJ15_getMessage_12 : decode cJ15_getMessage 12 = .ok (.monitorenter, 1) := dk_194 (dk_at dksJ15_getMessage_0 12 rfl rfl)
theorem dJ15_getMessage_13 : decode cJ15_getMessage 13 = .ok (.aload_n 0, 1) := dk_42 (dk_at dksJ15_getMessage_0 13 rfl rfl)
theorem dJ15_getMessage_14 : decode cJ15_getMessage 14 = .ok (.getfield 10, 3) := dk_180 0 10 (dk_at dksJ15_getMessage_0 14 rfl rfl)
theorem dJ15_getMessage_17 : decode cJ15_getMessage 17 = .ok (.iconst 1, 1) := dk_4 (dk_at dksJ15_getMessage_0 17 rfl rfl)
theorem dJ15_getMessage_18 : decode cJ15_getMessage 18 = .ok (.if_icmp .ne 16, 3) := dk_160 0 16 (dk_at dksJ15_getMessage_0 18 rfl rfl)
theorem dJ15_getMessage_21 : decode cJ15_getMessage 21 = .ok (.aload_n 0, 1) := dk_42 (dk_at dksJ15_getMessage_0 21 rfl rfl)
theorem dJ15_getMessage_22 : decode cJ15_getMessage 22 = .ok (.aload_n 0, 1) := dk_42 (dk_at dksJ15_getMessage_0 22 rfl rfl)
theorem dJ15_getMessage_23 : decode cJ15_getMessage 23 = .ok (.invokevirtual 16, 3) := dk_182 0 16 (dk_at dksJ15_getMessage_1 0 rfl rfl)
theorem dJ15_getMessage_26 : decode cJ15_getMessage 26 = .ok (.putfield 20, 3) := dk_181 0 20 (dk_at dksJ15_getMessage_1 3 rfl rfl)
theorem dJ15_getMessage_29 : decode cJ15_getMessage 29 = .ok (.aload_n 0, 1) := dk_42 (dk_at dksJ15_getMessage_1 6 rfl rfl)
theorem dJ15_getMessage_30 : decode cJ15_getMessage 30 = .ok (.iconst 2, 1) := dk_5 (dk_at dksJ15_getMessage_1 7 rfl rfl)
theorem dJ15_getMessage_31 : decode cJ15_getMessage 31 = .ok (.putfield 10, 3) := dk_181 0 10 (dk_at dksJ15_getMessage_1 8 rfl rfl)
theorem dJ15_getMessage_34 : decode cJ15_getMessage 34 = .ok (.aload_n 0, 1) := dk_42 (dk_at dksJ15_getMessage_1 11 rfl rfl)
theorem dJ15_getMessage_35 : decode cJ15_getMessage 35 = .ok (.getfield 20, 3) := dk_180 0 20 (dk_at dksJ15_getMessage_1 12 rfl rfl)
theorem dJ15_getMessage_38 : decode cJ15_getMessage 38 = .ok (.aload_n 2, 1) := dk_44 (dk_at dksJ15_getMessage_1 15 rfl rfl)
theorem dJ15_getMessage_39 : decode cJ15_getMessage 39 = .ok (.monitorexit, 1) := dk_195 (dk_at dksJ15_getMessage_1 16 rfl rfl)
theorem dJ15_getMessage_40 : decode cJ15_getMessage 40 = .ok (.areturn, 1) := dk_176 (dk_at dksJ15_getMessage_1 17 rfl rfl)
theorem dJ15_getMessage_41 : decode cJ15_getMessage 41 = .ok (.astore_n 3, 1) := dk_78 (dk_at dksJ15_getMessage_1 18 rfl rfl)
theorem dJ15_getMessage_42 : decode cJ15_getMessage 42 = .ok (.aload_n 2, 1) := dk_44 (dk_at dksJ15_getMessage_1 19 rfl rfl)
theorem dJ15_getMessage_43 : decode cJ15_getMessage 43 = .ok (.monitorexit, 1) := dk_195 (dk_at dksJ15_getMessage_1 20 rfl rfl)
theorem dJ15_getMessage_44 : decode cJ15_getMessage 44 = .ok (.aload_n 3, 1) := dk_45 (dk_at dksJ15_getMessage_1 21 rfl rfl)
theorem dJ15_getMessage_45 : decode cJ15_getMessage 45 = .ok (.athrow, 1) := dk_191 (dk_at dksJ15_getMessage_1 22 rfl rfl)
theorem dJ15_getMessage_46 : decode cJ15_getMessage 46 = .ok (.aload_n 1, 1) := dk_43 (dk_at dksJ15_getMessage_1 23 rfl rfl)
theorem dJ15_getMessage_47 : decode cJ15_getMessage 47 = .ok (.areturn, 1) := dk_176 (dk_at dksJ15_getMessage_2 0 rfl rfl)
theorem q150 : (Jvm.Cond.initialized "java/lang/NullPointerException") ∈ lw_all := lw_g (lw_at lw_m1 30 rfl) rfl
theorem q255 : (Jvm.Cond.selects "java/lang/NullPointerException" ({ cls := "java/lang/Throwable", name := "fillInStackTrace", desc := "()Ljava/lang/Throwable;" } : Jvm.MethodName) ({ cls := "java/lang/NullPointerException", name := "fillInStackTrace", desc := "()Ljava/lang/Throwable;" } : Jvm.MethodName)) ∈ lw_all := lw_g (lw_at lw_m1 135 rfl) rfl
theorem q256 : (Jvm.Cond.instanceMethod ({ cls := "java/lang/NullPointerException", name := "fillInStackTrace", desc := "()Ljava/lang/Throwable;" } : Jvm.MethodName)) ∈ lw_all := lw_g (lw_at lw_m1 136 rfl) rfl
theorem q257 : (Jvm.Cond.codeSync ({ cls := "java/lang/NullPointerException", name := "fillInStackTrace", desc := "()Ljava/lang/Throwable;" } : Jvm.MethodName) prog_40_method_3_code (1 : Nat) (Option.some (Jvm.ClassFile.FieldType.object "java/lang/Throwable"))) ∈ lw_all := lw_g (lw_at lw_m1 137 rfl) rfl
theorem q258 : (Jvm.Cond.methodLink "java/lang/NullPointerException" (16 : Nat) ({ cls := "java/lang/NullPointerException", name := "getExtendedNPEMessage", desc := "()Ljava/lang/String;" } : Jvm.MethodName)) ∈ lw_all := lw_g (lw_at lw_m1 138 rfl) rfl
theorem q259 : (Jvm.Cond.privateMethod ({ cls := "java/lang/NullPointerException", name := "getExtendedNPEMessage", desc := "()Ljava/lang/String;" } : Jvm.MethodName)) ∈ lw_tbl := lw_at lw_m1 139 rfl
theorem q260 : (Jvm.Cond.instanceMethod ({ cls := "java/lang/NullPointerException", name := "getExtendedNPEMessage", desc := "()Ljava/lang/String;" } : Jvm.MethodName)) ∈ lw_all := lw_g (lw_at lw_m1 140 rfl) rfl
theorem q261 : (Jvm.Cond.instantiable "java/lang/NullPointerException" (8 : Nat)) ∈ lw_all := lw_g (lw_at lw_m1 141 rfl) rfl
theorem q262 : (Jvm.Cond.native ({ cls := "java/lang/NullPointerException", name := "getExtendedNPEMessage", desc := "()Ljava/lang/String;" } : Jvm.MethodName)) ∈ lw_all := lw_g (lw_at lw_m1 142 rfl) rfl
theorem q263 : (Jvm.Cond.methodLink "java/lang/NullPointerException" (24 : Nat) ({ cls := "java/lang/RuntimeException", name := "fillInStackTrace", desc := "()Ljava/lang/Throwable;" } : Jvm.MethodName)) ∈ lw_all := lw_g (lw_at lw_m1 143 rfl) rfl
theorem q266 : (Jvm.Cond.superclass "java/lang/NullPointerException" "java/lang/RuntimeException") ∈ lw_all := lw_g (lw_at lw_m1 146 rfl) rfl
theorem q708 : (Jvm.Cond.instanceMethod ({ cls := "java/lang/NullPointerException", name := "<init>", desc := "()V" } : Jvm.MethodName)) ∈ lw_all := lw_g (lw_at lw_m3 108 rfl) rfl
theorem q709 : (Jvm.Cond.code ({ cls := "java/lang/NullPointerException", name := "<init>", desc := "()V" } : Jvm.MethodName) prog_40_method_1_code (1 : Nat) (Option.none : Option Jvm.ClassFile.FieldType)) ∈ lw_all := lw_g (lw_at lw_m3 109 rfl) rfl
theorem q710 : (Jvm.Cond.methodLink "java/lang/NullPointerException" (1 : Nat) ({ cls := "java/lang/RuntimeException", name := "<init>", desc := "()V" } : Jvm.MethodName)) ∈ lw_all := lw_g (lw_at lw_m3 110 rfl) rfl
theorem q711 : (Jvm.Cond.fieldLink "java/lang/NullPointerException" (10 : Nat) "java/lang/NullPointerException" "extendedMessageState" "I") ∈ lw_all := lw_g (lw_at lw_m3 111 rfl) rfl
theorem q712 : (Jvm.Cond.fieldLink "java/lang/NullPointerException" (20 : Nat) "java/lang/NullPointerException" "extendedMessage" "Ljava/lang/String;") ∈ lw_all := lw_g (lw_at lw_m3 112 rfl) rfl
theorem q713 : (Jvm.Cond.lays "java/lang/NullPointerException" "java/lang/NullPointerException" "extendedMessageState" "I") ∈ lw_all := lw_g (lw_at lw_m3 113 rfl) rfl
theorem q714 : (Jvm.Cond.soleField "java/lang/NullPointerException" "extendedMessageState") ∈ lw_all := lw_g (lw_at lw_m3 114 rfl) rfl
theorem q715 : (Jvm.Cond.lays "java/lang/NullPointerException" "java/lang/NullPointerException" "extendedMessage" "Ljava/lang/String;") ∈ lw_all := lw_g (lw_at lw_m3 115 rfl) rfl
theorem q716 : (Jvm.Cond.soleField "java/lang/NullPointerException" "extendedMessage") ∈ lw_all := lw_g (lw_at lw_m3 116 rfl) rfl
theorem q717 : (Jvm.Cond.lays "java/lang/NullPointerException" "java/lang/Throwable" "backtrace" "Ljava/lang/Object;") ∈ lw_all := lw_g (lw_at lw_m3 117 rfl) rfl
theorem q718 : (Jvm.Cond.lays "java/lang/NullPointerException" "java/lang/Throwable" "detailMessage" "Ljava/lang/String;") ∈ lw_all := lw_g (lw_at lw_m3 118 rfl) rfl
theorem q719 : (Jvm.Cond.lays "java/lang/NullPointerException" "java/lang/Throwable" "cause" "Ljava/lang/Throwable;") ∈ lw_all := lw_g (lw_at lw_m3 119 rfl) rfl
theorem q720 : (Jvm.Cond.lays "java/lang/NullPointerException" "java/lang/Throwable" "stackTrace" "[Ljava/lang/StackTraceElement;") ∈ lw_all := lw_g (lw_at lw_m3 120 rfl) rfl
theorem q721 : (Jvm.Cond.lays "java/lang/NullPointerException" "java/lang/Throwable" "depth" "I") ∈ lw_all := lw_g (lw_at lw_m3 121 rfl) rfl
theorem q722 : (Jvm.Cond.lays "java/lang/NullPointerException" "java/lang/Throwable" "suppressedExceptions" "Ljava/util/List;") ∈ lw_all := lw_g (lw_at lw_m3 122 rfl) rfl
theorem q723 : (Jvm.Cond.castable "java/lang/NullPointerException" "java/lang/NullPointerException") ∈ lw_tbl := lw_at lw_m3 123 rfl
theorem q724 : (Jvm.Cond.selects "java/lang/NullPointerException" ({ cls := "java/lang/Throwable", name := "fillInStackTrace", desc := "(I)Ljava/lang/Throwable;" } : Jvm.MethodName) ({ cls := "java/lang/Throwable", name := "fillInStackTrace", desc := "(I)Ljava/lang/Throwable;" } : Jvm.MethodName)) ∈ lw_all := lw_g (lw_at lw_m3 124 rfl) rfl
theorem q1465 : (Jvm.Cond.selects "java/lang/NullPointerException" ({ cls := "java/lang/Object", name := "getClass", desc := "()Ljava/lang/Class;" } : Jvm.MethodName) ({ cls := "java/lang/Object", name := "getClass", desc := "()Ljava/lang/Class;" } : Jvm.MethodName)) ∈ lw_all := lw_g (lw_at lw_m6 145 rfl) rfl
theorem q1900 : (Jvm.Cond.selects "java/lang/NullPointerException" ({ cls := "java/lang/Throwable", name := "toString", desc := "()Ljava/lang/String;" } : Jvm.MethodName) ({ cls := "java/lang/Throwable", name := "toString", desc := "()Ljava/lang/String;" } : Jvm.MethodName)) ∈ lw_all := lw_g (lw_at lw_m8 100 rfl) rfl
theorem q1915 : (Jvm.Cond.selects "java/lang/NullPointerException" ({ cls := "java/lang/Throwable", name := "getLocalizedMessage", desc := "()Ljava/lang/String;" } : Jvm.MethodName) ({ cls := "java/lang/Throwable", name := "getLocalizedMessage", desc := "()Ljava/lang/String;" } : Jvm.MethodName)) ∈ lw_all := lw_g (lw_at lw_m8 115 rfl) rfl
theorem q1929 : (Jvm.Cond.selects "java/lang/NullPointerException" ({ cls := "java/lang/Throwable", name := "getMessage", desc := "()Ljava/lang/String;" } : Jvm.MethodName) ({ cls := "java/lang/NullPointerException", name := "getMessage", desc := "()Ljava/lang/String;" } : Jvm.MethodName)) ∈ lw_all := lw_g (lw_at lw_m8 129 rfl) rfl
theorem q1930 : (Jvm.Cond.instanceMethod ({ cls := "java/lang/NullPointerException", name := "getMessage", desc := "()Ljava/lang/String;" } : Jvm.MethodName)) ∈ lw_all := lw_g (lw_at lw_m8 130 rfl) rfl
theorem q1931 : (Jvm.Cond.codeWith ({ cls := "java/lang/NullPointerException", name := "getMessage", desc := "()Ljava/lang/String;" } : Jvm.MethodName) prog_40_method_4_code (4 : Nat) (Option.some (Jvm.ClassFile.FieldType.object "java/lang/String")) [((13 : Nat), (40 : Nat), (41 : Nat), (0 : Nat)), ((41 : Nat), (44 : Nat), (41 : Nat), (0 : Nat))]) ∈ lw_all := lw_g (lw_at lw_m8 131 rfl) rfl
theorem q1932 : (Jvm.Cond.methodLink "java/lang/NullPointerException" (28 : Nat) ({ cls := "java/lang/RuntimeException", name := "getMessage", desc := "()Ljava/lang/String;" } : Jvm.MethodName)) ∈ lw_all := lw_g (lw_at lw_m8 132 rfl) rfl
theorem q3642 : (Jvm.Cond.castable "java/lang/NullPointerException" "java/lang/Object") ∈ lw_tbl := lw_at lw_m15 162 rfl
theorem in_J15 : ∀ w ∈ wsJ150, w ∈ lw_all := lw_in wsJ150 [717, 718, 719, 720, 721, 722, 713, 715] (by decide +kernel) (by decide +kernel)

/-! java/lang/ArrayStoreException -/
set_option maxRecDepth 100000
def RJ16 : String := "java/lang/ArrayStoreException"
def TJ16 : u_T := fun k => match k with
  | 0 => ("java/lang/Throwable", "backtrace", "Ljava/lang/Object;", false)
  | 1 => ("java/lang/Throwable", "detailMessage", "Ljava/lang/String;", false)
  | 2 => ("java/lang/Throwable", "cause", "Ljava/lang/Throwable;", false)
  | 3 => ("java/lang/Throwable", "stackTrace", "[Ljava/lang/StackTraceElement;", false)
  | 4 => ("java/lang/Throwable", "depth", "I", false)
  | _ => ("java/lang/Throwable", "suppressedExceptions", "Ljava/util/List;", false)
def tyJ16 : Nat → FieldType := fun k => match k with
  | 0 => .object "java/lang/Object"
  | 1 => .object "java/lang/String"
  | 2 => .object "java/lang/Throwable"
  | 3 => .array (.object "java/lang/StackTraceElement")
  | 4 => .int
  | _ => .object "java/util/List"
abbrev wsJ160 : List Cond := u_ws RJ16 TJ16 6
theorem nmJ16 : ∀ a, a < 6 → ∀ b, b < 6 → a ≠ b → (TJ16 a).2.1 ≠ (TJ16 b).2.1 := by decide +kernel
theorem tyJ16_ok : ∀ k, k < 6 → parseFieldDescriptor (TJ16 k).2.2.1 = some (tyJ16 k) := by decide +kernel
abbrev cJ16_init : ByteArray := prog_29_method_2_code
def yJ16_init : MethodName := ⟨RJ16, "<init>", "(Ljava/lang/String;)V"⟩
def dkwJ16_init_0 : List UInt8 := [42, 43, 183, 0, 7, 177]
abbrev dktJ16_init_0 : List UInt8 := dkwJ16_init_0 ++ []
theorem dksJ16_init_0 : cJ16_init.data.toList.drop 0 = dktJ16_init_0 := by decide +kernel
theorem dJ16_init_0 : decode cJ16_init 0 = .ok (.aload_n 0, 1) := dk_42 (dk_at dksJ16_init_0 0 rfl rfl)
theorem dJ16_init_1 : decode cJ16_init 1 = .ok (.aload_n 1, 1) := dk_43 (dk_at dksJ16_init_0 1 rfl rfl)
theorem dJ16_init_2 : decode cJ16_init 2 = .ok (.invokespecial 7, 3) := dk_183 0 7 (dk_at dksJ16_init_0 2 rfl rfl)
theorem dJ16_init_5 : decode cJ16_init 5 = .ok (.return_, 1) := dk_177 (dk_at dksJ16_init_0 5 rfl rfl)
theorem q151 : (Jvm.Cond.initialized "java/lang/ArrayStoreException") ∈ lw_all := lw_g (lw_at lw_m1 31 rfl) rfl
theorem q252 : (Jvm.Cond.selects "java/lang/ArrayStoreException" ({ cls := "java/lang/Throwable", name := "fillInStackTrace", desc := "()Ljava/lang/Throwable;" } : Jvm.MethodName) ({ cls := "java/lang/Throwable", name := "fillInStackTrace", desc := "()Ljava/lang/Throwable;" } : Jvm.MethodName)) ∈ lw_all := lw_g (lw_at lw_m1 132 rfl) rfl
theorem q727 : (Jvm.Cond.instantiable "java/lang/ArrayStoreException" (6 : Nat)) ∈ lw_all := lw_g (lw_at lw_m3 127 rfl) rfl
theorem q728 : (Jvm.Cond.instanceMethod ({ cls := "java/lang/ArrayStoreException", name := "<init>", desc := "(Ljava/lang/String;)V" } : Jvm.MethodName)) ∈ lw_all := lw_g (lw_at lw_m3 128 rfl) rfl
theorem q729 : (Jvm.Cond.code ({ cls := "java/lang/ArrayStoreException", name := "<init>", desc := "(Ljava/lang/String;)V" } : Jvm.MethodName) prog_29_method_2_code (2 : Nat) (Option.none : Option Jvm.ClassFile.FieldType)) ∈ lw_all := lw_g (lw_at lw_m3 129 rfl) rfl
theorem q730 : (Jvm.Cond.methodLink "java/lang/ArrayStoreException" (7 : Nat) ({ cls := "java/lang/RuntimeException", name := "<init>", desc := "(Ljava/lang/String;)V" } : Jvm.MethodName)) ∈ lw_all := lw_g (lw_at lw_m3 130 rfl) rfl
theorem q731 : (Jvm.Cond.lays "java/lang/ArrayStoreException" "java/lang/Throwable" "backtrace" "Ljava/lang/Object;") ∈ lw_all := lw_g (lw_at lw_m3 131 rfl) rfl
theorem q732 : (Jvm.Cond.lays "java/lang/ArrayStoreException" "java/lang/Throwable" "detailMessage" "Ljava/lang/String;") ∈ lw_all := lw_g (lw_at lw_m3 132 rfl) rfl
theorem q733 : (Jvm.Cond.lays "java/lang/ArrayStoreException" "java/lang/Throwable" "cause" "Ljava/lang/Throwable;") ∈ lw_all := lw_g (lw_at lw_m3 133 rfl) rfl
theorem q734 : (Jvm.Cond.lays "java/lang/ArrayStoreException" "java/lang/Throwable" "stackTrace" "[Ljava/lang/StackTraceElement;") ∈ lw_all := lw_g (lw_at lw_m3 134 rfl) rfl
theorem q735 : (Jvm.Cond.lays "java/lang/ArrayStoreException" "java/lang/Throwable" "depth" "I") ∈ lw_all := lw_g (lw_at lw_m3 135 rfl) rfl
theorem q736 : (Jvm.Cond.lays "java/lang/ArrayStoreException" "java/lang/Throwable" "suppressedExceptions" "Ljava/util/List;") ∈ lw_all := lw_g (lw_at lw_m3 136 rfl) rfl
theorem q737 : (Jvm.Cond.superclass "java/lang/ArrayStoreException" "java/lang/RuntimeException") ∈ lw_all := lw_g (lw_at lw_m3 137 rfl) rfl
theorem q738 : (Jvm.Cond.castable "java/lang/ArrayStoreException" "java/lang/ArrayStoreException") ∈ lw_tbl := lw_at lw_m3 138 rfl
theorem q739 : (Jvm.Cond.selects "java/lang/ArrayStoreException" ({ cls := "java/lang/Throwable", name := "fillInStackTrace", desc := "(I)Ljava/lang/Throwable;" } : Jvm.MethodName) ({ cls := "java/lang/Throwable", name := "fillInStackTrace", desc := "(I)Ljava/lang/Throwable;" } : Jvm.MethodName)) ∈ lw_all := lw_g (lw_at lw_m3 139 rfl) rfl
theorem q1461 : (Jvm.Cond.selects "java/lang/ArrayStoreException" ({ cls := "java/lang/Object", name := "getClass", desc := "()Ljava/lang/Class;" } : Jvm.MethodName) ({ cls := "java/lang/Object", name := "getClass", desc := "()Ljava/lang/Class;" } : Jvm.MethodName)) ∈ lw_all := lw_g (lw_at lw_m6 141 rfl) rfl
theorem q1896 : (Jvm.Cond.selects "java/lang/ArrayStoreException" ({ cls := "java/lang/Throwable", name := "toString", desc := "()Ljava/lang/String;" } : Jvm.MethodName) ({ cls := "java/lang/Throwable", name := "toString", desc := "()Ljava/lang/String;" } : Jvm.MethodName)) ∈ lw_all := lw_g (lw_at lw_m8 96 rfl) rfl
theorem q1911 : (Jvm.Cond.selects "java/lang/ArrayStoreException" ({ cls := "java/lang/Throwable", name := "getLocalizedMessage", desc := "()Ljava/lang/String;" } : Jvm.MethodName) ({ cls := "java/lang/Throwable", name := "getLocalizedMessage", desc := "()Ljava/lang/String;" } : Jvm.MethodName)) ∈ lw_all := lw_g (lw_at lw_m8 111 rfl) rfl
theorem q1925 : (Jvm.Cond.selects "java/lang/ArrayStoreException" ({ cls := "java/lang/Throwable", name := "getMessage", desc := "()Ljava/lang/String;" } : Jvm.MethodName) ({ cls := "java/lang/Throwable", name := "getMessage", desc := "()Ljava/lang/String;" } : Jvm.MethodName)) ∈ lw_all := lw_g (lw_at lw_m8 125 rfl) rfl
theorem q3643 : (Jvm.Cond.castable "java/lang/ArrayStoreException" "java/lang/Object") ∈ lw_tbl := lw_at lw_m15 163 rfl
theorem in_J16 : ∀ w ∈ wsJ160, w ∈ lw_all := lw_in wsJ160 [731, 732, 733, 734, 735, 736] (by decide +kernel) (by decide +kernel)

/-! java/util/Objects -/
set_option maxRecDepth 100000
def RJ17 : String := "java/util/Objects"
abbrev cJ17_checkIndex : ByteArray := prog_72_method_17_code
def yJ17_checkIndex : MethodName := ⟨RJ17, "checkIndex", "(II)I"⟩
def dkwJ17_checkIndex_0 : List UInt8 := [26, 27, 1, 184, 0, 105, 172]
abbrev dktJ17_checkIndex_0 : List UInt8 := dkwJ17_checkIndex_0 ++ []
theorem dksJ17_checkIndex_0 : cJ17_checkIndex.data.toList.drop 0 = dktJ17_checkIndex_0 := by decide +kernel
theorem dJ17_checkIndex_0 : decode cJ17_checkIndex 0 = .ok (.iload_n 0, 1) := dk_26 (dk_at dksJ17_checkIndex_0 0 rfl rfl)
theorem dJ17_checkIndex_1 : decode cJ17_checkIndex 1 = .ok (.iload_n 1, 1) := dk_27 (dk_at dksJ17_checkIndex_0 1 rfl rfl)
theorem dJ17_checkIndex_2 : decode cJ17_checkIndex 2 = .ok (.aconst_null, 1) := dk_1 (dk_at dksJ17_checkIndex_0 2 rfl rfl)
theorem dJ17_checkIndex_3 : decode cJ17_checkIndex 3 = .ok (.invokestatic 105, 3) := dk_184 0 105 (dk_at dksJ17_checkIndex_0 3 rfl rfl)
theorem dJ17_checkIndex_6 : decode cJ17_checkIndex 6 = .ok (.ireturn, 1) := dk_172 (dk_at dksJ17_checkIndex_0 6 rfl rfl)
theorem q153 : (Jvm.Cond.initialized "java/util/Objects") ∈ lw_all := lw_g (lw_at lw_m1 33 rfl) rfl
theorem q823 : (Jvm.Cond.static ({ cls := "java/util/Objects", name := "checkIndex", desc := "(II)I" } : Jvm.MethodName)) ∈ lw_all := lw_g (lw_at lw_m3 223 rfl) rfl
theorem q824 : (Jvm.Cond.code ({ cls := "java/util/Objects", name := "checkIndex", desc := "(II)I" } : Jvm.MethodName) prog_72_method_17_code (2 : Nat) (Option.some Jvm.ClassFile.FieldType.int)) ∈ lw_all := lw_g (lw_at lw_m3 224 rfl) rfl
theorem q825 : (Jvm.Cond.methodLink "java/util/Objects" (105 : Nat) ({ cls := "jdk/internal/util/Preconditions", name := "checkIndex", desc := "(IILjava/util/function/BiFunction;)I" } : Jvm.MethodName)) ∈ lw_all := lw_g (lw_at lw_m3 225 rfl) rfl

/-! jdk/internal/util/Preconditions -/
set_option maxRecDepth 100000
def RJ18 : String := "jdk/internal/util/Preconditions"
abbrev cJ18_checkIndex : ByteArray := prog_78_method_11_code
def yJ18_checkIndex : MethodName := ⟨RJ18, "checkIndex", "(IILjava/util/function/BiFunction;)I"⟩
def dkwJ18_checkIndex_0 : List UInt8 := [26, 155, 0, 8, 26, 27, 161, 0, 10, 44, 26, 27, 184, 0, 95, 191, 26, 172]
abbrev dktJ18_checkIndex_0 : List UInt8 := dkwJ18_checkIndex_0 ++ []
theorem dksJ18_checkIndex_0 : cJ18_checkIndex.data.toList.drop 0 = dktJ18_checkIndex_0 := by decide +kernel
theorem dJ18_checkIndex_0 : decode cJ18_checkIndex 0 = .ok (.iload_n 0, 1) := dk_26 (dk_at dksJ18_checkIndex_0 0 rfl rfl)
theorem dJ18_checkIndex_1 : decode cJ18_checkIndex 1 = .ok (.ifCond .lt 8, 3) := dk_155 0 8 (dk_at dksJ18_checkIndex_0 1 rfl rfl)
theorem dJ18_checkIndex_4 : decode cJ18_checkIndex 4 = .ok (.iload_n 0, 1) := dk_26 (dk_at dksJ18_checkIndex_0 4 rfl rfl)
theorem dJ18_checkIndex_5 : decode cJ18_checkIndex 5 = .ok (.iload_n 1, 1) := dk_27 (dk_at dksJ18_checkIndex_0 5 rfl rfl)
theorem dJ18_checkIndex_6 : decode cJ18_checkIndex 6 = .ok (.if_icmp .lt 10, 3) := dk_161 0 10 (dk_at dksJ18_checkIndex_0 6 rfl rfl)
theorem dJ18_checkIndex_9 : decode cJ18_checkIndex 9 = .ok (.aload_n 2, 1) := dk_44 (dk_at dksJ18_checkIndex_0 9 rfl rfl)
theorem dJ18_checkIndex_10 : decode cJ18_checkIndex 10 = .ok (.iload_n 0, 1) := dk_26 (dk_at dksJ18_checkIndex_0 10 rfl rfl)
theorem dJ18_checkIndex_11 : decode cJ18_checkIndex 11 = .ok (.iload_n 1, 1) := dk_27 (dk_at dksJ18_checkIndex_0 11 rfl rfl)
theorem dJ18_checkIndex_12 : decode cJ18_checkIndex 12 = .ok (.invokestatic 95, 3) := dk_184 0 95 (dk_at dksJ18_checkIndex_0 12 rfl rfl)
theorem dJ18_checkIndex_15 : decode cJ18_checkIndex 15 = .ok (.athrow, 1) := dk_191 (dk_at dksJ18_checkIndex_0 15 rfl rfl)
theorem dJ18_checkIndex_16 : decode cJ18_checkIndex 16 = .ok (.iload_n 0, 1) := dk_26 (dk_at dksJ18_checkIndex_0 16 rfl rfl)
theorem dJ18_checkIndex_17 : decode cJ18_checkIndex 17 = .ok (.ireturn, 1) := dk_172 (dk_at dksJ18_checkIndex_0 17 rfl rfl)
abbrev cJ18_checkFromToIndex : ByteArray := prog_78_method_12_code
def yJ18_checkFromToIndex : MethodName := ⟨RJ18, "checkFromToIndex", "(IIILjava/util/function/BiFunction;)I"⟩
def dkwJ18_checkFromToIndex_0 : List UInt8 := [26, 155, 0, 13, 26, 27, 163, 0, 8, 27, 28, 164, 0, 11, 45, 26, 27, 28, 184, 0, 99, 191, 26, 172]
abbrev dktJ18_checkFromToIndex_0 : List UInt8 := dkwJ18_checkFromToIndex_0 ++ []
theorem dksJ18_checkFromToIndex_0 : cJ18_checkFromToIndex.data.toList.drop 0 = dktJ18_checkFromToIndex_0 := by decide +kernel
theorem dJ18_checkFromToIndex_0 : decode cJ18_checkFromToIndex 0 = .ok (.iload_n 0, 1) := dk_26 (dk_at dksJ18_checkFromToIndex_0 0 rfl rfl)
theorem dJ18_checkFromToIndex_1 : decode cJ18_checkFromToIndex 1 = .ok (.ifCond .lt 13, 3) := dk_155 0 13 (dk_at dksJ18_checkFromToIndex_0 1 rfl rfl)
theorem dJ18_checkFromToIndex_4 : decode cJ18_checkFromToIndex 4 = .ok (.iload_n 0, 1) := dk_26 (dk_at dksJ18_checkFromToIndex_0 4 rfl rfl)
theorem dJ18_checkFromToIndex_5 : decode cJ18_checkFromToIndex 5 = .ok (.iload_n 1, 1) := dk_27 (dk_at dksJ18_checkFromToIndex_0 5 rfl rfl)
theorem dJ18_checkFromToIndex_6 : decode cJ18_checkFromToIndex 6 = .ok (.if_icmp .gt 8, 3) := dk_163 0 8 (dk_at dksJ18_checkFromToIndex_0 6 rfl rfl)
theorem dJ18_checkFromToIndex_9 : decode cJ18_checkFromToIndex 9 = .ok (.iload_n 1, 1) := dk_27 (dk_at dksJ18_checkFromToIndex_0 9 rfl rfl)
theorem dJ18_checkFromToIndex_10 : decode cJ18_checkFromToIndex 10 = .ok (.iload_n 2, 1) := dk_28 (dk_at dksJ18_checkFromToIndex_0 10 rfl rfl)
theorem dJ18_checkFromToIndex_11 : decode cJ18_checkFromToIndex 11 = .ok (.if_icmp .le 11, 3) := dk_164 0 11 (dk_at dksJ18_checkFromToIndex_0 11 rfl rfl)
theorem dJ18_checkFromToIndex_14 : decode cJ18_checkFromToIndex 14 = .ok (.aload_n 3, 1) := dk_45 (dk_at dksJ18_checkFromToIndex_0 14 rfl rfl)
theorem dJ18_checkFromToIndex_15 : decode cJ18_checkFromToIndex 15 = .ok (.iload_n 0, 1) := dk_26 (dk_at dksJ18_checkFromToIndex_0 15 rfl rfl)
theorem dJ18_checkFromToIndex_16 : decode cJ18_checkFromToIndex 16 = .ok (.iload_n 1, 1) := dk_27 (dk_at dksJ18_checkFromToIndex_0 16 rfl rfl)
theorem dJ18_checkFromToIndex_17 : decode cJ18_checkFromToIndex 17 = .ok (.iload_n 2, 1) := dk_28 (dk_at dksJ18_checkFromToIndex_0 17 rfl rfl)
theorem dJ18_checkFromToIndex_18 : decode cJ18_checkFromToIndex 18 = .ok (.invokestatic 99, 3) := dk_184 0 99 (dk_at dksJ18_checkFromToIndex_0 18 rfl rfl)
theorem dJ18_checkFromToIndex_21 : decode cJ18_checkFromToIndex 21 = .ok (.athrow, 1) := dk_191 (dk_at dksJ18_checkFromToIndex_0 21 rfl rfl)
theorem dJ18_checkFromToIndex_22 : decode cJ18_checkFromToIndex 22 = .ok (.iload_n 0, 1) := dk_26 (dk_at dksJ18_checkFromToIndex_0 22 rfl rfl)
theorem dJ18_checkFromToIndex_23 : decode cJ18_checkFromToIndex 23 = .ok (.ireturn, 1) := dk_172 (dk_at dksJ18_checkFromToIndex_0 23 rfl rfl)
abbrev cJ18_checkFromIndexSize : ByteArray := prog_78_method_13_code
def yJ18_checkFromIndexSize : MethodName := ⟨RJ18, "checkFromIndexSize", "(IIILjava/util/function/BiFunction;)I"⟩
def dkwJ18_checkFromIndexSize_1 : List UInt8 := [172]
abbrev dktJ18_checkFromIndexSize_1 : List UInt8 := dkwJ18_checkFromIndexSize_1 ++ []
def dkwJ18_checkFromIndexSize_0 : List UInt8 := [28, 26, 128, 27, 128, 155, 0, 10, 27, 28, 26, 100, 164, 0, 11, 45, 26, 27, 28, 184, 0, 103, 191, 26]
abbrev dktJ18_checkFromIndexSize_0 : List UInt8 := dkwJ18_checkFromIndexSize_0 ++ dktJ18_checkFromIndexSize_1
theorem dksJ18_checkFromIndexSize_0 : cJ18_checkFromIndexSize.data.toList.drop 0 = dktJ18_checkFromIndexSize_0 := by decide +kernel
theorem dksJ18_checkFromIndexSize_1 : cJ18_checkFromIndexSize.data.toList.drop 24 = dktJ18_checkFromIndexSize_1 := dk_seg dksJ18_checkFromIndexSize_0 24 rfl rfl
theorem dJ18_checkFromIndexSize_0 : decode cJ18_checkFromIndexSize 0 = .ok (.iload_n 2, 1) := dk_28 (dk_at dksJ18_checkFromIndexSize_0 0 rfl rfl)
theorem dJ18_checkFromIndexSize_1 : decode cJ18_checkFromIndexSize 1 = .ok (.iload_n 0, 1) := dk_26 (dk_at dksJ18_checkFromIndexSize_0 1 rfl rfl)
theorem dJ18_checkFromIndexSize_2 : decode cJ18_checkFromIndexSize 2 = .ok (.ior, 1) := dk_128 (dk_at dksJ18_checkFromIndexSize_0 2 rfl rfl)
theorem dJ18_checkFromIndexSize_3 : decode cJ18_checkFromIndexSize 3 = .ok (.iload_n 1, 1) := dk_27 (dk_at dksJ18_checkFromIndexSize_0 3 rfl rfl)
theorem dJ18_checkFromIndexSize_4 : decode cJ18_checkFromIndexSize 4 = .ok (.ior, 1) := dk_128 (dk_at dksJ18_checkFromIndexSize_0 4 rfl rfl)
theorem dJ18_checkFromIndexSize_5 : decode cJ18_checkFromIndexSize 5 = .ok (.ifCond .lt 10, 3) := dk_155 0 10 (dk_at dksJ18_checkFromIndexSize_0 5 rfl rfl)
theorem dJ18_checkFromIndexSize_8 : decode cJ18_checkFromIndexSize 8 = .ok (.iload_n 1, 1) := dk_27 (dk_at dksJ18_checkFromIndexSize_0 8 rfl rfl)
theorem dJ18_checkFromIndexSize_9 : decode cJ18_checkFromIndexSize 9 = .ok (.iload_n 2, 1) := dk_28 (dk_at dksJ18_checkFromIndexSize_0 9 rfl rfl)
theorem dJ18_checkFromIndexSize_10 : decode cJ18_checkFromIndexSize 10 = .ok (.iload_n 0, 1) := dk_26 (dk_at dksJ18_checkFromIndexSize_0 10 rfl rfl)
theorem dJ18_checkFromIndexSize_11 : decode cJ18_checkFromIndexSize 11 = .ok (.isub, 1) := dk_100 (dk_at dksJ18_checkFromIndexSize_0 11 rfl rfl)
theorem dJ18_checkFromIndexSize_12 : decode cJ18_checkFromIndexSize 12 = .ok (.if_icmp .le 11, 3) := dk_164 0 11 (dk_at dksJ18_checkFromIndexSize_0 12 rfl rfl)
theorem dJ18_checkFromIndexSize_15 : decode cJ18_checkFromIndexSize 15 = .ok (.aload_n 3, 1) := dk_45 (dk_at dksJ18_checkFromIndexSize_0 15 rfl rfl)
theorem dJ18_checkFromIndexSize_16 : decode cJ18_checkFromIndexSize 16 = .ok (.iload_n 0, 1) := dk_26 (dk_at dksJ18_checkFromIndexSize_0 16 rfl rfl)
theorem dJ18_checkFromIndexSize_17 : decode cJ18_checkFromIndexSize 17 = .ok (.iload_n 1, 1) := dk_27 (dk_at dksJ18_checkFromIndexSize_0 17 rfl rfl)
theorem dJ18_checkFromIndexSize_18 : decode cJ18_checkFromIndexSize 18 = .ok (.iload_n 2, 1) := dk_28 (dk_at dksJ18_checkFromIndexSize_0 18 rfl rfl)
theorem dJ18_checkFromIndexSize_19 : decode cJ18_checkFromIndexSize 19 = .ok (.invokestatic 103, 3) := dk_184 0 103 (dk_at dksJ18_checkFromIndexSize_0 19 rfl rfl)
theorem dJ18_checkFromIndexSize_22 : decode cJ18_checkFromIndexSize 22 = .ok (.athrow, 1) := dk_191 (dk_at dksJ18_checkFromIndexSize_0 22 rfl rfl)
theorem dJ18_checkFromIndexSize_23 : decode cJ18_checkFromIndexSize 23 = .ok (.iload_n 0, 1) := dk_26 (dk_at dksJ18_checkFromIndexSize_0 23 rfl rfl)
theorem dJ18_checkFromIndexSize_24 : decode cJ18_checkFromIndexSize 24 = .ok (.ireturn, 1) := dk_172 (dk_at dksJ18_checkFromIndexSize_1 0 rfl rfl)
theorem q154 : (Jvm.Cond.initialized "jdk/internal/util/Preconditions") ∈ lw_all := lw_g (lw_at lw_m1 34 rfl) rfl
theorem q826 : (Jvm.Cond.static ({ cls := "jdk/internal/util/Preconditions", name := "checkIndex", desc := "(IILjava/util/function/BiFunction;)I" } : Jvm.MethodName)) ∈ lw_all := lw_g (lw_at lw_m3 226 rfl) rfl
theorem q827 : (Jvm.Cond.code ({ cls := "jdk/internal/util/Preconditions", name := "checkIndex", desc := "(IILjava/util/function/BiFunction;)I" } : Jvm.MethodName) prog_78_method_11_code (3 : Nat) (Option.some Jvm.ClassFile.FieldType.int)) ∈ lw_all := lw_g (lw_at lw_m3 227 rfl) rfl
theorem q906 : (Jvm.Cond.laysStatic "jdk/internal/util/Preconditions" "SIOOBE_FORMATTER" "Ljava/util/function/BiFunction;") ∈ lw_tbl := lw_at lw_m4 66 rfl
theorem q1073 : (Jvm.Cond.static ({ cls := "jdk/internal/util/Preconditions", name := "checkFromToIndex", desc := "(IIILjava/util/function/BiFunction;)I" } : Jvm.MethodName)) ∈ lw_all := lw_g (lw_at lw_m4 233 rfl) rfl
theorem q1074 : (Jvm.Cond.code ({ cls := "jdk/internal/util/Preconditions", name := "checkFromToIndex", desc := "(IIILjava/util/function/BiFunction;)I" } : Jvm.MethodName) prog_78_method_12_code (4 : Nat) (Option.some Jvm.ClassFile.FieldType.int)) ∈ lw_all := lw_g (lw_at lw_m4 234 rfl) rfl
theorem q1105 : (Jvm.Cond.static ({ cls := "jdk/internal/util/Preconditions", name := "checkFromIndexSize", desc := "(IIILjava/util/function/BiFunction;)I" } : Jvm.MethodName)) ∈ lw_all := lw_g (lw_at lw_m5 25 rfl) rfl
theorem q1106 : (Jvm.Cond.code ({ cls := "jdk/internal/util/Preconditions", name := "checkFromIndexSize", desc := "(IIILjava/util/function/BiFunction;)I" } : Jvm.MethodName) prog_78_method_13_code (4 : Nat) (Option.some Jvm.ClassFile.FieldType.int)) ∈ lw_all := lw_g (lw_at lw_m5 26 rfl) rfl
theorem q2906 : (Jvm.Cond.laysStatic "jdk/internal/util/Preconditions" "IOOBE_FORMATTER" "Ljava/util/function/BiFunction;") ∈ lw_tbl := lw_at lw_m12 146 rfl

/-! java/lang/ClassCastException -/
set_option maxRecDepth 100000
def RJ19 : String := "java/lang/ClassCastException"
def TJ19 : u_T := fun k => match k with
  | 0 => ("java/lang/Throwable", "backtrace", "Ljava/lang/Object;", false)
  | 1 => ("java/lang/Throwable", "detailMessage", "Ljava/lang/String;", false)
  | 2 => ("java/lang/Throwable", "cause", "Ljava/lang/Throwable;", false)
  | 3 => ("java/lang/Throwable", "stackTrace", "[Ljava/lang/StackTraceElement;", false)
  | 4 => ("java/lang/Throwable", "depth", "I", false)
  | _ => ("java/lang/Throwable", "suppressedExceptions", "Ljava/util/List;", false)
def tyJ19 : Nat → FieldType := fun k => match k with
  | 0 => .object "java/lang/Object"
  | 1 => .object "java/lang/String"
  | 2 => .object "java/lang/Throwable"
  | 3 => .array (.object "java/lang/StackTraceElement")
  | 4 => .int
  | _ => .object "java/util/List"
abbrev wsJ190 : List Cond := u_ws RJ19 TJ19 6
theorem nmJ19 : ∀ a, a < 6 → ∀ b, b < 6 → a ≠ b → (TJ19 a).2.1 ≠ (TJ19 b).2.1 := by decide +kernel
theorem tyJ19_ok : ∀ k, k < 6 → parseFieldDescriptor (TJ19 k).2.2.1 = some (tyJ19 k) := by decide +kernel
abbrev cJ19_init : ByteArray := prog_31_method_2_code
def yJ19_init : MethodName := ⟨RJ19, "<init>", "(Ljava/lang/String;)V"⟩
def dkwJ19_init_0 : List UInt8 := [42, 43, 183, 0, 7, 177]
abbrev dktJ19_init_0 : List UInt8 := dkwJ19_init_0 ++ []
theorem dksJ19_init_0 : cJ19_init.data.toList.drop 0 = dktJ19_init_0 := by decide +kernel
theorem dJ19_init_0 : decode cJ19_init 0 = .ok (.aload_n 0, 1) := dk_42 (dk_at dksJ19_init_0 0 rfl rfl)
theorem dJ19_init_1 : decode cJ19_init 1 = .ok (.aload_n 1, 1) := dk_43 (dk_at dksJ19_init_0 1 rfl rfl)
theorem dJ19_init_2 : decode cJ19_init 2 = .ok (.invokespecial 7, 3) := dk_183 0 7 (dk_at dksJ19_init_0 2 rfl rfl)
theorem dJ19_init_5 : decode cJ19_init 5 = .ok (.return_, 1) := dk_177 (dk_at dksJ19_init_0 5 rfl rfl)
theorem q155 : (Jvm.Cond.initialized "java/lang/ClassCastException") ∈ lw_all := lw_g (lw_at lw_m1 35 rfl) rfl
theorem q253 : (Jvm.Cond.selects "java/lang/ClassCastException" ({ cls := "java/lang/Throwable", name := "fillInStackTrace", desc := "()Ljava/lang/Throwable;" } : Jvm.MethodName) ({ cls := "java/lang/Throwable", name := "fillInStackTrace", desc := "()Ljava/lang/Throwable;" } : Jvm.MethodName)) ∈ lw_all := lw_g (lw_at lw_m1 133 rfl) rfl
theorem q846 : (Jvm.Cond.instantiable "java/lang/ClassCastException" (6 : Nat)) ∈ lw_all := lw_g (lw_at lw_m4 6 rfl) rfl
theorem q847 : (Jvm.Cond.instanceMethod ({ cls := "java/lang/ClassCastException", name := "<init>", desc := "(Ljava/lang/String;)V" } : Jvm.MethodName)) ∈ lw_all := lw_g (lw_at lw_m4 7 rfl) rfl
theorem q848 : (Jvm.Cond.code ({ cls := "java/lang/ClassCastException", name := "<init>", desc := "(Ljava/lang/String;)V" } : Jvm.MethodName) prog_31_method_2_code (2 : Nat) (Option.none : Option Jvm.ClassFile.FieldType)) ∈ lw_all := lw_g (lw_at lw_m4 8 rfl) rfl
theorem q849 : (Jvm.Cond.methodLink "java/lang/ClassCastException" (7 : Nat) ({ cls := "java/lang/RuntimeException", name := "<init>", desc := "(Ljava/lang/String;)V" } : Jvm.MethodName)) ∈ lw_all := lw_g (lw_at lw_m4 9 rfl) rfl
theorem q850 : (Jvm.Cond.lays "java/lang/ClassCastException" "java/lang/Throwable" "backtrace" "Ljava/lang/Object;") ∈ lw_all := lw_g (lw_at lw_m4 10 rfl) rfl
theorem q851 : (Jvm.Cond.lays "java/lang/ClassCastException" "java/lang/Throwable" "detailMessage" "Ljava/lang/String;") ∈ lw_all := lw_g (lw_at lw_m4 11 rfl) rfl
theorem q852 : (Jvm.Cond.lays "java/lang/ClassCastException" "java/lang/Throwable" "cause" "Ljava/lang/Throwable;") ∈ lw_all := lw_g (lw_at lw_m4 12 rfl) rfl
theorem q853 : (Jvm.Cond.lays "java/lang/ClassCastException" "java/lang/Throwable" "stackTrace" "[Ljava/lang/StackTraceElement;") ∈ lw_all := lw_g (lw_at lw_m4 13 rfl) rfl
theorem q854 : (Jvm.Cond.lays "java/lang/ClassCastException" "java/lang/Throwable" "depth" "I") ∈ lw_all := lw_g (lw_at lw_m4 14 rfl) rfl
theorem q855 : (Jvm.Cond.lays "java/lang/ClassCastException" "java/lang/Throwable" "suppressedExceptions" "Ljava/util/List;") ∈ lw_all := lw_g (lw_at lw_m4 15 rfl) rfl
theorem q856 : (Jvm.Cond.superclass "java/lang/ClassCastException" "java/lang/RuntimeException") ∈ lw_all := lw_g (lw_at lw_m4 16 rfl) rfl
theorem q857 : (Jvm.Cond.castable "java/lang/ClassCastException" "java/lang/ClassCastException") ∈ lw_tbl := lw_at lw_m4 17 rfl
theorem q858 : (Jvm.Cond.selects "java/lang/ClassCastException" ({ cls := "java/lang/Throwable", name := "fillInStackTrace", desc := "(I)Ljava/lang/Throwable;" } : Jvm.MethodName) ({ cls := "java/lang/Throwable", name := "fillInStackTrace", desc := "(I)Ljava/lang/Throwable;" } : Jvm.MethodName)) ∈ lw_all := lw_g (lw_at lw_m4 18 rfl) rfl
theorem q1462 : (Jvm.Cond.selects "java/lang/ClassCastException" ({ cls := "java/lang/Object", name := "getClass", desc := "()Ljava/lang/Class;" } : Jvm.MethodName) ({ cls := "java/lang/Object", name := "getClass", desc := "()Ljava/lang/Class;" } : Jvm.MethodName)) ∈ lw_all := lw_g (lw_at lw_m6 142 rfl) rfl
theorem q1897 : (Jvm.Cond.selects "java/lang/ClassCastException" ({ cls := "java/lang/Throwable", name := "toString", desc := "()Ljava/lang/String;" } : Jvm.MethodName) ({ cls := "java/lang/Throwable", name := "toString", desc := "()Ljava/lang/String;" } : Jvm.MethodName)) ∈ lw_all := lw_g (lw_at lw_m8 97 rfl) rfl
theorem q1912 : (Jvm.Cond.selects "java/lang/ClassCastException" ({ cls := "java/lang/Throwable", name := "getLocalizedMessage", desc := "()Ljava/lang/String;" } : Jvm.MethodName) ({ cls := "java/lang/Throwable", name := "getLocalizedMessage", desc := "()Ljava/lang/String;" } : Jvm.MethodName)) ∈ lw_all := lw_g (lw_at lw_m8 112 rfl) rfl
theorem q1926 : (Jvm.Cond.selects "java/lang/ClassCastException" ({ cls := "java/lang/Throwable", name := "getMessage", desc := "()Ljava/lang/String;" } : Jvm.MethodName) ({ cls := "java/lang/Throwable", name := "getMessage", desc := "()Ljava/lang/String;" } : Jvm.MethodName)) ∈ lw_all := lw_g (lw_at lw_m8 126 rfl) rfl
theorem q3644 : (Jvm.Cond.castable "java/lang/ClassCastException" "java/lang/Object") ∈ lw_tbl := lw_at lw_m15 164 rfl
theorem in_J19 : ∀ w ∈ wsJ190, w ∈ lw_all := lw_in wsJ190 [850, 851, 852, 853, 854, 855] (by decide +kernel) (by decide +kernel)

/-! java/lang/StringLatin1 -/
set_option maxRecDepth 100000
def RJ20 : String := "java/lang/StringLatin1"
abbrev cJ20_charAt : ByteArray := prog_46_method_2_code
def yJ20_charAt : MethodName := ⟨RJ20, "charAt", "([BI)C"⟩
def dkwJ20_charAt_0 : List UInt8 := [27, 42, 190, 184, 0, 9, 42, 27, 51, 17, 0, 255, 126, 146, 172]
abbrev dktJ20_charAt_0 : List UInt8 := dkwJ20_charAt_0 ++ []
theorem dksJ20_charAt_0 : cJ20_charAt.data.toList.drop 0 = dktJ20_charAt_0 := by decide +kernel
theorem dJ20_charAt_0 : decode cJ20_charAt 0 = .ok (.iload_n 1, 1) := dk_27 (dk_at dksJ20_charAt_0 0 rfl rfl)
theorem dJ20_charAt_1 : decode cJ20_charAt 1 = .ok (.aload_n 0, 1) := dk_42 (dk_at dksJ20_charAt_0 1 rfl rfl)
theorem dJ20_charAt_2 : decode cJ20_charAt 2 = .ok (.arraylength, 1) := dk_190 (dk_at dksJ20_charAt_0 2 rfl rfl)
theorem dJ20_charAt_3 : decode cJ20_charAt 3 = .ok (.invokestatic 9, 3) := dk_184 0 9 (dk_at dksJ20_charAt_0 3 rfl rfl)
theorem dJ20_charAt_6 : decode cJ20_charAt 6 = .ok (.aload_n 0, 1) := dk_42 (dk_at dksJ20_charAt_0 6 rfl rfl)
theorem dJ20_charAt_7 : decode cJ20_charAt 7 = .ok (.iload_n 1, 1) := dk_27 (dk_at dksJ20_charAt_0 7 rfl rfl)
theorem dJ20_charAt_8 : decode cJ20_charAt 8 = .ok (.baload, 1) := dk_51 (dk_at dksJ20_charAt_0 8 rfl rfl)
theorem dJ20_charAt_9 : decode cJ20_charAt 9 = .ok (.sipush 255, 3) := dk_17 0 255 (dk_at dksJ20_charAt_0 9 rfl rfl)
theorem dJ20_charAt_12 : decode cJ20_charAt 12 = .ok (.iand, 1) := dk_126 (dk_at dksJ20_charAt_0 12 rfl rfl)
theorem dJ20_charAt_13 : decode cJ20_charAt 13 = .ok (.i2c, 1) := dk_146 (dk_at dksJ20_charAt_0 13 rfl rfl)
theorem dJ20_charAt_14 : decode cJ20_charAt 14 = .ok (.ireturn, 1) := dk_172 (dk_at dksJ20_charAt_0 14 rfl rfl)
abbrev cJ20_inflate : ByteArray := prog_46_method_50_code
def yJ20_inflate : MethodName := ⟨RJ20, "inflate", "([BI[BII)V"⟩
def dkwJ20_inflate_0 : List UInt8 := [42, 27, 44, 29, 21, 4, 184, 0, 240, 177]
abbrev dktJ20_inflate_0 : List UInt8 := dkwJ20_inflate_0 ++ []
theorem dksJ20_inflate_0 : cJ20_inflate.data.toList.drop 0 = dktJ20_inflate_0 := by decide +kernel
theorem dJ20_inflate_0 : decode cJ20_inflate 0 = .ok (.aload_n 0, 1) := dk_42 (dk_at dksJ20_inflate_0 0 rfl rfl)
theorem dJ20_inflate_1 : decode cJ20_inflate 1 = .ok (.iload_n 1, 1) := dk_27 (dk_at dksJ20_inflate_0 1 rfl rfl)
theorem dJ20_inflate_2 : decode cJ20_inflate 2 = .ok (.aload_n 2, 1) := dk_44 (dk_at dksJ20_inflate_0 2 rfl rfl)
theorem dJ20_inflate_3 : decode cJ20_inflate 3 = .ok (.iload_n 3, 1) := dk_29 (dk_at dksJ20_inflate_0 3 rfl rfl)
theorem dJ20_inflate_4 : decode cJ20_inflate 4 = .ok (.iload 4, 2) := dk_21 4 (dk_at dksJ20_inflate_0 4 rfl rfl)
theorem dJ20_inflate_6 : decode cJ20_inflate 6 = .ok (.invokestatic 240, 3) := dk_184 0 240 (dk_at dksJ20_inflate_0 6 rfl rfl)
theorem dJ20_inflate_9 : decode cJ20_inflate 9 = .ok (.return_, 1) := dk_177 (dk_at dksJ20_inflate_0 9 rfl rfl)
abbrev cJ20_canEncode : ByteArray := prog_46_method_3_code
def yJ20_canEncode : MethodName := ⟨RJ20, "canEncode", "(C)Z"⟩
def dkwJ20_canEncode_0 : List UInt8 := [26, 17, 0, 255, 163, 0, 7, 4, 167, 0, 4, 3, 172]
abbrev dktJ20_canEncode_0 : List UInt8 := dkwJ20_canEncode_0 ++ []
theorem dksJ20_canEncode_0 : cJ20_canEncode.data.toList.drop 0 = dktJ20_canEncode_0 := by decide +kernel
theorem dJ20_canEncode_0 : decode cJ20_canEncode 0 = .ok (.iload_n 0, 1) := dk_26 (dk_at dksJ20_canEncode_0 0 rfl rfl)
theorem dJ20_canEncode_1 : decode cJ20_canEncode 1 = .ok (.sipush 255, 3) := dk_17 0 255 (dk_at dksJ20_canEncode_0 1 rfl rfl)
theorem dJ20_canEncode_4 : decode cJ20_canEncode 4 = .ok (.if_icmp .gt 7, 3) := dk_163 0 7 (dk_at dksJ20_canEncode_0 4 rfl rfl)
theorem dJ20_canEncode_7 : decode cJ20_canEncode 7 = .ok (.iconst 1, 1) := dk_4 (dk_at dksJ20_canEncode_0 7 rfl rfl)
theorem dJ20_canEncode_8 : decode cJ20_canEncode 8 = .ok (.goto 4, 3) := dk_167 0 4 (dk_at dksJ20_canEncode_0 8 rfl rfl)
theorem dJ20_canEncode_11 : decode cJ20_canEncode 11 = .ok (.iconst 0, 1) := dk_3 (dk_at dksJ20_canEncode_0 11 rfl rfl)
theorem dJ20_canEncode_12 : decode cJ20_canEncode 12 = .ok (.ireturn, 1) := dk_172 (dk_at dksJ20_canEncode_0 12 rfl rfl)
abbrev cJ20_hashCode : ByteArray := prog_46_method_21_code
def yJ20_hashCode : MethodName := ⟨RJ20, "hashCode", "([B)I"⟩
def dkwJ20_hashCode_2 : List UInt8 := [3, 167, 0, 22, 42, 3, 51, 17, 0, 255, 126, 167, 0, 12, 42, 3, 42, 190, 3, 7, 184, 0, 84, 172]
abbrev dktJ20_hashCode_2 : List UInt8 := dkwJ20_hashCode_2 ++ []
def dkwJ20_hashCode_1 : List UInt8 := [171, 0, 0, 0, 0, 40, 0, 0, 0, 2, 0, 0, 0, 0, 0, 0, 0, 26, 0, 0, 0, 1, 0, 0, 0, 30]
abbrev dktJ20_hashCode_1 : List UInt8 := dkwJ20_hashCode_1 ++ dktJ20_hashCode_2
def dkwJ20_hashCode_0 : List UInt8 := [42, 190]
abbrev dktJ20_hashCode_0 : List UInt8 := dkwJ20_hashCode_0 ++ dktJ20_hashCode_1
theorem dksJ20_hashCode_0 : cJ20_hashCode.data.toList.drop 0 = dktJ20_hashCode_0 := by decide +kernel
theorem dksJ20_hashCode_1 : cJ20_hashCode.data.toList.drop 2 = dktJ20_hashCode_1 := dk_seg dksJ20_hashCode_0 2 rfl rfl
theorem dksJ20_hashCode_2 : cJ20_hashCode.data.toList.drop 28 = dktJ20_hashCode_2 := dk_seg dksJ20_hashCode_1 26 rfl rfl
theorem dJ20_hashCode_0 : decode cJ20_hashCode 0 = .ok (.aload_n 0, 1) := dk_42 (dk_at dksJ20_hashCode_0 0 rfl rfl)
theorem dJ20_hashCode_1 : decode cJ20_hashCode 1 = .ok (.arraylength, 1) := dk_190 (dk_at dksJ20_hashCode_0 1 rfl rfl)
theorem dJ20_hashCode_2 : decode cJ20_hashCode 2 = .ok (.lookupswitch 40 #[(0, 26), (1, 30)], 26) := by decide +kernel
theorem dJ20_hashCode_28 : decode cJ20_hashCode 28 = .ok (.iconst 0, 1) := dk_3 (dk_at dksJ20_hashCode_2 0 rfl rfl)
theorem dJ20_hashCode_29 : decode cJ20_hashCode 29 = .ok (.goto 22, 3) := dk_167 0 22 (dk_at dksJ20_hashCode_2 1 rfl rfl)
theorem dJ20_hashCode_32 : decode cJ20_hashCode 32 = .ok (.aload_n 0, 1) := dk_42 (dk_at dksJ20_hashCode_2 4 rfl rfl)
theorem dJ20_hashCode_33 : decode cJ20_hashCode 33 = .ok (.iconst 0, 1) := dk_3 (dk_at dksJ20_hashCode_2 5 rfl rfl)
theorem dJ20_hashCode_34 : decode cJ20_hashCode 34 = .ok (.baload, 1) := dk_51 (dk_at dksJ20_hashCode_2 6 rfl rfl)
theorem dJ20_hashCode_35 : decode cJ20_hashCode 35 = .ok (.sipush 255, 3) := dk_17 0 255 (dk_at dksJ20_hashCode_2 7 rfl rfl)
theorem dJ20_hashCode_38 : decode cJ20_hashCode 38 = .ok (.iand, 1) := dk_126 (dk_at dksJ20_hashCode_2 10 rfl rfl)
theorem dJ20_hashCode_39 : decode cJ20_hashCode 39 = .ok (.goto 12, 3) := dk_167 0 12 (dk_at dksJ20_hashCode_2 11 rfl rfl)
theorem dJ20_hashCode_42 : decode cJ20_hashCode 42 = .ok (.aload_n 0, 1) := dk_42 (dk_at dksJ20_hashCode_2 14 rfl rfl)
theorem dJ20_hashCode_43 : decode cJ20_hashCode 43 = .ok (.iconst 0, 1) := dk_3 (dk_at dksJ20_hashCode_2 15 rfl rfl)
theorem dJ20_hashCode_44 : decode cJ20_hashCode 44 = .ok (.aload_n 0, 1) := dk_42 (dk_at dksJ20_hashCode_2 16 rfl rfl)
theorem dJ20_hashCode_45 : decode cJ20_hashCode 45 = .ok (.arraylength, 1) := dk_190 (dk_at dksJ20_hashCode_2 17 rfl rfl)
theorem dJ20_hashCode_46 : decode cJ20_hashCode 46 = .ok (.iconst 0, 1) := dk_3 (dk_at dksJ20_hashCode_2 18 rfl rfl)
theorem dJ20_hashCode_47 : decode cJ20_hashCode 47 = .ok (.iconst 4, 1) := dk_7 (dk_at dksJ20_hashCode_2 19 rfl rfl)
theorem dJ20_hashCode_48 : decode cJ20_hashCode 48 = .ok (.invokestatic 84, 3) := dk_184 0 84 (dk_at dksJ20_hashCode_2 20 rfl rfl)
theorem dJ20_hashCode_51 : decode cJ20_hashCode 51 = .ok (.ireturn, 1) := dk_172 (dk_at dksJ20_hashCode_2 23 rfl rfl)
abbrev cJ20_equals : ByteArray := prog_46_method_13_code
def yJ20_equals : MethodName := ⟨RJ20, "equals", "([B[B)Z"⟩
def dkwJ20_equals_1 : List UInt8 := [3, 172, 132, 2, 1, 167, 255, 236, 4, 172, 3, 172]
abbrev dktJ20_equals_1 : List UInt8 := dkwJ20_equals_1 ++ []
def dkwJ20_equals_0 : List UInt8 := [42, 190, 43, 190, 160, 0, 30, 3, 61, 28, 42, 190, 162, 0, 20, 42, 28, 51, 43, 28, 51, 159, 0, 5]
abbrev dktJ20_equals_0 : List UInt8 := dkwJ20_equals_0 ++ dktJ20_equals_1
theorem dksJ20_equals_0 : cJ20_equals.data.toList.drop 0 = dktJ20_equals_0 := by decide +kernel
theorem dksJ20_equals_1 : cJ20_equals.data.toList.drop 24 = dktJ20_equals_1 := dk_seg dksJ20_equals_0 24 rfl rfl
theorem dJ20_equals_0 : decode cJ20_equals 0 = .ok (.aload_n 0, 1) := dk_42 (dk_at dksJ20_equals_0 0 rfl rfl)
theorem dJ20_equals_1 : decode cJ20_equals 1 = .ok (.arraylength, 1) := dk_190 (dk_at dksJ20_equals_0 1 rfl rfl)
theorem dJ20_equals_2 : decode cJ20_equals 2 = .ok (.aload_n 1, 1) := dk_43 (dk_at dksJ20_equals_0 2 rfl rfl)
theorem dJ20_equals_3 : decode cJ20_equals 3 = .ok (.arraylength, 1) := dk_190 (dk_at dksJ20_equals_0 3 rfl rfl)
theorem dJ20_equals_4 : decode cJ20_equals 4 = .ok (.if_icmp .ne 30, 3) := dk_160 0 30 (dk_at dksJ20_equals_0 4 rfl rfl)
theorem dJ20_equals_7 : decode cJ20_equals 7 = .ok (.iconst 0, 1) := dk_3 (dk_at dksJ20_equals_0 7 rfl rfl)
theorem dJ20_equals_8 : decode cJ20_equals 8 = .ok (.istore_n 2, 1) := dk_61 (dk_at dksJ20_equals_0 8 rfl rfl)
theorem dJ20_equals_9 : decode cJ20_equals 9 = .ok (.iload_n 2, 1) := dk_28 (dk_at dksJ20_equals_0 9 rfl rfl)
theorem dJ20_equals_10 : decode cJ20_equals 10 = .ok (.aload_n 0, 1) := dk_42 (dk_at dksJ20_equals_0 10 rfl rfl)
theorem dJ20_equals_11 : decode cJ20_equals 11 = .ok (.arraylength, 1) := dk_190 (dk_at dksJ20_equals_0 11 rfl rfl)
theorem dJ20_equals_12 : decode cJ20_equals 12 = .ok (.if_icmp .ge 20, 3) := dk_162 0 20 (dk_at dksJ20_equals_0 12 rfl rfl)
theorem dJ20_equals_15 : decode cJ20_equals 15 = .ok (.aload_n 0, 1) := dk_42 (dk_at dksJ20_equals_0 15 rfl rfl)
theorem dJ20_equals_16 : decode cJ20_equals 16 = .ok (.iload_n 2, 1) := dk_28 (dk_at dksJ20_equals_0 16 rfl rfl)
theorem dJ20_equals_17 : decode cJ20_equals 17 = .ok (.baload, 1) := dk_51 (dk_at dksJ20_equals_0 17 rfl rfl)
theorem dJ20_equals_18 : decode cJ20_equals 18 = .ok (.aload_n 1, 1) := dk_43 (dk_at dksJ20_equals_0 18 rfl rfl)
theorem dJ20_equals_19 : decode cJ20_equals 19 = .ok (.iload_n 2, 1) := dk_28 (dk_at dksJ20_equals_0 19 rfl rfl)
theorem dJ20_equals_20 : decode cJ20_equals 20 = .ok (.baload, 1) := dk_51 (dk_at dksJ20_equals_0 20 rfl rfl)
theorem dJ20_equals_21 : decode cJ20_equals 21 = .ok (.if_icmp .eq 5, 3) := dk_159 0 5 (dk_at dksJ20_equals_0 21 rfl rfl)
theorem dJ20_equals_24 : decode cJ20_equals 24 = .ok (.iconst 0, 1) := dk_3 (dk_at dksJ20_equals_1 0 rfl rfl)
theorem dJ20_equals_25 : decode cJ20_equals 25 = .ok (.ireturn, 1) := dk_172 (dk_at dksJ20_equals_1 1 rfl rfl)
theorem dJ20_equals_26 : decode cJ20_equals 26 = .ok (.iinc 2 1, 3) := dk_132 2 1 (dk_at dksJ20_equals_1 2 rfl rfl)
theorem dJ20_equals_29 : decode cJ20_equals 29 = .ok (.goto (-20), 3) := dk_167 255 236 (dk_at dksJ20_equals_1 5 rfl rfl)
theorem dJ20_equals_32 : decode cJ20_equals 32 = .ok (.iconst 1, 1) := dk_4 (dk_at dksJ20_equals_1 8 rfl rfl)
theorem dJ20_equals_33 : decode cJ20_equals 33 = .ok (.ireturn, 1) := dk_172 (dk_at dksJ20_equals_1 9 rfl rfl)
theorem dJ20_equals_34 : decode cJ20_equals 34 = .ok (.iconst 0, 1) := dk_3 (dk_at dksJ20_equals_1 10 rfl rfl)
theorem dJ20_equals_35 : decode cJ20_equals 35 = .ok (.ireturn, 1) := dk_172 (dk_at dksJ20_equals_1 11 rfl rfl)
abbrev cJ20_newString : ByteArray := prog_46_method_47_code
def yJ20_newString : MethodName := ⟨RJ20, "newString", "([BII)Ljava/lang/String;"⟩
def dkwJ20_newString_0 : List UInt8 := [28, 154, 0, 6, 18, 151, 176, 187, 0, 1, 89, 42, 27, 27, 28, 96, 184, 0, 232, 3, 183, 0, 112, 176]
abbrev dktJ20_newString_0 : List UInt8 := dkwJ20_newString_0 ++ []
theorem dksJ20_newString_0 : cJ20_newString.data.toList.drop 0 = dktJ20_newString_0 := by decide +kernel
theorem dJ20_newString_0 : decode cJ20_newString 0 = .ok (.iload_n 2, 1) := dk_28 (dk_at dksJ20_newString_0 0 rfl rfl)
theorem dJ20_newString_1 : decode cJ20_newString 1 = .ok (.ifCond .ne 6, 3) := dk_154 0 6 (dk_at dksJ20_newString_0 1 rfl rfl)
theorem dJ20_newString_4 : decode cJ20_newString 4 = .ok (.ldc 151, 2) := dk_18 151 (dk_at dksJ20_newString_0 4 rfl rfl)
theorem dJ20_newString_6 : decode cJ20_newString 6 = .ok (.areturn, 1) := dk_176 (dk_at dksJ20_newString_0 6 rfl rfl)
theorem dJ20_newString_7 : decode cJ20_newString 7 = .ok (.new 1, 3) := dk_187 0 1 (dk_at dksJ20_newString_0 7 rfl rfl)
theorem dJ20_newString_10 : decode cJ20_newString 10 = .ok (.dup, 1) := dk_89 (dk_at dksJ20_newString_0 10 rfl rfl)
theorem dJ20_newString_11 : decode cJ20_newString 11 = .ok (.aload_n 0, 1) := dk_42 (dk_at dksJ20_newString_0 11 rfl rfl)
theorem dJ20_newString_12 : decode cJ20_newString 12 = .ok (.iload_n 1, 1) := dk_27 (dk_at dksJ20_newString_0 12 rfl rfl)
theorem dJ20_newString_13 : decode cJ20_newString 13 = .ok (.iload_n 1, 1) := dk_27 (dk_at dksJ20_newString_0 13 rfl rfl)
theorem dJ20_newString_14 : decode cJ20_newString 14 = .ok (.iload_n 2, 1) := dk_28 (dk_at dksJ20_newString_0 14 rfl rfl)
theorem dJ20_newString_15 : decode cJ20_newString 15 = .ok (.iadd, 1) := dk_96 (dk_at dksJ20_newString_0 15 rfl rfl)
theorem dJ20_newString_16 : decode cJ20_newString 16 = .ok (.invokestatic 232, 3) := dk_184 0 232 (dk_at dksJ20_newString_0 16 rfl rfl)
theorem dJ20_newString_19 : decode cJ20_newString 19 = .ok (.iconst 0, 1) := dk_3 (dk_at dksJ20_newString_0 19 rfl rfl)
theorem dJ20_newString_20 : decode cJ20_newString 20 = .ok (.invokespecial 112, 3) := dk_183 0 112 (dk_at dksJ20_newString_0 20 rfl rfl)
theorem dJ20_newString_23 : decode cJ20_newString 23 = .ok (.areturn, 1) := dk_176 (dk_at dksJ20_newString_0 23 rfl rfl)
abbrev cJ20_fillNull : ByteArray := prog_46_method_48_code
def yJ20_fillNull : MethodName := ⟨RJ20, "fillNull", "([BII)V"⟩
def dkwJ20_fillNull_0 : List UInt8 := [42, 27, 28, 3, 184, 0, 236, 177]
abbrev dktJ20_fillNull_0 : List UInt8 := dkwJ20_fillNull_0 ++ []
theorem dksJ20_fillNull_0 : cJ20_fillNull.data.toList.drop 0 = dktJ20_fillNull_0 := by decide +kernel
theorem dJ20_fillNull_0 : decode cJ20_fillNull 0 = .ok (.aload_n 0, 1) := dk_42 (dk_at dksJ20_fillNull_0 0 rfl rfl)
theorem dJ20_fillNull_1 : decode cJ20_fillNull 1 = .ok (.iload_n 1, 1) := dk_27 (dk_at dksJ20_fillNull_0 1 rfl rfl)
theorem dJ20_fillNull_2 : decode cJ20_fillNull 2 = .ok (.iload_n 2, 1) := dk_28 (dk_at dksJ20_fillNull_0 2 rfl rfl)
theorem dJ20_fillNull_3 : decode cJ20_fillNull 3 = .ok (.iconst 0, 1) := dk_3 (dk_at dksJ20_fillNull_0 3 rfl rfl)
theorem dJ20_fillNull_4 : decode cJ20_fillNull 4 = .ok (.invokestatic 236, 3) := dk_184 0 236 (dk_at dksJ20_fillNull_0 4 rfl rfl)
theorem dJ20_fillNull_7 : decode cJ20_fillNull 7 = .ok (.return_, 1) := dk_177 (dk_at dksJ20_fillNull_0 7 rfl rfl)
theorem q156 : (Jvm.Cond.initialized "java/lang/StringLatin1") ∈ lw_all := lw_g (lw_at lw_m1 36 rfl) rfl
theorem q900 : (Jvm.Cond.static ({ cls := "java/lang/StringLatin1", name := "charAt", desc := "([BI)C" } : Jvm.MethodName)) ∈ lw_all := lw_g (lw_at lw_m4 60 rfl) rfl
theorem q901 : (Jvm.Cond.code ({ cls := "java/lang/StringLatin1", name := "charAt", desc := "([BI)C" } : Jvm.MethodName) prog_46_method_2_code (2 : Nat) (Option.some Jvm.ClassFile.FieldType.char)) ∈ lw_all := lw_g (lw_at lw_m4 61 rfl) rfl
theorem q902 : (Jvm.Cond.methodLink "java/lang/StringLatin1" (9 : Nat) ({ cls := "java/lang/String", name := "checkIndex", desc := "(II)V" } : Jvm.MethodName)) ∈ lw_all := lw_g (lw_at lw_m4 62 rfl) rfl
theorem q1093 : (Jvm.Cond.static ({ cls := "java/lang/StringLatin1", name := "inflate", desc := "([BI[BII)V" } : Jvm.MethodName)) ∈ lw_all := lw_g (lw_at lw_m5 13 rfl) rfl
theorem q1094 : (Jvm.Cond.code ({ cls := "java/lang/StringLatin1", name := "inflate", desc := "([BI[BII)V" } : Jvm.MethodName) prog_46_method_50_code (5 : Nat) (Option.none : Option Jvm.ClassFile.FieldType)) ∈ lw_all := lw_g (lw_at lw_m5 14 rfl) rfl
theorem q1095 : (Jvm.Cond.methodLink "java/lang/StringLatin1" (240 : Nat) ({ cls := "java/lang/StringUTF16", name := "inflate", desc := "([BI[BII)V" } : Jvm.MethodName)) ∈ lw_all := lw_g (lw_at lw_m5 15 rfl) rfl
theorem q1121 : (Jvm.Cond.static ({ cls := "java/lang/StringLatin1", name := "canEncode", desc := "(C)Z" } : Jvm.MethodName)) ∈ lw_all := lw_g (lw_at lw_m5 41 rfl) rfl
theorem q1122 : (Jvm.Cond.code ({ cls := "java/lang/StringLatin1", name := "canEncode", desc := "(C)Z" } : Jvm.MethodName) prog_46_method_3_code (1 : Nat) (Option.some Jvm.ClassFile.FieldType.boolean)) ∈ lw_all := lw_g (lw_at lw_m5 42 rfl) rfl
theorem q1186 : (Jvm.Cond.static ({ cls := "java/lang/StringLatin1", name := "hashCode", desc := "([B)I" } : Jvm.MethodName)) ∈ lw_all := lw_g (lw_at lw_m5 106 rfl) rfl
theorem q1187 : (Jvm.Cond.code ({ cls := "java/lang/StringLatin1", name := "hashCode", desc := "([B)I" } : Jvm.MethodName) prog_46_method_21_code (1 : Nat) (Option.some Jvm.ClassFile.FieldType.int)) ∈ lw_all := lw_g (lw_at lw_m5 107 rfl) rfl
theorem q1188 : (Jvm.Cond.methodLink "java/lang/StringLatin1" (84 : Nat) ({ cls := "jdk/internal/util/ArraysSupport", name := "vectorizedHashCode", desc := "(Ljava/lang/Object;IIII)I" } : Jvm.MethodName)) ∈ lw_all := lw_g (lw_at lw_m5 108 rfl) rfl
theorem q1237 : (Jvm.Cond.static ({ cls := "java/lang/StringLatin1", name := "equals", desc := "([B[B)Z" } : Jvm.MethodName)) ∈ lw_all := lw_g (lw_at lw_m5 157 rfl) rfl
theorem q1238 : (Jvm.Cond.code ({ cls := "java/lang/StringLatin1", name := "equals", desc := "([B[B)Z" } : Jvm.MethodName) prog_46_method_13_code (3 : Nat) (Option.some Jvm.ClassFile.FieldType.boolean)) ∈ lw_all := lw_g (lw_at lw_m5 158 rfl) rfl
theorem q1768 : (Jvm.Cond.static ({ cls := "java/lang/StringLatin1", name := "newString", desc := "([BII)Ljava/lang/String;" } : Jvm.MethodName)) ∈ lw_all := lw_g (lw_at lw_m7 208 rfl) rfl
theorem q1769 : (Jvm.Cond.code ({ cls := "java/lang/StringLatin1", name := "newString", desc := "([BII)Ljava/lang/String;" } : Jvm.MethodName) prog_46_method_47_code (3 : Nat) (Option.some (Jvm.ClassFile.FieldType.object "java/lang/String"))) ∈ lw_all := lw_g (lw_at lw_m7 209 rfl) rfl
theorem q1770 : (Jvm.Cond.stringRef "java/lang/StringLatin1" (151 : Nat) "") ∈ lw_tbl := lw_at lw_m7 210 rfl
theorem q1771 : (Jvm.Cond.classLink "java/lang/StringLatin1" (1 : Nat) "java/lang/String") ∈ lw_all := lw_g (lw_at lw_m7 211 rfl) rfl
theorem q1772 : (Jvm.Cond.methodLink "java/lang/StringLatin1" (232 : Nat) ({ cls := "java/util/Arrays", name := "copyOfRange", desc := "([BII)[B" } : Jvm.MethodName)) ∈ lw_all := lw_g (lw_at lw_m7 212 rfl) rfl
theorem q1773 : (Jvm.Cond.methodLink "java/lang/StringLatin1" (112 : Nat) ({ cls := "java/lang/String", name := "<init>", desc := "([BB)V" } : Jvm.MethodName)) ∈ lw_all := lw_g (lw_at lw_m7 213 rfl) rfl
theorem q2836 : (Jvm.Cond.static ({ cls := "java/lang/StringLatin1", name := "fillNull", desc := "([BII)V" } : Jvm.MethodName)) ∈ lw_all := lw_g (lw_at lw_m12 76 rfl) rfl
theorem q2837 : (Jvm.Cond.code ({ cls := "java/lang/StringLatin1", name := "fillNull", desc := "([BII)V" } : Jvm.MethodName) prog_46_method_48_code (3 : Nat) (Option.none : Option Jvm.ClassFile.FieldType)) ∈ lw_all := lw_g (lw_at lw_m12 77 rfl) rfl
theorem q2838 : (Jvm.Cond.methodLink "java/lang/StringLatin1" (236 : Nat) ({ cls := "java/util/Arrays", name := "fill", desc := "([BIIB)V" } : Jvm.MethodName)) ∈ lw_all := lw_g (lw_at lw_m12 78 rfl) rfl

/-! java/lang/Integer -/
set_option maxRecDepth 100000
def RJ21 : String := "java/lang/Integer"
abbrev cJ21_bitCount : ByteArray := prog_36_method_49_code
def yJ21_bitCount : MethodName := ⟨RJ21, "bitCount", "(I)I"⟩
def dkwJ21_bitCount_2 : List UInt8 := [26, 16, 63, 126, 172]
abbrev dktJ21_bitCount_2 : List UInt8 := dkwJ21_bitCount_2 ++ []
def dkwJ21_bitCount_1 : List UInt8 := [26, 26, 7, 124, 96, 19, 1, 11, 126, 59, 26, 26, 16, 8, 124, 96, 59, 26, 26, 16, 16, 124, 96, 59]
abbrev dktJ21_bitCount_1 : List UInt8 := dkwJ21_bitCount_1 ++ dktJ21_bitCount_2
def dkwJ21_bitCount_0 : List UInt8 := [26, 26, 4, 124, 19, 1, 9, 126, 100, 59, 26, 19, 1, 10, 126, 26, 5, 124, 19, 1, 10, 126, 96, 59]
abbrev dktJ21_bitCount_0 : List UInt8 := dkwJ21_bitCount_0 ++ dktJ21_bitCount_1
theorem dksJ21_bitCount_0 : cJ21_bitCount.data.toList.drop 0 = dktJ21_bitCount_0 := by decide +kernel
theorem dksJ21_bitCount_1 : cJ21_bitCount.data.toList.drop 24 = dktJ21_bitCount_1 := dk_seg dksJ21_bitCount_0 24 rfl rfl
theorem dksJ21_bitCount_2 : cJ21_bitCount.data.toList.drop 48 = dktJ21_bitCount_2 := dk_seg dksJ21_bitCount_1 24 rfl rfl
theorem dJ21_bitCount_0 : decode cJ21_bitCount 0 = .ok (.iload_n 0, 1) := dk_26 (dk_at dksJ21_bitCount_0 0 rfl rfl)
theorem dJ21_bitCount_1 : decode cJ21_bitCount 1 = .ok (.iload_n 0, 1) := dk_26 (dk_at dksJ21_bitCount_0 1 rfl rfl)
theorem dJ21_bitCount_2 : decode cJ21_bitCount 2 = .ok (.iconst 1, 1) := dk_4 (dk_at dksJ21_bitCount_0 2 rfl rfl)
theorem dJ21_bitCount_3 : decode cJ21_bitCount 3 = .ok (.iushr, 1) := dk_124 (dk_at dksJ21_bitCount_0 3 rfl rfl)
theorem dJ21_bitCount_4 : decode cJ21_bitCount 4 = .ok (.ldc_w 265, 3) := dk_19 1 9 (dk_at dksJ21_bitCount_0 4 rfl rfl)
theorem dJ21_bitCount_7 : decode cJ21_bitCount 7 = .ok (.iand, 1) := dk_126 (dk_at dksJ21_bitCount_0 7 rfl rfl)
theorem dJ21_bitCount_8 : decode cJ21_bitCount 8 = .ok (.isub, 1) := dk_100 (dk_at dksJ21_bitCount_0 8 rfl rfl)
theorem dJ21_bitCount_9 : decode cJ21_bitCount 9 = .ok (.istore_n 0, 1) := dk_59 (dk_at dksJ21_bitCount_0 9 rfl rfl)
theorem dJ21_bitCount_10 : decode cJ21_bitCount 10 = .ok (.iload_n 0, 1) := dk_26 (dk_at dksJ21_bitCount_0 10 rfl rfl)
theorem dJ21_bitCount_11 : decode cJ21_bitCount 11 = .ok (.ldc_w 266, 3) := dk_19 1 10 (dk_at dksJ21_bitCount_0 11 rfl rfl)
theorem dJ21_bitCount_14 : decode cJ21_bitCount 14 = .ok (.iand, 1) := dk_126 (dk_at dksJ21_bitCount_0 14 rfl rfl)
theorem dJ21_bitCount_15 : decode cJ21_bitCount 15 = .ok (.iload_n 0, 1) := dk_26 (dk_at dksJ21_bitCount_0 15 rfl rfl)
theorem dJ21_bitCount_16 : decode cJ21_bitCount 16 = .ok (.iconst 2, 1) := dk_5 (dk_at dksJ21_bitCount_0 16 rfl rfl)
theorem dJ21_bitCount_17 : decode cJ21_bitCount 17 = .ok (.iushr, 1) := dk_124 (dk_at dksJ21_bitCount_0 17 rfl rfl)
theorem dJ21_bitCount_18 : decode cJ21_bitCount 18 = .ok (.ldc_w 266, 3) := dk_19 1 10 (dk_at dksJ21_bitCount_0 18 rfl rfl)
theorem dJ21_bitCount_21 : decode cJ21_bitCount 21 = .ok (.iand, 1) := dk_126 (dk_at dksJ21_bitCount_0 21 rfl rfl)
theorem dJ21_bitCount_22 : decode cJ21_bitCount 22 = .ok (.iadd, 1) := dk_96 (dk_at dksJ21_bitCount_0 22 rfl rfl)
theorem dJ21_bitCount_23 : decode cJ21_bitCount 23 = .ok (.istore_n 0, 1) := dk_59 (dk_at dksJ21_bitCount_0 23 rfl rfl)
theorem dJ21_bitCount_24 : decode cJ21_bitCount 24 = .ok (.iload_n 0, 1) := dk_26 (dk_at dksJ21_bitCount_1 0 rfl rfl)
theorem dJ21_bitCount_25 : decode cJ21_bitCount 25 = .ok (.iload_n 0, 1) := dk_26 (dk_at dksJ21_bitCount_1 1 rfl rfl)
theorem dJ21_bitCount_26 : decode cJ21_bitCount 26 = .ok (.iconst 4, 1) := dk_7 (dk_at dksJ21_bitCount_1 2 rfl rfl)
theorem dJ21_bitCount_27 : decode cJ21_bitCount 27 = .ok (.iushr, 1) := dk_124 (dk_at dksJ21_bitCount_1 3 rfl rfl)
theorem dJ21_bitCount_28 : decode cJ21_bitCount 28 = .ok (.iadd, 1) := dk_96 (dk_at dksJ21_bitCount_1 4 rfl rfl)
theorem dJ21_bitCount_29 : decode cJ21_bitCount 29 = .ok (.ldc_w 267, 3) := dk_19 1 11 (dk_at dksJ21_bitCount_1 5 rfl rfl)
theorem dJ21_bitCount_32 : decode cJ21_bitCount 32 = .ok (.iand, 1) := dk_126 (dk_at dksJ21_bitCount_1 8 rfl rfl)
theorem dJ21_bitCount_33 : decode cJ21_bitCount 33 = .ok (.istore_n 0, 1) := dk_59 (dk_at dksJ21_bitCount_1 9 rfl rfl)
theorem dJ21_bitCount_34 : decode cJ21_bitCount 34 = .ok (.iload_n 0, 1) := dk_26 (dk_at dksJ21_bitCount_1 10 rfl rfl)
theorem dJ21_bitCount_35 : decode cJ21_bitCount 35 = .ok (.iload_n 0, 1) := dk_26 (dk_at dksJ21_bitCount_1 11 rfl rfl)
theorem dJ21_bitCount_36 : decode cJ21_bitCount 36 = .ok (.bipush 8, 2) := dk_16 8 (dk_at dksJ21_bitCount_1 12 rfl rfl)
theorem dJ21_bitCount_38 : decode cJ21_bitCount 38 = .ok (.iushr, 1) := dk_124 (dk_at dksJ21_bitCount_1 14 rfl rfl)
theorem dJ21_bitCount_39 : decode cJ21_bitCount 39 = .ok (.iadd, 1) := dk_96 (dk_at dksJ21_bitCount_1 15 rfl rfl)
theorem dJ21_bitCount_40 : decode cJ21_bitCount 40 = .ok (.istore_n 0, 1) := dk_59 (dk_at dksJ21_bitCount_1 16 rfl rfl)
theorem dJ21_bitCount_41 : decode cJ21_bitCount 41 = .ok (.iload_n 0, 1) := dk_26 (dk_at dksJ21_bitCount_1 17 rfl rfl)
theorem dJ21_bitCount_42 : decode cJ21_bitCount 42 = .ok (.iload_n 0, 1) := dk_26 (dk_at dksJ21_bitCount_1 18 rfl rfl)
theorem dJ21_bitCount_43 : decode cJ21_bitCount 43 = .ok (.bipush 16, 2) := dk_16 16 (dk_at dksJ21_bitCount_1 19 rfl rfl)
theorem dJ21_bitCount_45 : decode cJ21_bitCount 45 = .ok (.iushr, 1) := dk_124 (dk_at dksJ21_bitCount_1 21 rfl rfl)
theorem dJ21_bitCount_46 : decode cJ21_bitCount 46 = .ok (.iadd, 1) := dk_96 (dk_at dksJ21_bitCount_1 22 rfl rfl)
theorem dJ21_bitCount_47 : decode cJ21_bitCount 47 = .ok (.istore_n 0, 1) := dk_59 (dk_at dksJ21_bitCount_1 23 rfl rfl)
theorem dJ21_bitCount_48 : decode cJ21_bitCount 48 = .ok (.iload_n 0, 1) := dk_26 (dk_at dksJ21_bitCount_2 0 rfl rfl)
theorem dJ21_bitCount_49 : decode cJ21_bitCount 49 = .ok (.bipush 63, 2) := dk_16 63 (dk_at dksJ21_bitCount_2 1 rfl rfl)
theorem dJ21_bitCount_51 : decode cJ21_bitCount 51 = .ok (.iand, 1) := dk_126 (dk_at dksJ21_bitCount_2 3 rfl rfl)
theorem dJ21_bitCount_52 : decode cJ21_bitCount 52 = .ok (.ireturn, 1) := dk_172 (dk_at dksJ21_bitCount_2 4 rfl rfl)
abbrev cJ21_stringSize : ByteArray := prog_36_method_13_code
def yJ21_stringSize : MethodName := ⟨RJ21, "stringSize", "(I)I"⟩
def dkwJ21_stringSize_1 : List UInt8 := [164, 0, 7, 29, 27, 96, 172, 16, 10, 28, 104, 61, 132, 3, 1, 167, 255, 233, 16, 10, 27, 96, 172]
abbrev dktJ21_stringSize_1 : List UInt8 := dkwJ21_stringSize_1 ++ []
def dkwJ21_stringSize_0 : List UInt8 := [4, 60, 26, 155, 0, 8, 3, 60, 26, 116, 59, 16, 246, 61, 4, 62, 29, 16, 10, 162, 0, 23, 26, 28]
abbrev dktJ21_stringSize_0 : List UInt8 := dkwJ21_stringSize_0 ++ dktJ21_stringSize_1
theorem dksJ21_stringSize_0 : cJ21_stringSize.data.toList.drop 0 = dktJ21_stringSize_0 := by decide +kernel
theorem dksJ21_stringSize_1 : cJ21_stringSize.data.toList.drop 24 = dktJ21_stringSize_1 := dk_seg dksJ21_stringSize_0 24 rfl rfl
theorem dJ21_stringSize_0 : decode cJ21_stringSize 0 = .ok (.iconst 1, 1) := dk_4 (dk_at dksJ21_stringSize_0 0 rfl rfl)
theorem dJ21_stringSize_1 : decode cJ21_stringSize 1 = .ok (.istore_n 1, 1) := dk_60 (dk_at dksJ21_stringSize_0 1 rfl rfl)
theorem dJ21_stringSize_2 : decode cJ21_stringSize 2 = .ok (.iload_n 0, 1) := dk_26 (dk_at dksJ21_stringSize_0 2 rfl rfl)
theorem dJ21_stringSize_3 : decode cJ21_stringSize 3 = .ok (.ifCond .lt 8, 3) := dk_155 0 8 (dk_at dksJ21_stringSize_0 3 rfl rfl)
theorem dJ21_stringSize_6 : decode cJ21_stringSize 6 = .ok (.iconst 0, 1) := dk_3 (dk_at dksJ21_stringSize_0 6 rfl rfl)
theorem dJ21_stringSize_7 : decode cJ21_stringSize 7 = .ok (.istore_n 1, 1) := dk_60 (dk_at dksJ21_stringSize_0 7 rfl rfl)
theorem dJ21_stringSize_8 : decode cJ21_stringSize 8 = .ok (.iload_n 0, 1) := dk_26 (dk_at dksJ21_stringSize_0 8 rfl rfl)
theorem dJ21_stringSize_9 : decode cJ21_stringSize 9 = .ok (.ineg, 1) := dk_116 (dk_at dksJ21_stringSize_0 9 rfl rfl)
theorem dJ21_stringSize_10 : decode cJ21_stringSize 10 = .ok (.istore_n 0, 1) := dk_59 (dk_at dksJ21_stringSize_0 10 rfl rfl)
theorem dJ21_stringSize_11 : decode cJ21_stringSize 11 = .ok (.bipush (-10), 2) := dk_16 246 (dk_at dksJ21_stringSize_0 11 rfl rfl)
theorem dJ21_stringSize_13 : decode cJ21_stringSize 13 = .ok (.istore_n 2, 1) := dk_61 (dk_at dksJ21_stringSize_0 13 rfl rfl)
theorem dJ21_stringSize_14 : decode cJ21_stringSize 14 = .ok (.iconst 1, 1) := dk_4 (dk_at dksJ21_stringSize_0 14 rfl rfl)
theorem dJ21_stringSize_15 : decode cJ21_stringSize 15 = .ok (.istore_n 3, 1) := dk_62 (dk_at dksJ21_stringSize_0 15 rfl rfl)
theorem dJ21_stringSize_16 : decode cJ21_stringSize 16 = .ok (.iload_n 3, 1) := dk_29 (dk_at dksJ21_stringSize_0 16 rfl rfl)
theorem dJ21_stringSize_17 : decode cJ21_stringSize 17 = .ok (.bipush 10, 2) := dk_16 10 (dk_at dksJ21_stringSize_0 17 rfl rfl)
theorem dJ21_stringSize_19 : decode cJ21_stringSize 19 = .ok (.if_icmp .ge 23, 3) := dk_162 0 23 (dk_at dksJ21_stringSize_0 19 rfl rfl)
theorem dJ21_stringSize_22 : decode cJ21_stringSize 22 = .ok (.iload_n 0, 1) := dk_26 (dk_at dksJ21_stringSize_0 22 rfl rfl)
theorem dJ21_stringSize_23 : decode cJ21_stringSize 23 = .ok (.iload_n 2, 1) := dk_28 (dk_at dksJ21_stringSize_0 23 rfl rfl)
theorem dJ21_stringSize_24 : decode cJ21_stringSize 24 = .ok (.if_icmp .le 7, 3) := dk_164 0 7 (dk_at dksJ21_stringSize_1 0 rfl rfl)
theorem dJ21_stringSize_27 : decode cJ21_stringSize 27 = .ok (.iload_n 3, 1) := dk_29 (dk_at dksJ21_stringSize_1 3 rfl rfl)
theorem dJ21_stringSize_28 : decode cJ21_stringSize 28 = .ok (.iload_n 1, 1) := dk_27 (dk_at dksJ21_stringSize_1 4 rfl rfl)
theorem dJ21_stringSize_29 : decode cJ21_stringSize 29 = .ok (.iadd, 1) := dk_96 (dk_at dksJ21_stringSize_1 5 rfl rfl)
theorem dJ21_stringSize_30 : decode cJ21_stringSize 30 = .ok (.ireturn, 1) := dk_172 (dk_at dksJ21_stringSize_1 6 rfl rfl)
theorem dJ21_stringSize_31 : decode cJ21_stringSize 31 = .ok (.bipush 10, 2) := dk_16 10 (dk_at dksJ21_stringSize_1 7 rfl rfl)
theorem dJ21_stringSize_33 : decode cJ21_stringSize 33 = .ok (.iload_n 2, 1) := dk_28 (dk_at dksJ21_stringSize_1 9 rfl rfl)
theorem dJ21_stringSize_34 : decode cJ21_stringSize 34 = .ok (.imul, 1) := dk_104 (dk_at dksJ21_stringSize_1 10 rfl rfl)
theorem dJ21_stringSize_35 : decode cJ21_stringSize 35 = .ok (.istore_n 2, 1) := dk_61 (dk_at dksJ21_stringSize_1 11 rfl rfl)
theorem dJ21_stringSize_36 : decode cJ21_stringSize 36 = .ok (.iinc 3 1, 3) := dk_132 3 1 (dk_at dksJ21_stringSize_1 12 rfl rfl)
theorem dJ21_stringSize_39 : decode cJ21_stringSize 39 = .ok (.goto (-23), 3) := dk_167 255 233 (dk_at dksJ21_stringSize_1 15 rfl rfl)
theorem dJ21_stringSize_42 : decode cJ21_stringSize 42 = .ok (.bipush 10, 2) := dk_16 10 (dk_at dksJ21_stringSize_1 18 rfl rfl)
theorem dJ21_stringSize_44 : decode cJ21_stringSize 44 = .ok (.iload_n 1, 1) := dk_27 (dk_at dksJ21_stringSize_1 20 rfl rfl)
theorem dJ21_stringSize_45 : decode cJ21_stringSize 45 = .ok (.iadd, 1) := dk_96 (dk_at dksJ21_stringSize_1 21 rfl rfl)
theorem dJ21_stringSize_46 : decode cJ21_stringSize 46 = .ok (.ireturn, 1) := dk_172 (dk_at dksJ21_stringSize_1 22 rfl rfl)
abbrev cJ21_getChars : ByteArray := prog_36_method_12_code
def yJ21_getChars : MethodName := ⟨RJ21, "getChars", "(II[B)I"⟩
def dkwJ21_getChars_5 : List UInt8 := [16, 45, 84, 21, 5, 172]
abbrev dktJ21_getChars_5 : List UInt8 := dkwJ21_getChars_5 ++ []
def dkwJ21_getChars_4 : List UInt8 := [132, 5, 255, 21, 5, 178, 0, 87, 26, 116, 51, 84, 21, 6, 153, 0, 12, 44, 132, 5, 255, 21, 5]
abbrev dktJ21_getChars_4 : List UInt8 := dkwJ21_getChars_4 ++ dktJ21_getChars_5
def dkwJ21_getChars_3 : List UInt8 := [167, 255, 209, 44, 132, 5, 255, 21, 5, 178, 0, 83, 26, 116, 51, 84, 26, 16, 247, 162, 0, 16, 44]
abbrev dktJ21_getChars_3 : List UInt8 := dkwJ21_getChars_3 ++ dktJ21_getChars_4
def dkwJ21_getChars_2 : List UInt8 := [21, 5, 178, 0, 83, 21, 4, 51, 84, 44, 132, 5, 255, 21, 5, 178, 0, 87, 21, 4, 51, 84]
abbrev dktJ21_getChars_2 : List UInt8 := dkwJ21_getChars_2 ++ dktJ21_getChars_3
def dkwJ21_getChars_1 : List UInt8 := [16, 156, 163, 0, 47, 26, 16, 100, 108, 62, 29, 16, 100, 104, 26, 100, 54, 4, 29, 59, 44, 132, 5, 255]
abbrev dktJ21_getChars_1 : List UInt8 := dkwJ21_getChars_1 ++ dktJ21_getChars_2
def dkwJ21_getChars_0 : List UInt8 := [27, 54, 5, 26, 156, 0, 7, 4, 167, 0, 4, 3, 54, 6, 21, 6, 154, 0, 6, 26, 116, 59, 26]
abbrev dktJ21_getChars_0 : List UInt8 := dkwJ21_getChars_0 ++ dktJ21_getChars_1
theorem dksJ21_getChars_0 : cJ21_getChars.data.toList.drop 0 = dktJ21_getChars_0 := by decide +kernel
theorem dksJ21_getChars_1 : cJ21_getChars.data.toList.drop 23 = dktJ21_getChars_1 := dk_seg dksJ21_getChars_0 23 rfl rfl
theorem dksJ21_getChars_2 : cJ21_getChars.data.toList.drop 47 = dktJ21_getChars_2 := dk_seg dksJ21_getChars_1 24 rfl rfl
theorem dksJ21_getChars_3 : cJ21_getChars.data.toList.drop 69 = dktJ21_getChars_3 := dk_seg dksJ21_getChars_2 22 rfl rfl
theorem dksJ21_getChars_4 : cJ21_getChars.data.toList.drop 92 = dktJ21_getChars_4 := dk_seg dksJ21_getChars_3 23 rfl rfl
theorem dksJ21_getChars_5 : cJ21_getChars.data.toList.drop 115 = dktJ21_getChars_5 := dk_seg dksJ21_getChars_4 23 rfl rfl
theorem dJ21_getChars_0 : decode cJ21_getChars 0 = .ok (.iload_n 1, 1) := dk_27 (dk_at dksJ21_getChars_0 0 rfl rfl)
theorem dJ21_getChars_1 : decode cJ21_getChars 1 = .ok (.istore 5, 2) := dk_54 5 (dk_at dksJ21_getChars_0 1 rfl rfl)
theorem dJ21_getChars_3 : decode cJ21_getChars 3 = .ok (.iload_n 0, 1) := dk_26 (dk_at dksJ21_getChars_0 3 rfl rfl)
theorem dJ21_getChars_4 : decode cJ21_getChars 4 = .ok (.ifCond .ge 7, 3) := dk_156 0 7 (dk_at dksJ21_getChars_0 4 rfl rfl)
theorem dJ21_getChars_7 : decode cJ21_getChars 7 = .ok (.iconst 1, 1) := dk_4 (dk_at dksJ21_getChars_0 7 rfl rfl)
theorem dJ21_getChars_8 : decode cJ21_getChars 8 = .ok (.goto 4, 3) := dk_167 0 4 (dk_at dksJ21_getChars_0 8 rfl rfl)
theorem dJ21_getChars_11 : decode cJ21_getChars 11 = .ok (.iconst 0, 1) := dk_3 (dk_at dksJ21_getChars_0 11 rfl rfl)
theorem dJ21_getChars_12 : decode cJ21_getChars 12 = .ok (.istore 6, 2) := dk_54 6 (dk_at dksJ21_getChars_0 12 rfl rfl)
theorem dJ21_getChars_14 : decode cJ21_getChars 14 = .ok (.iload 6, 2) := dk_21 6 (dk_at dksJ21_getChars_0 14 rfl rfl)
theorem dJ21_getChars_16 : decode cJ21_getChars 16 = .ok (.ifCond .ne 6, 3) := dk_154 0 6 (dk_at dksJ21_getChars_0 16 rfl rfl)
theorem dJ21_getChars_19 : decode cJ21_getChars 19 = .ok (.iload_n 0, 1) := dk_26 (dk_at dksJ21_getChars_0 19 rfl rfl)
theorem dJ21_getChars_20 : decode cJ21_getChars 20 = .ok (.ineg, 1) := dk_116 (dk_at dksJ21_getChars_0 20 rfl rfl)
theorem dJ21_getChars_21 : decode cJ21_getChars 21 = .ok (.istore_n 0, 1) := dk_59 (dk_at dksJ21_getChars_0 21 rfl rfl)
theorem dJ21_getChars_22 : decode cJ21_getChars 22 = .ok (.iload_n 0, 1) := dk_26 (dk_at dksJ21_getChars_0 22 rfl rfl)
theorem dJ21_getChars_23 : decode cJ21_getChars 23 = .ok (.bipush (-100), 2) := dk_16 156 (dk_at dksJ21_getChars_1 0 rfl rfl)
theorem dJ21_getChars_25 : decode cJ21_getChars 25 = .ok (.if_icmp .gt 47, 3) := dk_163 0 47 (dk_at dksJ21_getChars_1 2 rfl rfl)
theorem dJ21_getChars_28 : decode cJ21_getChars 28 = .ok (.iload_n 0, 1) := dk_26 (dk_at dksJ21_getChars_1 5 rfl rfl)
theorem dJ21_getChars_29 : decode cJ21_getChars 29 = .ok (.bipush 100, 2) := dk_16 100 (dk_at dksJ21_getChars_1 6 rfl rfl)
theorem dJ21_getChars_31 : decode cJ21_getChars 31 = .ok (.idiv, 1) := dk_108 (dk_at dksJ21_getChars_1 8 rfl rfl)
theorem dJ21_getChars_32 : decode cJ21_getChars 32 = .ok (.istore_n 3, 1) := dk_62 (dk_at dksJ21_getChars_1 9 rfl rfl)
theorem dJ21_getChars_33 : decode cJ21_getChars 33 = .ok (.iload_n 3, 1) := dk_29 (dk_at dksJ21_getChars_1 10 rfl rfl)
theorem dJ21_getChars_34 : decode cJ21_getChars 34 = .ok (.bipush 100, 2) := dk_16 100 (dk_at dksJ21_getChars_1 11 rfl rfl)
theorem dJ21_getChars_36 : decode cJ21_getChars 36 = .ok (.imul, 1) := dk_104 (dk_at dksJ21_getChars_1 13 rfl rfl)
theorem dJ21_getChars_37 : decode cJ21_getChars 37 = .ok (.iload_n 0, 1) := dk_26 (dk_at dksJ21_getChars_1 14 rfl rfl)
theorem dJ21_getChars_38 : decode cJ21_getChars 38 = .ok (.isub, 1) := dk_100 (dk_at dksJ21_getChars_1 15 rfl rfl)
theorem dJ21_getChars_39 : decode cJ21_getChars 39 = .ok (.istore 4, 2) := dk_54 4 (dk_at dksJ21_getChars_1 16 rfl rfl)
theorem dJ21_getChars_41 : decode cJ21_getChars 41 = .ok (.iload_n 3, 1) := dk_29 (dk_at dksJ21_getChars_1 18 rfl rfl)
theorem dJ21_getChars_42 : decode cJ21_getChars 42 = .ok (.istore_n 0, 1) := dk_59 (dk_at dksJ21_getChars_1 19 rfl rfl)
theorem dJ21_getChars_43 : decode cJ21_getChars 43 = .ok (.aload_n 2, 1) := dk_44 (dk_at dksJ21_getChars_1 20 rfl rfl)
theorem dJ21_getChars_44 : decode cJ21_getChars 44 = .ok (.iinc 5 (-1), 3) := dk_132 5 255 (dk_at dksJ21_getChars_1 21 rfl rfl)
theorem dJ21_getChars_47 : decode cJ21_getChars 47 = .ok (.iload 5, 2) := dk_21 5 (dk_at dksJ21_getChars_2 0 rfl rfl)
theorem dJ21_getChars_49 : decode cJ21_getChars 49 = .ok (.getstatic 83, 3) := dk_178 0 83 (dk_at dksJ21_getChars_2 2 rfl rfl)
theorem dJ21_getChars_52 : decode cJ21_getChars 52 = .ok (.iload 4, 2) := dk_21 4 (dk_at dksJ21_getChars_2 5 rfl rfl)
theorem dJ21_getChars_54 : decode cJ21_getChars 54 = .ok (.baload, 1) := dk_51 (dk_at dksJ21_getChars_2 7 rfl rfl)
theorem dJ21_getChars_55 : decode cJ21_getChars 55 = .ok (.bastore, 1) := dk_84 (dk_at dksJ21_getChars_2 8 rfl rfl)
theorem dJ21_getChars_56 : decode cJ21_getChars 56 = .ok (.aload_n 2, 1) := dk_44 (dk_at dksJ21_getChars_2 9 rfl rfl)
theorem dJ21_getChars_57 : decode cJ21_getChars 57 = .ok (.iinc 5 (-1), 3) := dk_132 5 255 (dk_at dksJ21_getChars_2 10 rfl rfl)
theorem dJ21_getChars_60 : decode cJ21_getChars 60 = .ok (.iload 5, 2) := dk_21 5 (dk_at dksJ21_getChars_2 13 rfl rfl)
theorem dJ21_getChars_62 : decode cJ21_getChars 62 = .ok (.getstatic 87, 3) := dk_178 0 87 (dk_at dksJ21_getChars_2 15 rfl rfl)
theorem dJ21_getChars_65 : decode cJ21_getChars 65 = .ok (.iload 4, 2) := dk_21 4 (dk_at dksJ21_getChars_2 18 rfl rfl)
theorem dJ21_getChars_67 : decode cJ21_getChars 67 = .ok (.baload, 1) := dk_51 (dk_at dksJ21_getChars_2 20 rfl rfl)
theorem dJ21_getChars_68 : decode cJ21_getChars 68 = .ok (.bastore, 1) := dk_84 (dk_at dksJ21_getChars_2 21 rfl rfl)
theorem dJ21_getChars_69 : decode cJ21_getChars 69 = .ok (.goto (-47), 3) := dk_167 255 209 (dk_at dksJ21_getChars_3 0 rfl rfl)
theorem dJ21_getChars_72 : decode cJ21_getChars 72 = .ok (.aload_n 2, 1) := dk_44 (dk_at dksJ21_getChars_3 3 rfl rfl)
theorem dJ21_getChars_73 : decode cJ21_getChars 73 = .ok (.iinc 5 (-1), 3) := dk_132 5 255 (dk_at dksJ21_getChars_3 4 rfl rfl)
theorem dJ21_getChars_76 : decode cJ21_getChars 76 = .ok (.iload 5, 2) := dk_21 5 (dk_at dksJ21_getChars_3 7 rfl rfl)
theorem dJ21_getChars_78 : decode cJ21_getChars 78 = .ok (.getstatic 83, 3) := dk_178 0 83 (dk_at dksJ21_getChars_3 9 rfl rfl)
theorem dJ21_getChars_81 : decode cJ21_getChars 81 = .ok (.iload_n 0, 1) := dk_26 (dk_at dksJ21_getChars_3 12 rfl rfl)
theorem dJ21_getChars_82 : decode cJ21_getChars 82 = .ok (.ineg, 1) := dk_116 (dk_at dksJ21_getChars_3 13 rfl rfl)
theorem dJ21_getChars_83 : decode cJ21_getChars 83 = .ok (.baload, 1) := dk_51 (dk_at dksJ21_getChars_3 14 rfl rfl)
theorem dJ21_getChars_84 : decode cJ21_getChars 84 = .ok (.bastore, 1) := dk_84 (dk_at dksJ21_getChars_3 15 rfl rfl)
theorem dJ21_getChars_85 : decode cJ21_getChars 85 = .ok (.iload_n 0, 1) := dk_26 (dk_at dksJ21_getChars_3 16 rfl rfl)
theorem dJ21_getChars_86 : decode cJ21_getChars 86 = .ok (.bipush (-9), 2) := dk_16 247 (dk_at dksJ21_getChars_3 17 rfl rfl)
theorem dJ21_getChars_88 : decode cJ21_getChars 88 = .ok (.if_icmp .ge 16, 3) := dk_162 0 16 (dk_at dksJ21_getChars_3 19 rfl rfl)
theorem dJ21_getChars_91 : decode cJ21_getChars 91 = .ok (.aload_n 2, 1) := dk_44 (dk_at dksJ21_getChars_3 22 rfl rfl)
theorem dJ21_getChars_92 : decode cJ21_getChars 92 = .ok (.iinc 5 (-1), 3) := dk_132 5 255 (dk_at dksJ21_getChars_4 0 rfl rfl)
theorem dJ21_getChars_95 : decode cJ21_getChars 95 = .ok (.iload 5, 2) := dk_21 5 (dk_at dksJ21_getChars_4 3 rfl rfl)
theorem dJ21_getChars_97 : decode cJ21_getChars 97 = .ok (.getstatic 87, 3) := dk_178 0 87 (dk_at dksJ21_getChars_4 5 rfl rfl)
theorem dJ21_getChars_100 : decode cJ21_getChars 100 = .ok (.iload_n 0, 1) := dk_26 (dk_at dksJ21_getChars_4 8 rfl rfl)
theorem dJ21_getChars_101 : decode cJ21_getChars 101 = .ok (.ineg, 1) := dk_116 (dk_at dksJ21_getChars_4 9 rfl rfl)
theorem dJ21_getChars_102 : decode cJ21_getChars 102 = .ok (.baload, 1) := dk_51 (dk_at dksJ21_getChars_4 10 rfl rfl)
theorem dJ21_getChars_103 : decode cJ21_getChars 103 = .ok (.bastore, 1) := dk_84 (dk_at dksJ21_getChars_4 11 rfl rfl)
theorem dJ21_getChars_104 : decode cJ21_getChars 104 = .ok (.iload 6, 2) := dk_21 6 (dk_at dksJ21_getChars_4 12 rfl rfl)
theorem dJ21_getChars_106 : decode cJ21_getChars 106 = .ok (.ifCond .eq 12, 3) := dk_153 0 12 (dk_at dksJ21_getChars_4 14 rfl rfl)
theorem dJ21_getChars_109 : decode cJ21_getChars 109 = .ok (.aload_n 2, 1) := dk_44 (dk_at dksJ21_getChars_4 17 rfl rfl)
theorem dJ21_getChars_110 : decode cJ21_getChars 110 = .ok (.iinc 5 (-1), 3) := dk_132 5 255 (dk_at dksJ21_getChars_4 18 rfl rfl)
theorem dJ21_getChars_113 : decode cJ21_getChars 113 = .ok (.iload 5, 2) := dk_21 5 (dk_at dksJ21_getChars_4 21 rfl rfl)
theorem dJ21_getChars_115 : decode cJ21_getChars 115 = .ok (.bipush 45, 2) := dk_16 45 (dk_at dksJ21_getChars_5 0 rfl rfl)
theorem dJ21_getChars_117 : decode cJ21_getChars 117 = .ok (.bastore, 1) := dk_84 (dk_at dksJ21_getChars_5 2 rfl rfl)
theorem dJ21_getChars_118 : decode cJ21_getChars 118 = .ok (.iload 5, 2) := dk_21 5 (dk_at dksJ21_getChars_5 3 rfl rfl)
theorem dJ21_getChars_120 : decode cJ21_getChars 120 = .ok (.ireturn, 1) := dk_172 (dk_at dksJ21_getChars_5 5 rfl rfl)
theorem q158 : (Jvm.Cond.initialized "java/lang/Integer") ∈ lw_all := lw_g (lw_at lw_m1 38 rfl) rfl
theorem q954 : (Jvm.Cond.static ({ cls := "java/lang/Integer", name := "bitCount", desc := "(I)I" } : Jvm.MethodName)) ∈ lw_all := lw_g (lw_at lw_m4 114 rfl) rfl
theorem q955 : (Jvm.Cond.code ({ cls := "java/lang/Integer", name := "bitCount", desc := "(I)I" } : Jvm.MethodName) prog_36_method_49_code (1 : Nat) (Option.some Jvm.ClassFile.FieldType.int)) ∈ lw_all := lw_g (lw_at lw_m4 115 rfl) rfl
theorem q956 : (Jvm.Cond.constant "java/lang/Integer" (265 : Nat) (1431655765 : Int32)) ∈ lw_all := lw_g (lw_at lw_m4 116 rfl) rfl
theorem q957 : (Jvm.Cond.constant "java/lang/Integer" (266 : Nat) (858993459 : Int32)) ∈ lw_all := lw_g (lw_at lw_m4 117 rfl) rfl
theorem q958 : (Jvm.Cond.constant "java/lang/Integer" (267 : Nat) (252645135 : Int32)) ∈ lw_all := lw_g (lw_at lw_m4 118 rfl) rfl
theorem q1843 : (Jvm.Cond.static ({ cls := "java/lang/Integer", name := "stringSize", desc := "(I)I" } : Jvm.MethodName)) ∈ lw_all := lw_g (lw_at lw_m8 43 rfl) rfl
theorem q1844 : (Jvm.Cond.code ({ cls := "java/lang/Integer", name := "stringSize", desc := "(I)I" } : Jvm.MethodName) prog_36_method_13_code (4 : Nat) (Option.some Jvm.ClassFile.FieldType.int)) ∈ lw_all := lw_g (lw_at lw_m8 44 rfl) rfl
theorem q1846 : (Jvm.Cond.static ({ cls := "java/lang/Integer", name := "getChars", desc := "(II[B)I" } : Jvm.MethodName)) ∈ lw_all := lw_g (lw_at lw_m8 46 rfl) rfl
theorem q1847 : (Jvm.Cond.code ({ cls := "java/lang/Integer", name := "getChars", desc := "(II[B)I" } : Jvm.MethodName) prog_36_method_12_code (7 : Nat) (Option.some Jvm.ClassFile.FieldType.int)) ∈ lw_all := lw_g (lw_at lw_m8 47 rfl) rfl
theorem q1848 : (Jvm.Cond.fieldLink "java/lang/Integer" (83 : Nat) "java/lang/Integer" "DigitOnes" "[B") ∈ lw_all := lw_g (lw_at lw_m8 48 rfl) rfl
theorem q1849 : (Jvm.Cond.laysStatic "java/lang/Integer" "DigitOnes" "[B") ∈ lw_tbl := lw_at lw_m8 49 rfl
theorem q1850 : (Jvm.Cond.fieldLink "java/lang/Integer" (87 : Nat) "java/lang/Integer" "DigitTens" "[B") ∈ lw_all := lw_g (lw_at lw_m8 50 rfl) rfl
theorem q1851 : (Jvm.Cond.laysStatic "java/lang/Integer" "DigitTens" "[B") ∈ lw_tbl := lw_at lw_m8 51 rfl

/-! jdk/internal/util/ArraysSupport -/
set_option maxRecDepth 100000
def RJ22 : String := "jdk/internal/util/ArraysSupport"
abbrev cJ22_newLength : ByteArray := prog_77_method_27_code
def yJ22_newLength : MethodName := ⟨RJ22, "newLength", "(III)I"⟩
def dkwJ22_newLength_1 : List UInt8 := [184, 0, 201, 172]
abbrev dktJ22_newLength_1 : List UInt8 := dkwJ22_newLength_1 ++ []
def dkwJ22_newLength_0 : List UInt8 := [26, 27, 28, 184, 0, 194, 96, 62, 3, 29, 162, 0, 11, 29, 18, 200, 163, 0, 5, 29, 172, 26, 27]
abbrev dktJ22_newLength_0 : List UInt8 := dkwJ22_newLength_0 ++ dktJ22_newLength_1
theorem dksJ22_newLength_0 : cJ22_newLength.data.toList.drop 0 = dktJ22_newLength_0 := by decide +kernel
theorem dksJ22_newLength_1 : cJ22_newLength.data.toList.drop 23 = dktJ22_newLength_1 := dk_seg dksJ22_newLength_0 23 rfl rfl
theorem dJ22_newLength_0 : decode cJ22_newLength 0 = .ok (.iload_n 0, 1) := dk_26 (dk_at dksJ22_newLength_0 0 rfl rfl)
theorem dJ22_newLength_1 : decode cJ22_newLength 1 = .ok (.iload_n 1, 1) := dk_27 (dk_at dksJ22_newLength_0 1 rfl rfl)
theorem dJ22_newLength_2 : decode cJ22_newLength 2 = .ok (.iload_n 2, 1) := dk_28 (dk_at dksJ22_newLength_0 2 rfl rfl)
theorem dJ22_newLength_3 : decode cJ22_newLength 3 = .ok (.invokestatic 194, 3) := dk_184 0 194 (dk_at dksJ22_newLength_0 3 rfl rfl)
theorem dJ22_newLength_6 : decode cJ22_newLength 6 = .ok (.iadd, 1) := dk_96 (dk_at dksJ22_newLength_0 6 rfl rfl)
theorem dJ22_newLength_7 : decode cJ22_newLength 7 = .ok (.istore_n 3, 1) := dk_62 (dk_at dksJ22_newLength_0 7 rfl rfl)
theorem dJ22_newLength_8 : decode cJ22_newLength 8 = .ok (.iconst 0, 1) := dk_3 (dk_at dksJ22_newLength_0 8 rfl rfl)
theorem dJ22_newLength_9 : decode cJ22_newLength 9 = .ok (.iload_n 3, 1) := dk_29 (dk_at dksJ22_newLength_0 9 rfl rfl)
theorem dJ22_newLength_10 : decode cJ22_newLength 10 = .ok (.if_icmp .ge 11, 3) := dk_162 0 11 (dk_at dksJ22_newLength_0 10 rfl rfl)
theorem dJ22_newLength_13 : decode cJ22_newLength 13 = .ok (.iload_n 3, 1) := dk_29 (dk_at dksJ22_newLength_0 13 rfl rfl)
theorem dJ22_newLength_14 : decode cJ22_newLength 14 = .ok (.ldc 200, 2) := dk_18 200 (dk_at dksJ22_newLength_0 14 rfl rfl)
theorem dJ22_newLength_16 : decode cJ22_newLength 16 = .ok (.if_icmp .gt 5, 3) := dk_163 0 5 (dk_at dksJ22_newLength_0 16 rfl rfl)
theorem dJ22_newLength_19 : decode cJ22_newLength 19 = .ok (.iload_n 3, 1) := dk_29 (dk_at dksJ22_newLength_0 19 rfl rfl)
theorem dJ22_newLength_20 : decode cJ22_newLength 20 = .ok (.ireturn, 1) := dk_172 (dk_at dksJ22_newLength_0 20 rfl rfl)
theorem dJ22_newLength_21 : decode cJ22_newLength 21 = .ok (.iload_n 0, 1) := dk_26 (dk_at dksJ22_newLength_0 21 rfl rfl)
theorem dJ22_newLength_22 : decode cJ22_newLength 22 = .ok (.iload_n 1, 1) := dk_27 (dk_at dksJ22_newLength_0 22 rfl rfl)
theorem dJ22_newLength_23 : decode cJ22_newLength 23 = .ok (.invokestatic 201, 3) := dk_184 0 201 (dk_at dksJ22_newLength_1 0 rfl rfl)
theorem dJ22_newLength_26 : decode cJ22_newLength 26 = .ok (.ireturn, 1) := dk_172 (dk_at dksJ22_newLength_1 3 rfl rfl)
abbrev cJ22_hugeLength : ByteArray := prog_77_method_28_code
def yJ22_hugeLength : MethodName := ⟨RJ22, "hugeLength", "(II)I"⟩
def dkwJ22_hugeLength_2 : List UInt8 := [191, 28, 18, 200, 163, 0, 6, 18, 200, 172, 28, 172]
abbrev dktJ22_hugeLength_2 : List UInt8 := dkwJ22_hugeLength_2 ++ []
def dkwJ22_hugeLength_1 : List UInt8 := [26, 182, 0, 98, 18, 208, 182, 0, 94, 27, 182, 0, 98, 18, 210, 182, 0, 94, 182, 0, 101, 183, 0, 212]
abbrev dktJ22_hugeLength_1 : List UInt8 := dkwJ22_hugeLength_1 ++ dktJ22_hugeLength_2
def dkwJ22_hugeLength_0 : List UInt8 := [26, 27, 96, 61, 28, 156, 0, 44, 187, 0, 204, 89, 187, 0, 89, 89, 183, 0, 91, 18, 206, 182, 0, 94]
abbrev dktJ22_hugeLength_0 : List UInt8 := dkwJ22_hugeLength_0 ++ dktJ22_hugeLength_1
theorem dksJ22_hugeLength_0 : cJ22_hugeLength.data.toList.drop 0 = dktJ22_hugeLength_0 := by decide +kernel
theorem dksJ22_hugeLength_1 : cJ22_hugeLength.data.toList.drop 24 = dktJ22_hugeLength_1 := dk_seg dksJ22_hugeLength_0 24 rfl rfl
theorem dksJ22_hugeLength_2 : cJ22_hugeLength.data.toList.drop 48 = dktJ22_hugeLength_2 := dk_seg dksJ22_hugeLength_1 24 rfl rfl
theorem dJ22_hugeLength_0 : decode cJ22_hugeLength 0 = .ok (.iload_n 0, 1) := dk_26 (dk_at dksJ22_hugeLength_0 0 rfl rfl)
theorem dJ22_hugeLength_1 : decode cJ22_hugeLength 1 = .ok (.iload_n 1, 1) := dk_27 (dk_at dksJ22_hugeLength_0 1 rfl rfl)
theorem dJ22_hugeLength_2 : decode cJ22_hugeLength 2 = .ok (.iadd, 1) := dk_96 (dk_at dksJ22_hugeLength_0 2 rfl rfl)
theorem dJ22_hugeLength_3 : decode cJ22_hugeLength 3 = .ok (.istore_n 2, 1) := dk_61 (dk_at dksJ22_hugeLength_0 3 rfl rfl)
theorem dJ22_hugeLength_4 : decode cJ22_hugeLength 4 = .ok (.iload_n 2, 1) := dk_28 (dk_at dksJ22_hugeLength_0 4 rfl rfl)
theorem dJ22_hugeLength_5 : decode cJ22_hugeLength 5 = .ok (.ifCond .ge 44, 3) := dk_156 0 44 (dk_at dksJ22_hugeLength_0 5 rfl rfl)
theorem dJ22_hugeLength_8 : decode cJ22_hugeLength 8 = .ok (.new 204, 3) := dk_187 0 204 (dk_at dksJ22_hugeLength_0 8 rfl rfl)
theorem dJ22_hugeLength_11 : decode cJ22_hugeLength 11 = .ok (.dup, 1) := dk_89 (dk_at dksJ22_hugeLength_0 11 rfl rfl)
theorem dJ22_hugeLength_12 : decode cJ22_hugeLength 12 = .ok (.new 89, 3) := dk_187 0 89 (dk_at dksJ22_hugeLength_0 12 rfl rfl)
theorem dJ22_hugeLength_15 : decode cJ22_hugeLength 15 = .ok (.dup, 1) := dk_89 (dk_at dksJ22_hugeLength_0 15 rfl rfl)
theorem dJ22_hugeLength_16 : decode cJ22_hugeLength 16 = .ok (.invokespecial 91, 3) := dk_183 0 91 (dk_at dksJ22_hugeLength_0 16 rfl rfl)
theorem dJ22_hugeLength_19 : decode cJ22_hugeLength 19 = .ok (.ldc 206, 2) := dk_18 206 (dk_at dksJ22_hugeLength_0 19 rfl rfl)
theorem dJ22_hugeLength_21 : decode cJ22_hugeLength 21 = .ok (.invokevirtual 94, 3) := dk_182 0 94 (dk_at dksJ22_hugeLength_0 21 rfl rfl)
theorem dJ22_hugeLength_24 : decode cJ22_hugeLength 24 = .ok (.iload_n 0, 1) := dk_26 (dk_at dksJ22_hugeLength_1 0 rfl rfl)
theorem dJ22_hugeLength_25 : decode cJ22_hugeLength 25 = .ok (.invokevirtual 98, 3) := dk_182 0 98 (dk_at dksJ22_hugeLength_1 1 rfl rfl)
theorem dJ22_hugeLength_28 : decode cJ22_hugeLength 28 = .ok (.ldc 208, 2) := dk_18 208 (dk_at dksJ22_hugeLength_1 4 rfl rfl)
theorem dJ22_hugeLength_30 : decode cJ22_hugeLength 30 = .ok (.invokevirtual 94, 3) := dk_182 0 94 (dk_at dksJ22_hugeLength_1 6 rfl rfl)
theorem dJ22_hugeLength_33 : decode cJ22_hugeLength 33 = .ok (.iload_n 1, 1) := dk_27 (dk_at dksJ22_hugeLength_1 9 rfl rfl)
theorem dJ22_hugeLength_34 : decode cJ22_hugeLength 34 = .ok (.invokevirtual 98, 3) := dk_182 0 98 (dk_at dksJ22_hugeLength_1 10 rfl rfl)
theorem dJ22_hugeLength_37 : decode cJ22_hugeLength 37 = .ok (.ldc 210, 2) := dk_18 210 (dk_at dksJ22_hugeLength_1 13 rfl rfl)
theorem dJ22_hugeLength_39 : decode cJ22_hugeLength 39 = .ok (.invokevirtual 94, 3) := dk_182 0 94 (dk_at dksJ22_hugeLength_1 15 rfl rfl)
theorem dJ22_hugeLength_42 : decode cJ22_hugeLength 42 = .ok (.invokevirtual 101, 3) := dk_182 0 101 (dk_at dksJ22_hugeLength_1 18 rfl rfl)
theorem dJ22_hugeLength_45 : decode cJ22_hugeLength 45 = .ok (.invokespecial 212, 3) := dk_183 0 212 (dk_at dksJ22_hugeLength_1 21 rfl rfl)
theorem dJ22_hugeLength_48 : decode cJ22_hugeLength 48 = .ok (.athrow, 1) := dk_191 (dk_at dksJ22_hugeLength_2 0 rfl rfl)
theorem dJ22_hugeLength_49 : decode cJ22_hugeLength 49 = .ok (.iload_n 2, 1) := dk_28 (dk_at dksJ22_hugeLength_2 1 rfl rfl)
theorem dJ22_hugeLength_50 : decode cJ22_hugeLength 50 = .ok (.ldc 200, 2) := dk_18 200 (dk_at dksJ22_hugeLength_2 2 rfl rfl)
theorem dJ22_hugeLength_52 : decode cJ22_hugeLength 52 = .ok (.if_icmp .gt 6, 3) := dk_163 0 6 (dk_at dksJ22_hugeLength_2 4 rfl rfl)
theorem dJ22_hugeLength_55 : decode cJ22_hugeLength 55 = .ok (.ldc 200, 2) := dk_18 200 (dk_at dksJ22_hugeLength_2 7 rfl rfl)
theorem dJ22_hugeLength_57 : decode cJ22_hugeLength 57 = .ok (.ireturn, 1) := dk_172 (dk_at dksJ22_hugeLength_2 9 rfl rfl)
theorem dJ22_hugeLength_58 : decode cJ22_hugeLength 58 = .ok (.iload_n 2, 1) := dk_28 (dk_at dksJ22_hugeLength_2 10 rfl rfl)
theorem dJ22_hugeLength_59 : decode cJ22_hugeLength 59 = .ok (.ireturn, 1) := dk_172 (dk_at dksJ22_hugeLength_2 11 rfl rfl)
abbrev cJ22_vectorizedHashCode : ByteArray := prog_77_method_4_code
def yJ22_vectorizedHashCode : MethodName := ⟨RJ22, "vectorizedHashCode", "(Ljava/lang/Object;IIII)I"⟩
def dkwJ22_vectorizedHashCode_6 : List UInt8 := [183, 0, 91, 18, 92, 182, 0, 94, 21, 4, 182, 0, 98, 182, 0, 101, 183, 0, 105, 191, 172]
abbrev dktJ22_vectorizedHashCode_6 : List UInt8 := dkwJ22_vectorizedHashCode_6 ++ []
def dkwJ22_vectorizedHashCode_5 : List UInt8 := [167, 0, 44, 29, 42, 192, 0, 82, 27, 28, 184, 0, 84, 167, 0, 31, 187, 0, 87, 89, 187, 0, 89, 89]
abbrev dktJ22_vectorizedHashCode_5 : List UInt8 := dkwJ22_vectorizedHashCode_5 ++ dktJ22_vectorizedHashCode_6
def dkwJ22_vectorizedHashCode_4 : List UInt8 := [29, 42, 192, 0, 60, 27, 28, 184, 0, 75, 167, 0, 57, 29, 42, 192, 0, 77, 27, 28, 184, 0, 79]
abbrev dktJ22_vectorizedHashCode_4 : List UInt8 := dkwJ22_vectorizedHashCode_4 ++ dktJ22_vectorizedHashCode_5
def dkwJ22_vectorizedHashCode_3 : List UInt8 := [192, 0, 60, 27, 28, 184, 0, 66, 167, 0, 83, 29, 42, 192, 0, 69, 27, 28, 184, 0, 71, 167, 0, 70]
abbrev dktJ22_vectorizedHashCode_3 : List UInt8 := dkwJ22_vectorizedHashCode_3 ++ dktJ22_vectorizedHashCode_4
def dkwJ22_vectorizedHashCode_2 : List UInt8 := [29, 42, 192, 0, 60, 27, 28, 184, 0, 62, 167, 0, 103, 42, 193, 0, 60, 153, 0, 16, 29, 42]
abbrev dktJ22_vectorizedHashCode_2 : List UInt8 := dkwJ22_vectorizedHashCode_2 ++ dktJ22_vectorizedHashCode_3
def dkwJ22_vectorizedHashCode_1 : List UInt8 := [170, 0, 0, 0, 0, 127, 0, 0, 0, 4, 0, 0, 0, 10, 0, 0, 0, 42, 0, 0, 0, 55, 0, 0, 0, 127, 0, 0, 0, 127, 0, 0, 0, 88, 0, 0, 0, 101, 0, 0, 0, 114]
abbrev dktJ22_vectorizedHashCode_1 : List UInt8 := dkwJ22_vectorizedHashCode_1 ++ dktJ22_vectorizedHashCode_2
def dkwJ22_vectorizedHashCode_0 : List UInt8 := [21, 4]
abbrev dktJ22_vectorizedHashCode_0 : List UInt8 := dkwJ22_vectorizedHashCode_0 ++ dktJ22_vectorizedHashCode_1
theorem dksJ22_vectorizedHashCode_0 : cJ22_vectorizedHashCode.data.toList.drop 0 = dktJ22_vectorizedHashCode_0 := by decide +kernel
theorem dksJ22_vectorizedHashCode_1 : cJ22_vectorizedHashCode.data.toList.drop 2 = dktJ22_vectorizedHashCode_1 := dk_seg dksJ22_vectorizedHashCode_0 2 rfl rfl
theorem dksJ22_vectorizedHashCode_2 : cJ22_vectorizedHashCode.data.toList.drop 44 = dktJ22_vectorizedHashCode_2 := dk_seg dksJ22_vectorizedHashCode_1 42 rfl rfl
theorem dksJ22_vectorizedHashCode_3 : cJ22_vectorizedHashCode.data.toList.drop 66 = dktJ22_vectorizedHashCode_3 := dk_seg dksJ22_vectorizedHashCode_2 22 rfl rfl
theorem dksJ22_vectorizedHashCode_4 : cJ22_vectorizedHashCode.data.toList.drop 90 = dktJ22_vectorizedHashCode_4 := dk_seg dksJ22_vectorizedHashCode_3 24 rfl rfl
theorem dksJ22_vectorizedHashCode_5 : cJ22_vectorizedHashCode.data.toList.drop 113 = dktJ22_vectorizedHashCode_5 := dk_seg dksJ22_vectorizedHashCode_4 23 rfl rfl
theorem dksJ22_vectorizedHashCode_6 : cJ22_vectorizedHashCode.data.toList.drop 137 = dktJ22_vectorizedHashCode_6 := dk_seg dksJ22_vectorizedHashCode_5 24 rfl rfl
theorem dJ22_vectorizedHashCode_0 : decode cJ22_vectorizedHashCode 0 = .ok (.iload 4, 2) := dk_21 4 (dk_at dksJ22_vectorizedHashCode_0 0 rfl rfl)
theorem dJ22_vectorizedHashCode_2 : decode cJ22_vectorizedHashCode 2 = .ok (.tableswitch 127 4 10 #[42, 55, 127, 127, 88, 101, 114], 42) := by decide +kernel
theorem dJ22_vectorizedHashCode_44 : decode cJ22_vectorizedHashCode 44 = .ok (.iload_n 3, 1) := dk_29 (dk_at dksJ22_vectorizedHashCode_2 0 rfl rfl)
theorem dJ22_vectorizedHashCode_45 : decode cJ22_vectorizedHashCode 45 = .ok (.aload_n 0, 1) := dk_42 (dk_at dksJ22_vectorizedHashCode_2 1 rfl rfl)
theorem dJ22_vectorizedHashCode_46 : decode cJ22_vectorizedHashCode 46 = .ok (.checkcast 60, 3) := dk_192 0 60 (dk_at dksJ22_vectorizedHashCode_2 2 rfl rfl)
theorem dJ22_vectorizedHashCode_49 : decode cJ22_vectorizedHashCode 49 = .ok (.iload_n 1, 1) := dk_27 (dk_at dksJ22_vectorizedHashCode_2 5 rfl rfl)
theorem dJ22_vectorizedHashCode_50 : decode cJ22_vectorizedHashCode 50 = .ok (.iload_n 2, 1) := dk_28 (dk_at dksJ22_vectorizedHashCode_2 6 rfl rfl)
theorem dJ22_vectorizedHashCode_51 : decode cJ22_vectorizedHashCode 51 = .ok (.invokestatic 62, 3) := dk_184 0 62 (dk_at dksJ22_vectorizedHashCode_2 7 rfl rfl)
theorem dJ22_vectorizedHashCode_54 : decode cJ22_vectorizedHashCode 54 = .ok (.goto 103, 3) := dk_167 0 103 (dk_at dksJ22_vectorizedHashCode_2 10 rfl rfl)
theorem dJ22_vectorizedHashCode_57 : decode cJ22_vectorizedHashCode 57 = .ok (.aload_n 0, 1) := dk_42 (dk_at dksJ22_vectorizedHashCode_2 13 rfl rfl)
theorem dJ22_vectorizedHashCode_58 : decode cJ22_vectorizedHashCode 58 = .ok (.instanceof 60, 3) := dk_193 0 60 (dk_at dksJ22_vectorizedHashCode_2 14 rfl rfl)
theorem dJ22_vectorizedHashCode_61 : decode cJ22_vectorizedHashCode 61 = .ok (.ifCond .eq 16, 3) := dk_153 0 16 (dk_at dksJ22_vectorizedHashCode_2 17 rfl rfl)
theorem dJ22_vectorizedHashCode_64 : decode cJ22_vectorizedHashCode 64 = .ok (.iload_n 3, 1) := dk_29 (dk_at dksJ22_vectorizedHashCode_2 20 rfl rfl)
theorem dJ22_vectorizedHashCode_65 : decode cJ22_vectorizedHashCode 65 = .ok (.aload_n 0, 1) := dk_42 (dk_at dksJ22_vectorizedHashCode_2 21 rfl rfl)
theorem dJ22_vectorizedHashCode_66 : decode cJ22_vectorizedHashCode 66 = .ok (.checkcast 60, 3) := dk_192 0 60 (dk_at dksJ22_vectorizedHashCode_3 0 rfl rfl)
theorem dJ22_vectorizedHashCode_69 : decode cJ22_vectorizedHashCode 69 = .ok (.iload_n 1, 1) := dk_27 (dk_at dksJ22_vectorizedHashCode_3 3 rfl rfl)
theorem dJ22_vectorizedHashCode_70 : decode cJ22_vectorizedHashCode 70 = .ok (.iload_n 2, 1) := dk_28 (dk_at dksJ22_vectorizedHashCode_3 4 rfl rfl)
theorem dJ22_vectorizedHashCode_71 : decode cJ22_vectorizedHashCode 71 = .ok (.invokestatic 66, 3) := dk_184 0 66 (dk_at dksJ22_vectorizedHashCode_3 5 rfl rfl)
theorem dJ22_vectorizedHashCode_74 : decode cJ22_vectorizedHashCode 74 = .ok (.goto 83, 3) := dk_167 0 83 (dk_at dksJ22_vectorizedHashCode_3 8 rfl rfl)
theorem dJ22_vectorizedHashCode_77 : decode cJ22_vectorizedHashCode 77 = .ok (.iload_n 3, 1) := dk_29 (dk_at dksJ22_vectorizedHashCode_3 11 rfl rfl)
theorem dJ22_vectorizedHashCode_78 : decode cJ22_vectorizedHashCode 78 = .ok (.aload_n 0, 1) := dk_42 (dk_at dksJ22_vectorizedHashCode_3 12 rfl rfl)
theorem dJ22_vectorizedHashCode_79 : decode cJ22_vectorizedHashCode 79 = .ok (.checkcast 69, 3) := dk_192 0 69 (dk_at dksJ22_vectorizedHashCode_3 13 rfl rfl)
theorem dJ22_vectorizedHashCode_82 : decode cJ22_vectorizedHashCode 82 = .ok (.iload_n 1, 1) := dk_27 (dk_at dksJ22_vectorizedHashCode_3 16 rfl rfl)
theorem dJ22_vectorizedHashCode_83 : decode cJ22_vectorizedHashCode 83 = .ok (.iload_n 2, 1) := dk_28 (dk_at dksJ22_vectorizedHashCode_3 17 rfl rfl)
theorem dJ22_vectorizedHashCode_84 : decode cJ22_vectorizedHashCode 84 = .ok (.invokestatic 71, 3) := dk_184 0 71 (dk_at dksJ22_vectorizedHashCode_3 18 rfl rfl)
theorem dJ22_vectorizedHashCode_87 : decode cJ22_vectorizedHashCode 87 = .ok (.goto 70, 3) := dk_167 0 70 (dk_at dksJ22_vectorizedHashCode_3 21 rfl rfl)
theorem dJ22_vectorizedHashCode_90 : decode cJ22_vectorizedHashCode 90 = .ok (.iload_n 3, 1) := dk_29 (dk_at dksJ22_vectorizedHashCode_4 0 rfl rfl)
theorem dJ22_vectorizedHashCode_91 : decode cJ22_vectorizedHashCode 91 = .ok (.aload_n 0, 1) := dk_42 (dk_at dksJ22_vectorizedHashCode_4 1 rfl rfl)
theorem dJ22_vectorizedHashCode_92 : decode cJ22_vectorizedHashCode 92 = .ok (.checkcast 60, 3) := dk_192 0 60 (dk_at dksJ22_vectorizedHashCode_4 2 rfl rfl)
theorem dJ22_vectorizedHashCode_95 : decode cJ22_vectorizedHashCode 95 = .ok (.iload_n 1, 1) := dk_27 (dk_at dksJ22_vectorizedHashCode_4 5 rfl rfl)
theorem dJ22_vectorizedHashCode_96 : decode cJ22_vectorizedHashCode 96 = .ok (.iload_n 2, 1) := dk_28 (dk_at dksJ22_vectorizedHashCode_4 6 rfl rfl)
theorem dJ22_vectorizedHashCode_97 : decode cJ22_vectorizedHashCode 97 = .ok (.invokestatic 75, 3) := dk_184 0 75 (dk_at dksJ22_vectorizedHashCode_4 7 rfl rfl)
theorem dJ22_vectorizedHashCode_100 : decode cJ22_vectorizedHashCode 100 = .ok (.goto 57, 3) := dk_167 0 57 (dk_at dksJ22_vectorizedHashCode_4 10 rfl rfl)
theorem dJ22_vectorizedHashCode_103 : decode cJ22_vectorizedHashCode 103 = .ok (.iload_n 3, 1) := dk_29 (dk_at dksJ22_vectorizedHashCode_4 13 rfl rfl)
theorem dJ22_vectorizedHashCode_104 : decode cJ22_vectorizedHashCode 104 = .ok (.aload_n 0, 1) := dk_42 (dk_at dksJ22_vectorizedHashCode_4 14 rfl rfl)
theorem dJ22_vectorizedHashCode_105 : decode cJ22_vectorizedHashCode 105 = .ok (.checkcast 77, 3) := dk_192 0 77 (dk_at dksJ22_vectorizedHashCode_4 15 rfl rfl)
theorem dJ22_vectorizedHashCode_108 : decode cJ22_vectorizedHashCode 108 = .ok (.iload_n 1, 1) := dk_27 (dk_at dksJ22_vectorizedHashCode_4 18 rfl rfl)
theorem dJ22_vectorizedHashCode_109 : decode cJ22_vectorizedHashCode 109 = .ok (.iload_n 2, 1) := dk_28 (dk_at dksJ22_vectorizedHashCode_4 19 rfl rfl)
theorem dJ22_vectorizedHashCode_110 : decode cJ22_vectorizedHashCode 110 = .ok (.invokestatic 79, 3) := dk_184 0 79 (dk_at dksJ22_vectorizedHashCode_4 20 rfl rfl)
theorem dJ22_vectorizedHashCode_113 : decode cJ22_vectorizedHashCode 113 = .ok (.goto 44, 3) := dk_167 0 44 (dk_at dksJ22_vectorizedHashCode_5 0 rfl rfl)
theorem dJ22_vectorizedHashCode_116 : decode cJ22_vectorizedHashCode 116 = .ok (.iload_n 3, 1) := dk_29 (dk_at dksJ22_vectorizedHashCode_5 3 rfl rfl)
theorem dJ22_vectorizedHashCode_117 : decode cJ22_vectorizedHashCode 117 = .ok (.aload_n 0, 1) := dk_42 (dk_at dksJ22_vectorizedHashCode_5 4 rfl rfl)
theorem dJ22_vectorizedHashCode_118 : decode cJ22_vectorizedHashCode 118 = .ok (.checkcast 82, 3) := dk_192 0 82 (dk_at dksJ22_vectorizedHashCode_5 5 rfl rfl)
theorem dJ22_vectorizedHashCode_121 : decode cJ22_vectorizedHashCode 121 = .ok (.iload_n 1, 1) := dk_27 (dk_at dksJ22_vectorizedHashCode_5 8 rfl rfl)
theorem dJ22_vectorizedHashCode_122 : decode cJ22_vectorizedHashCode 122 = .ok (.iload_n 2, 1) := dk_28 (dk_at dksJ22_vectorizedHashCode_5 9 rfl rfl)
theorem dJ22_vectorizedHashCode_123 : decode cJ22_vectorizedHashCode 123 = .ok (.invokestatic 84, 3) := dk_184 0 84 (dk_at dksJ22_vectorizedHashCode_5 10 rfl rfl)
theorem dJ22_vectorizedHashCode_126 : decode cJ22_vectorizedHashCode 126 = .ok (.goto 31, 3) := dk_167 0 31 (dk_at dksJ22_vectorizedHashCode_5 13 rfl rfl)
theorem dJ22_vectorizedHashCode_129 : decode cJ22_vectorizedHashCode 129 = .ok (.new 87, 3) := dk_187 0 87 (dk_at dksJ22_vectorizedHashCode_5 16 rfl rfl)
theorem dJ22_vectorizedHashCode_132 : decode cJ22_vectorizedHashCode 132 = .ok (.dup, 1) := dk_89 (dk_at dksJ22_vectorizedHashCode_5 19 rfl rfl)
theorem dJ22_vectorizedHashCode_133 : decode cJ22_vectorizedHashCode 133 = .ok (.new 89, 3) := dk_187 0 89 (dk_at dksJ22_vectorizedHashCode_5 20 rfl rfl)
theorem dJ22_vectorizedHashCode_136 : decode cJ22_vectorizedHashCode 136 = .ok (.dup, 1) := dk_89 (dk_at dksJ22_vectorizedHashCode_5 23 rfl rfl)
theorem dJ22_vectorizedHashCode_137 : decode cJ22_vectorizedHashCode 137 = .ok (.invokespecial 91, 3) := dk_183 0 91 (dk_at dksJ22_vectorizedHashCode_6 0 rfl rfl)
theorem dJ22_vectorizedHashCode_140 : decode cJ22_vectorizedHashCode 140 = .ok (.ldc 92, 2) := dk_18 92 (dk_at dksJ22_vectorizedHashCode_6 3 rfl rfl)
theorem dJ22_vectorizedHashCode_142 : decode cJ22_vectorizedHashCode 142 = .ok (.invokevirtual 94, 3) := dk_182 0 94 (dk_at dksJ22_vectorizedHashCode_6 5 rfl rfl)
theorem dJ22_vectorizedHashCode_145 : decode cJ22_vectorizedHashCode 145 = .ok (.iload 4, 2) := dk_21 4 (dk_at dksJ22_vectorizedHashCode_6 8 rfl rfl)
theorem dJ22_vectorizedHashCode_147 : decode cJ22_vectorizedHashCode 147 = .ok (.invokevirtual 98, 3) := dk_182 0 98 (dk_at dksJ22_vectorizedHashCode_6 10 rfl rfl)
theorem dJ22_vectorizedHashCode_150 : decode cJ22_vectorizedHashCode 150 = .ok (.invokevirtual 101, 3) := dk_182 0 101 (dk_at dksJ22_vectorizedHashCode_6 13 rfl rfl)
theorem dJ22_vectorizedHashCode_153 : decode cJ22_vectorizedHashCode 153 = .ok (.invokespecial 105, 3) := dk_183 0 105 (dk_at dksJ22_vectorizedHashCode_6 16 rfl rfl)
theorem dJ22_vectorizedHashCode_156 : decode cJ22_vectorizedHashCode 156 = .ok (.athrow, 1) := dk_191 (dk_at dksJ22_vectorizedHashCode_6 19 rfl rfl)
theorem dJ22_vectorizedHashCode_157 : decode cJ22_vectorizedHashCode 157 = .ok (.ireturn, 1) := dk_172 (dk_at dksJ22_vectorizedHashCode_6 20 rfl rfl)
abbrev cJ22_signedHashCode : ByteArray := prog_77_method_5_code
def yJ22_signedHashCode : MethodName := ⟨RJ22, "signedHashCode", "(I[BII)I"⟩
def dkwJ22_signedHashCode_1 : List UInt8 := [17, 0, 255, 126, 96, 59, 132, 5, 1, 167, 255, 232, 26, 172]
abbrev dktJ22_signedHashCode_1 : List UInt8 := dkwJ22_signedHashCode_1 ++ []
def dkwJ22_signedHashCode_0 : List UInt8 := [28, 29, 96, 54, 4, 28, 54, 5, 21, 5, 21, 4, 162, 0, 23, 16, 31, 26, 104, 43, 21, 5, 51]
abbrev dktJ22_signedHashCode_0 : List UInt8 := dkwJ22_signedHashCode_0 ++ dktJ22_signedHashCode_1
theorem dksJ22_signedHashCode_0 : cJ22_signedHashCode.data.toList.drop 0 = dktJ22_signedHashCode_0 := by decide +kernel
theorem dksJ22_signedHashCode_1 : cJ22_signedHashCode.data.toList.drop 23 = dktJ22_signedHashCode_1 := dk_seg dksJ22_signedHashCode_0 23 rfl rfl
theorem dJ22_signedHashCode_0 : decode cJ22_signedHashCode 0 = .ok (.iload_n 2, 1) := dk_28 (dk_at dksJ22_signedHashCode_0 0 rfl rfl)
theorem dJ22_signedHashCode_1 : decode cJ22_signedHashCode 1 = .ok (.iload_n 3, 1) := dk_29 (dk_at dksJ22_signedHashCode_0 1 rfl rfl)
theorem dJ22_signedHashCode_2 : decode cJ22_signedHashCode 2 = .ok (.iadd, 1) := dk_96 (dk_at dksJ22_signedHashCode_0 2 rfl rfl)
theorem dJ22_signedHashCode_3 : decode cJ22_signedHashCode 3 = .ok (.istore 4, 2) := dk_54 4 (dk_at dksJ22_signedHashCode_0 3 rfl rfl)
theorem dJ22_signedHashCode_5 : decode cJ22_signedHashCode 5 = .ok (.iload_n 2, 1) := dk_28 (dk_at dksJ22_signedHashCode_0 5 rfl rfl)
theorem dJ22_signedHashCode_6 : decode cJ22_signedHashCode 6 = .ok (.istore 5, 2) := dk_54 5 (dk_at dksJ22_signedHashCode_0 6 rfl rfl)
theorem dJ22_signedHashCode_8 : decode cJ22_signedHashCode 8 = .ok (.iload 5, 2) := dk_21 5 (dk_at dksJ22_signedHashCode_0 8 rfl rfl)
theorem dJ22_signedHashCode_10 : decode cJ22_signedHashCode 10 = .ok (.iload 4, 2) := dk_21 4 (dk_at dksJ22_signedHashCode_0 10 rfl rfl)
theorem dJ22_signedHashCode_12 : decode cJ22_signedHashCode 12 = .ok (.if_icmp .ge 23, 3) := dk_162 0 23 (dk_at dksJ22_signedHashCode_0 12 rfl rfl)
theorem dJ22_signedHashCode_15 : decode cJ22_signedHashCode 15 = .ok (.bipush 31, 2) := dk_16 31 (dk_at dksJ22_signedHashCode_0 15 rfl rfl)
theorem dJ22_signedHashCode_17 : decode cJ22_signedHashCode 17 = .ok (.iload_n 0, 1) := dk_26 (dk_at dksJ22_signedHashCode_0 17 rfl rfl)
theorem dJ22_signedHashCode_18 : decode cJ22_signedHashCode 18 = .ok (.imul, 1) := dk_104 (dk_at dksJ22_signedHashCode_0 18 rfl rfl)
theorem dJ22_signedHashCode_19 : decode cJ22_signedHashCode 19 = .ok (.aload_n 1, 1) := dk_43 (dk_at dksJ22_signedHashCode_0 19 rfl rfl)
theorem dJ22_signedHashCode_20 : decode cJ22_signedHashCode 20 = .ok (.iload 5, 2) := dk_21 5 (dk_at dksJ22_signedHashCode_0 20 rfl rfl)
theorem dJ22_signedHashCode_22 : decode cJ22_signedHashCode 22 = .ok (.baload, 1) := dk_51 (dk_at dksJ22_signedHashCode_0 22 rfl rfl)
theorem dJ22_signedHashCode_23 : decode cJ22_signedHashCode 23 = .ok (.sipush 255, 3) := dk_17 0 255 (dk_at dksJ22_signedHashCode_1 0 rfl rfl)
theorem dJ22_signedHashCode_26 : decode cJ22_signedHashCode 26 = .ok (.iand, 1) := dk_126 (dk_at dksJ22_signedHashCode_1 3 rfl rfl)
theorem dJ22_signedHashCode_27 : decode cJ22_signedHashCode 27 = .ok (.iadd, 1) := dk_96 (dk_at dksJ22_signedHashCode_1 4 rfl rfl)
theorem dJ22_signedHashCode_28 : decode cJ22_signedHashCode 28 = .ok (.istore_n 0, 1) := dk_59 (dk_at dksJ22_signedHashCode_1 5 rfl rfl)
theorem dJ22_signedHashCode_29 : decode cJ22_signedHashCode 29 = .ok (.iinc 5 1, 3) := dk_132 5 1 (dk_at dksJ22_signedHashCode_1 6 rfl rfl)
theorem dJ22_signedHashCode_32 : decode cJ22_signedHashCode 32 = .ok (.goto (-24), 3) := dk_167 255 232 (dk_at dksJ22_signedHashCode_1 9 rfl rfl)
theorem dJ22_signedHashCode_35 : decode cJ22_signedHashCode 35 = .ok (.iload_n 0, 1) := dk_26 (dk_at dksJ22_signedHashCode_1 12 rfl rfl)
theorem dJ22_signedHashCode_36 : decode cJ22_signedHashCode 36 = .ok (.ireturn, 1) := dk_172 (dk_at dksJ22_signedHashCode_1 13 rfl rfl)
abbrev cJ22_utf16hashCode : ByteArray := prog_77_method_10_code
def yJ22_utf16hashCode : MethodName := ⟨RJ22, "utf16hashCode", "(I[BII)I"⟩
def dkwJ22_utf16hashCode_1 : List UInt8 := [21, 5, 185, 0, 110, 3, 0, 96, 59, 132, 5, 1, 167, 255, 229, 26, 172]
abbrev dktJ22_utf16hashCode_1 : List UInt8 := dkwJ22_utf16hashCode_1 ++ []
def dkwJ22_utf16hashCode_0 : List UInt8 := [28, 29, 96, 54, 4, 28, 54, 5, 21, 5, 21, 4, 162, 0, 26, 16, 31, 26, 104, 178, 0, 106, 43]
abbrev dktJ22_utf16hashCode_0 : List UInt8 := dkwJ22_utf16hashCode_0 ++ dktJ22_utf16hashCode_1
theorem dksJ22_utf16hashCode_0 : cJ22_utf16hashCode.data.toList.drop 0 = dktJ22_utf16hashCode_0 := by decide +kernel
theorem dksJ22_utf16hashCode_1 : cJ22_utf16hashCode.data.toList.drop 23 = dktJ22_utf16hashCode_1 := dk_seg dksJ22_utf16hashCode_0 23 rfl rfl
theorem dJ22_utf16hashCode_0 : decode cJ22_utf16hashCode 0 = .ok (.iload_n 2, 1) := dk_28 (dk_at dksJ22_utf16hashCode_0 0 rfl rfl)
theorem dJ22_utf16hashCode_1 : decode cJ22_utf16hashCode 1 = .ok (.iload_n 3, 1) := dk_29 (dk_at dksJ22_utf16hashCode_0 1 rfl rfl)
theorem dJ22_utf16hashCode_2 : decode cJ22_utf16hashCode 2 = .ok (.iadd, 1) := dk_96 (dk_at dksJ22_utf16hashCode_0 2 rfl rfl)
theorem dJ22_utf16hashCode_3 : decode cJ22_utf16hashCode 3 = .ok (.istore 4, 2) := dk_54 4 (dk_at dksJ22_utf16hashCode_0 3 rfl rfl)
theorem dJ22_utf16hashCode_5 : decode cJ22_utf16hashCode 5 = .ok (.iload_n 2, 1) := dk_28 (dk_at dksJ22_utf16hashCode_0 5 rfl rfl)
theorem dJ22_utf16hashCode_6 : decode cJ22_utf16hashCode 6 = .ok (.istore 5, 2) := dk_54 5 (dk_at dksJ22_utf16hashCode_0 6 rfl rfl)
theorem dJ22_utf16hashCode_8 : decode cJ22_utf16hashCode 8 = .ok (.iload 5, 2) := dk_21 5 (dk_at dksJ22_utf16hashCode_0 8 rfl rfl)
theorem dJ22_utf16hashCode_10 : decode cJ22_utf16hashCode 10 = .ok (.iload 4, 2) := dk_21 4 (dk_at dksJ22_utf16hashCode_0 10 rfl rfl)
theorem dJ22_utf16hashCode_12 : decode cJ22_utf16hashCode 12 = .ok (.if_icmp .ge 26, 3) := dk_162 0 26 (dk_at dksJ22_utf16hashCode_0 12 rfl rfl)
theorem dJ22_utf16hashCode_15 : decode cJ22_utf16hashCode 15 = .ok (.bipush 31, 2) := dk_16 31 (dk_at dksJ22_utf16hashCode_0 15 rfl rfl)
theorem dJ22_utf16hashCode_17 : decode cJ22_utf16hashCode 17 = .ok (.iload_n 0, 1) := dk_26 (dk_at dksJ22_utf16hashCode_0 17 rfl rfl)
theorem dJ22_utf16hashCode_18 : decode cJ22_utf16hashCode 18 = .ok (.imul, 1) := dk_104 (dk_at dksJ22_utf16hashCode_0 18 rfl rfl)
theorem dJ22_utf16hashCode_19 : decode cJ22_utf16hashCode 19 = .ok (.getstatic 106, 3) := dk_178 0 106 (dk_at dksJ22_utf16hashCode_0 19 rfl rfl)
theorem dJ22_utf16hashCode_22 : decode cJ22_utf16hashCode 22 = .ok (.aload_n 1, 1) := dk_43 (dk_at dksJ22_utf16hashCode_0 22 rfl rfl)
theorem dJ22_utf16hashCode_23 : decode cJ22_utf16hashCode 23 = .ok (.iload 5, 2) := dk_21 5 (dk_at dksJ22_utf16hashCode_1 0 rfl rfl)
theorem dJ22_utf16hashCode_25 : decode cJ22_utf16hashCode 25 = .ok (.invokeinterface 110 3, 5) := by decide +kernel
theorem dJ22_utf16hashCode_30 : decode cJ22_utf16hashCode 30 = .ok (.iadd, 1) := dk_96 (dk_at dksJ22_utf16hashCode_1 7 rfl rfl)
theorem dJ22_utf16hashCode_31 : decode cJ22_utf16hashCode 31 = .ok (.istore_n 0, 1) := dk_59 (dk_at dksJ22_utf16hashCode_1 8 rfl rfl)
theorem dJ22_utf16hashCode_32 : decode cJ22_utf16hashCode 32 = .ok (.iinc 5 1, 3) := dk_132 5 1 (dk_at dksJ22_utf16hashCode_1 9 rfl rfl)
theorem dJ22_utf16hashCode_35 : decode cJ22_utf16hashCode 35 = .ok (.goto (-27), 3) := dk_167 255 229 (dk_at dksJ22_utf16hashCode_1 12 rfl rfl)
theorem dJ22_utf16hashCode_38 : decode cJ22_utf16hashCode 38 = .ok (.iload_n 0, 1) := dk_26 (dk_at dksJ22_utf16hashCode_1 15 rfl rfl)
theorem dJ22_utf16hashCode_39 : decode cJ22_utf16hashCode 39 = .ok (.ireturn, 1) := dk_172 (dk_at dksJ22_utf16hashCode_1 16 rfl rfl)
abbrev cJ22_hashCode : ByteArray := prog_77_method_7_code
def yJ22_hashCode : MethodName := ⟨RJ22, "hashCode", "(I[CII)I"⟩
def dkwJ22_hashCode_1 : List UInt8 := [59, 132, 5, 1, 167, 255, 236, 26, 172]
abbrev dktJ22_hashCode_1 : List UInt8 := dkwJ22_hashCode_1 ++ []
def dkwJ22_hashCode_0 : List UInt8 := [28, 29, 96, 54, 4, 28, 54, 5, 21, 5, 21, 4, 162, 0, 19, 16, 31, 26, 104, 43, 21, 5, 52, 96]
abbrev dktJ22_hashCode_0 : List UInt8 := dkwJ22_hashCode_0 ++ dktJ22_hashCode_1
theorem dksJ22_hashCode_0 : cJ22_hashCode.data.toList.drop 0 = dktJ22_hashCode_0 := by decide +kernel
theorem dksJ22_hashCode_1 : cJ22_hashCode.data.toList.drop 24 = dktJ22_hashCode_1 := dk_seg dksJ22_hashCode_0 24 rfl rfl
theorem dJ22_hashCode_0 : decode cJ22_hashCode 0 = .ok (.iload_n 2, 1) := dk_28 (dk_at dksJ22_hashCode_0 0 rfl rfl)
theorem dJ22_hashCode_1 : decode cJ22_hashCode 1 = .ok (.iload_n 3, 1) := dk_29 (dk_at dksJ22_hashCode_0 1 rfl rfl)
theorem dJ22_hashCode_2 : decode cJ22_hashCode 2 = .ok (.iadd, 1) := dk_96 (dk_at dksJ22_hashCode_0 2 rfl rfl)
theorem dJ22_hashCode_3 : decode cJ22_hashCode 3 = .ok (.istore 4, 2) := dk_54 4 (dk_at dksJ22_hashCode_0 3 rfl rfl)
theorem dJ22_hashCode_5 : decode cJ22_hashCode 5 = .ok (.iload_n 2, 1) := dk_28 (dk_at dksJ22_hashCode_0 5 rfl rfl)
theorem dJ22_hashCode_6 : decode cJ22_hashCode 6 = .ok (.istore 5, 2) := dk_54 5 (dk_at dksJ22_hashCode_0 6 rfl rfl)
theorem dJ22_hashCode_8 : decode cJ22_hashCode 8 = .ok (.iload 5, 2) := dk_21 5 (dk_at dksJ22_hashCode_0 8 rfl rfl)
theorem dJ22_hashCode_10 : decode cJ22_hashCode 10 = .ok (.iload 4, 2) := dk_21 4 (dk_at dksJ22_hashCode_0 10 rfl rfl)
theorem dJ22_hashCode_12 : decode cJ22_hashCode 12 = .ok (.if_icmp .ge 19, 3) := dk_162 0 19 (dk_at dksJ22_hashCode_0 12 rfl rfl)
theorem dJ22_hashCode_15 : decode cJ22_hashCode 15 = .ok (.bipush 31, 2) := dk_16 31 (dk_at dksJ22_hashCode_0 15 rfl rfl)
theorem dJ22_hashCode_17 : decode cJ22_hashCode 17 = .ok (.iload_n 0, 1) := dk_26 (dk_at dksJ22_hashCode_0 17 rfl rfl)
theorem dJ22_hashCode_18 : decode cJ22_hashCode 18 = .ok (.imul, 1) := dk_104 (dk_at dksJ22_hashCode_0 18 rfl rfl)
theorem dJ22_hashCode_19 : decode cJ22_hashCode 19 = .ok (.aload_n 1, 1) := dk_43 (dk_at dksJ22_hashCode_0 19 rfl rfl)
theorem dJ22_hashCode_20 : decode cJ22_hashCode 20 = .ok (.iload 5, 2) := dk_21 5 (dk_at dksJ22_hashCode_0 20 rfl rfl)
theorem dJ22_hashCode_22 : decode cJ22_hashCode 22 = .ok (.caload, 1) := dk_52 (dk_at dksJ22_hashCode_0 22 rfl rfl)
theorem dJ22_hashCode_23 : decode cJ22_hashCode 23 = .ok (.iadd, 1) := dk_96 (dk_at dksJ22_hashCode_0 23 rfl rfl)
theorem dJ22_hashCode_24 : decode cJ22_hashCode 24 = .ok (.istore_n 0, 1) := dk_59 (dk_at dksJ22_hashCode_1 0 rfl rfl)
theorem dJ22_hashCode_25 : decode cJ22_hashCode 25 = .ok (.iinc 5 1, 3) := dk_132 5 1 (dk_at dksJ22_hashCode_1 1 rfl rfl)
theorem dJ22_hashCode_28 : decode cJ22_hashCode 28 = .ok (.goto (-20), 3) := dk_167 255 236 (dk_at dksJ22_hashCode_1 4 rfl rfl)
theorem dJ22_hashCode_31 : decode cJ22_hashCode 31 = .ok (.iload_n 0, 1) := dk_26 (dk_at dksJ22_hashCode_1 7 rfl rfl)
theorem dJ22_hashCode_32 : decode cJ22_hashCode 32 = .ok (.ireturn, 1) := dk_172 (dk_at dksJ22_hashCode_1 8 rfl rfl)
abbrev cJ22_hashCode_2 : ByteArray := prog_77_method_6_code
def yJ22_hashCode_2 : MethodName := ⟨RJ22, "hashCode", "(I[BII)I"⟩
def dkwJ22_hashCode_2_1 : List UInt8 := [59, 132, 5, 1, 167, 255, 236, 26, 172]
abbrev dktJ22_hashCode_2_1 : List UInt8 := dkwJ22_hashCode_2_1 ++ []
def dkwJ22_hashCode_2_0 : List UInt8 := [28, 29, 96, 54, 4, 28, 54, 5, 21, 5, 21, 4, 162, 0, 19, 16, 31, 26, 104, 43, 21, 5, 51, 96]
abbrev dktJ22_hashCode_2_0 : List UInt8 := dkwJ22_hashCode_2_0 ++ dktJ22_hashCode_2_1
theorem dksJ22_hashCode_2_0 : cJ22_hashCode_2.data.toList.drop 0 = dktJ22_hashCode_2_0 := by decide +kernel
theorem dksJ22_hashCode_2_1 : cJ22_hashCode_2.data.toList.drop 24 = dktJ22_hashCode_2_1 := dk_seg dksJ22_hashCode_2_0 24 rfl rfl
theorem dJ22_hashCode_2_0 : decode cJ22_hashCode_2 0 = .ok (.iload_n 2, 1) := dk_28 (dk_at dksJ22_hashCode_2_0 0 rfl rfl)
theorem dJ22_hashCode_2_1 : decode cJ22_hashCode_2 1 = .ok (.iload_n 3, 1) := dk_29 (dk_at dksJ22_hashCode_2_0 1 rfl rfl)
theorem dJ22_hashCode_2_2 : decode cJ22_hashCode_2 2 = .ok (.iadd, 1) := dk_96 (dk_at dksJ22_hashCode_2_0 2 rfl rfl)
theorem dJ22_hashCode_2_3 : decode cJ22_hashCode_2 3 = .ok (.istore 4, 2) := dk_54 4 (dk_at dksJ22_hashCode_2_0 3 rfl rfl)
theorem dJ22_hashCode_2_5 : decode cJ22_hashCode_2 5 = .ok (.iload_n 2, 1) := dk_28 (dk_at dksJ22_hashCode_2_0 5 rfl rfl)
theorem dJ22_hashCode_2_6 : decode cJ22_hashCode_2 6 = .ok (.istore 5, 2) := dk_54 5 (dk_at dksJ22_hashCode_2_0 6 rfl rfl)
theorem dJ22_hashCode_2_8 : decode cJ22_hashCode_2 8 = .ok (.iload 5, 2) := dk_21 5 (dk_at dksJ22_hashCode_2_0 8 rfl rfl)
theorem dJ22_hashCode_2_10 : decode cJ22_hashCode_2 10 = .ok (.iload 4, 2) := dk_21 4 (dk_at dksJ22_hashCode_2_0 10 rfl rfl)
theorem dJ22_hashCode_2_12 : decode cJ22_hashCode_2 12 = .ok (.if_icmp .ge 19, 3) := dk_162 0 19 (dk_at dksJ22_hashCode_2_0 12 rfl rfl)
theorem dJ22_hashCode_2_15 : decode cJ22_hashCode_2 15 = .ok (.bipush 31, 2) := dk_16 31 (dk_at dksJ22_hashCode_2_0 15 rfl rfl)
theorem dJ22_hashCode_2_17 : decode cJ22_hashCode_2 17 = .ok (.iload_n 0, 1) := dk_26 (dk_at dksJ22_hashCode_2_0 17 rfl rfl)
theorem dJ22_hashCode_2_18 : decode cJ22_hashCode_2 18 = .ok (.imul, 1) := dk_104 (dk_at dksJ22_hashCode_2_0 18 rfl rfl)
theorem dJ22_hashCode_2_19 : decode cJ22_hashCode_2 19 = .ok (.aload_n 1, 1) := dk_43 (dk_at dksJ22_hashCode_2_0 19 rfl rfl)
theorem dJ22_hashCode_2_20 : decode cJ22_hashCode_2 20 = .ok (.iload 5, 2) := dk_21 5 (dk_at dksJ22_hashCode_2_0 20 rfl rfl)
theorem dJ22_hashCode_2_22 : decode cJ22_hashCode_2 22 = .ok (.baload, 1) := dk_51 (dk_at dksJ22_hashCode_2_0 22 rfl rfl)
theorem dJ22_hashCode_2_23 : decode cJ22_hashCode_2 23 = .ok (.iadd, 1) := dk_96 (dk_at dksJ22_hashCode_2_0 23 rfl rfl)
theorem dJ22_hashCode_2_24 : decode cJ22_hashCode_2 24 = .ok (.istore_n 0, 1) := dk_59 (dk_at dksJ22_hashCode_2_1 0 rfl rfl)
theorem dJ22_hashCode_2_25 : decode cJ22_hashCode_2 25 = .ok (.iinc 5 1, 3) := dk_132 5 1 (dk_at dksJ22_hashCode_2_1 1 rfl rfl)
theorem dJ22_hashCode_2_28 : decode cJ22_hashCode_2 28 = .ok (.goto (-20), 3) := dk_167 255 236 (dk_at dksJ22_hashCode_2_1 4 rfl rfl)
theorem dJ22_hashCode_2_31 : decode cJ22_hashCode_2 31 = .ok (.iload_n 0, 1) := dk_26 (dk_at dksJ22_hashCode_2_1 7 rfl rfl)
theorem dJ22_hashCode_2_32 : decode cJ22_hashCode_2 32 = .ok (.ireturn, 1) := dk_172 (dk_at dksJ22_hashCode_2_1 8 rfl rfl)
abbrev cJ22_hashCode_3 : ByteArray := prog_77_method_8_code
def yJ22_hashCode_3 : MethodName := ⟨RJ22, "hashCode", "(I[SII)I"⟩
def dkwJ22_hashCode_3_1 : List UInt8 := [59, 132, 5, 1, 167, 255, 236, 26, 172]
abbrev dktJ22_hashCode_3_1 : List UInt8 := dkwJ22_hashCode_3_1 ++ []
def dkwJ22_hashCode_3_0 : List UInt8 := [28, 29, 96, 54, 4, 28, 54, 5, 21, 5, 21, 4, 162, 0, 19, 16, 31, 26, 104, 43, 21, 5, 53, 96]
abbrev dktJ22_hashCode_3_0 : List UInt8 := dkwJ22_hashCode_3_0 ++ dktJ22_hashCode_3_1
theorem dksJ22_hashCode_3_0 : cJ22_hashCode_3.data.toList.drop 0 = dktJ22_hashCode_3_0 := by decide +kernel
theorem dksJ22_hashCode_3_1 : cJ22_hashCode_3.data.toList.drop 24 = dktJ22_hashCode_3_1 := dk_seg dksJ22_hashCode_3_0 24 rfl rfl
theorem dJ22_hashCode_3_0 : decode cJ22_hashCode_3 0 = .ok (.iload_n 2, 1) := dk_28 (dk_at dksJ22_hashCode_3_0 0 rfl rfl)
theorem dJ22_hashCode_3_1 : decode cJ22_hashCode_3 1 = .ok (.iload_n 3, 1) := dk_29 (dk_at dksJ22_hashCode_3_0 1 rfl rfl)
theorem dJ22_hashCode_3_2 : decode cJ22_hashCode_3 2 = .ok (.iadd, 1) := dk_96 (dk_at dksJ22_hashCode_3_0 2 rfl rfl)
theorem dJ22_hashCode_3_3 : decode cJ22_hashCode_3 3 = .ok (.istore 4, 2) := dk_54 4 (dk_at dksJ22_hashCode_3_0 3 rfl rfl)
theorem dJ22_hashCode_3_5 : decode cJ22_hashCode_3 5 = .ok (.iload_n 2, 1) := dk_28 (dk_at dksJ22_hashCode_3_0 5 rfl rfl)
theorem dJ22_hashCode_3_6 : decode cJ22_hashCode_3 6 = .ok (.istore 5, 2) := dk_54 5 (dk_at dksJ22_hashCode_3_0 6 rfl rfl)
theorem dJ22_hashCode_3_8 : decode cJ22_hashCode_3 8 = .ok (.iload 5, 2) := dk_21 5 (dk_at dksJ22_hashCode_3_0 8 rfl rfl)
theorem dJ22_hashCode_3_10 : decode cJ22_hashCode_3 10 = .ok (.iload 4, 2) := dk_21 4 (dk_at dksJ22_hashCode_3_0 10 rfl rfl)
theorem dJ22_hashCode_3_12 : decode cJ22_hashCode_3 12 = .ok (.if_icmp .ge 19, 3) := dk_162 0 19 (dk_at dksJ22_hashCode_3_0 12 rfl rfl)
theorem dJ22_hashCode_3_15 : decode cJ22_hashCode_3 15 = .ok (.bipush 31, 2) := dk_16 31 (dk_at dksJ22_hashCode_3_0 15 rfl rfl)
theorem dJ22_hashCode_3_17 : decode cJ22_hashCode_3 17 = .ok (.iload_n 0, 1) := dk_26 (dk_at dksJ22_hashCode_3_0 17 rfl rfl)
theorem dJ22_hashCode_3_18 : decode cJ22_hashCode_3 18 = .ok (.imul, 1) := dk_104 (dk_at dksJ22_hashCode_3_0 18 rfl rfl)
theorem dJ22_hashCode_3_19 : decode cJ22_hashCode_3 19 = .ok (.aload_n 1, 1) := dk_43 (dk_at dksJ22_hashCode_3_0 19 rfl rfl)
theorem dJ22_hashCode_3_20 : decode cJ22_hashCode_3 20 = .ok (.iload 5, 2) := dk_21 5 (dk_at dksJ22_hashCode_3_0 20 rfl rfl)
theorem dJ22_hashCode_3_22 : decode cJ22_hashCode_3 22 = .ok (.saload, 1) := dk_53 (dk_at dksJ22_hashCode_3_0 22 rfl rfl)
theorem dJ22_hashCode_3_23 : decode cJ22_hashCode_3 23 = .ok (.iadd, 1) := dk_96 (dk_at dksJ22_hashCode_3_0 23 rfl rfl)
theorem dJ22_hashCode_3_24 : decode cJ22_hashCode_3 24 = .ok (.istore_n 0, 1) := dk_59 (dk_at dksJ22_hashCode_3_1 0 rfl rfl)
theorem dJ22_hashCode_3_25 : decode cJ22_hashCode_3 25 = .ok (.iinc 5 1, 3) := dk_132 5 1 (dk_at dksJ22_hashCode_3_1 1 rfl rfl)
theorem dJ22_hashCode_3_28 : decode cJ22_hashCode_3 28 = .ok (.goto (-20), 3) := dk_167 255 236 (dk_at dksJ22_hashCode_3_1 4 rfl rfl)
theorem dJ22_hashCode_3_31 : decode cJ22_hashCode_3 31 = .ok (.iload_n 0, 1) := dk_26 (dk_at dksJ22_hashCode_3_1 7 rfl rfl)
theorem dJ22_hashCode_3_32 : decode cJ22_hashCode_3 32 = .ok (.ireturn, 1) := dk_172 (dk_at dksJ22_hashCode_3_1 8 rfl rfl)
abbrev cJ22_hashCode_4 : ByteArray := prog_77_method_9_code
def yJ22_hashCode_4 : MethodName := ⟨RJ22, "hashCode", "(I[III)I"⟩
def dkwJ22_hashCode_4_1 : List UInt8 := [59, 132, 5, 1, 167, 255, 236, 26, 172]
abbrev dktJ22_hashCode_4_1 : List UInt8 := dkwJ22_hashCode_4_1 ++ []
def dkwJ22_hashCode_4_0 : List UInt8 := [28, 29, 96, 54, 4, 28, 54, 5, 21, 5, 21, 4, 162, 0, 19, 16, 31, 26, 104, 43, 21, 5, 46, 96]
abbrev dktJ22_hashCode_4_0 : List UInt8 := dkwJ22_hashCode_4_0 ++ dktJ22_hashCode_4_1
theorem dksJ22_hashCode_4_0 : cJ22_hashCode_4.data.toList.drop 0 = dktJ22_hashCode_4_0 := by decide +kernel
theorem dksJ22_hashCode_4_1 : cJ22_hashCode_4.data.toList.drop 24 = dktJ22_hashCode_4_1 := dk_seg dksJ22_hashCode_4_0 24 rfl rfl
theorem dJ22_hashCode_4_0 : decode cJ22_hashCode_4 0 = .ok (.iload_n 2, 1) := dk_28 (dk_at dksJ22_hashCode_4_0 0 rfl rfl)
theorem dJ22_hashCode_4_1 : decode cJ22_hashCode_4 1 = .ok (.iload_n 3, 1) := dk_29 (dk_at dksJ22_hashCode_4_0 1 rfl rfl)
theorem dJ22_hashCode_4_2 : decode cJ22_hashCode_4 2 = .ok (.iadd, 1) := dk_96 (dk_at dksJ22_hashCode_4_0 2 rfl rfl)
theorem dJ22_hashCode_4_3 : decode cJ22_hashCode_4 3 = .ok (.istore 4, 2) := dk_54 4 (dk_at dksJ22_hashCode_4_0 3 rfl rfl)
theorem dJ22_hashCode_4_5 : decode cJ22_hashCode_4 5 = .ok (.iload_n 2, 1) := dk_28 (dk_at dksJ22_hashCode_4_0 5 rfl rfl)
theorem dJ22_hashCode_4_6 : decode cJ22_hashCode_4 6 = .ok (.istore 5, 2) := dk_54 5 (dk_at dksJ22_hashCode_4_0 6 rfl rfl)
theorem dJ22_hashCode_4_8 : decode cJ22_hashCode_4 8 = .ok (.iload 5, 2) := dk_21 5 (dk_at dksJ22_hashCode_4_0 8 rfl rfl)
theorem dJ22_hashCode_4_10 : decode cJ22_hashCode_4 10 = .ok (.iload 4, 2) := dk_21 4 (dk_at dksJ22_hashCode_4_0 10 rfl rfl)
theorem dJ22_hashCode_4_12 : decode cJ22_hashCode_4 12 = .ok (.if_icmp .ge 19, 3) := dk_162 0 19 (dk_at dksJ22_hashCode_4_0 12 rfl rfl)
theorem dJ22_hashCode_4_15 : decode cJ22_hashCode_4 15 = .ok (.bipush 31, 2) := dk_16 31 (dk_at dksJ22_hashCode_4_0 15 rfl rfl)
theorem dJ22_hashCode_4_17 : decode cJ22_hashCode_4 17 = .ok (.iload_n 0, 1) := dk_26 (dk_at dksJ22_hashCode_4_0 17 rfl rfl)
theorem dJ22_hashCode_4_18 : decode cJ22_hashCode_4 18 = .ok (.imul, 1) := dk_104 (dk_at dksJ22_hashCode_4_0 18 rfl rfl)
theorem dJ22_hashCode_4_19 : decode cJ22_hashCode_4 19 = .ok (.aload_n 1, 1) := dk_43 (dk_at dksJ22_hashCode_4_0 19 rfl rfl)
theorem dJ22_hashCode_4_20 : decode cJ22_hashCode_4 20 = .ok (.iload 5, 2) := dk_21 5 (dk_at dksJ22_hashCode_4_0 20 rfl rfl)
theorem dJ22_hashCode_4_22 : decode cJ22_hashCode_4 22 = .ok (.iaload, 1) := dk_46 (dk_at dksJ22_hashCode_4_0 22 rfl rfl)
theorem dJ22_hashCode_4_23 : decode cJ22_hashCode_4 23 = .ok (.iadd, 1) := dk_96 (dk_at dksJ22_hashCode_4_0 23 rfl rfl)
theorem dJ22_hashCode_4_24 : decode cJ22_hashCode_4 24 = .ok (.istore_n 0, 1) := dk_59 (dk_at dksJ22_hashCode_4_1 0 rfl rfl)
theorem dJ22_hashCode_4_25 : decode cJ22_hashCode_4 25 = .ok (.iinc 5 1, 3) := dk_132 5 1 (dk_at dksJ22_hashCode_4_1 1 rfl rfl)
theorem dJ22_hashCode_4_28 : decode cJ22_hashCode_4 28 = .ok (.goto (-20), 3) := dk_167 255 236 (dk_at dksJ22_hashCode_4_1 4 rfl rfl)
theorem dJ22_hashCode_4_31 : decode cJ22_hashCode_4 31 = .ok (.iload_n 0, 1) := dk_26 (dk_at dksJ22_hashCode_4_1 7 rfl rfl)
theorem dJ22_hashCode_4_32 : decode cJ22_hashCode_4 32 = .ok (.ireturn, 1) := dk_172 (dk_at dksJ22_hashCode_4_1 8 rfl rfl)
theorem q160 : (Jvm.Cond.initialized "jdk/internal/util/ArraysSupport") ∈ lw_all := lw_g (lw_at lw_m1 40 rfl) rfl
theorem q1034 : (Jvm.Cond.static ({ cls := "jdk/internal/util/ArraysSupport", name := "newLength", desc := "(III)I" } : Jvm.MethodName)) ∈ lw_all := lw_g (lw_at lw_m4 194 rfl) rfl
theorem q1035 : (Jvm.Cond.code ({ cls := "jdk/internal/util/ArraysSupport", name := "newLength", desc := "(III)I" } : Jvm.MethodName) prog_77_method_27_code (4 : Nat) (Option.some Jvm.ClassFile.FieldType.int)) ∈ lw_all := lw_g (lw_at lw_m4 195 rfl) rfl
theorem q1036 : (Jvm.Cond.methodLink "jdk/internal/util/ArraysSupport" (194 : Nat) ({ cls := "java/lang/Math", name := "max", desc := "(II)I" } : Jvm.MethodName)) ∈ lw_all := lw_g (lw_at lw_m4 196 rfl) rfl
theorem q1039 : (Jvm.Cond.constant "jdk/internal/util/ArraysSupport" (200 : Nat) (2147483639 : Int32)) ∈ lw_all := lw_g (lw_at lw_m4 199 rfl) rfl
theorem q1040 : (Jvm.Cond.methodLink "jdk/internal/util/ArraysSupport" (201 : Nat) ({ cls := "jdk/internal/util/ArraysSupport", name := "hugeLength", desc := "(II)I" } : Jvm.MethodName)) ∈ lw_all := lw_g (lw_at lw_m4 200 rfl) rfl
theorem q1041 : (Jvm.Cond.static ({ cls := "jdk/internal/util/ArraysSupport", name := "hugeLength", desc := "(II)I" } : Jvm.MethodName)) ∈ lw_all := lw_g (lw_at lw_m4 201 rfl) rfl
theorem q1042 : (Jvm.Cond.code ({ cls := "jdk/internal/util/ArraysSupport", name := "hugeLength", desc := "(II)I" } : Jvm.MethodName) prog_77_method_28_code (3 : Nat) (Option.some Jvm.ClassFile.FieldType.int)) ∈ lw_all := lw_g (lw_at lw_m4 202 rfl) rfl
theorem q1189 : (Jvm.Cond.static ({ cls := "jdk/internal/util/ArraysSupport", name := "vectorizedHashCode", desc := "(Ljava/lang/Object;IIII)I" } : Jvm.MethodName)) ∈ lw_all := lw_g (lw_at lw_m5 109 rfl) rfl
theorem q1190 : (Jvm.Cond.code ({ cls := "jdk/internal/util/ArraysSupport", name := "vectorizedHashCode", desc := "(Ljava/lang/Object;IIII)I" } : Jvm.MethodName) prog_77_method_4_code (5 : Nat) (Option.some Jvm.ClassFile.FieldType.int)) ∈ lw_all := lw_g (lw_at lw_m5 110 rfl) rfl
theorem q1191 : (Jvm.Cond.classLink "jdk/internal/util/ArraysSupport" (60 : Nat) "[B") ∈ lw_all := lw_g (lw_at lw_m5 111 rfl) rfl
theorem q1192 : (Jvm.Cond.methodLink "jdk/internal/util/ArraysSupport" (62 : Nat) ({ cls := "jdk/internal/util/ArraysSupport", name := "signedHashCode", desc := "(I[BII)I" } : Jvm.MethodName)) ∈ lw_all := lw_g (lw_at lw_m5 112 rfl) rfl
theorem q1193 : (Jvm.Cond.static ({ cls := "jdk/internal/util/ArraysSupport", name := "signedHashCode", desc := "(I[BII)I" } : Jvm.MethodName)) ∈ lw_all := lw_g (lw_at lw_m5 113 rfl) rfl
theorem q1194 : (Jvm.Cond.code ({ cls := "jdk/internal/util/ArraysSupport", name := "signedHashCode", desc := "(I[BII)I" } : Jvm.MethodName) prog_77_method_5_code (6 : Nat) (Option.some Jvm.ClassFile.FieldType.int)) ∈ lw_all := lw_g (lw_at lw_m5 114 rfl) rfl
theorem q1195 : (Jvm.Cond.methodLink "jdk/internal/util/ArraysSupport" (66 : Nat) ({ cls := "jdk/internal/util/ArraysSupport", name := "utf16hashCode", desc := "(I[BII)I" } : Jvm.MethodName)) ∈ lw_all := lw_g (lw_at lw_m5 115 rfl) rfl
theorem q1196 : (Jvm.Cond.static ({ cls := "jdk/internal/util/ArraysSupport", name := "utf16hashCode", desc := "(I[BII)I" } : Jvm.MethodName)) ∈ lw_all := lw_g (lw_at lw_m5 116 rfl) rfl
theorem q1197 : (Jvm.Cond.code ({ cls := "jdk/internal/util/ArraysSupport", name := "utf16hashCode", desc := "(I[BII)I" } : Jvm.MethodName) prog_77_method_10_code (6 : Nat) (Option.some Jvm.ClassFile.FieldType.int)) ∈ lw_all := lw_g (lw_at lw_m5 117 rfl) rfl
theorem q1198 : (Jvm.Cond.fieldLink "jdk/internal/util/ArraysSupport" (106 : Nat) "jdk/internal/util/ArraysSupport" "JLA" "Ljdk/internal/access/JavaLangAccess;") ∈ lw_all := lw_g (lw_at lw_m5 118 rfl) rfl
theorem q1199 : (Jvm.Cond.laysStatic "jdk/internal/util/ArraysSupport" "JLA" "Ljdk/internal/access/JavaLangAccess;") ∈ lw_tbl := lw_at lw_m5 119 rfl
theorem q1200 : (Jvm.Cond.interfaceEntry "jdk/internal/util/ArraysSupport" (110 : Nat)) ∈ lw_tbl := lw_at lw_m5 120 rfl
theorem q1201 : (Jvm.Cond.methodLink "jdk/internal/util/ArraysSupport" (110 : Nat) ({ cls := "jdk/internal/access/JavaLangAccess", name := "getUTF16Char", desc := "([BI)C" } : Jvm.MethodName)) ∈ lw_all := lw_g (lw_at lw_m5 121 rfl) rfl
theorem q1211 : (Jvm.Cond.classLink "jdk/internal/util/ArraysSupport" (69 : Nat) "[C") ∈ lw_all := lw_g (lw_at lw_m5 131 rfl) rfl
theorem q1212 : (Jvm.Cond.methodLink "jdk/internal/util/ArraysSupport" (71 : Nat) ({ cls := "jdk/internal/util/ArraysSupport", name := "hashCode", desc := "(I[CII)I" } : Jvm.MethodName)) ∈ lw_all := lw_g (lw_at lw_m5 132 rfl) rfl
theorem q1213 : (Jvm.Cond.static ({ cls := "jdk/internal/util/ArraysSupport", name := "hashCode", desc := "(I[CII)I" } : Jvm.MethodName)) ∈ lw_all := lw_g (lw_at lw_m5 133 rfl) rfl
theorem q1214 : (Jvm.Cond.code ({ cls := "jdk/internal/util/ArraysSupport", name := "hashCode", desc := "(I[CII)I" } : Jvm.MethodName) prog_77_method_7_code (6 : Nat) (Option.some Jvm.ClassFile.FieldType.int)) ∈ lw_all := lw_g (lw_at lw_m5 134 rfl) rfl
theorem q1215 : (Jvm.Cond.methodLink "jdk/internal/util/ArraysSupport" (75 : Nat) ({ cls := "jdk/internal/util/ArraysSupport", name := "hashCode", desc := "(I[BII)I" } : Jvm.MethodName)) ∈ lw_all := lw_g (lw_at lw_m5 135 rfl) rfl
theorem q1216 : (Jvm.Cond.static ({ cls := "jdk/internal/util/ArraysSupport", name := "hashCode", desc := "(I[BII)I" } : Jvm.MethodName)) ∈ lw_all := lw_g (lw_at lw_m5 136 rfl) rfl
theorem q1217 : (Jvm.Cond.code ({ cls := "jdk/internal/util/ArraysSupport", name := "hashCode", desc := "(I[BII)I" } : Jvm.MethodName) prog_77_method_6_code (6 : Nat) (Option.some Jvm.ClassFile.FieldType.int)) ∈ lw_all := lw_g (lw_at lw_m5 137 rfl) rfl
theorem q1218 : (Jvm.Cond.classLink "jdk/internal/util/ArraysSupport" (77 : Nat) "[S") ∈ lw_all := lw_g (lw_at lw_m5 138 rfl) rfl
theorem q1219 : (Jvm.Cond.methodLink "jdk/internal/util/ArraysSupport" (79 : Nat) ({ cls := "jdk/internal/util/ArraysSupport", name := "hashCode", desc := "(I[SII)I" } : Jvm.MethodName)) ∈ lw_all := lw_g (lw_at lw_m5 139 rfl) rfl
theorem q1220 : (Jvm.Cond.static ({ cls := "jdk/internal/util/ArraysSupport", name := "hashCode", desc := "(I[SII)I" } : Jvm.MethodName)) ∈ lw_all := lw_g (lw_at lw_m5 140 rfl) rfl
theorem q1221 : (Jvm.Cond.code ({ cls := "jdk/internal/util/ArraysSupport", name := "hashCode", desc := "(I[SII)I" } : Jvm.MethodName) prog_77_method_8_code (6 : Nat) (Option.some Jvm.ClassFile.FieldType.int)) ∈ lw_all := lw_g (lw_at lw_m5 141 rfl) rfl
theorem q1222 : (Jvm.Cond.classLink "jdk/internal/util/ArraysSupport" (82 : Nat) "[I") ∈ lw_all := lw_g (lw_at lw_m5 142 rfl) rfl
theorem q1223 : (Jvm.Cond.methodLink "jdk/internal/util/ArraysSupport" (84 : Nat) ({ cls := "jdk/internal/util/ArraysSupport", name := "hashCode", desc := "(I[III)I" } : Jvm.MethodName)) ∈ lw_all := lw_g (lw_at lw_m5 143 rfl) rfl
theorem q1224 : (Jvm.Cond.static ({ cls := "jdk/internal/util/ArraysSupport", name := "hashCode", desc := "(I[III)I" } : Jvm.MethodName)) ∈ lw_all := lw_g (lw_at lw_m5 144 rfl) rfl
theorem q1225 : (Jvm.Cond.code ({ cls := "jdk/internal/util/ArraysSupport", name := "hashCode", desc := "(I[III)I" } : Jvm.MethodName) prog_77_method_9_code (6 : Nat) (Option.some Jvm.ClassFile.FieldType.int)) ∈ lw_all := lw_g (lw_at lw_m5 145 rfl) rfl

/-! java/lang/Math -/
set_option maxRecDepth 100000
def RJ23 : String := "java/lang/Math"
abbrev cJ23_max : ByteArray := prog_38_method_65_code
def yJ23_max : MethodName := ⟨RJ23, "max", "(II)I"⟩
def dkwJ23_max_0 : List UInt8 := [26, 27, 161, 0, 7, 26, 167, 0, 4, 27, 172]
abbrev dktJ23_max_0 : List UInt8 := dkwJ23_max_0 ++ []
theorem dksJ23_max_0 : cJ23_max.data.toList.drop 0 = dktJ23_max_0 := by decide +kernel
theorem dJ23_max_0 : decode cJ23_max 0 = .ok (.iload_n 0, 1) := dk_26 (dk_at dksJ23_max_0 0 rfl rfl)
theorem dJ23_max_1 : decode cJ23_max 1 = .ok (.iload_n 1, 1) := dk_27 (dk_at dksJ23_max_0 1 rfl rfl)
theorem dJ23_max_2 : decode cJ23_max 2 = .ok (.if_icmp .lt 7, 3) := dk_161 0 7 (dk_at dksJ23_max_0 2 rfl rfl)
theorem dJ23_max_5 : decode cJ23_max 5 = .ok (.iload_n 0, 1) := dk_26 (dk_at dksJ23_max_0 5 rfl rfl)
theorem dJ23_max_6 : decode cJ23_max 6 = .ok (.goto 4, 3) := dk_167 0 4 (dk_at dksJ23_max_0 6 rfl rfl)
theorem dJ23_max_9 : decode cJ23_max 9 = .ok (.iload_n 1, 1) := dk_27 (dk_at dksJ23_max_0 9 rfl rfl)
theorem dJ23_max_10 : decode cJ23_max 10 = .ok (.ireturn, 1) := dk_172 (dk_at dksJ23_max_0 10 rfl rfl)
abbrev cJ23_min : ByteArray := prog_38_method_69_code
def yJ23_min : MethodName := ⟨RJ23, "min", "(II)I"⟩
def dkwJ23_min_0 : List UInt8 := [26, 27, 163, 0, 7, 26, 167, 0, 4, 27, 172]
abbrev dktJ23_min_0 : List UInt8 := dkwJ23_min_0 ++ []
theorem dksJ23_min_0 : cJ23_min.data.toList.drop 0 = dktJ23_min_0 := by decide +kernel
theorem dJ23_min_0 : decode cJ23_min 0 = .ok (.iload_n 0, 1) := dk_26 (dk_at dksJ23_min_0 0 rfl rfl)
theorem dJ23_min_1 : decode cJ23_min 1 = .ok (.iload_n 1, 1) := dk_27 (dk_at dksJ23_min_0 1 rfl rfl)
theorem dJ23_min_2 : decode cJ23_min 2 = .ok (.if_icmp .gt 7, 3) := dk_163 0 7 (dk_at dksJ23_min_0 2 rfl rfl)
theorem dJ23_min_5 : decode cJ23_min 5 = .ok (.iload_n 0, 1) := dk_26 (dk_at dksJ23_min_0 5 rfl rfl)
theorem dJ23_min_6 : decode cJ23_min 6 = .ok (.goto 4, 3) := dk_167 0 4 (dk_at dksJ23_min_0 6 rfl rfl)
theorem dJ23_min_9 : decode cJ23_min 9 = .ok (.iload_n 1, 1) := dk_27 (dk_at dksJ23_min_0 9 rfl rfl)
theorem dJ23_min_10 : decode cJ23_min 10 = .ok (.ireturn, 1) := dk_172 (dk_at dksJ23_min_0 10 rfl rfl)
theorem q161 : (Jvm.Cond.initialized "java/lang/Math") ∈ lw_all := lw_g (lw_at lw_m1 41 rfl) rfl
theorem q1037 : (Jvm.Cond.static ({ cls := "java/lang/Math", name := "max", desc := "(II)I" } : Jvm.MethodName)) ∈ lw_all := lw_g (lw_at lw_m4 197 rfl) rfl
theorem q1038 : (Jvm.Cond.code ({ cls := "java/lang/Math", name := "max", desc := "(II)I" } : Jvm.MethodName) prog_38_method_65_code (2 : Nat) (Option.some Jvm.ClassFile.FieldType.int)) ∈ lw_all := lw_g (lw_at lw_m4 198 rfl) rfl
theorem q1055 : (Jvm.Cond.static ({ cls := "java/lang/Math", name := "min", desc := "(II)I" } : Jvm.MethodName)) ∈ lw_all := lw_g (lw_at lw_m4 215 rfl) rfl
theorem q1056 : (Jvm.Cond.code ({ cls := "java/lang/Math", name := "min", desc := "(II)I" } : Jvm.MethodName) prog_38_method_69_code (2 : Nat) (Option.some Jvm.ClassFile.FieldType.int)) ∈ lw_all := lw_g (lw_at lw_m4 216 rfl) rfl

/-! java/util/Arrays -/
set_option maxRecDepth 100000
def RJ24 : String := "java/util/Arrays"
abbrev cJ24_copyOf : ByteArray := prog_61_method_121_code
def yJ24_copyOf : MethodName := ⟨RJ24, "copyOf", "([BI)[B"⟩
def dkwJ24_copyOf_1 : List UInt8 := [27, 184, 1, 48, 184, 0, 150, 44, 176]
abbrev dktJ24_copyOf_1 : List UInt8 := dkwJ24_copyOf_1 ++ []
def dkwJ24_copyOf_0 : List UInt8 := [27, 42, 190, 160, 0, 11, 42, 182, 1, 54, 192, 1, 55, 176, 27, 188, 8, 77, 42, 3, 44, 3, 42, 190]
abbrev dktJ24_copyOf_0 : List UInt8 := dkwJ24_copyOf_0 ++ dktJ24_copyOf_1
theorem dksJ24_copyOf_0 : cJ24_copyOf.data.toList.drop 0 = dktJ24_copyOf_0 := by decide +kernel
theorem dksJ24_copyOf_1 : cJ24_copyOf.data.toList.drop 24 = dktJ24_copyOf_1 := dk_seg dksJ24_copyOf_0 24 rfl rfl
theorem dJ24_copyOf_0 : decode cJ24_copyOf 0 = .ok (.iload_n 1, 1) := dk_27 (dk_at dksJ24_copyOf_0 0 rfl rfl)
theorem dJ24_copyOf_1 : decode cJ24_copyOf 1 = .ok (.aload_n 0, 1) := dk_42 (dk_at dksJ24_copyOf_0 1 rfl rfl)
theorem dJ24_copyOf_2 : decode cJ24_copyOf 2 = .ok (.arraylength, 1) := dk_190 (dk_at dksJ24_copyOf_0 2 rfl rfl)
theorem dJ24_copyOf_3 : decode cJ24_copyOf 3 = .ok (.if_icmp .ne 11, 3) := dk_160 0 11 (dk_at dksJ24_copyOf_0 3 rfl rfl)
theorem dJ24_copyOf_6 : decode cJ24_copyOf 6 = .ok (.aload_n 0, 1) := dk_42 (dk_at dksJ24_copyOf_0 6 rfl rfl)
theorem dJ24_copyOf_7 : decode cJ24_copyOf 7 = .ok (.invokevirtual 310, 3) := dk_182 1 54 (dk_at dksJ24_copyOf_0 7 rfl rfl)
theorem dJ24_copyOf_10 : decode cJ24_copyOf 10 = .ok (.checkcast 311, 3) := dk_192 1 55 (dk_at dksJ24_copyOf_0 10 rfl rfl)
theorem dJ24_copyOf_13 : decode cJ24_copyOf 13 = .ok (.areturn, 1) := dk_176 (dk_at dksJ24_copyOf_0 13 rfl rfl)
theorem dJ24_copyOf_14 : decode cJ24_copyOf 14 = .ok (.iload_n 1, 1) := dk_27 (dk_at dksJ24_copyOf_0 14 rfl rfl)
theorem dJ24_copyOf_15 : decode cJ24_copyOf 15 = .ok (.newarray .byte, 2) := dk_188_8 (dk_at dksJ24_copyOf_0 15 rfl rfl)
theorem dJ24_copyOf_17 : decode cJ24_copyOf 17 = .ok (.astore_n 2, 1) := dk_77 (dk_at dksJ24_copyOf_0 17 rfl rfl)
theorem dJ24_copyOf_18 : decode cJ24_copyOf 18 = .ok (.aload_n 0, 1) := dk_42 (dk_at dksJ24_copyOf_0 18 rfl rfl)
theorem dJ24_copyOf_19 : decode cJ24_copyOf 19 = .ok (.iconst 0, 1) := dk_3 (dk_at dksJ24_copyOf_0 19 rfl rfl)
theorem dJ24_copyOf_20 : decode cJ24_copyOf 20 = .ok (.aload_n 2, 1) := dk_44 (dk_at dksJ24_copyOf_0 20 rfl rfl)
theorem dJ24_copyOf_21 : decode cJ24_copyOf 21 = .ok (.iconst 0, 1) := dk_3 (dk_at dksJ24_copyOf_0 21 rfl rfl)
theorem dJ24_copyOf_22 : decode cJ24_copyOf 22 = .ok (.aload_n 0, 1) := dk_42 (dk_at dksJ24_copyOf_0 22 rfl rfl)
theorem dJ24_copyOf_23 : decode cJ24_copyOf 23 = .ok (.arraylength, 1) := dk_190 (dk_at dksJ24_copyOf_0 23 rfl rfl)
theorem dJ24_copyOf_24 : decode cJ24_copyOf 24 = .ok (.iload_n 1, 1) := dk_27 (dk_at dksJ24_copyOf_1 0 rfl rfl)
theorem dJ24_copyOf_25 : decode cJ24_copyOf 25 = .ok (.invokestatic 304, 3) := dk_184 1 48 (dk_at dksJ24_copyOf_1 1 rfl rfl)
theorem dJ24_copyOf_28 : decode cJ24_copyOf 28 = .ok (.invokestatic 150, 3) := dk_184 0 150 (dk_at dksJ24_copyOf_1 4 rfl rfl)
theorem dJ24_copyOf_31 : decode cJ24_copyOf 31 = .ok (.aload_n 2, 1) := dk_44 (dk_at dksJ24_copyOf_1 7 rfl rfl)
theorem dJ24_copyOf_32 : decode cJ24_copyOf 32 = .ok (.areturn, 1) := dk_176 (dk_at dksJ24_copyOf_1 8 rfl rfl)
abbrev cJ24_copyOfRange : ByteArray := prog_61_method_132_code
def yJ24_copyOfRange : MethodName := ⟨RJ24, "copyOfRange", "([BII)[B"⟩
def dkwJ24_copyOfRange_1 : List UInt8 := [176]
abbrev dktJ24_copyOfRange_1 : List UInt8 := dkwJ24_copyOfRange_1 ++ []
def dkwJ24_copyOfRange_0 : List UInt8 := [27, 154, 0, 9, 28, 42, 190, 159, 0, 10, 42, 27, 28, 184, 1, 83, 176, 42, 182, 1, 54, 192, 1, 55]
abbrev dktJ24_copyOfRange_0 : List UInt8 := dkwJ24_copyOfRange_0 ++ dktJ24_copyOfRange_1
theorem dksJ24_copyOfRange_0 : cJ24_copyOfRange.data.toList.drop 0 = dktJ24_copyOfRange_0 := by decide +kernel
theorem dksJ24_copyOfRange_1 : cJ24_copyOfRange.data.toList.drop 24 = dktJ24_copyOfRange_1 := dk_seg dksJ24_copyOfRange_0 24 rfl rfl
theorem dJ24_copyOfRange_0 : decode cJ24_copyOfRange 0 = .ok (.iload_n 1, 1) := dk_27 (dk_at dksJ24_copyOfRange_0 0 rfl rfl)
theorem dJ24_copyOfRange_1 : decode cJ24_copyOfRange 1 = .ok (.ifCond .ne 9, 3) := dk_154 0 9 (dk_at dksJ24_copyOfRange_0 1 rfl rfl)
theorem dJ24_copyOfRange_4 : decode cJ24_copyOfRange 4 = .ok (.iload_n 2, 1) := dk_28 (dk_at dksJ24_copyOfRange_0 4 rfl rfl)
theorem dJ24_copyOfRange_5 : decode cJ24_copyOfRange 5 = .ok (.aload_n 0, 1) := dk_42 (dk_at dksJ24_copyOfRange_0 5 rfl rfl)
theorem dJ24_copyOfRange_6 : decode cJ24_copyOfRange 6 = .ok (.arraylength, 1) := dk_190 (dk_at dksJ24_copyOfRange_0 6 rfl rfl)
theorem dJ24_copyOfRange_7 : decode cJ24_copyOfRange 7 = .ok (.if_icmp .eq 10, 3) := dk_159 0 10 (dk_at dksJ24_copyOfRange_0 7 rfl rfl)
theorem dJ24_copyOfRange_10 : decode cJ24_copyOfRange 10 = .ok (.aload_n 0, 1) := dk_42 (dk_at dksJ24_copyOfRange_0 10 rfl rfl)
theorem dJ24_copyOfRange_11 : decode cJ24_copyOfRange 11 = .ok (.iload_n 1, 1) := dk_27 (dk_at dksJ24_copyOfRange_0 11 rfl rfl)
theorem dJ24_copyOfRange_12 : decode cJ24_copyOfRange 12 = .ok (.iload_n 2, 1) := dk_28 (dk_at dksJ24_copyOfRange_0 12 rfl rfl)
theorem dJ24_copyOfRange_13 : decode cJ24_copyOfRange 13 = .ok (.invokestatic 339, 3) := dk_184 1 83 (dk_at dksJ24_copyOfRange_0 13 rfl rfl)
theorem dJ24_copyOfRange_16 : decode cJ24_copyOfRange 16 = .ok (.areturn, 1) := dk_176 (dk_at dksJ24_copyOfRange_0 16 rfl rfl)
theorem dJ24_copyOfRange_17 : decode cJ24_copyOfRange 17 = .ok (.aload_n 0, 1) := dk_42 (dk_at dksJ24_copyOfRange_0 17 rfl rfl)
theorem dJ24_copyOfRange_18 : decode cJ24_copyOfRange 18 = .ok (.invokevirtual 310, 3) := dk_182 1 54 (dk_at dksJ24_copyOfRange_0 18 rfl rfl)
theorem dJ24_copyOfRange_21 : decode cJ24_copyOfRange 21 = .ok (.checkcast 311, 3) := dk_192 1 55 (dk_at dksJ24_copyOfRange_0 21 rfl rfl)
theorem dJ24_copyOfRange_24 : decode cJ24_copyOfRange 24 = .ok (.areturn, 1) := dk_176 (dk_at dksJ24_copyOfRange_1 0 rfl rfl)
abbrev cJ24_copyOfRangeByte : ByteArray := prog_61_method_133_code
def yJ24_copyOfRangeByte : MethodName := ⟨RJ24, "copyOfRangeByte", "([BII)[B"⟩
def dkwJ24_copyOfRangeByte_1 : List UInt8 := [184, 1, 48, 184, 0, 150, 25, 4, 176]
abbrev dktJ24_copyOfRangeByte_1 : List UInt8 := dkwJ24_copyOfRangeByte_1 ++ []
def dkwJ24_copyOfRangeByte_0 : List UInt8 := [27, 28, 184, 1, 87, 28, 27, 100, 62, 29, 188, 8, 58, 4, 42, 27, 25, 4, 3, 42, 190, 27, 100, 29]
abbrev dktJ24_copyOfRangeByte_0 : List UInt8 := dkwJ24_copyOfRangeByte_0 ++ dktJ24_copyOfRangeByte_1
theorem dksJ24_copyOfRangeByte_0 : cJ24_copyOfRangeByte.data.toList.drop 0 = dktJ24_copyOfRangeByte_0 := by decide +kernel
theorem dksJ24_copyOfRangeByte_1 : cJ24_copyOfRangeByte.data.toList.drop 24 = dktJ24_copyOfRangeByte_1 := dk_seg dksJ24_copyOfRangeByte_0 24 rfl rfl
theorem dJ24_copyOfRangeByte_0 : decode cJ24_copyOfRangeByte 0 = .ok (.iload_n 1, 1) := dk_27 (dk_at dksJ24_copyOfRangeByte_0 0 rfl rfl)
theorem dJ24_copyOfRangeByte_1 : decode cJ24_copyOfRangeByte 1 = .ok (.iload_n 2, 1) := dk_28 (dk_at dksJ24_copyOfRangeByte_0 1 rfl rfl)
theorem dJ24_copyOfRangeByte_2 : decode cJ24_copyOfRangeByte 2 = .ok (.invokestatic 343, 3) := dk_184 1 87 (dk_at dksJ24_copyOfRangeByte_0 2 rfl rfl)
theorem dJ24_copyOfRangeByte_5 : decode cJ24_copyOfRangeByte 5 = .ok (.iload_n 2, 1) := dk_28 (dk_at dksJ24_copyOfRangeByte_0 5 rfl rfl)
theorem dJ24_copyOfRangeByte_6 : decode cJ24_copyOfRangeByte 6 = .ok (.iload_n 1, 1) := dk_27 (dk_at dksJ24_copyOfRangeByte_0 6 rfl rfl)
theorem dJ24_copyOfRangeByte_7 : decode cJ24_copyOfRangeByte 7 = .ok (.isub, 1) := dk_100 (dk_at dksJ24_copyOfRangeByte_0 7 rfl rfl)
theorem dJ24_copyOfRangeByte_8 : decode cJ24_copyOfRangeByte 8 = .ok (.istore_n 3, 1) := dk_62 (dk_at dksJ24_copyOfRangeByte_0 8 rfl rfl)
theorem dJ24_copyOfRangeByte_9 : decode cJ24_copyOfRangeByte 9 = .ok (.iload_n 3, 1) := dk_29 (dk_at dksJ24_copyOfRangeByte_0 9 rfl rfl)
theorem dJ24_copyOfRangeByte_10 : decode cJ24_copyOfRangeByte 10 = .ok (.newarray .byte, 2) := dk_188_8 (dk_at dksJ24_copyOfRangeByte_0 10 rfl rfl)
theorem dJ24_copyOfRangeByte_12 : decode cJ24_copyOfRangeByte 12 = .ok (.astore 4, 2) := dk_58 4 (dk_at dksJ24_copyOfRangeByte_0 12 rfl rfl)
theorem dJ24_copyOfRangeByte_14 : decode cJ24_copyOfRangeByte 14 = .ok (.aload_n 0, 1) := dk_42 (dk_at dksJ24_copyOfRangeByte_0 14 rfl rfl)
theorem dJ24_copyOfRangeByte_15 : decode cJ24_copyOfRangeByte 15 = .ok (.iload_n 1, 1) := dk_27 (dk_at dksJ24_copyOfRangeByte_0 15 rfl rfl)
theorem dJ24_copyOfRangeByte_16 : decode cJ24_copyOfRangeByte 16 = .ok (.aload 4, 2) := dk_25 4 (dk_at dksJ24_copyOfRangeByte_0 16 rfl rfl)
theorem dJ24_copyOfRangeByte_18 : decode cJ24_copyOfRangeByte 18 = .ok (.iconst 0, 1) := dk_3 (dk_at dksJ24_copyOfRangeByte_0 18 rfl rfl)
theorem dJ24_copyOfRangeByte_19 : decode cJ24_copyOfRangeByte 19 = .ok (.aload_n 0, 1) := dk_42 (dk_at dksJ24_copyOfRangeByte_0 19 rfl rfl)
theorem dJ24_copyOfRangeByte_20 : decode cJ24_copyOfRangeByte 20 = .ok (.arraylength, 1) := dk_190 (dk_at dksJ24_copyOfRangeByte_0 20 rfl rfl)
theorem dJ24_copyOfRangeByte_21 : decode cJ24_copyOfRangeByte 21 = .ok (.iload_n 1, 1) := dk_27 (dk_at dksJ24_copyOfRangeByte_0 21 rfl rfl)
theorem dJ24_copyOfRangeByte_22 : decode cJ24_copyOfRangeByte 22 = .ok (.isub, 1) := dk_100 (dk_at dksJ24_copyOfRangeByte_0 22 rfl rfl)
theorem dJ24_copyOfRangeByte_23 : decode cJ24_copyOfRangeByte 23 = .ok (.iload_n 3, 1) := dk_29 (dk_at dksJ24_copyOfRangeByte_0 23 rfl rfl)
theorem dJ24_copyOfRangeByte_24 : decode cJ24_copyOfRangeByte 24 = .ok (.invokestatic 304, 3) := dk_184 1 48 (dk_at dksJ24_copyOfRangeByte_1 0 rfl rfl)
theorem dJ24_copyOfRangeByte_27 : decode cJ24_copyOfRangeByte 27 = .ok (.invokestatic 150, 3) := dk_184 0 150 (dk_at dksJ24_copyOfRangeByte_1 3 rfl rfl)
theorem dJ24_copyOfRangeByte_30 : decode cJ24_copyOfRangeByte 30 = .ok (.aload 4, 2) := dk_25 4 (dk_at dksJ24_copyOfRangeByte_1 6 rfl rfl)
theorem dJ24_copyOfRangeByte_32 : decode cJ24_copyOfRangeByte 32 = .ok (.areturn, 1) := dk_176 (dk_at dksJ24_copyOfRangeByte_1 8 rfl rfl)
abbrev cJ24_checkLength : ByteArray := prog_61_method_131_code
def yJ24_checkLength : MethodName := ⟨RJ24, "checkLength", "(II)V"⟩
def dkwJ24_checkLength_1 : List UInt8 := [182, 0, 50, 27, 182, 0, 54, 182, 0, 61, 183, 0, 65, 191, 177]
abbrev dktJ24_checkLength_1 : List UInt8 := dkwJ24_checkLength_1 ++ []
def dkwJ24_checkLength_0 : List UInt8 := [27, 26, 162, 0, 35, 187, 0, 43, 89, 187, 0, 45, 89, 183, 0, 47, 26, 182, 0, 54, 19, 1, 81]
abbrev dktJ24_checkLength_0 : List UInt8 := dkwJ24_checkLength_0 ++ dktJ24_checkLength_1
theorem dksJ24_checkLength_0 : cJ24_checkLength.data.toList.drop 0 = dktJ24_checkLength_0 := by decide +kernel
theorem dksJ24_checkLength_1 : cJ24_checkLength.data.toList.drop 23 = dktJ24_checkLength_1 := dk_seg dksJ24_checkLength_0 23 rfl rfl
theorem dJ24_checkLength_0 : decode cJ24_checkLength 0 = .ok (.iload_n 1, 1) := dk_27 (dk_at dksJ24_checkLength_0 0 rfl rfl)
theorem dJ24_checkLength_1 : decode cJ24_checkLength 1 = .ok (.iload_n 0, 1) := dk_26 (dk_at dksJ24_checkLength_0 1 rfl rfl)
theorem dJ24_checkLength_2 : decode cJ24_checkLength 2 = .ok (.if_icmp .ge 35, 3) := dk_162 0 35 (dk_at dksJ24_checkLength_0 2 rfl rfl)
theorem dJ24_checkLength_5 : decode cJ24_checkLength 5 = .ok (.new 43, 3) := dk_187 0 43 (dk_at dksJ24_checkLength_0 5 rfl rfl)
theorem dJ24_checkLength_8 : decode cJ24_checkLength 8 = .ok (.dup, 1) := dk_89 (dk_at dksJ24_checkLength_0 8 rfl rfl)
theorem dJ24_checkLength_9 : decode cJ24_checkLength 9 = .ok (.new 45, 3) := dk_187 0 45 (dk_at dksJ24_checkLength_0 9 rfl rfl)
theorem dJ24_checkLength_12 : decode cJ24_checkLength 12 = .ok (.dup, 1) := dk_89 (dk_at dksJ24_checkLength_0 12 rfl rfl)
theorem dJ24_checkLength_13 : decode cJ24_checkLength 13 = .ok (.invokespecial 47, 3) := dk_183 0 47 (dk_at dksJ24_checkLength_0 13 rfl rfl)
theorem dJ24_checkLength_16 : decode cJ24_checkLength 16 = .ok (.iload_n 0, 1) := dk_26 (dk_at dksJ24_checkLength_0 16 rfl rfl)
theorem dJ24_checkLength_17 : decode cJ24_checkLength 17 = .ok (.invokevirtual 54, 3) := dk_182 0 54 (dk_at dksJ24_checkLength_0 17 rfl rfl)
theorem dJ24_checkLength_20 : decode cJ24_checkLength 20 = .ok (.ldc_w 337, 3) := dk_19 1 81 (dk_at dksJ24_checkLength_0 20 rfl rfl)
theorem dJ24_checkLength_23 : decode cJ24_checkLength 23 = .ok (.invokevirtual 50, 3) := dk_182 0 50 (dk_at dksJ24_checkLength_1 0 rfl rfl)
theorem dJ24_checkLength_26 : decode cJ24_checkLength 26 = .ok (.iload_n 1, 1) := dk_27 (dk_at dksJ24_checkLength_1 3 rfl rfl)
theorem dJ24_checkLength_27 : decode cJ24_checkLength 27 = .ok (.invokevirtual 54, 3) := dk_182 0 54 (dk_at dksJ24_checkLength_1 4 rfl rfl)
theorem dJ24_checkLength_30 : decode cJ24_checkLength 30 = .ok (.invokevirtual 61, 3) := dk_182 0 61 (dk_at dksJ24_checkLength_1 7 rfl rfl)
theorem dJ24_checkLength_33 : decode cJ24_checkLength 33 = .ok (.invokespecial 65, 3) := dk_183 0 65 (dk_at dksJ24_checkLength_1 10 rfl rfl)
theorem dJ24_checkLength_36 : decode cJ24_checkLength 36 = .ok (.athrow, 1) := dk_191 (dk_at dksJ24_checkLength_1 13 rfl rfl)
theorem dJ24_checkLength_37 : decode cJ24_checkLength 37 = .ok (.return_, 1) := dk_177 (dk_at dksJ24_checkLength_1 14 rfl rfl)
abbrev cJ24_copyOf_2 : ByteArray := prog_61_method_119_code
def yJ24_copyOf_2 : MethodName := ⟨RJ24, "copyOf", "([Ljava/lang/Object;I)[Ljava/lang/Object;"⟩
def dkwJ24_copyOf_2_0 : List UInt8 := [42, 27, 42, 182, 0, 86, 184, 1, 44, 176]
abbrev dktJ24_copyOf_2_0 : List UInt8 := dkwJ24_copyOf_2_0 ++ []
theorem dksJ24_copyOf_2_0 : cJ24_copyOf_2.data.toList.drop 0 = dktJ24_copyOf_2_0 := by decide +kernel
theorem dJ24_copyOf_2_0 : decode cJ24_copyOf_2 0 = .ok (.aload_n 0, 1) := dk_42 (dk_at dksJ24_copyOf_2_0 0 rfl rfl)
theorem dJ24_copyOf_2_1 : decode cJ24_copyOf_2 1 = .ok (.iload_n 1, 1) := dk_27 (dk_at dksJ24_copyOf_2_0 1 rfl rfl)
theorem dJ24_copyOf_2_2 : decode cJ24_copyOf_2 2 = .ok (.aload_n 0, 1) := dk_42 (dk_at dksJ24_copyOf_2_0 2 rfl rfl)
theorem dJ24_copyOf_2_3 : decode cJ24_copyOf_2 3 = .ok (.invokevirtual 86, 3) := dk_182 0 86 (dk_at dksJ24_copyOf_2_0 3 rfl rfl)
theorem dJ24_copyOf_2_6 : decode cJ24_copyOf_2 6 = .ok (.invokestatic 300, 3) := dk_184 1 44 (dk_at dksJ24_copyOf_2_0 6 rfl rfl)
theorem dJ24_copyOf_2_9 : decode cJ24_copyOf_2 9 = .ok (.areturn, 1) := dk_176 (dk_at dksJ24_copyOf_2_0 9 rfl rfl)
abbrev cJ24_copyOf_3 : ByteArray := prog_61_method_120_code
def yJ24_copyOf_3 : MethodName := ⟨RJ24, "copyOf", "([Ljava/lang/Object;ILjava/lang/Class;)[Ljava/lang/Object;"⟩
def dkwJ24_copyOf_3_1 : List UInt8 := [78, 42, 3, 45, 3, 42, 190, 27, 184, 1, 48, 184, 0, 150, 45, 176]
abbrev dktJ24_copyOf_3_1 : List UInt8 := dkwJ24_copyOf_3_1 ++ []
def dkwJ24_copyOf_3_0 : List UInt8 := [44, 18, 110, 166, 0, 10, 27, 189, 0, 2, 167, 0, 14, 44, 182, 0, 90, 27, 184, 0, 95, 192, 0, 110]
abbrev dktJ24_copyOf_3_0 : List UInt8 := dkwJ24_copyOf_3_0 ++ dktJ24_copyOf_3_1
theorem dksJ24_copyOf_3_0 : cJ24_copyOf_3.data.toList.drop 0 = dktJ24_copyOf_3_0 := by decide +kernel
theorem dksJ24_copyOf_3_1 : cJ24_copyOf_3.data.toList.drop 24 = dktJ24_copyOf_3_1 := dk_seg dksJ24_copyOf_3_0 24 rfl rfl
theorem dJ24_copyOf_3_0 : decode cJ24_copyOf_3 0 = .ok (.aload_n 2, 1) := dk_44 (dk_at dksJ24_copyOf_3_0 0 rfl rfl)
theorem dJ24_copyOf_3_1 : decode cJ24_copyOf_3 1 = .ok (.ldc 110, 2) := dk_18 110 (dk_at dksJ24_copyOf_3_0 1 rfl rfl)
theorem dJ24_copyOf_3_3 : decode cJ24_copyOf_3 3 = .ok (.if_acmp .ne 10, 3) := dk_166 0 10 (dk_at dksJ24_copyOf_3_0 3 rfl rfl)
theorem dJ24_copyOf_3_6 : decode cJ24_copyOf_3 6 = .ok (.iload_n 1, 1) := dk_27 (dk_at dksJ24_copyOf_3_0 6 rfl rfl)
theorem dJ24_copyOf_3_7 : decode cJ24_copyOf_3 7 = .ok (.anewarray 2, 3) := dk_189 0 2 (dk_at dksJ24_copyOf_3_0 7 rfl rfl)
theorem dJ24_copyOf_3_10 : decode cJ24_copyOf_3 10 = .ok (.goto 14, 3) := dk_167 0 14 (dk_at dksJ24_copyOf_3_0 10 rfl rfl)
theorem dJ24_copyOf_3_13 : decode cJ24_copyOf_3 13 = .ok (.aload_n 2, 1) := dk_44 (dk_at dksJ24_copyOf_3_0 13 rfl rfl)
theorem dJ24_copyOf_3_14 : decode cJ24_copyOf_3 14 = .ok (.invokevirtual 90, 3) := dk_182 0 90 (dk_at dksJ24_copyOf_3_0 14 rfl rfl)
theorem dJ24_copyOf_3_17 : decode cJ24_copyOf_3 17 = .ok (.iload_n 1, 1) := dk_27 (dk_at dksJ24_copyOf_3_0 17 rfl rfl)
theorem dJ24_copyOf_3_18 : decode cJ24_copyOf_3 18 = .ok (.invokestatic 95, 3) := dk_184 0 95 (dk_at dksJ24_copyOf_3_0 18 rfl rfl)
theorem dJ24_copyOf_3_21 : decode cJ24_copyOf_3 21 = .ok (.checkcast 110, 3) := dk_192 0 110 (dk_at dksJ24_copyOf_3_0 21 rfl rfl)
theorem dJ24_copyOf_3_24 : decode cJ24_copyOf_3 24 = .ok (.astore_n 3, 1) := dk_78 (dk_at dksJ24_copyOf_3_1 0 rfl rfl)
theorem dJ24_copyOf_3_25 : decode cJ24_copyOf_3 25 = .ok (.aload_n 0, 1) := dk_42 (dk_at dksJ24_copyOf_3_1 1 rfl rfl)
theorem dJ24_copyOf_3_26 : decode cJ24_copyOf_3 26 = .ok (.iconst 0, 1) := dk_3 (dk_at dksJ24_copyOf_3_1 2 rfl rfl)
theorem dJ24_copyOf_3_27 : decode cJ24_copyOf_3 27 = .ok (.aload_n 3, 1) := dk_45 (dk_at dksJ24_copyOf_3_1 3 rfl rfl)
theorem dJ24_copyOf_3_28 : decode cJ24_copyOf_3 28 = .ok (.iconst 0, 1) := dk_3 (dk_at dksJ24_copyOf_3_1 4 rfl rfl)
theorem dJ24_copyOf_3_29 : decode cJ24_copyOf_3 29 = .ok (.aload_n 0, 1) := dk_42 (dk_at dksJ24_copyOf_3_1 5 rfl rfl)
theorem dJ24_copyOf_3_30 : decode cJ24_copyOf_3 30 = .ok (.arraylength, 1) := dk_190 (dk_at dksJ24_copyOf_3_1 6 rfl rfl)
theorem dJ24_copyOf_3_31 : decode cJ24_copyOf_3 31 = .ok (.iload_n 1, 1) := dk_27 (dk_at dksJ24_copyOf_3_1 7 rfl rfl)
theorem dJ24_copyOf_3_32 : decode cJ24_copyOf_3 32 = .ok (.invokestatic 304, 3) := dk_184 1 48 (dk_at dksJ24_copyOf_3_1 8 rfl rfl)
theorem dJ24_copyOf_3_35 : decode cJ24_copyOf_3 35 = .ok (.invokestatic 150, 3) := dk_184 0 150 (dk_at dksJ24_copyOf_3_1 11 rfl rfl)
theorem dJ24_copyOf_3_38 : decode cJ24_copyOf_3 38 = .ok (.aload_n 3, 1) := dk_45 (dk_at dksJ24_copyOf_3_1 14 rfl rfl)
theorem dJ24_copyOf_3_39 : decode cJ24_copyOf_3 39 = .ok (.areturn, 1) := dk_176 (dk_at dksJ24_copyOf_3_1 15 rfl rfl)
abbrev cJ24_fill : ByteArray := prog_61_method_110_code
def yJ24_fill : MethodName := ⟨RJ24, "fill", "([BIIB)V"⟩
def dkwJ24_fill_1 : List UInt8 := [167, 255, 242, 177]
abbrev dktJ24_fill_1 : List UInt8 := dkwJ24_fill_1 ++ []
def dkwJ24_fill_0 : List UInt8 := [42, 190, 27, 28, 184, 0, 13, 27, 54, 4, 21, 4, 28, 162, 0, 14, 42, 21, 4, 29, 84, 132, 4, 1]
abbrev dktJ24_fill_0 : List UInt8 := dkwJ24_fill_0 ++ dktJ24_fill_1
theorem dksJ24_fill_0 : cJ24_fill.data.toList.drop 0 = dktJ24_fill_0 := by decide +kernel
theorem dksJ24_fill_1 : cJ24_fill.data.toList.drop 24 = dktJ24_fill_1 := dk_seg dksJ24_fill_0 24 rfl rfl
theorem dJ24_fill_0 : decode cJ24_fill 0 = .ok (.aload_n 0, 1) := dk_42 (dk_at dksJ24_fill_0 0 rfl rfl)
theorem dJ24_fill_1 : decode cJ24_fill 1 = .ok (.arraylength, 1) := dk_190 (dk_at dksJ24_fill_0 1 rfl rfl)
theorem dJ24_fill_2 : decode cJ24_fill 2 = .ok (.iload_n 1, 1) := dk_27 (dk_at dksJ24_fill_0 2 rfl rfl)
theorem dJ24_fill_3 : decode cJ24_fill 3 = .ok (.iload_n 2, 1) := dk_28 (dk_at dksJ24_fill_0 3 rfl rfl)
theorem dJ24_fill_4 : decode cJ24_fill 4 = .ok (.invokestatic 13, 3) := dk_184 0 13 (dk_at dksJ24_fill_0 4 rfl rfl)
theorem dJ24_fill_7 : decode cJ24_fill 7 = .ok (.iload_n 1, 1) := dk_27 (dk_at dksJ24_fill_0 7 rfl rfl)
theorem dJ24_fill_8 : decode cJ24_fill 8 = .ok (.istore 4, 2) := dk_54 4 (dk_at dksJ24_fill_0 8 rfl rfl)
theorem dJ24_fill_10 : decode cJ24_fill 10 = .ok (.iload 4, 2) := dk_21 4 (dk_at dksJ24_fill_0 10 rfl rfl)
theorem dJ24_fill_12 : decode cJ24_fill 12 = .ok (.iload_n 2, 1) := dk_28 (dk_at dksJ24_fill_0 12 rfl rfl)
theorem dJ24_fill_13 : decode cJ24_fill 13 = .ok (.if_icmp .ge 14, 3) := dk_162 0 14 (dk_at dksJ24_fill_0 13 rfl rfl)
theorem dJ24_fill_16 : decode cJ24_fill 16 = .ok (.aload_n 0, 1) := dk_42 (dk_at dksJ24_fill_0 16 rfl rfl)
theorem dJ24_fill_17 : decode cJ24_fill 17 = .ok (.iload 4, 2) := dk_21 4 (dk_at dksJ24_fill_0 17 rfl rfl)
theorem dJ24_fill_19 : decode cJ24_fill 19 = .ok (.iload_n 3, 1) := dk_29 (dk_at dksJ24_fill_0 19 rfl rfl)
theorem dJ24_fill_20 : decode cJ24_fill 20 = .ok (.bastore, 1) := dk_84 (dk_at dksJ24_fill_0 20 rfl rfl)
theorem dJ24_fill_21 : decode cJ24_fill 21 = .ok (.iinc 4 1, 3) := dk_132 4 1 (dk_at dksJ24_fill_0 21 rfl rfl)
theorem dJ24_fill_24 : decode cJ24_fill 24 = .ok (.goto (-14), 3) := dk_167 255 242 (dk_at dksJ24_fill_1 0 rfl rfl)
theorem dJ24_fill_27 : decode cJ24_fill 27 = .ok (.return_, 1) := dk_177 (dk_at dksJ24_fill_1 3 rfl rfl)
abbrev cJ24_rangeCheck : ByteArray := prog_61_method_30_code
def yJ24_rangeCheck : MethodName := ⟨RJ24, "rangeCheck", "(III)V"⟩
def dkwJ24_rangeCheck_3 : List UInt8 := [183, 0, 70, 191, 177]
abbrev dktJ24_rangeCheck_3 : List UInt8 := dkwJ24_rangeCheck_3 ++ []
def dkwJ24_rangeCheck_2 : List UInt8 := [27, 156, 0, 12, 187, 0, 68, 89, 27, 183, 0, 70, 191, 28, 26, 164, 0, 12, 187, 0, 68, 89, 28]
abbrev dktJ24_rangeCheck_2 : List UInt8 := dkwJ24_rangeCheck_2 ++ dktJ24_rangeCheck_3
def dkwJ24_rangeCheck_1 : List UInt8 := [182, 0, 54, 18, 57, 182, 0, 50, 28, 182, 0, 54, 18, 59, 182, 0, 50, 182, 0, 61, 183, 0, 65, 191]
abbrev dktJ24_rangeCheck_1 : List UInt8 := dkwJ24_rangeCheck_1 ++ dktJ24_rangeCheck_2
def dkwJ24_rangeCheck_0 : List UInt8 := [27, 28, 164, 0, 44, 187, 0, 43, 89, 187, 0, 45, 89, 183, 0, 47, 18, 48, 182, 0, 50, 27]
abbrev dktJ24_rangeCheck_0 : List UInt8 := dkwJ24_rangeCheck_0 ++ dktJ24_rangeCheck_1
theorem dksJ24_rangeCheck_0 : cJ24_rangeCheck.data.toList.drop 0 = dktJ24_rangeCheck_0 := by decide +kernel
theorem dksJ24_rangeCheck_1 : cJ24_rangeCheck.data.toList.drop 22 = dktJ24_rangeCheck_1 := dk_seg dksJ24_rangeCheck_0 22 rfl rfl
theorem dksJ24_rangeCheck_2 : cJ24_rangeCheck.data.toList.drop 46 = dktJ24_rangeCheck_2 := dk_seg dksJ24_rangeCheck_1 24 rfl rfl
theorem dksJ24_rangeCheck_3 : cJ24_rangeCheck.data.toList.drop 69 = dktJ24_rangeCheck_3 := dk_seg dksJ24_rangeCheck_2 23 rfl rfl
theorem dJ24_rangeCheck_0 : decode cJ24_rangeCheck 0 = .ok (.iload_n 1, 1) := dk_27 (dk_at dksJ24_rangeCheck_0 0 rfl rfl)
theorem dJ24_rangeCheck_1 : decode cJ24_rangeCheck 1 = .ok (.iload_n 2, 1) := dk_28 (dk_at dksJ24_rangeCheck_0 1 rfl rfl)
theorem dJ24_rangeCheck_2 : decode cJ24_rangeCheck 2 = .ok (.if_icmp .le 44, 3) := dk_164 0 44 (dk_at dksJ24_rangeCheck_0 2 rfl rfl)
theorem dJ24_rangeCheck_5 : decode cJ24_rangeCheck 5 = .ok (.new 43, 3) := dk_187 0 43 (dk_at dksJ24_rangeCheck_0 5 rfl rfl)
theorem dJ24_rangeCheck_8 : decode cJ24_rangeCheck 8 = .ok (.dup, 1) := dk_89 (dk_at dksJ24_rangeCheck_0 8 rfl rfl)
theorem dJ24_rangeCheck_9 : decode cJ24_rangeCheck 9 = .ok (.new 45, 3) := dk_187 0 45 (dk_at dksJ24_rangeCheck_0 9 rfl rfl)
theorem dJ24_rangeCheck_12 : decode cJ24_rangeCheck 12 = .ok (.dup, 1) := dk_89 (dk_at dksJ24_rangeCheck_0 12 rfl rfl)
theorem dJ24_rangeCheck_13 : decode cJ24_rangeCheck 13 = .ok (.invokespecial 47, 3) := dk_183 0 47 (dk_at dksJ24_rangeCheck_0 13 rfl rfl)
theorem dJ24_rangeCheck_16 : decode cJ24_rangeCheck 16 = .ok (.ldc 48, 2) := dk_18 48 (dk_at dksJ24_rangeCheck_0 16 rfl rfl)
theorem dJ24_rangeCheck_18 : decode cJ24_rangeCheck 18 = .ok (.invokevirtual 50, 3) := dk_182 0 50 (dk_at dksJ24_rangeCheck_0 18 rfl rfl)
theorem dJ24_rangeCheck_21 : decode cJ24_rangeCheck 21 = .ok (.iload_n 1, 1) := dk_27 (dk_at dksJ24_rangeCheck_0 21 rfl rfl)
theorem dJ24_rangeCheck_22 : decode cJ24_rangeCheck 22 = .ok (.invokevirtual 54, 3) := dk_182 0 54 (dk_at dksJ24_rangeCheck_1 0 rfl rfl)
theorem dJ24_rangeCheck_25 : decode cJ24_rangeCheck 25 = .ok (.ldc 57, 2) := dk_18 57 (dk_at dksJ24_rangeCheck_1 3 rfl rfl)
theorem dJ24_rangeCheck_27 : decode cJ24_rangeCheck 27 = .ok (.invokevirtual 50, 3) := dk_182 0 50 (dk_at dksJ24_rangeCheck_1 5 rfl rfl)
theorem dJ24_rangeCheck_30 : decode cJ24_rangeCheck 30 = .ok (.iload_n 2, 1) := dk_28 (dk_at dksJ24_rangeCheck_1 8 rfl rfl)
theorem dJ24_rangeCheck_31 : decode cJ24_rangeCheck 31 = .ok (.invokevirtual 54, 3) := dk_182 0 54 (dk_at dksJ24_rangeCheck_1 9 rfl rfl)
theorem dJ24_rangeCheck_34 : decode cJ24_rangeCheck 34 = .ok (.ldc 59, 2) := dk_18 59 (dk_at dksJ24_rangeCheck_1 12 rfl rfl)
theorem dJ24_rangeCheck_36 : decode cJ24_rangeCheck 36 = .ok (.invokevirtual 50, 3) := dk_182 0 50 (dk_at dksJ24_rangeCheck_1 14 rfl rfl)
theorem dJ24_rangeCheck_39 : decode cJ24_rangeCheck 39 = .ok (.invokevirtual 61, 3) := dk_182 0 61 (dk_at dksJ24_rangeCheck_1 17 rfl rfl)
theorem dJ24_rangeCheck_42 : decode cJ24_rangeCheck 42 = .ok (.invokespecial 65, 3) := dk_183 0 65 (dk_at dksJ24_rangeCheck_1 20 rfl rfl)
theorem dJ24_rangeCheck_45 : decode cJ24_rangeCheck 45 = .ok (.athrow, 1) := dk_191 (dk_at dksJ24_rangeCheck_1 23 rfl rfl)
theorem dJ24_rangeCheck_46 : decode cJ24_rangeCheck 46 = .ok (.iload_n 1, 1) := dk_27 (dk_at dksJ24_rangeCheck_2 0 rfl rfl)
theorem dJ24_rangeCheck_47 : decode cJ24_rangeCheck 47 = .ok (.ifCond .ge 12, 3) := dk_156 0 12 (dk_at dksJ24_rangeCheck_2 1 rfl rfl)
theorem dJ24_rangeCheck_50 : decode cJ24_rangeCheck 50 = .ok (.new 68, 3) := dk_187 0 68 (dk_at dksJ24_rangeCheck_2 4 rfl rfl)
theorem dJ24_rangeCheck_53 : decode cJ24_rangeCheck 53 = .ok (.dup, 1) := dk_89 (dk_at dksJ24_rangeCheck_2 7 rfl rfl)
theorem dJ24_rangeCheck_54 : decode cJ24_rangeCheck 54 = .ok (.iload_n 1, 1) := dk_27 (dk_at dksJ24_rangeCheck_2 8 rfl rfl)
theorem dJ24_rangeCheck_55 : decode cJ24_rangeCheck 55 = .ok (.invokespecial 70, 3) := dk_183 0 70 (dk_at dksJ24_rangeCheck_2 9 rfl rfl)
theorem dJ24_rangeCheck_58 : decode cJ24_rangeCheck 58 = .ok (.athrow, 1) := dk_191 (dk_at dksJ24_rangeCheck_2 12 rfl rfl)
theorem dJ24_rangeCheck_59 : decode cJ24_rangeCheck 59 = .ok (.iload_n 2, 1) := dk_28 (dk_at dksJ24_rangeCheck_2 13 rfl rfl)
theorem dJ24_rangeCheck_60 : decode cJ24_rangeCheck 60 = .ok (.iload_n 0, 1) := dk_26 (dk_at dksJ24_rangeCheck_2 14 rfl rfl)
theorem dJ24_rangeCheck_61 : decode cJ24_rangeCheck 61 = .ok (.if_icmp .le 12, 3) := dk_164 0 12 (dk_at dksJ24_rangeCheck_2 15 rfl rfl)
theorem dJ24_rangeCheck_64 : decode cJ24_rangeCheck 64 = .ok (.new 68, 3) := dk_187 0 68 (dk_at dksJ24_rangeCheck_2 18 rfl rfl)
theorem dJ24_rangeCheck_67 : decode cJ24_rangeCheck 67 = .ok (.dup, 1) := dk_89 (dk_at dksJ24_rangeCheck_2 21 rfl rfl)
theorem dJ24_rangeCheck_68 : decode cJ24_rangeCheck 68 = .ok (.iload_n 2, 1) := dk_28 (dk_at dksJ24_rangeCheck_2 22 rfl rfl)
theorem dJ24_rangeCheck_69 : decode cJ24_rangeCheck 69 = .ok (.invokespecial 70, 3) := dk_183 0 70 (dk_at dksJ24_rangeCheck_3 0 rfl rfl)
theorem dJ24_rangeCheck_72 : decode cJ24_rangeCheck 72 = .ok (.athrow, 1) := dk_191 (dk_at dksJ24_rangeCheck_3 3 rfl rfl)
theorem dJ24_rangeCheck_73 : decode cJ24_rangeCheck 73 = .ok (.return_, 1) := dk_177 (dk_at dksJ24_rangeCheck_3 4 rfl rfl)
theorem q162 : (Jvm.Cond.initialized "java/util/Arrays") ∈ lw_all := lw_g (lw_at lw_m1 42 rfl) rfl
theorem q1045 : (Jvm.Cond.static ({ cls := "java/util/Arrays", name := "copyOf", desc := "([BI)[B" } : Jvm.MethodName)) ∈ lw_all := lw_g (lw_at lw_m4 205 rfl) rfl
theorem q1046 : (Jvm.Cond.code ({ cls := "java/util/Arrays", name := "copyOf", desc := "([BI)[B" } : Jvm.MethodName) prog_61_method_121_code (3 : Nat) (Option.some (Jvm.ClassFile.FieldType.array Jvm.ClassFile.FieldType.byte))) ∈ lw_all := lw_g (lw_at lw_m4 206 rfl) rfl
theorem q1047 : (Jvm.Cond.methodLink "java/util/Arrays" (310 : Nat) ({ cls := "[B", name := "clone", desc := "()Ljava/lang/Object;" } : Jvm.MethodName)) ∈ lw_all := lw_g (lw_at lw_m4 207 rfl) rfl
theorem q1053 : (Jvm.Cond.classLink "java/util/Arrays" (311 : Nat) "[B") ∈ lw_all := lw_g (lw_at lw_m4 213 rfl) rfl
theorem q1054 : (Jvm.Cond.methodLink "java/util/Arrays" (304 : Nat) ({ cls := "java/lang/Math", name := "min", desc := "(II)I" } : Jvm.MethodName)) ∈ lw_all := lw_g (lw_at lw_m4 214 rfl) rfl
theorem q1057 : (Jvm.Cond.methodLink "java/util/Arrays" (150 : Nat) ({ cls := "java/lang/System", name := "arraycopy", desc := "(Ljava/lang/Object;ILjava/lang/Object;II)V" } : Jvm.MethodName)) ∈ lw_all := lw_g (lw_at lw_m4 217 rfl) rfl
theorem q1153 : (Jvm.Cond.static ({ cls := "java/util/Arrays", name := "copyOfRange", desc := "([BII)[B" } : Jvm.MethodName)) ∈ lw_all := lw_g (lw_at lw_m5 73 rfl) rfl
theorem q1154 : (Jvm.Cond.code ({ cls := "java/util/Arrays", name := "copyOfRange", desc := "([BII)[B" } : Jvm.MethodName) prog_61_method_132_code (3 : Nat) (Option.some (Jvm.ClassFile.FieldType.array Jvm.ClassFile.FieldType.byte))) ∈ lw_all := lw_g (lw_at lw_m5 74 rfl) rfl
theorem q1155 : (Jvm.Cond.methodLink "java/util/Arrays" (339 : Nat) ({ cls := "java/util/Arrays", name := "copyOfRangeByte", desc := "([BII)[B" } : Jvm.MethodName)) ∈ lw_all := lw_g (lw_at lw_m5 75 rfl) rfl
theorem q1156 : (Jvm.Cond.static ({ cls := "java/util/Arrays", name := "copyOfRangeByte", desc := "([BII)[B" } : Jvm.MethodName)) ∈ lw_all := lw_g (lw_at lw_m5 76 rfl) rfl
theorem q1157 : (Jvm.Cond.code ({ cls := "java/util/Arrays", name := "copyOfRangeByte", desc := "([BII)[B" } : Jvm.MethodName) prog_61_method_133_code (5 : Nat) (Option.some (Jvm.ClassFile.FieldType.array Jvm.ClassFile.FieldType.byte))) ∈ lw_all := lw_g (lw_at lw_m5 77 rfl) rfl
theorem q1158 : (Jvm.Cond.methodLink "java/util/Arrays" (343 : Nat) ({ cls := "java/util/Arrays", name := "checkLength", desc := "(II)V" } : Jvm.MethodName)) ∈ lw_all := lw_g (lw_at lw_m5 78 rfl) rfl
theorem q1159 : (Jvm.Cond.static ({ cls := "java/util/Arrays", name := "checkLength", desc := "(II)V" } : Jvm.MethodName)) ∈ lw_all := lw_g (lw_at lw_m5 79 rfl) rfl
theorem q1160 : (Jvm.Cond.code ({ cls := "java/util/Arrays", name := "checkLength", desc := "(II)V" } : Jvm.MethodName) prog_61_method_131_code (2 : Nat) (Option.none : Option Jvm.ClassFile.FieldType)) ∈ lw_all := lw_g (lw_at lw_m5 80 rfl) rfl
theorem q1437 : (Jvm.Cond.static ({ cls := "java/util/Arrays", name := "copyOf", desc := "([Ljava/lang/Object;I)[Ljava/lang/Object;" } : Jvm.MethodName)) ∈ lw_all := lw_g (lw_at lw_m6 117 rfl) rfl
theorem q1438 : (Jvm.Cond.code ({ cls := "java/util/Arrays", name := "copyOf", desc := "([Ljava/lang/Object;I)[Ljava/lang/Object;" } : Jvm.MethodName) prog_61_method_119_code (2 : Nat) (Option.some (Jvm.ClassFile.FieldType.array (Jvm.ClassFile.FieldType.object "java/lang/Object")))) ∈ lw_all := lw_g (lw_at lw_m6 118 rfl) rfl
theorem q1439 : (Jvm.Cond.methodLink "java/util/Arrays" (86 : Nat) ({ cls := "java/lang/Object", name := "getClass", desc := "()Ljava/lang/Class;" } : Jvm.MethodName)) ∈ lw_all := lw_g (lw_at lw_m6 119 rfl) rfl
theorem q1479 : (Jvm.Cond.methodLink "java/util/Arrays" (300 : Nat) ({ cls := "java/util/Arrays", name := "copyOf", desc := "([Ljava/lang/Object;ILjava/lang/Class;)[Ljava/lang/Object;" } : Jvm.MethodName)) ∈ lw_all := lw_g (lw_at lw_m6 159 rfl) rfl
theorem q1480 : (Jvm.Cond.static ({ cls := "java/util/Arrays", name := "copyOf", desc := "([Ljava/lang/Object;ILjava/lang/Class;)[Ljava/lang/Object;" } : Jvm.MethodName)) ∈ lw_all := lw_g (lw_at lw_m6 160 rfl) rfl
theorem q1481 : (Jvm.Cond.code ({ cls := "java/util/Arrays", name := "copyOf", desc := "([Ljava/lang/Object;ILjava/lang/Class;)[Ljava/lang/Object;" } : Jvm.MethodName) prog_61_method_120_code (4 : Nat) (Option.some (Jvm.ClassFile.FieldType.array (Jvm.ClassFile.FieldType.object "java/lang/Object")))) ∈ lw_all := lw_g (lw_at lw_m6 161 rfl) rfl
theorem q1482 : (Jvm.Cond.classLink "java/util/Arrays" (110 : Nat) "[Ljava/lang/Object;") ∈ lw_all := lw_g (lw_at lw_m6 162 rfl) rfl
theorem q1483 : (Jvm.Cond.classLink "java/util/Arrays" (2 : Nat) "java/lang/Object") ∈ lw_all := lw_g (lw_at lw_m6 163 rfl) rfl
theorem q2839 : (Jvm.Cond.static ({ cls := "java/util/Arrays", name := "fill", desc := "([BIIB)V" } : Jvm.MethodName)) ∈ lw_all := lw_g (lw_at lw_m12 79 rfl) rfl
theorem q2840 : (Jvm.Cond.code ({ cls := "java/util/Arrays", name := "fill", desc := "([BIIB)V" } : Jvm.MethodName) prog_61_method_110_code (5 : Nat) (Option.none : Option Jvm.ClassFile.FieldType)) ∈ lw_all := lw_g (lw_at lw_m12 80 rfl) rfl
theorem q2841 : (Jvm.Cond.methodLink "java/util/Arrays" (13 : Nat) ({ cls := "java/util/Arrays", name := "rangeCheck", desc := "(III)V" } : Jvm.MethodName)) ∈ lw_all := lw_g (lw_at lw_m12 81 rfl) rfl
theorem q2842 : (Jvm.Cond.static ({ cls := "java/util/Arrays", name := "rangeCheck", desc := "(III)V" } : Jvm.MethodName)) ∈ lw_all := lw_g (lw_at lw_m12 82 rfl) rfl
theorem q2843 : (Jvm.Cond.code ({ cls := "java/util/Arrays", name := "rangeCheck", desc := "(III)V" } : Jvm.MethodName) prog_61_method_30_code (3 : Nat) (Option.none : Option Jvm.ClassFile.FieldType)) ∈ lw_all := lw_g (lw_at lw_m12 83 rfl) rfl
theorem q2844 : (Jvm.Cond.classLink "java/util/Arrays" (68 : Nat) "java/lang/ArrayIndexOutOfBoundsException") ∈ lw_all := lw_g (lw_at lw_m12 84 rfl) rfl
theorem q2845 : (Jvm.Cond.methodLink "java/util/Arrays" (70 : Nat) ({ cls := "java/lang/ArrayIndexOutOfBoundsException", name := "<init>", desc := "(I)V" } : Jvm.MethodName)) ∈ lw_all := lw_g (lw_at lw_m12 85 rfl) rfl

/-! java/util/NoSuchElementException -/
set_option maxRecDepth 100000
def RJ25 : String := "java/util/NoSuchElementException"
def TJ25 : u_T := fun k => match k with
  | 0 => ("java/lang/Throwable", "cause", "Ljava/lang/Throwable;", false)
  | 1 => ("java/lang/Throwable", "stackTrace", "[Ljava/lang/StackTraceElement;", false)
  | 2 => ("java/lang/Throwable", "suppressedExceptions", "Ljava/util/List;", false)
  | 3 => ("java/lang/Throwable", "detailMessage", "Ljava/lang/String;", false)
  | 4 => ("java/lang/Throwable", "backtrace", "Ljava/lang/Object;", false)
  | _ => ("java/lang/Throwable", "depth", "I", false)
def tyJ25 : Nat → FieldType := fun k => match k with
  | 0 => .object "java/lang/Throwable"
  | 1 => .array (.object "java/lang/StackTraceElement")
  | 2 => .object "java/util/List"
  | 3 => .object "java/lang/String"
  | 4 => .object "java/lang/Object"
  | _ => .int
abbrev wsJ250 : List Cond := u_ws RJ25 TJ25 6
theorem nmJ25 : ∀ a, a < 6 → ∀ b, b < 6 → a ≠ b → (TJ25 a).2.1 ≠ (TJ25 b).2.1 := by decide +kernel
theorem tyJ25_ok : ∀ k, k < 6 → parseFieldDescriptor (TJ25 k).2.2.1 = some (tyJ25 k) := by decide +kernel
abbrev cJ25_init : ByteArray := prog_71_method_3_code
def yJ25_init : MethodName := ⟨RJ25, "<init>", "(Ljava/lang/Throwable;)V"⟩
def dkwJ25_init_0 : List UInt8 := [42, 43, 183, 0, 10, 177]
abbrev dktJ25_init_0 : List UInt8 := dkwJ25_init_0 ++ []
theorem dksJ25_init_0 : cJ25_init.data.toList.drop 0 = dktJ25_init_0 := by decide +kernel
theorem dJ25_init_0 : decode cJ25_init 0 = .ok (.aload_n 0, 1) := dk_42 (dk_at dksJ25_init_0 0 rfl rfl)
theorem dJ25_init_1 : decode cJ25_init 1 = .ok (.aload_n 1, 1) := dk_43 (dk_at dksJ25_init_0 1 rfl rfl)
theorem dJ25_init_2 : decode cJ25_init 2 = .ok (.invokespecial 10, 3) := dk_183 0 10 (dk_at dksJ25_init_0 2 rfl rfl)
theorem dJ25_init_5 : decode cJ25_init 5 = .ok (.return_, 1) := dk_177 (dk_at dksJ25_init_0 5 rfl rfl)
theorem q167 : (Jvm.Cond.initialized "java/util/NoSuchElementException") ∈ lw_all := lw_g (lw_at lw_m1 47 rfl) rfl
theorem q276 : (Jvm.Cond.selects "java/util/NoSuchElementException" ({ cls := "java/lang/Throwable", name := "fillInStackTrace", desc := "()Ljava/lang/Throwable;" } : Jvm.MethodName) ({ cls := "java/lang/Throwable", name := "fillInStackTrace", desc := "()Ljava/lang/Throwable;" } : Jvm.MethodName)) ∈ lw_all := lw_g (lw_at lw_m1 156 rfl) rfl
theorem q1477 : (Jvm.Cond.selects "java/util/NoSuchElementException" ({ cls := "java/lang/Object", name := "getClass", desc := "()Ljava/lang/Class;" } : Jvm.MethodName) ({ cls := "java/lang/Object", name := "getClass", desc := "()Ljava/lang/Class;" } : Jvm.MethodName)) ∈ lw_all := lw_g (lw_at lw_m6 157 rfl) rfl
theorem q1870 : (Jvm.Cond.instantiable "java/util/NoSuchElementException" (6 : Nat)) ∈ lw_all := lw_g (lw_at lw_m8 70 rfl) rfl
theorem q1871 : (Jvm.Cond.castable "java/util/NoSuchElementException" "java/util/NoSuchElementException") ∈ lw_tbl := lw_at lw_m8 71 rfl
theorem q1872 : (Jvm.Cond.selects "java/util/NoSuchElementException" ({ cls := "java/lang/Throwable", name := "fillInStackTrace", desc := "(I)Ljava/lang/Throwable;" } : Jvm.MethodName) ({ cls := "java/lang/Throwable", name := "fillInStackTrace", desc := "(I)Ljava/lang/Throwable;" } : Jvm.MethodName)) ∈ lw_all := lw_g (lw_at lw_m8 72 rfl) rfl
theorem q1873 : (Jvm.Cond.lays "java/util/NoSuchElementException" "java/lang/Throwable" "cause" "Ljava/lang/Throwable;") ∈ lw_all := lw_g (lw_at lw_m8 73 rfl) rfl
theorem q1874 : (Jvm.Cond.lays "java/util/NoSuchElementException" "java/lang/Throwable" "stackTrace" "[Ljava/lang/StackTraceElement;") ∈ lw_all := lw_g (lw_at lw_m8 74 rfl) rfl
theorem q1875 : (Jvm.Cond.lays "java/util/NoSuchElementException" "java/lang/Throwable" "suppressedExceptions" "Ljava/util/List;") ∈ lw_all := lw_g (lw_at lw_m8 75 rfl) rfl
theorem q1876 : (Jvm.Cond.lays "java/util/NoSuchElementException" "java/lang/Throwable" "detailMessage" "Ljava/lang/String;") ∈ lw_all := lw_g (lw_at lw_m8 76 rfl) rfl
theorem q1877 : (Jvm.Cond.lays "java/util/NoSuchElementException" "java/lang/Throwable" "backtrace" "Ljava/lang/Object;") ∈ lw_all := lw_g (lw_at lw_m8 77 rfl) rfl
theorem q1879 : (Jvm.Cond.instanceMethod ({ cls := "java/util/NoSuchElementException", name := "<init>", desc := "(Ljava/lang/Throwable;)V" } : Jvm.MethodName)) ∈ lw_all := lw_g (lw_at lw_m8 79 rfl) rfl
theorem q1880 : (Jvm.Cond.code ({ cls := "java/util/NoSuchElementException", name := "<init>", desc := "(Ljava/lang/Throwable;)V" } : Jvm.MethodName) prog_71_method_3_code (2 : Nat) (Option.none : Option Jvm.ClassFile.FieldType)) ∈ lw_all := lw_g (lw_at lw_m8 80 rfl) rfl
theorem q1881 : (Jvm.Cond.methodLink "java/util/NoSuchElementException" (10 : Nat) ({ cls := "java/lang/RuntimeException", name := "<init>", desc := "(Ljava/lang/Throwable;)V" } : Jvm.MethodName)) ∈ lw_all := lw_g (lw_at lw_m8 81 rfl) rfl
theorem q1902 : (Jvm.Cond.selects "java/util/NoSuchElementException" ({ cls := "java/lang/Throwable", name := "toString", desc := "()Ljava/lang/String;" } : Jvm.MethodName) ({ cls := "java/lang/Throwable", name := "toString", desc := "()Ljava/lang/String;" } : Jvm.MethodName)) ∈ lw_all := lw_g (lw_at lw_m8 102 rfl) rfl
theorem q1917 : (Jvm.Cond.selects "java/util/NoSuchElementException" ({ cls := "java/lang/Throwable", name := "getLocalizedMessage", desc := "()Ljava/lang/String;" } : Jvm.MethodName) ({ cls := "java/lang/Throwable", name := "getLocalizedMessage", desc := "()Ljava/lang/String;" } : Jvm.MethodName)) ∈ lw_all := lw_g (lw_at lw_m8 117 rfl) rfl
theorem q1937 : (Jvm.Cond.selects "java/util/NoSuchElementException" ({ cls := "java/lang/Throwable", name := "getMessage", desc := "()Ljava/lang/String;" } : Jvm.MethodName) ({ cls := "java/lang/Throwable", name := "getMessage", desc := "()Ljava/lang/String;" } : Jvm.MethodName)) ∈ lw_all := lw_g (lw_at lw_m8 137 rfl) rfl
theorem q1943 : (Jvm.Cond.lays "java/util/NoSuchElementException" "java/lang/Throwable" "depth" "I") ∈ lw_all := lw_g (lw_at lw_m8 143 rfl) rfl
theorem q1944 : (Jvm.Cond.superclass "java/util/NoSuchElementException" "java/lang/RuntimeException") ∈ lw_all := lw_g (lw_at lw_m8 144 rfl) rfl
theorem q3660 : (Jvm.Cond.castable "java/util/NoSuchElementException" "java/lang/Object") ∈ lw_tbl := lw_at lw_m15 180 rfl
theorem in_J25 : ∀ w ∈ wsJ250, w ∈ lw_all := lw_in wsJ250 [1873, 1874, 1875, 1876, 1877, 1943] (by decide +kernel) (by decide +kernel)

/-! java/util/LinkedList$Node -/
set_option maxRecDepth 100000
def RJ26 : String := "java/util/LinkedList$Node"
def TJ26 : u_T := fun k => match k with
  | 0 => ("java/util/LinkedList$Node", "item", "Ljava/lang/Object;", false)
  | 1 => ("java/util/LinkedList$Node", "next", "Ljava/util/LinkedList$Node;", false)
  | _ => ("java/util/LinkedList$Node", "prev", "Ljava/util/LinkedList$Node;", false)
def tyJ26 : Nat → FieldType := fun k => match k with
  | 0 => .object "java/lang/Object"
  | 1 => .object "java/util/LinkedList$Node"
  | _ => .object "java/util/LinkedList$Node"
abbrev wsJ260 : List Cond := u_ws RJ26 TJ26 3
theorem nmJ26 : ∀ a, a < 3 → ∀ b, b < 3 → a ≠ b → (TJ26 a).2.1 ≠ (TJ26 b).2.1 := by decide +kernel
theorem tyJ26_ok : ∀ k, k < 3 → parseFieldDescriptor (TJ26 k).2.2.1 = some (tyJ26 k) := by decide +kernel
abbrev cJ26_init : ByteArray := prog_68_method_1_code
def yJ26_init : MethodName := ⟨RJ26, "<init>", "(Ljava/util/LinkedList$Node;Ljava/lang/Object;Ljava/util/LinkedList$Node;)V"⟩
def dkwJ26_init_0 : List UInt8 := [42, 183, 0, 1, 42, 44, 181, 0, 7, 42, 45, 181, 0, 13, 42, 43, 181, 0, 17, 177]
abbrev dktJ26_init_0 : List UInt8 := dkwJ26_init_0 ++ []
theorem dksJ26_init_0 : cJ26_init.data.toList.drop 0 = dktJ26_init_0 := by decide +kernel
theorem dJ26_init_0 : decode cJ26_init 0 = .ok (.aload_n 0, 1) := dk_42 (dk_at dksJ26_init_0 0 rfl rfl)
theorem dJ26_init_1 : decode cJ26_init 1 = .ok (.invokespecial 1, 3) := dk_183 0 1 (dk_at dksJ26_init_0 1 rfl rfl)
theorem dJ26_init_4 : decode cJ26_init 4 = .ok (.aload_n 0, 1) := dk_42 (dk_at dksJ26_init_0 4 rfl rfl)
theorem dJ26_init_5 : decode cJ26_init 5 = .ok (.aload_n 2, 1) := dk_44 (dk_at dksJ26_init_0 5 rfl rfl)
theorem dJ26_init_6 : decode cJ26_init 6 = .ok (.putfield 7, 3) := dk_181 0 7 (dk_at dksJ26_init_0 6 rfl rfl)
theorem dJ26_init_9 : decode cJ26_init 9 = .ok (.aload_n 0, 1) := dk_42 (dk_at dksJ26_init_0 9 rfl rfl)
theorem dJ26_init_10 : decode cJ26_init 10 = .ok (.aload_n 3, 1) := dk_45 (dk_at dksJ26_init_0 10 rfl rfl)
theorem dJ26_init_11 : decode cJ26_init 11 = .ok (.putfield 13, 3) := dk_181 0 13 (dk_at dksJ26_init_0 11 rfl rfl)
theorem dJ26_init_14 : decode cJ26_init 14 = .ok (.aload_n 0, 1) := dk_42 (dk_at dksJ26_init_0 14 rfl rfl)
theorem dJ26_init_15 : decode cJ26_init 15 = .ok (.aload_n 1, 1) := dk_43 (dk_at dksJ26_init_0 15 rfl rfl)
theorem dJ26_init_16 : decode cJ26_init 16 = .ok (.putfield 17, 3) := dk_181 0 17 (dk_at dksJ26_init_0 16 rfl rfl)
theorem dJ26_init_19 : decode cJ26_init 19 = .ok (.return_, 1) := dk_177 (dk_at dksJ26_init_0 19 rfl rfl)
theorem q168 : (Jvm.Cond.initialized "java/util/LinkedList$Node") ∈ lw_all := lw_g (lw_at lw_m1 48 rfl) rfl
theorem q1476 : (Jvm.Cond.selects "java/util/LinkedList$Node" ({ cls := "java/lang/Object", name := "getClass", desc := "()Ljava/lang/Class;" } : Jvm.MethodName) ({ cls := "java/lang/Object", name := "getClass", desc := "()Ljava/lang/Class;" } : Jvm.MethodName)) ∈ lw_all := lw_g (lw_at lw_m6 156 rfl) rfl
theorem q2321 : (Jvm.Cond.instantiable "java/util/LinkedList$Node" (3 : Nat)) ∈ lw_all := lw_g (lw_at lw_m10 41 rfl) rfl
theorem q2323 : (Jvm.Cond.instanceMethod ({ cls := "java/util/LinkedList$Node", name := "<init>", desc := "(Ljava/util/LinkedList$Node;Ljava/lang/Object;Ljava/util/LinkedList$Node;)V" } : Jvm.MethodName)) ∈ lw_all := lw_g (lw_at lw_m10 43 rfl) rfl
theorem q2324 : (Jvm.Cond.code ({ cls := "java/util/LinkedList$Node", name := "<init>", desc := "(Ljava/util/LinkedList$Node;Ljava/lang/Object;Ljava/util/LinkedList$Node;)V" } : Jvm.MethodName) prog_68_method_1_code (4 : Nat) (Option.none : Option Jvm.ClassFile.FieldType)) ∈ lw_all := lw_g (lw_at lw_m10 44 rfl) rfl
theorem q2325 : (Jvm.Cond.methodLink "java/util/LinkedList$Node" (1 : Nat) ({ cls := "java/lang/Object", name := "<init>", desc := "()V" } : Jvm.MethodName)) ∈ lw_all := lw_g (lw_at lw_m10 45 rfl) rfl
theorem q2326 : (Jvm.Cond.fieldLink "java/util/LinkedList$Node" (7 : Nat) "java/util/LinkedList$Node" "item" "Ljava/lang/Object;") ∈ lw_all := lw_g (lw_at lw_m10 46 rfl) rfl
theorem q2329 : (Jvm.Cond.fieldLink "java/util/LinkedList$Node" (13 : Nat) "java/util/LinkedList$Node" "next" "Ljava/util/LinkedList$Node;") ∈ lw_all := lw_g (lw_at lw_m10 49 rfl) rfl
theorem q2332 : (Jvm.Cond.fieldLink "java/util/LinkedList$Node" (17 : Nat) "java/util/LinkedList$Node" "prev" "Ljava/util/LinkedList$Node;") ∈ lw_all := lw_g (lw_at lw_m10 52 rfl) rfl
theorem q2335 : (Jvm.Cond.lays "java/util/LinkedList$Node" "java/util/LinkedList$Node" "item" "Ljava/lang/Object;") ∈ lw_all := lw_g (lw_at lw_m10 55 rfl) rfl
theorem q2336 : (Jvm.Cond.soleField "java/util/LinkedList$Node" "item") ∈ lw_all := lw_g (lw_at lw_m10 56 rfl) rfl
theorem q2337 : (Jvm.Cond.lays "java/util/LinkedList$Node" "java/util/LinkedList$Node" "next" "Ljava/util/LinkedList$Node;") ∈ lw_all := lw_g (lw_at lw_m10 57 rfl) rfl
theorem q2338 : (Jvm.Cond.soleField "java/util/LinkedList$Node" "next") ∈ lw_all := lw_g (lw_at lw_m10 58 rfl) rfl
theorem q2339 : (Jvm.Cond.lays "java/util/LinkedList$Node" "java/util/LinkedList$Node" "prev" "Ljava/util/LinkedList$Node;") ∈ lw_all := lw_g (lw_at lw_m10 59 rfl) rfl
theorem q2340 : (Jvm.Cond.soleField "java/util/LinkedList$Node" "prev") ∈ lw_all := lw_g (lw_at lw_m10 60 rfl) rfl
theorem q2341 : (Jvm.Cond.superclass "java/util/LinkedList$Node" "java/lang/Object") ∈ lw_all := lw_g (lw_at lw_m10 61 rfl) rfl
theorem q3652 : (Jvm.Cond.castable "java/util/LinkedList$Node" "java/lang/Object") ∈ lw_tbl := lw_at lw_m15 172 rfl
theorem in_J26 : ∀ w ∈ wsJ260, w ∈ lw_all := lw_in wsJ260 [2335, 2337, 2339] (by decide +kernel) (by decide +kernel)

/-! java/util/LinkedList$DescendingIterator -/
set_option maxRecDepth 100000
def RJ27 : String := "java/util/LinkedList$DescendingIterator"
def TJ27 : u_T := fun k => match k with
  | 0 => ("java/util/LinkedList$DescendingIterator", "itr", "Ljava/util/LinkedList$ListItr;", true)
  | _ => ("java/util/LinkedList$DescendingIterator", "this$0", "Ljava/util/LinkedList;", true)
def tyJ27 : Nat → FieldType := fun k => match k with
  | 0 => .object "java/util/LinkedList$ListItr"
  | _ => .object "java/util/LinkedList"
abbrev wsJ270 : List Cond := u_ws RJ27 TJ27 2
theorem nmJ27 : ∀ a, a < 2 → ∀ b, b < 2 → a ≠ b → (TJ27 a).2.1 ≠ (TJ27 b).2.1 := by decide +kernel
theorem tyJ27_ok : ∀ k, k < 2 → parseFieldDescriptor (TJ27 k).2.2.1 = some (tyJ27 k) := by decide +kernel
abbrev cJ27_hasNext : ByteArray := prog_66_method_2_code
def yJ27_hasNext : MethodName := ⟨RJ27, "hasNext", "()Z"⟩
def dkwJ27_hasNext_0 : List UInt8 := [42, 180, 0, 24, 182, 0, 28, 172]
abbrev dktJ27_hasNext_0 : List UInt8 := dkwJ27_hasNext_0 ++ []
theorem dksJ27_hasNext_0 : cJ27_hasNext.data.toList.drop 0 = dktJ27_hasNext_0 := by decide +kernel
theorem dJ27_hasNext_0 : decode cJ27_hasNext 0 = .ok (.aload_n 0, 1) := dk_42 (dk_at dksJ27_hasNext_0 0 rfl rfl)
theorem dJ27_hasNext_1 : decode cJ27_hasNext 1 = .ok (.getfield 24, 3) := dk_180 0 24 (dk_at dksJ27_hasNext_0 1 rfl rfl)
theorem dJ27_hasNext_4 : decode cJ27_hasNext 4 = .ok (.invokevirtual 28, 3) := dk_182 0 28 (dk_at dksJ27_hasNext_0 4 rfl rfl)
theorem dJ27_hasNext_7 : decode cJ27_hasNext 7 = .ok (.ireturn, 1) := dk_172 (dk_at dksJ27_hasNext_0 7 rfl rfl)
abbrev cJ27_next : ByteArray := prog_66_method_3_code
def yJ27_next : MethodName := ⟨RJ27, "next", "()Ljava/lang/Object;"⟩
def dkwJ27_next_0 : List UInt8 := [42, 180, 0, 24, 182, 0, 32, 176]
abbrev dktJ27_next_0 : List UInt8 := dkwJ27_next_0 ++ []
theorem dksJ27_next_0 : cJ27_next.data.toList.drop 0 = dktJ27_next_0 := by decide +kernel
theorem dJ27_next_0 : decode cJ27_next 0 = .ok (.aload_n 0, 1) := dk_42 (dk_at dksJ27_next_0 0 rfl rfl)
theorem dJ27_next_1 : decode cJ27_next 1 = .ok (.getfield 24, 3) := dk_180 0 24 (dk_at dksJ27_next_0 1 rfl rfl)
theorem dJ27_next_4 : decode cJ27_next 4 = .ok (.invokevirtual 32, 3) := dk_182 0 32 (dk_at dksJ27_next_0 4 rfl rfl)
theorem dJ27_next_7 : decode cJ27_next 7 = .ok (.areturn, 1) := dk_176 (dk_at dksJ27_next_0 7 rfl rfl)
abbrev cJ27_init : ByteArray := prog_66_method_1_code
def yJ27_init : MethodName := ⟨RJ27, "<init>", "(Ljava/util/LinkedList;)V"⟩
def dkwJ27_init_1 : List UInt8 := [182, 0, 15, 183, 0, 21, 181, 0, 24, 177]
abbrev dktJ27_init_1 : List UInt8 := dkwJ27_init_1 ++ []
def dkwJ27_init_0 : List UInt8 := [42, 43, 181, 0, 1, 42, 183, 0, 7, 42, 187, 0, 13, 89, 42, 180, 0, 1, 42, 180, 0, 1]
abbrev dktJ27_init_0 : List UInt8 := dkwJ27_init_0 ++ dktJ27_init_1
theorem dksJ27_init_0 : cJ27_init.data.toList.drop 0 = dktJ27_init_0 := by decide +kernel
theorem dksJ27_init_1 : cJ27_init.data.toList.drop 22 = dktJ27_init_1 := dk_seg dksJ27_init_0 22 rfl rfl
theorem dJ27_init_0 : decode cJ27_init 0 = .ok (.aload_n 0, 1) := dk_42 (dk_at dksJ27_init_0 0 rfl rfl)
theorem dJ27_init_1 : decode cJ27_init 1 = .ok (.aload_n 1, 1) := dk_43 (dk_at dksJ27_init_0 1 rfl rfl)
theorem dJ27_init_2 : decode cJ27_init 2 = .ok (.putfield 1, 3) := dk_181 0 1 (dk_at dksJ27_init_0 2 rfl rfl)
theorem dJ27_init_5 : decode cJ27_init 5 = .ok (.aload_n 0, 1) := dk_42 (dk_at dksJ27_init_0 5 rfl rfl)
theorem dJ27_init_6 : decode cJ27_init 6 = .ok (.invokespecial 7, 3) := dk_183 0 7 (dk_at dksJ27_init_0 6 rfl rfl)
theorem dJ27_init_9 : decode cJ27_init 9 = .ok (.aload_n 0, 1) := dk_42 (dk_at dksJ27_init_0 9 rfl rfl)
theorem dJ27_init_10 : decode cJ27_init 10 = .ok (.new 13, 3) := dk_187 0 13 (dk_at dksJ27_init_0 10 rfl rfl)
theorem dJ27_init_13 : decode cJ27_init 13 = .ok (.dup, 1) := dk_89 (dk_at dksJ27_init_0 13 rfl rfl)
theorem dJ27_init_14 : decode cJ27_init 14 = .ok (.aload_n 0, 1) := dk_42 (dk_at dksJ27_init_0 14 rfl rfl)
theorem dJ27_init_15 : decode cJ27_init 15 = .ok (.getfield 1, 3) := dk_180 0 1 (dk_at dksJ27_init_0 15 rfl rfl)
theorem dJ27_init_18 : decode cJ27_init 18 = .ok (.aload_n 0, 1) := dk_42 (dk_at dksJ27_init_0 18 rfl rfl)
theorem dJ27_init_19 : decode cJ27_init 19 = .ok (.getfield 1, 3) := dk_180 0 1 (dk_at dksJ27_init_0 19 rfl rfl)
theorem dJ27_init_22 : decode cJ27_init 22 = .ok (.invokevirtual 15, 3) := dk_182 0 15 (dk_at dksJ27_init_1 0 rfl rfl)
theorem dJ27_init_25 : decode cJ27_init 25 = .ok (.invokespecial 21, 3) := dk_183 0 21 (dk_at dksJ27_init_1 3 rfl rfl)
theorem dJ27_init_28 : decode cJ27_init 28 = .ok (.putfield 24, 3) := dk_181 0 24 (dk_at dksJ27_init_1 6 rfl rfl)
theorem dJ27_init_31 : decode cJ27_init 31 = .ok (.return_, 1) := dk_177 (dk_at dksJ27_init_1 9 rfl rfl)
theorem q170 : (Jvm.Cond.initialized "java/util/LinkedList$DescendingIterator") ∈ lw_all := lw_g (lw_at lw_m1 50 rfl) rfl
theorem q1474 : (Jvm.Cond.selects "java/util/LinkedList$DescendingIterator" ({ cls := "java/lang/Object", name := "getClass", desc := "()Ljava/lang/Class;" } : Jvm.MethodName) ({ cls := "java/lang/Object", name := "getClass", desc := "()Ljava/lang/Class;" } : Jvm.MethodName)) ∈ lw_all := lw_g (lw_at lw_m6 154 rfl) rfl
theorem q1701 : (Jvm.Cond.castable "java/util/LinkedList$DescendingIterator" "java/util/Iterator") ∈ lw_tbl := lw_at lw_m7 141 rfl
theorem q1702 : (Jvm.Cond.selects "java/util/LinkedList$DescendingIterator" ({ cls := "java/util/Iterator", name := "hasNext", desc := "()Z" } : Jvm.MethodName) ({ cls := "java/util/LinkedList$DescendingIterator", name := "hasNext", desc := "()Z" } : Jvm.MethodName)) ∈ lw_all := lw_g (lw_at lw_m7 142 rfl) rfl
theorem q1703 : (Jvm.Cond.unhidden "java/util/LinkedList$DescendingIterator" "hasNext" "()Z") ∈ lw_tbl := lw_at lw_m7 143 rfl
theorem q1704 : (Jvm.Cond.instanceMethod ({ cls := "java/util/LinkedList$DescendingIterator", name := "hasNext", desc := "()Z" } : Jvm.MethodName)) ∈ lw_all := lw_g (lw_at lw_m7 144 rfl) rfl
theorem q1705 : (Jvm.Cond.publicMethod ({ cls := "java/util/LinkedList$DescendingIterator", name := "hasNext", desc := "()Z" } : Jvm.MethodName)) ∈ lw_tbl := lw_at lw_m7 145 rfl
theorem q1706 : (Jvm.Cond.code ({ cls := "java/util/LinkedList$DescendingIterator", name := "hasNext", desc := "()Z" } : Jvm.MethodName) prog_66_method_2_code (1 : Nat) (Option.some Jvm.ClassFile.FieldType.boolean)) ∈ lw_all := lw_g (lw_at lw_m7 146 rfl) rfl
theorem q1707 : (Jvm.Cond.methodLink "java/util/LinkedList$DescendingIterator" (28 : Nat) ({ cls := "java/util/LinkedList$ListItr", name := "hasPrevious", desc := "()Z" } : Jvm.MethodName)) ∈ lw_all := lw_g (lw_at lw_m7 147 rfl) rfl
theorem q1955 : (Jvm.Cond.selects "java/util/LinkedList$DescendingIterator" ({ cls := "java/util/Iterator", name := "next", desc := "()Ljava/lang/Object;" } : Jvm.MethodName) ({ cls := "java/util/LinkedList$DescendingIterator", name := "next", desc := "()Ljava/lang/Object;" } : Jvm.MethodName)) ∈ lw_all := lw_g (lw_at lw_m8 155 rfl) rfl
theorem q1956 : (Jvm.Cond.unhidden "java/util/LinkedList$DescendingIterator" "next" "()Ljava/lang/Object;") ∈ lw_tbl := lw_at lw_m8 156 rfl
theorem q1957 : (Jvm.Cond.instanceMethod ({ cls := "java/util/LinkedList$DescendingIterator", name := "next", desc := "()Ljava/lang/Object;" } : Jvm.MethodName)) ∈ lw_all := lw_g (lw_at lw_m8 157 rfl) rfl
theorem q1958 : (Jvm.Cond.publicMethod ({ cls := "java/util/LinkedList$DescendingIterator", name := "next", desc := "()Ljava/lang/Object;" } : Jvm.MethodName)) ∈ lw_tbl := lw_at lw_m8 158 rfl
theorem q1959 : (Jvm.Cond.code ({ cls := "java/util/LinkedList$DescendingIterator", name := "next", desc := "()Ljava/lang/Object;" } : Jvm.MethodName) prog_66_method_3_code (1 : Nat) (Option.some (Jvm.ClassFile.FieldType.object "java/lang/Object"))) ∈ lw_all := lw_g (lw_at lw_m8 159 rfl) rfl
theorem q1960 : (Jvm.Cond.methodLink "java/util/LinkedList$DescendingIterator" (32 : Nat) ({ cls := "java/util/LinkedList$ListItr", name := "previous", desc := "()Ljava/lang/Object;" } : Jvm.MethodName)) ∈ lw_all := lw_g (lw_at lw_m8 160 rfl) rfl
theorem q2575 : (Jvm.Cond.instantiable "java/util/LinkedList$DescendingIterator" (2 : Nat)) ∈ lw_all := lw_g (lw_at lw_m11 55 rfl) rfl
theorem q2577 : (Jvm.Cond.instanceMethod ({ cls := "java/util/LinkedList$DescendingIterator", name := "<init>", desc := "(Ljava/util/LinkedList;)V" } : Jvm.MethodName)) ∈ lw_all := lw_g (lw_at lw_m11 57 rfl) rfl
theorem q2578 : (Jvm.Cond.code ({ cls := "java/util/LinkedList$DescendingIterator", name := "<init>", desc := "(Ljava/util/LinkedList;)V" } : Jvm.MethodName) prog_66_method_1_code (2 : Nat) (Option.none : Option Jvm.ClassFile.FieldType)) ∈ lw_all := lw_g (lw_at lw_m11 58 rfl) rfl
theorem q2579 : (Jvm.Cond.methodLink "java/util/LinkedList$DescendingIterator" (7 : Nat) ({ cls := "java/lang/Object", name := "<init>", desc := "()V" } : Jvm.MethodName)) ∈ lw_all := lw_g (lw_at lw_m11 59 rfl) rfl
theorem q2580 : (Jvm.Cond.classLink "java/util/LinkedList$DescendingIterator" (13 : Nat) "java/util/LinkedList$ListItr") ∈ lw_all := lw_g (lw_at lw_m11 60 rfl) rfl
theorem q2582 : (Jvm.Cond.methodLink "java/util/LinkedList$DescendingIterator" (15 : Nat) ({ cls := "java/util/LinkedList", name := "size", desc := "()I" } : Jvm.MethodName)) ∈ lw_all := lw_g (lw_at lw_m11 62 rfl) rfl
theorem q2583 : (Jvm.Cond.methodLink "java/util/LinkedList$DescendingIterator" (21 : Nat) ({ cls := "java/util/LinkedList$ListItr", name := "<init>", desc := "(Ljava/util/LinkedList;I)V" } : Jvm.MethodName)) ∈ lw_all := lw_g (lw_at lw_m11 63 rfl) rfl
theorem q2604 : (Jvm.Cond.fieldLink "java/util/LinkedList$DescendingIterator" (24 : Nat) "java/util/LinkedList$DescendingIterator" "itr" "Ljava/util/LinkedList$ListItr;") ∈ lw_all := lw_g (lw_at lw_m11 84 rfl) rfl
theorem q2605 : (Jvm.Cond.fieldLink "java/util/LinkedList$DescendingIterator" (1 : Nat) "java/util/LinkedList$DescendingIterator" "this$0" "Ljava/util/LinkedList;") ∈ lw_all := lw_g (lw_at lw_m11 85 rfl) rfl
theorem q2606 : (Jvm.Cond.laysFinal "java/util/LinkedList$DescendingIterator" "java/util/LinkedList$DescendingIterator" "itr" "Ljava/util/LinkedList$ListItr;") ∈ lw_all := lw_g (lw_at lw_m11 86 rfl) rfl
theorem q2607 : (Jvm.Cond.soleField "java/util/LinkedList$DescendingIterator" "itr") ∈ lw_all := lw_g (lw_at lw_m11 87 rfl) rfl
theorem q2608 : (Jvm.Cond.laysFinal "java/util/LinkedList$DescendingIterator" "java/util/LinkedList$DescendingIterator" "this$0" "Ljava/util/LinkedList;") ∈ lw_all := lw_g (lw_at lw_m11 88 rfl) rfl
theorem q2609 : (Jvm.Cond.soleField "java/util/LinkedList$DescendingIterator" "this$0") ∈ lw_all := lw_g (lw_at lw_m11 89 rfl) rfl
theorem q2610 : (Jvm.Cond.superclass "java/util/LinkedList$DescendingIterator" "java/lang/Object") ∈ lw_all := lw_g (lw_at lw_m11 90 rfl) rfl
theorem q3654 : (Jvm.Cond.castable "java/util/LinkedList$DescendingIterator" "java/lang/Object") ∈ lw_tbl := lw_at lw_m15 174 rfl
theorem in_J27 : ∀ w ∈ wsJ270, w ∈ lw_all := lw_in wsJ270 [2606, 2608] (by decide +kernel) (by decide +kernel)

/-! java/util/LinkedList$ListItr -/
set_option maxRecDepth 100000
def RJ28 : String := "java/util/LinkedList$ListItr"
def TJ28 : u_T := fun k => match k with
  | 0 => ("java/util/LinkedList$ListItr", "lastReturned", "Ljava/util/LinkedList$Node;", false)
  | 1 => ("java/util/LinkedList$ListItr", "next", "Ljava/util/LinkedList$Node;", false)
  | 2 => ("java/util/LinkedList$ListItr", "nextIndex", "I", false)
  | 3 => ("java/util/LinkedList$ListItr", "expectedModCount", "I", false)
  | _ => ("java/util/LinkedList$ListItr", "this$0", "Ljava/util/LinkedList;", true)
def tyJ28 : Nat → FieldType := fun k => match k with
  | 0 => .object "java/util/LinkedList$Node"
  | 1 => .object "java/util/LinkedList$Node"
  | 2 => .int
  | 3 => .int
  | _ => .object "java/util/LinkedList"
abbrev wsJ280 : List Cond := u_ws RJ28 TJ28 5
theorem nmJ28 : ∀ a, a < 5 → ∀ b, b < 5 → a ≠ b → (TJ28 a).2.1 ≠ (TJ28 b).2.1 := by decide +kernel
theorem tyJ28_ok : ∀ k, k < 5 → parseFieldDescriptor (TJ28 k).2.2.1 = some (tyJ28 k) := by decide +kernel
abbrev cJ28_hasPrevious : ByteArray := prog_67_method_4_code
def yJ28_hasPrevious : MethodName := ⟨RJ28, "hasPrevious", "()Z"⟩
def dkwJ28_hasPrevious_0 : List UInt8 := [42, 180, 0, 33, 158, 0, 7, 4, 167, 0, 4, 3, 172]
abbrev dktJ28_hasPrevious_0 : List UInt8 := dkwJ28_hasPrevious_0 ++ []
theorem dksJ28_hasPrevious_0 : cJ28_hasPrevious.data.toList.drop 0 = dktJ28_hasPrevious_0 := by decide +kernel
theorem dJ28_hasPrevious_0 : decode cJ28_hasPrevious 0 = .ok (.aload_n 0, 1) := dk_42 (dk_at dksJ28_hasPrevious_0 0 rfl rfl)
theorem dJ28_hasPrevious_1 : decode cJ28_hasPrevious 1 = .ok (.getfield 33, 3) := dk_180 0 33 (dk_at dksJ28_hasPrevious_0 1 rfl rfl)
theorem dJ28_hasPrevious_4 : decode cJ28_hasPrevious 4 = .ok (.ifCond .le 7, 3) := dk_158 0 7 (dk_at dksJ28_hasPrevious_0 4 rfl rfl)
theorem dJ28_hasPrevious_7 : decode cJ28_hasPrevious 7 = .ok (.iconst 1, 1) := dk_4 (dk_at dksJ28_hasPrevious_0 7 rfl rfl)
theorem dJ28_hasPrevious_8 : decode cJ28_hasPrevious 8 = .ok (.goto 4, 3) := dk_167 0 4 (dk_at dksJ28_hasPrevious_0 8 rfl rfl)
theorem dJ28_hasPrevious_11 : decode cJ28_hasPrevious 11 = .ok (.iconst 0, 1) := dk_3 (dk_at dksJ28_hasPrevious_0 11 rfl rfl)
theorem dJ28_hasPrevious_12 : decode cJ28_hasPrevious 12 = .ok (.ireturn, 1) := dk_172 (dk_at dksJ28_hasPrevious_0 12 rfl rfl)
abbrev cJ28_hasNext : ByteArray := prog_67_method_2_code
def yJ28_hasNext : MethodName := ⟨RJ28, "hasNext", "()Z"⟩
def dkwJ28_hasNext_0 : List UInt8 := [42, 180, 0, 33, 42, 180, 0, 1, 180, 0, 22, 162, 0, 7, 4, 167, 0, 4, 3, 172]
abbrev dktJ28_hasNext_0 : List UInt8 := dkwJ28_hasNext_0 ++ []
theorem dksJ28_hasNext_0 : cJ28_hasNext.data.toList.drop 0 = dktJ28_hasNext_0 := by decide +kernel
theorem dJ28_hasNext_0 : decode cJ28_hasNext 0 = .ok (.aload_n 0, 1) := dk_42 (dk_at dksJ28_hasNext_0 0 rfl rfl)
theorem dJ28_hasNext_1 : decode cJ28_hasNext 1 = .ok (.getfield 33, 3) := dk_180 0 33 (dk_at dksJ28_hasNext_0 1 rfl rfl)
theorem dJ28_hasNext_4 : decode cJ28_hasNext 4 = .ok (.aload_n 0, 1) := dk_42 (dk_at dksJ28_hasNext_0 4 rfl rfl)
theorem dJ28_hasNext_5 : decode cJ28_hasNext 5 = .ok (.getfield 1, 3) := dk_180 0 1 (dk_at dksJ28_hasNext_0 5 rfl rfl)
theorem dJ28_hasNext_8 : decode cJ28_hasNext 8 = .ok (.getfield 22, 3) := dk_180 0 22 (dk_at dksJ28_hasNext_0 8 rfl rfl)
theorem dJ28_hasNext_11 : decode cJ28_hasNext 11 = .ok (.if_icmp .ge 7, 3) := dk_162 0 7 (dk_at dksJ28_hasNext_0 11 rfl rfl)
theorem dJ28_hasNext_14 : decode cJ28_hasNext 14 = .ok (.iconst 1, 1) := dk_4 (dk_at dksJ28_hasNext_0 14 rfl rfl)
theorem dJ28_hasNext_15 : decode cJ28_hasNext 15 = .ok (.goto 4, 3) := dk_167 0 4 (dk_at dksJ28_hasNext_0 15 rfl rfl)
theorem dJ28_hasNext_18 : decode cJ28_hasNext 18 = .ok (.iconst 0, 1) := dk_3 (dk_at dksJ28_hasNext_0 18 rfl rfl)
theorem dJ28_hasNext_19 : decode cJ28_hasNext 19 = .ok (.ireturn, 1) := dk_172 (dk_at dksJ28_hasNext_0 19 rfl rfl)
abbrev cJ28_previous : ByteArray := prog_67_method_5_code
def yJ28_previous : MethodName := ⟨RJ28, "previous", "()Ljava/lang/Object;"⟩
def dkwJ28_previous_2 : List UInt8 := [181, 0, 29, 181, 0, 46, 42, 89, 180, 0, 33, 4, 100, 181, 0, 33, 42, 180, 0, 46, 180, 0, 52, 176]
abbrev dktJ28_previous_2 : List UInt8 := dkwJ28_previous_2 ++ []
def dkwJ28_previous_1 : List UInt8 := [180, 0, 29, 199, 0, 13, 42, 180, 0, 1, 180, 0, 59, 167, 0, 10, 42, 180, 0, 29, 180, 0, 62, 90]
abbrev dktJ28_previous_1 : List UInt8 := dkwJ28_previous_1 ++ dktJ28_previous_2
def dkwJ28_previous_0 : List UInt8 := [42, 182, 0, 36, 42, 182, 0, 56, 154, 0, 11, 187, 0, 43, 89, 183, 0, 45, 191, 42, 42, 42]
abbrev dktJ28_previous_0 : List UInt8 := dkwJ28_previous_0 ++ dktJ28_previous_1
theorem dksJ28_previous_0 : cJ28_previous.data.toList.drop 0 = dktJ28_previous_0 := by decide +kernel
theorem dksJ28_previous_1 : cJ28_previous.data.toList.drop 22 = dktJ28_previous_1 := dk_seg dksJ28_previous_0 22 rfl rfl
theorem dksJ28_previous_2 : cJ28_previous.data.toList.drop 46 = dktJ28_previous_2 := dk_seg dksJ28_previous_1 24 rfl rfl
theorem dJ28_previous_0 : decode cJ28_previous 0 = .ok (.aload_n 0, 1) := dk_42 (dk_at dksJ28_previous_0 0 rfl rfl)
theorem dJ28_previous_1 : decode cJ28_previous 1 = .ok (.invokevirtual 36, 3) := dk_182 0 36 (dk_at dksJ28_previous_0 1 rfl rfl)
theorem dJ28_previous_4 : decode cJ28_previous 4 = .ok (.aload_n 0, 1) := dk_42 (dk_at dksJ28_previous_0 4 rfl rfl)
theorem dJ28_previous_5 : decode cJ28_previous 5 = .ok (.invokevirtual 56, 3) := dk_182 0 56 (dk_at dksJ28_previous_0 5 rfl rfl)
theorem dJ28_previous_8 : decode cJ28_previous 8 = .ok (.ifCond .ne 11, 3) := dk_154 0 11 (dk_at dksJ28_previous_0 8 rfl rfl)
theorem dJ28_previous_11 : decode cJ28_previous 11 = .ok (.new 43, 3) := dk_187 0 43 (dk_at dksJ28_previous_0 11 rfl rfl)
theorem dJ28_previous_14 : decode cJ28_previous 14 = .ok (.dup, 1) := dk_89 (dk_at dksJ28_previous_0 14 rfl rfl)
theorem dJ28_previous_15 : decode cJ28_previous 15 = .ok (.invokespecial 45, 3) := dk_183 0 45 (dk_at dksJ28_previous_0 15 rfl rfl)
theorem dJ28_previous_18 : decode cJ28_previous 18 = .ok (.athrow, 1) := dk_191 (dk_at dksJ28_previous_0 18 rfl rfl)
theorem dJ28_previous_19 : decode cJ28_previous 19 = .ok (.aload_n 0, 1) := dk_42 (dk_at dksJ28_previous_0 19 rfl rfl)
theorem dJ28_previous_20 : decode cJ28_previous 20 = .ok (.aload_n 0, 1) := dk_42 (dk_at dksJ28_previous_0 20 rfl rfl)
theorem dJ28_previous_21 : decode cJ28_previous 21 = .ok (.aload_n 0, 1) := dk_42 (dk_at dksJ28_previous_0 21 rfl rfl)
theorem dJ28_previous_22 : decode cJ28_previous 22 = .ok (.getfield 29, 3) := dk_180 0 29 (dk_at dksJ28_previous_1 0 rfl rfl)
theorem dJ28_previous_25 : decode cJ28_previous 25 = .ok (.ifnonnull 13, 3) := dk_199 0 13 (dk_at dksJ28_previous_1 3 rfl rfl)
theorem dJ28_previous_28 : decode cJ28_previous 28 = .ok (.aload_n 0, 1) := dk_42 (dk_at dksJ28_previous_1 6 rfl rfl)
theorem dJ28_previous_29 : decode cJ28_previous 29 = .ok (.getfield 1, 3) := dk_180 0 1 (dk_at dksJ28_previous_1 7 rfl rfl)
theorem dJ28_previous_32 : decode cJ28_previous 32 = .ok (.getfield 59, 3) := dk_180 0 59 (dk_at dksJ28_previous_1 10 rfl rfl)
theorem dJ28_previous_35 : decode cJ28_previous 35 = .ok (.goto 10, 3) := dk_167 0 10 (dk_at dksJ28_previous_1 13 rfl rfl)
theorem dJ28_previous_38 : decode cJ28_previous 38 = .ok (.aload_n 0, 1) := dk_42 (dk_at dksJ28_previous_1 16 rfl rfl)
theorem dJ28_previous_39 : decode cJ28_previous 39 = .ok (.getfield 29, 3) := dk_180 0 29 (dk_at dksJ28_previous_1 17 rfl rfl)
theorem dJ28_previous_42 : decode cJ28_previous 42 = .ok (.getfield 62, 3) := dk_180 0 62 (dk_at dksJ28_previous_1 20 rfl rfl)
theorem dJ28_previous_45 : decode cJ28_previous 45 = .ok (.dup_x1, 1) := dk_90 (dk_at dksJ28_previous_1 23 rfl rfl)
theorem dJ28_previous_46 : decode cJ28_previous 46 = .ok (.putfield 29, 3) := dk_181 0 29 (dk_at dksJ28_previous_2 0 rfl rfl)
theorem dJ28_previous_49 : decode cJ28_previous 49 = .ok (.putfield 46, 3) := dk_181 0 46 (dk_at dksJ28_previous_2 3 rfl rfl)
theorem dJ28_previous_52 : decode cJ28_previous 52 = .ok (.aload_n 0, 1) := dk_42 (dk_at dksJ28_previous_2 6 rfl rfl)
theorem dJ28_previous_53 : decode cJ28_previous 53 = .ok (.dup, 1) := dk_89 (dk_at dksJ28_previous_2 7 rfl rfl)
theorem dJ28_previous_54 : decode cJ28_previous 54 = .ok (.getfield 33, 3) := dk_180 0 33 (dk_at dksJ28_previous_2 8 rfl rfl)
theorem dJ28_previous_57 : decode cJ28_previous 57 = .ok (.iconst 1, 1) := dk_4 (dk_at dksJ28_previous_2 11 rfl rfl)
theorem dJ28_previous_58 : decode cJ28_previous 58 = .ok (.isub, 1) := dk_100 (dk_at dksJ28_previous_2 12 rfl rfl)
theorem dJ28_previous_59 : decode cJ28_previous 59 = .ok (.putfield 33, 3) := dk_181 0 33 (dk_at dksJ28_previous_2 13 rfl rfl)
theorem dJ28_previous_62 : decode cJ28_previous 62 = .ok (.aload_n 0, 1) := dk_42 (dk_at dksJ28_previous_2 16 rfl rfl)
theorem dJ28_previous_63 : decode cJ28_previous 63 = .ok (.getfield 46, 3) := dk_180 0 46 (dk_at dksJ28_previous_2 17 rfl rfl)
theorem dJ28_previous_66 : decode cJ28_previous 66 = .ok (.getfield 52, 3) := dk_180 0 52 (dk_at dksJ28_previous_2 20 rfl rfl)
theorem dJ28_previous_69 : decode cJ28_previous 69 = .ok (.areturn, 1) := dk_176 (dk_at dksJ28_previous_2 23 rfl rfl)
abbrev cJ28_checkForComodification : ByteArray := prog_67_method_12_code
def yJ28_checkForComodification : MethodName := ⟨RJ28, "checkForComodification", "()V"⟩
def dkwJ28_checkForComodification_0 : List UInt8 := [42, 180, 0, 1, 180, 0, 13, 42, 180, 0, 19, 159, 0, 11, 187, 0, 91, 89, 183, 0, 93, 191, 177]
abbrev dktJ28_checkForComodification_0 : List UInt8 := dkwJ28_checkForComodification_0 ++ []
theorem dksJ28_checkForComodification_0 : cJ28_checkForComodification.data.toList.drop 0 = dktJ28_checkForComodification_0 := by decide +kernel
theorem dJ28_checkForComodification_0 : decode cJ28_checkForComodification 0 = .ok (.aload_n 0, 1) := dk_42 (dk_at dksJ28_checkForComodification_0 0 rfl rfl)
theorem dJ28_checkForComodification_1 : decode cJ28_checkForComodification 1 = .ok (.getfield 1, 3) := dk_180 0 1 (dk_at dksJ28_checkForComodification_0 1 rfl rfl)
theorem dJ28_checkForComodification_4 : decode cJ28_checkForComodification 4 = .ok (.getfield 13, 3) := dk_180 0 13 (dk_at dksJ28_checkForComodification_0 4 rfl rfl)
theorem dJ28_checkForComodification_7 : decode cJ28_checkForComodification 7 = .ok (.aload_n 0, 1) := dk_42 (dk_at dksJ28_checkForComodification_0 7 rfl rfl)
theorem dJ28_checkForComodification_8 : decode cJ28_checkForComodification 8 = .ok (.getfield 19, 3) := dk_180 0 19 (dk_at dksJ28_checkForComodification_0 8 rfl rfl)
theorem dJ28_checkForComodification_11 : decode cJ28_checkForComodification 11 = .ok (.if_icmp .eq 11, 3) := dk_159 0 11 (dk_at dksJ28_checkForComodification_0 11 rfl rfl)
theorem dJ28_checkForComodification_14 : decode cJ28_checkForComodification 14 = .ok (.new 91, 3) := dk_187 0 91 (dk_at dksJ28_checkForComodification_0 14 rfl rfl)
theorem dJ28_checkForComodification_17 : decode cJ28_checkForComodification 17 = .ok (.dup, 1) := dk_89 (dk_at dksJ28_checkForComodification_0 17 rfl rfl)
theorem dJ28_checkForComodification_18 : decode cJ28_checkForComodification 18 = .ok (.invokespecial 93, 3) := dk_183 0 93 (dk_at dksJ28_checkForComodification_0 18 rfl rfl)
theorem dJ28_checkForComodification_21 : decode cJ28_checkForComodification 21 = .ok (.athrow, 1) := dk_191 (dk_at dksJ28_checkForComodification_0 21 rfl rfl)
theorem dJ28_checkForComodification_22 : decode cJ28_checkForComodification 22 = .ok (.return_, 1) := dk_177 (dk_at dksJ28_checkForComodification_0 22 rfl rfl)
abbrev cJ28_next : ByteArray := prog_67_method_3_code
def yJ28_next : MethodName := ⟨RJ28, "next", "()Ljava/lang/Object;"⟩
def dkwJ28_next_2 : List UInt8 := [42, 180, 0, 46, 180, 0, 52, 176]
abbrev dktJ28_next_2 : List UInt8 := dkwJ28_next_2 ++ []
def dkwJ28_next_1 : List UInt8 := [181, 0, 46, 42, 42, 180, 0, 29, 180, 0, 49, 181, 0, 29, 42, 89, 180, 0, 33, 4, 96, 181, 0, 33]
abbrev dktJ28_next_1 : List UInt8 := dkwJ28_next_1 ++ dktJ28_next_2
def dkwJ28_next_0 : List UInt8 := [42, 182, 0, 36, 42, 182, 0, 39, 154, 0, 11, 187, 0, 43, 89, 183, 0, 45, 191, 42, 42, 180, 0, 29]
abbrev dktJ28_next_0 : List UInt8 := dkwJ28_next_0 ++ dktJ28_next_1
theorem dksJ28_next_0 : cJ28_next.data.toList.drop 0 = dktJ28_next_0 := by decide +kernel
theorem dksJ28_next_1 : cJ28_next.data.toList.drop 24 = dktJ28_next_1 := dk_seg dksJ28_next_0 24 rfl rfl
theorem dksJ28_next_2 : cJ28_next.data.toList.drop 48 = dktJ28_next_2 := dk_seg dksJ28_next_1 24 rfl rfl
theorem dJ28_next_0 : decode cJ28_next 0 = .ok (.aload_n 0, 1) := dk_42 (dk_at dksJ28_next_0 0 rfl rfl)
theorem dJ28_next_1 : decode cJ28_next 1 = .ok (.invokevirtual 36, 3) := dk_182 0 36 (dk_at dksJ28_next_0 1 rfl rfl)
theorem dJ28_next_4 : decode cJ28_next 4 = .ok (.aload_n 0, 1) := dk_42 (dk_at dksJ28_next_0 4 rfl rfl)
theorem dJ28_next_5 : decode cJ28_next 5 = .ok (.invokevirtual 39, 3) := dk_182 0 39 (dk_at dksJ28_next_0 5 rfl rfl)
theorem dJ28_next_8 : decode cJ28_next 8 = .ok (.ifCond .ne 11, 3) := dk_154 0 11 (dk_at dksJ28_next_0 8 rfl rfl)
theorem dJ28_next_11 : decode cJ28_next 11 = .ok (.new 43, 3) := dk_187 0 43 (dk_at dksJ28_next_0 11 rfl rfl)
theorem dJ28_next_14 : decode cJ28_next 14 = .ok (.dup, 1) := dk_89 (dk_at dksJ28_next_0 14 rfl rfl)
theorem dJ28_next_15 : decode cJ28_next 15 = .ok (.invokespecial 45, 3) := dk_183 0 45 (dk_at dksJ28_next_0 15 rfl rfl)
theorem dJ28_next_18 : decode cJ28_next 18 = .ok (.athrow, 1) := dk_191 (dk_at dksJ28_next_0 18 rfl rfl)
theorem dJ28_next_19 : decode cJ28_next 19 = .ok (.aload_n 0, 1) := dk_42 (dk_at dksJ28_next_0 19 rfl rfl)
theorem dJ28_next_20 : decode cJ28_next 20 = .ok (.aload_n 0, 1) := dk_42 (dk_at dksJ28_next_0 20 rfl rfl)
theorem dJ28_next_21 : decode cJ28_next 21 = .ok (.getfield 29, 3) := dk_180 0 29 (dk_at dksJ28_next_0 21 rfl rfl)
theorem dJ28_next_24 : decode cJ28_next 24 = .ok (.putfield 46, 3) := dk_181 0 46 (dk_at dksJ28_next_1 0 rfl rfl)
theorem dJ28_next_27 : decode cJ28_next 27 = .ok (.aload_n 0, 1) := dk_42 (dk_at dksJ28_next_1 3 rfl rfl)
theorem dJ28_next_28 : decode cJ28_next 28 = .ok (.aload_n 0, 1) := dk_42 (dk_at dksJ28_next_1 4 rfl rfl)
theorem dJ28_next_29 : decode cJ28_next 29 = .ok (.getfield 29, 3) := dk_180 0 29 (dk_at dksJ28_next_1 5 rfl rfl)
theorem dJ28_next_32 : decode cJ28_next 32 = .ok (.getfield 49, 3) := dk_180 0 49 (dk_at dksJ28_next_1 8 rfl rfl)
theorem dJ28_next_35 : decode cJ28_next 35 = .ok (.putfield 29, 3) := dk_181 0 29 (dk_at dksJ28_next_1 11 rfl rfl)
theorem dJ28_next_38 : decode cJ28_next 38 = .ok (.aload_n 0, 1) := dk_42 (dk_at dksJ28_next_1 14 rfl rfl)
theorem dJ28_next_39 : decode cJ28_next 39 = .ok (.dup, 1) := dk_89 (dk_at dksJ28_next_1 15 rfl rfl)
theorem dJ28_next_40 : decode cJ28_next 40 = .ok (.getfield 33, 3) := dk_180 0 33 (dk_at dksJ28_next_1 16 rfl rfl)
theorem dJ28_next_43 : decode cJ28_next 43 = .ok (.iconst 1, 1) := dk_4 (dk_at dksJ28_next_1 19 rfl rfl)
theorem dJ28_next_44 : decode cJ28_next 44 = .ok (.iadd, 1) := dk_96 (dk_at dksJ28_next_1 20 rfl rfl)
theorem dJ28_next_45 : decode cJ28_next 45 = .ok (.putfield 33, 3) := dk_181 0 33 (dk_at dksJ28_next_1 21 rfl rfl)
theorem dJ28_next_48 : decode cJ28_next 48 = .ok (.aload_n 0, 1) := dk_42 (dk_at dksJ28_next_2 0 rfl rfl)
theorem dJ28_next_49 : decode cJ28_next 49 = .ok (.getfield 46, 3) := dk_180 0 46 (dk_at dksJ28_next_2 1 rfl rfl)
theorem dJ28_next_52 : decode cJ28_next 52 = .ok (.getfield 52, 3) := dk_180 0 52 (dk_at dksJ28_next_2 4 rfl rfl)
theorem dJ28_next_55 : decode cJ28_next 55 = .ok (.areturn, 1) := dk_176 (dk_at dksJ28_next_2 7 rfl rfl)
abbrev cJ28_init : ByteArray := prog_67_method_1_code
def yJ28_init : MethodName := ⟨RJ28, "<init>", "(Ljava/util/LinkedList;I)V"⟩
def dkwJ28_init_1 : List UInt8 := [180, 0, 22, 160, 0, 7, 1, 167, 0, 8, 43, 28, 182, 0, 25, 181, 0, 29, 42, 28, 181, 0, 33, 177]
abbrev dktJ28_init_1 : List UInt8 := dkwJ28_init_1 ++ []
def dkwJ28_init_0 : List UInt8 := [42, 43, 181, 0, 1, 42, 183, 0, 7, 42, 42, 180, 0, 1, 180, 0, 13, 181, 0, 19, 42, 28, 43]
abbrev dktJ28_init_0 : List UInt8 := dkwJ28_init_0 ++ dktJ28_init_1
theorem dksJ28_init_0 : cJ28_init.data.toList.drop 0 = dktJ28_init_0 := by decide +kernel
theorem dksJ28_init_1 : cJ28_init.data.toList.drop 23 = dktJ28_init_1 := dk_seg dksJ28_init_0 23 rfl rfl
theorem dJ28_init_0 : decode cJ28_init 0 = .ok (.aload_n 0, 1) := dk_42 (dk_at dksJ28_init_0 0 rfl rfl)
theorem dJ28_init_1 : decode cJ28_init 1 = .ok (.aload_n 1, 1) := dk_43 (dk_at dksJ28_init_0 1 rfl rfl)
theorem dJ28_init_2 : decode cJ28_init 2 = .ok (.putfield 1, 3) := dk_181 0 1 (dk_at dksJ28_init_0 2 rfl rfl)
theorem dJ28_init_5 : decode cJ28_init 5 = .ok (.aload_n 0, 1) := dk_42 (dk_at dksJ28_init_0 5 rfl rfl)
theorem dJ28_init_6 : decode cJ28_init 6 = .ok (.invokespecial 7, 3) := dk_183 0 7 (dk_at dksJ28_init_0 6 rfl rfl)
theorem dJ28_init_9 : decode cJ28_init 9 = .ok (.aload_n 0, 1) := dk_42 (dk_at dksJ28_init_0 9 rfl rfl)
theorem dJ28_init_10 : decode cJ28_init 10 = .ok (.aload_n 0, 1) := dk_42 (dk_at dksJ28_init_0 10 rfl rfl)
theorem dJ28_init_11 : decode cJ28_init 11 = .ok (.getfield 1, 3) := dk_180 0 1 (dk_at dksJ28_init_0 11 rfl rfl)
theorem dJ28_init_14 : decode cJ28_init 14 = .ok (.getfield 13, 3) := dk_180 0 13 (dk_at dksJ28_init_0 14 rfl rfl)
theorem dJ28_init_17 : decode cJ28_init 17 = .ok (.putfield 19, 3) := dk_181 0 19 (dk_at dksJ28_init_0 17 rfl rfl)
theorem dJ28_init_20 : decode cJ28_init 20 = .ok (.aload_n 0, 1) := dk_42 (dk_at dksJ28_init_0 20 rfl rfl)
theorem dJ28_init_21 : decode cJ28_init 21 = .ok (.iload_n 2, 1) := dk_28 (dk_at dksJ28_init_0 21 rfl rfl)
theorem dJ28_init_22 : decode cJ28_init 22 = .ok (.aload_n 1, 1) := dk_43 (dk_at dksJ28_init_0 22 rfl rfl)
theorem dJ28_init_23 : decode cJ28_init 23 = .ok (.getfield 22, 3) := dk_180 0 22 (dk_at dksJ28_init_1 0 rfl rfl)
theorem dJ28_init_26 : decode cJ28_init 26 = .ok (.if_icmp .ne 7, 3) := dk_160 0 7 (dk_at dksJ28_init_1 3 rfl rfl)
theorem dJ28_init_29 : decode cJ28_init 29 = .ok (.aconst_null, 1) := dk_1 (dk_at dksJ28_init_1 6 rfl rfl)
theorem dJ28_init_30 : decode cJ28_init 30 = .ok (.goto 8, 3) := dk_167 0 8 (dk_at dksJ28_init_1 7 rfl rfl)
theorem dJ28_init_33 : decode cJ28_init 33 = .ok (.aload_n 1, 1) := dk_43 (dk_at dksJ28_init_1 10 rfl rfl)
theorem dJ28_init_34 : decode cJ28_init 34 = .ok (.iload_n 2, 1) := dk_28 (dk_at dksJ28_init_1 11 rfl rfl)
theorem dJ28_init_35 : decode cJ28_init 35 = .ok (.invokevirtual 25, 3) := dk_182 0 25 (dk_at dksJ28_init_1 12 rfl rfl)
theorem dJ28_init_38 : decode cJ28_init 38 = .ok (.putfield 29, 3) := dk_181 0 29 (dk_at dksJ28_init_1 15 rfl rfl)
theorem dJ28_init_41 : decode cJ28_init 41 = .ok (.aload_n 0, 1) := dk_42 (dk_at dksJ28_init_1 18 rfl rfl)
theorem dJ28_init_42 : decode cJ28_init 42 = .ok (.iload_n 2, 1) := dk_28 (dk_at dksJ28_init_1 19 rfl rfl)
theorem dJ28_init_43 : decode cJ28_init 43 = .ok (.putfield 33, 3) := dk_181 0 33 (dk_at dksJ28_init_1 20 rfl rfl)
theorem dJ28_init_46 : decode cJ28_init 46 = .ok (.return_, 1) := dk_177 (dk_at dksJ28_init_1 23 rfl rfl)
theorem q171 : (Jvm.Cond.initialized "java/util/LinkedList$ListItr") ∈ lw_all := lw_g (lw_at lw_m1 51 rfl) rfl
theorem q342 : (Jvm.Cond.fieldLink "java/util/LinkedList$ListItr" (13 : Nat) "java/util/LinkedList" "modCount" "I") ∈ lw_all := lw_g (lw_at lw_m1 222 rfl) rfl
theorem q460 : (Jvm.Cond.fieldLink "java/util/LinkedList$ListItr" (22 : Nat) "java/util/LinkedList" "size" "I") ∈ lw_all := lw_g (lw_at lw_m2 100 rfl) rfl
theorem q463 : (Jvm.Cond.fieldLink "java/util/LinkedList$ListItr" (59 : Nat) "java/util/LinkedList" "last" "Ljava/util/LinkedList$Node;") ∈ lw_all := lw_g (lw_at lw_m2 103 rfl) rfl
theorem q1475 : (Jvm.Cond.selects "java/util/LinkedList$ListItr" ({ cls := "java/lang/Object", name := "getClass", desc := "()Ljava/lang/Class;" } : Jvm.MethodName) ({ cls := "java/lang/Object", name := "getClass", desc := "()Ljava/lang/Class;" } : Jvm.MethodName)) ∈ lw_all := lw_g (lw_at lw_m6 155 rfl) rfl
theorem q1708 : (Jvm.Cond.instanceMethod ({ cls := "java/util/LinkedList$ListItr", name := "hasPrevious", desc := "()Z" } : Jvm.MethodName)) ∈ lw_all := lw_g (lw_at lw_m7 148 rfl) rfl
theorem q1709 : (Jvm.Cond.selects "java/util/LinkedList$ListItr" ({ cls := "java/util/LinkedList$ListItr", name := "hasPrevious", desc := "()Z" } : Jvm.MethodName) ({ cls := "java/util/LinkedList$ListItr", name := "hasPrevious", desc := "()Z" } : Jvm.MethodName)) ∈ lw_all := lw_g (lw_at lw_m7 149 rfl) rfl
theorem q1710 : (Jvm.Cond.code ({ cls := "java/util/LinkedList$ListItr", name := "hasPrevious", desc := "()Z" } : Jvm.MethodName) prog_67_method_4_code (1 : Nat) (Option.some Jvm.ClassFile.FieldType.boolean)) ∈ lw_all := lw_g (lw_at lw_m7 150 rfl) rfl
theorem q1711 : (Jvm.Cond.castable "java/util/LinkedList$ListItr" "java/util/Iterator") ∈ lw_tbl := lw_at lw_m7 151 rfl
theorem q1712 : (Jvm.Cond.selects "java/util/LinkedList$ListItr" ({ cls := "java/util/Iterator", name := "hasNext", desc := "()Z" } : Jvm.MethodName) ({ cls := "java/util/LinkedList$ListItr", name := "hasNext", desc := "()Z" } : Jvm.MethodName)) ∈ lw_all := lw_g (lw_at lw_m7 152 rfl) rfl
theorem q1713 : (Jvm.Cond.unhidden "java/util/LinkedList$ListItr" "hasNext" "()Z") ∈ lw_tbl := lw_at lw_m7 153 rfl
theorem q1714 : (Jvm.Cond.instanceMethod ({ cls := "java/util/LinkedList$ListItr", name := "hasNext", desc := "()Z" } : Jvm.MethodName)) ∈ lw_all := lw_g (lw_at lw_m7 154 rfl) rfl
theorem q1715 : (Jvm.Cond.publicMethod ({ cls := "java/util/LinkedList$ListItr", name := "hasNext", desc := "()Z" } : Jvm.MethodName)) ∈ lw_tbl := lw_at lw_m7 155 rfl
theorem q1716 : (Jvm.Cond.code ({ cls := "java/util/LinkedList$ListItr", name := "hasNext", desc := "()Z" } : Jvm.MethodName) prog_67_method_2_code (1 : Nat) (Option.some Jvm.ClassFile.FieldType.boolean)) ∈ lw_all := lw_g (lw_at lw_m7 156 rfl) rfl
theorem q1961 : (Jvm.Cond.instanceMethod ({ cls := "java/util/LinkedList$ListItr", name := "previous", desc := "()Ljava/lang/Object;" } : Jvm.MethodName)) ∈ lw_all := lw_g (lw_at lw_m8 161 rfl) rfl
theorem q1962 : (Jvm.Cond.selects "java/util/LinkedList$ListItr" ({ cls := "java/util/LinkedList$ListItr", name := "previous", desc := "()Ljava/lang/Object;" } : Jvm.MethodName) ({ cls := "java/util/LinkedList$ListItr", name := "previous", desc := "()Ljava/lang/Object;" } : Jvm.MethodName)) ∈ lw_all := lw_g (lw_at lw_m8 162 rfl) rfl
theorem q1963 : (Jvm.Cond.code ({ cls := "java/util/LinkedList$ListItr", name := "previous", desc := "()Ljava/lang/Object;" } : Jvm.MethodName) prog_67_method_5_code (1 : Nat) (Option.some (Jvm.ClassFile.FieldType.object "java/lang/Object"))) ∈ lw_all := lw_g (lw_at lw_m8 163 rfl) rfl
theorem q1964 : (Jvm.Cond.methodLink "java/util/LinkedList$ListItr" (36 : Nat) ({ cls := "java/util/LinkedList$ListItr", name := "checkForComodification", desc := "()V" } : Jvm.MethodName)) ∈ lw_all := lw_g (lw_at lw_m8 164 rfl) rfl
theorem q1965 : (Jvm.Cond.instanceMethod ({ cls := "java/util/LinkedList$ListItr", name := "checkForComodification", desc := "()V" } : Jvm.MethodName)) ∈ lw_all := lw_g (lw_at lw_m8 165 rfl) rfl
theorem q1966 : (Jvm.Cond.selects "java/util/LinkedList$ListItr" ({ cls := "java/util/LinkedList$ListItr", name := "checkForComodification", desc := "()V" } : Jvm.MethodName) ({ cls := "java/util/LinkedList$ListItr", name := "checkForComodification", desc := "()V" } : Jvm.MethodName)) ∈ lw_all := lw_g (lw_at lw_m8 166 rfl) rfl
theorem q1967 : (Jvm.Cond.code ({ cls := "java/util/LinkedList$ListItr", name := "checkForComodification", desc := "()V" } : Jvm.MethodName) prog_67_method_12_code (1 : Nat) (Option.none : Option Jvm.ClassFile.FieldType)) ∈ lw_all := lw_g (lw_at lw_m8 167 rfl) rfl
theorem q1968 : (Jvm.Cond.methodLink "java/util/LinkedList$ListItr" (56 : Nat) ({ cls := "java/util/LinkedList$ListItr", name := "hasPrevious", desc := "()Z" } : Jvm.MethodName)) ∈ lw_all := lw_g (lw_at lw_m8 168 rfl) rfl
theorem q1969 : (Jvm.Cond.selects "java/util/LinkedList$ListItr" ({ cls := "java/util/Iterator", name := "next", desc := "()Ljava/lang/Object;" } : Jvm.MethodName) ({ cls := "java/util/LinkedList$ListItr", name := "next", desc := "()Ljava/lang/Object;" } : Jvm.MethodName)) ∈ lw_all := lw_g (lw_at lw_m8 169 rfl) rfl
theorem q1970 : (Jvm.Cond.unhidden "java/util/LinkedList$ListItr" "next" "()Ljava/lang/Object;") ∈ lw_tbl := lw_at lw_m8 170 rfl
theorem q1971 : (Jvm.Cond.instanceMethod ({ cls := "java/util/LinkedList$ListItr", name := "next", desc := "()Ljava/lang/Object;" } : Jvm.MethodName)) ∈ lw_all := lw_g (lw_at lw_m8 171 rfl) rfl
theorem q1972 : (Jvm.Cond.publicMethod ({ cls := "java/util/LinkedList$ListItr", name := "next", desc := "()Ljava/lang/Object;" } : Jvm.MethodName)) ∈ lw_tbl := lw_at lw_m8 172 rfl
theorem q1973 : (Jvm.Cond.code ({ cls := "java/util/LinkedList$ListItr", name := "next", desc := "()Ljava/lang/Object;" } : Jvm.MethodName) prog_67_method_3_code (1 : Nat) (Option.some (Jvm.ClassFile.FieldType.object "java/lang/Object"))) ∈ lw_all := lw_g (lw_at lw_m8 173 rfl) rfl
theorem q1974 : (Jvm.Cond.methodLink "java/util/LinkedList$ListItr" (39 : Nat) ({ cls := "java/util/LinkedList$ListItr", name := "hasNext", desc := "()Z" } : Jvm.MethodName)) ∈ lw_all := lw_g (lw_at lw_m8 174 rfl) rfl
theorem q2327 : (Jvm.Cond.fieldLink "java/util/LinkedList$ListItr" (52 : Nat) "java/util/LinkedList$Node" "item" "Ljava/lang/Object;") ∈ lw_all := lw_g (lw_at lw_m10 47 rfl) rfl
theorem q2330 : (Jvm.Cond.fieldLink "java/util/LinkedList$ListItr" (49 : Nat) "java/util/LinkedList$Node" "next" "Ljava/util/LinkedList$Node;") ∈ lw_all := lw_g (lw_at lw_m10 50 rfl) rfl
theorem q2333 : (Jvm.Cond.fieldLink "java/util/LinkedList$ListItr" (62 : Nat) "java/util/LinkedList$Node" "prev" "Ljava/util/LinkedList$Node;") ∈ lw_all := lw_g (lw_at lw_m10 53 rfl) rfl
theorem q2581 : (Jvm.Cond.instantiable "java/util/LinkedList$ListItr" (5 : Nat)) ∈ lw_all := lw_g (lw_at lw_m11 61 rfl) rfl
theorem q2584 : (Jvm.Cond.instanceMethod ({ cls := "java/util/LinkedList$ListItr", name := "<init>", desc := "(Ljava/util/LinkedList;I)V" } : Jvm.MethodName)) ∈ lw_all := lw_g (lw_at lw_m11 64 rfl) rfl
theorem q2585 : (Jvm.Cond.code ({ cls := "java/util/LinkedList$ListItr", name := "<init>", desc := "(Ljava/util/LinkedList;I)V" } : Jvm.MethodName) prog_67_method_1_code (3 : Nat) (Option.none : Option Jvm.ClassFile.FieldType)) ∈ lw_all := lw_g (lw_at lw_m11 65 rfl) rfl
theorem q2586 : (Jvm.Cond.methodLink "java/util/LinkedList$ListItr" (7 : Nat) ({ cls := "java/lang/Object", name := "<init>", desc := "()V" } : Jvm.MethodName)) ∈ lw_all := lw_g (lw_at lw_m11 66 rfl) rfl
theorem q2587 : (Jvm.Cond.methodLink "java/util/LinkedList$ListItr" (25 : Nat) ({ cls := "java/util/LinkedList", name := "node", desc := "(I)Ljava/util/LinkedList$Node;" } : Jvm.MethodName)) ∈ lw_all := lw_g (lw_at lw_m11 67 rfl) rfl
theorem q2588 : (Jvm.Cond.fieldLink "java/util/LinkedList$ListItr" (46 : Nat) "java/util/LinkedList$ListItr" "lastReturned" "Ljava/util/LinkedList$Node;") ∈ lw_all := lw_g (lw_at lw_m11 68 rfl) rfl
theorem q2589 : (Jvm.Cond.fieldLink "java/util/LinkedList$ListItr" (29 : Nat) "java/util/LinkedList$ListItr" "next" "Ljava/util/LinkedList$Node;") ∈ lw_all := lw_g (lw_at lw_m11 69 rfl) rfl
theorem q2590 : (Jvm.Cond.fieldLink "java/util/LinkedList$ListItr" (33 : Nat) "java/util/LinkedList$ListItr" "nextIndex" "I") ∈ lw_all := lw_g (lw_at lw_m11 70 rfl) rfl
theorem q2591 : (Jvm.Cond.fieldLink "java/util/LinkedList$ListItr" (19 : Nat) "java/util/LinkedList$ListItr" "expectedModCount" "I") ∈ lw_all := lw_g (lw_at lw_m11 71 rfl) rfl
theorem q2592 : (Jvm.Cond.fieldLink "java/util/LinkedList$ListItr" (1 : Nat) "java/util/LinkedList$ListItr" "this$0" "Ljava/util/LinkedList;") ∈ lw_all := lw_g (lw_at lw_m11 72 rfl) rfl
theorem q2593 : (Jvm.Cond.lays "java/util/LinkedList$ListItr" "java/util/LinkedList$ListItr" "lastReturned" "Ljava/util/LinkedList$Node;") ∈ lw_all := lw_g (lw_at lw_m11 73 rfl) rfl
theorem q2594 : (Jvm.Cond.soleField "java/util/LinkedList$ListItr" "lastReturned") ∈ lw_all := lw_g (lw_at lw_m11 74 rfl) rfl
theorem q2595 : (Jvm.Cond.lays "java/util/LinkedList$ListItr" "java/util/LinkedList$ListItr" "next" "Ljava/util/LinkedList$Node;") ∈ lw_all := lw_g (lw_at lw_m11 75 rfl) rfl
theorem q2596 : (Jvm.Cond.soleField "java/util/LinkedList$ListItr" "next") ∈ lw_all := lw_g (lw_at lw_m11 76 rfl) rfl
theorem q2597 : (Jvm.Cond.lays "java/util/LinkedList$ListItr" "java/util/LinkedList$ListItr" "nextIndex" "I") ∈ lw_all := lw_g (lw_at lw_m11 77 rfl) rfl
theorem q2598 : (Jvm.Cond.soleField "java/util/LinkedList$ListItr" "nextIndex") ∈ lw_all := lw_g (lw_at lw_m11 78 rfl) rfl
theorem q2599 : (Jvm.Cond.lays "java/util/LinkedList$ListItr" "java/util/LinkedList$ListItr" "expectedModCount" "I") ∈ lw_all := lw_g (lw_at lw_m11 79 rfl) rfl
theorem q2600 : (Jvm.Cond.soleField "java/util/LinkedList$ListItr" "expectedModCount") ∈ lw_all := lw_g (lw_at lw_m11 80 rfl) rfl
theorem q2601 : (Jvm.Cond.laysFinal "java/util/LinkedList$ListItr" "java/util/LinkedList$ListItr" "this$0" "Ljava/util/LinkedList;") ∈ lw_all := lw_g (lw_at lw_m11 81 rfl) rfl
theorem q2602 : (Jvm.Cond.soleField "java/util/LinkedList$ListItr" "this$0") ∈ lw_all := lw_g (lw_at lw_m11 82 rfl) rfl
theorem q2603 : (Jvm.Cond.superclass "java/util/LinkedList$ListItr" "java/lang/Object") ∈ lw_all := lw_g (lw_at lw_m11 83 rfl) rfl
theorem q3598 : (Jvm.Cond.selects "java/util/LinkedList$ListItr" ({ cls := "java/util/LinkedList$ListItr", name := "hasNext", desc := "()Z" } : Jvm.MethodName) ({ cls := "java/util/LinkedList$ListItr", name := "hasNext", desc := "()Z" } : Jvm.MethodName)) ∈ lw_all := lw_g (lw_at lw_m15 118 rfl) rfl
theorem q3655 : (Jvm.Cond.castable "java/util/LinkedList$ListItr" "java/lang/Object") ∈ lw_tbl := lw_at lw_m15 175 rfl
theorem in_J28 : ∀ w ∈ wsJ280, w ∈ lw_all := lw_in wsJ280 [2593, 2595, 2597, 2599, 2601] (by decide +kernel) (by decide +kernel)

/-! java/lang/StringIndexOutOfBoundsException -/
set_option maxRecDepth 100000
def RJ29 : String := "java/lang/StringIndexOutOfBoundsException"
def TJ29 : u_T := fun k => match k with
  | 0 => ("java/lang/Throwable", "backtrace", "Ljava/lang/Object;", false)
  | 1 => ("java/lang/Throwable", "detailMessage", "Ljava/lang/String;", false)
  | 2 => ("java/lang/Throwable", "cause", "Ljava/lang/Throwable;", false)
  | 3 => ("java/lang/Throwable", "stackTrace", "[Ljava/lang/StackTraceElement;", false)
  | 4 => ("java/lang/Throwable", "depth", "I", false)
  | _ => ("java/lang/Throwable", "suppressedExceptions", "Ljava/util/List;", false)
def tyJ29 : Nat → FieldType := fun k => match k with
  | 0 => .object "java/lang/Object"
  | 1 => .object "java/lang/String"
  | 2 => .object "java/lang/Throwable"
  | 3 => .array (.object "java/lang/StackTraceElement")
  | 4 => .int
  | _ => .object "java/util/List"
abbrev wsJ290 : List Cond := u_ws RJ29 TJ29 6
theorem nmJ29 : ∀ a, a < 6 → ∀ b, b < 6 → a ≠ b → (TJ29 a).2.1 ≠ (TJ29 b).2.1 := by decide +kernel
theorem tyJ29_ok : ∀ k, k < 6 → parseFieldDescriptor (TJ29 k).2.2.1 = some (tyJ29 k) := by decide +kernel
abbrev cJ29_init : ByteArray := prog_45_method_3_code
def yJ29_init : MethodName := ⟨RJ29, "<init>", "(I)V"⟩
def dkwJ29_init_0 : List UInt8 := [42, 187, 0, 10, 89, 183, 0, 12, 18, 13, 182, 0, 15, 27, 182, 0, 19, 182, 0, 22, 183, 0, 7, 177]
abbrev dktJ29_init_0 : List UInt8 := dkwJ29_init_0 ++ []
theorem dksJ29_init_0 : cJ29_init.data.toList.drop 0 = dktJ29_init_0 := by decide +kernel
theorem dJ29_init_0 : decode cJ29_init 0 = .ok (.aload_n 0, 1) := dk_42 (dk_at dksJ29_init_0 0 rfl rfl)
theorem dJ29_init_1 : decode cJ29_init 1 = .ok (.new 10, 3) := dk_187 0 10 (dk_at dksJ29_init_0 1 rfl rfl)
theorem dJ29_init_4 : decode cJ29_init 4 = .ok (.dup, 1) := dk_89 (dk_at dksJ29_init_0 4 rfl rfl)
theorem dJ29_init_5 : decode cJ29_init 5 = .ok (.invokespecial 12, 3) := dk_183 0 12 (dk_at dksJ29_init_0 5 rfl rfl)
theorem dJ29_init_8 : decode cJ29_init 8 = .ok (.ldc 13, 2) := dk_18 13 (dk_at dksJ29_init_0 8 rfl rfl)
theorem dJ29_init_10 : decode cJ29_init 10 = .ok (.invokevirtual 15, 3) := dk_182 0 15 (dk_at dksJ29_init_0 10 rfl rfl)
theorem dJ29_init_13 : decode cJ29_init 13 = .ok (.iload_n 1, 1) := dk_27 (dk_at dksJ29_init_0 13 rfl rfl)
theorem dJ29_init_14 : decode cJ29_init 14 = .ok (.invokevirtual 19, 3) := dk_182 0 19 (dk_at dksJ29_init_0 14 rfl rfl)
theorem dJ29_init_17 : decode cJ29_init 17 = .ok (.invokevirtual 22, 3) := dk_182 0 22 (dk_at dksJ29_init_0 17 rfl rfl)
theorem dJ29_init_20 : decode cJ29_init 20 = .ok (.invokespecial 7, 3) := dk_183 0 7 (dk_at dksJ29_init_0 20 rfl rfl)
theorem dJ29_init_23 : decode cJ29_init 23 = .ok (.return_, 1) := dk_177 (dk_at dksJ29_init_0 23 rfl rfl)
theorem q172 : (Jvm.Cond.initialized "java/lang/StringIndexOutOfBoundsException") ∈ lw_all := lw_g (lw_at lw_m1 52 rfl) rfl
theorem q275 : (Jvm.Cond.selects "java/lang/StringIndexOutOfBoundsException" ({ cls := "java/lang/Throwable", name := "fillInStackTrace", desc := "()Ljava/lang/Throwable;" } : Jvm.MethodName) ({ cls := "java/lang/Throwable", name := "fillInStackTrace", desc := "()Ljava/lang/Throwable;" } : Jvm.MethodName)) ∈ lw_all := lw_g (lw_at lw_m1 155 rfl) rfl
theorem q1468 : (Jvm.Cond.selects "java/lang/StringIndexOutOfBoundsException" ({ cls := "java/lang/Object", name := "getClass", desc := "()Ljava/lang/Class;" } : Jvm.MethodName) ({ cls := "java/lang/Object", name := "getClass", desc := "()Ljava/lang/Class;" } : Jvm.MethodName)) ∈ lw_all := lw_g (lw_at lw_m6 148 rfl) rfl
theorem q1901 : (Jvm.Cond.selects "java/lang/StringIndexOutOfBoundsException" ({ cls := "java/lang/Throwable", name := "toString", desc := "()Ljava/lang/String;" } : Jvm.MethodName) ({ cls := "java/lang/Throwable", name := "toString", desc := "()Ljava/lang/String;" } : Jvm.MethodName)) ∈ lw_all := lw_g (lw_at lw_m8 101 rfl) rfl
theorem q1916 : (Jvm.Cond.selects "java/lang/StringIndexOutOfBoundsException" ({ cls := "java/lang/Throwable", name := "getLocalizedMessage", desc := "()Ljava/lang/String;" } : Jvm.MethodName) ({ cls := "java/lang/Throwable", name := "getLocalizedMessage", desc := "()Ljava/lang/String;" } : Jvm.MethodName)) ∈ lw_all := lw_g (lw_at lw_m8 116 rfl) rfl
theorem q1936 : (Jvm.Cond.selects "java/lang/StringIndexOutOfBoundsException" ({ cls := "java/lang/Throwable", name := "getMessage", desc := "()Ljava/lang/String;" } : Jvm.MethodName) ({ cls := "java/lang/Throwable", name := "getMessage", desc := "()Ljava/lang/String;" } : Jvm.MethodName)) ∈ lw_all := lw_g (lw_at lw_m8 136 rfl) rfl
theorem q2817 : (Jvm.Cond.instantiable "java/lang/StringIndexOutOfBoundsException" (6 : Nat)) ∈ lw_all := lw_g (lw_at lw_m12 57 rfl) rfl
theorem q2819 : (Jvm.Cond.instanceMethod ({ cls := "java/lang/StringIndexOutOfBoundsException", name := "<init>", desc := "(I)V" } : Jvm.MethodName)) ∈ lw_all := lw_g (lw_at lw_m12 59 rfl) rfl
theorem q2820 : (Jvm.Cond.code ({ cls := "java/lang/StringIndexOutOfBoundsException", name := "<init>", desc := "(I)V" } : Jvm.MethodName) prog_45_method_3_code (2 : Nat) (Option.none : Option Jvm.ClassFile.FieldType)) ∈ lw_all := lw_g (lw_at lw_m12 60 rfl) rfl
theorem q2821 : (Jvm.Cond.classLink "java/lang/StringIndexOutOfBoundsException" (10 : Nat) "java/lang/StringBuilder") ∈ lw_all := lw_g (lw_at lw_m12 61 rfl) rfl
theorem q2822 : (Jvm.Cond.methodLink "java/lang/StringIndexOutOfBoundsException" (12 : Nat) ({ cls := "java/lang/StringBuilder", name := "<init>", desc := "()V" } : Jvm.MethodName)) ∈ lw_all := lw_g (lw_at lw_m12 62 rfl) rfl
theorem q2823 : (Jvm.Cond.stringRef "java/lang/StringIndexOutOfBoundsException" (13 : Nat) "String index out of range: ") ∈ lw_tbl := lw_at lw_m12 63 rfl
theorem q2824 : (Jvm.Cond.methodLink "java/lang/StringIndexOutOfBoundsException" (15 : Nat) ({ cls := "java/lang/StringBuilder", name := "append", desc := "(Ljava/lang/String;)Ljava/lang/StringBuilder;" } : Jvm.MethodName)) ∈ lw_all := lw_g (lw_at lw_m12 64 rfl) rfl
theorem q2825 : (Jvm.Cond.methodLink "java/lang/StringIndexOutOfBoundsException" (19 : Nat) ({ cls := "java/lang/StringBuilder", name := "append", desc := "(I)Ljava/lang/StringBuilder;" } : Jvm.MethodName)) ∈ lw_all := lw_g (lw_at lw_m12 65 rfl) rfl
theorem q2826 : (Jvm.Cond.methodLink "java/lang/StringIndexOutOfBoundsException" (22 : Nat) ({ cls := "java/lang/StringBuilder", name := "toString", desc := "()Ljava/lang/String;" } : Jvm.MethodName)) ∈ lw_all := lw_g (lw_at lw_m12 66 rfl) rfl
theorem q2827 : (Jvm.Cond.methodLink "java/lang/StringIndexOutOfBoundsException" (7 : Nat) ({ cls := "java/lang/IndexOutOfBoundsException", name := "<init>", desc := "(Ljava/lang/String;)V" } : Jvm.MethodName)) ∈ lw_all := lw_g (lw_at lw_m12 67 rfl) rfl
theorem q2828 : (Jvm.Cond.lays "java/lang/StringIndexOutOfBoundsException" "java/lang/Throwable" "backtrace" "Ljava/lang/Object;") ∈ lw_all := lw_g (lw_at lw_m12 68 rfl) rfl
theorem q2829 : (Jvm.Cond.lays "java/lang/StringIndexOutOfBoundsException" "java/lang/Throwable" "detailMessage" "Ljava/lang/String;") ∈ lw_all := lw_g (lw_at lw_m12 69 rfl) rfl
theorem q2830 : (Jvm.Cond.lays "java/lang/StringIndexOutOfBoundsException" "java/lang/Throwable" "cause" "Ljava/lang/Throwable;") ∈ lw_all := lw_g (lw_at lw_m12 70 rfl) rfl
theorem q2831 : (Jvm.Cond.lays "java/lang/StringIndexOutOfBoundsException" "java/lang/Throwable" "stackTrace" "[Ljava/lang/StackTraceElement;") ∈ lw_all := lw_g (lw_at lw_m12 71 rfl) rfl
theorem q2832 : (Jvm.Cond.lays "java/lang/StringIndexOutOfBoundsException" "java/lang/Throwable" "depth" "I") ∈ lw_all := lw_g (lw_at lw_m12 72 rfl) rfl
theorem q2833 : (Jvm.Cond.lays "java/lang/StringIndexOutOfBoundsException" "java/lang/Throwable" "suppressedExceptions" "Ljava/util/List;") ∈ lw_all := lw_g (lw_at lw_m12 73 rfl) rfl
theorem q2834 : (Jvm.Cond.superclass "java/lang/StringIndexOutOfBoundsException" "java/lang/IndexOutOfBoundsException") ∈ lw_all := lw_g (lw_at lw_m12 74 rfl) rfl
theorem q3619 : (Jvm.Cond.castable "java/lang/StringIndexOutOfBoundsException" "java/lang/IndexOutOfBoundsException") ∈ lw_tbl := lw_at lw_m15 139 rfl
theorem q3656 : (Jvm.Cond.castable "java/lang/StringIndexOutOfBoundsException" "java/lang/Object") ∈ lw_tbl := lw_at lw_m15 176 rfl
theorem in_J29 : ∀ w ∈ wsJ290, w ∈ lw_all := lw_in wsJ290 [2828, 2829, 2830, 2831, 2832, 2833] (by decide +kernel) (by decide +kernel)

/-! java/util/AbstractList$Itr -/
set_option maxRecDepth 100000
def RJ30 : String := "java/util/AbstractList$Itr"
abbrev cJ30_hasNext : ByteArray := prog_55_method_2_code
def yJ30_hasNext : MethodName := ⟨RJ30, "hasNext", "()Z"⟩
def dkwJ30_hasNext_0 : List UInt8 := [42, 180, 0, 13, 42, 180, 0, 1, 182, 0, 28, 159, 0, 7, 4, 167, 0, 4, 3, 172]
abbrev dktJ30_hasNext_0 : List UInt8 := dkwJ30_hasNext_0 ++ []
theorem dksJ30_hasNext_0 : cJ30_hasNext.data.toList.drop 0 = dktJ30_hasNext_0 := by decide +kernel
theorem dJ30_hasNext_0 : decode cJ30_hasNext 0 = .ok (.aload_n 0, 1) := dk_42 (dk_at dksJ30_hasNext_0 0 rfl rfl)
theorem dJ30_hasNext_1 : decode cJ30_hasNext 1 = .ok (.getfield 13, 3) := dk_180 0 13 (dk_at dksJ30_hasNext_0 1 rfl rfl)
theorem dJ30_hasNext_4 : decode cJ30_hasNext 4 = .ok (.aload_n 0, 1) := dk_42 (dk_at dksJ30_hasNext_0 4 rfl rfl)
theorem dJ30_hasNext_5 : decode cJ30_hasNext 5 = .ok (.getfield 1, 3) := dk_180 0 1 (dk_at dksJ30_hasNext_0 5 rfl rfl)
theorem dJ30_hasNext_8 : decode cJ30_hasNext 8 = .ok (.invokevirtual 28, 3) := dk_182 0 28 (dk_at dksJ30_hasNext_0 8 rfl rfl)
theorem dJ30_hasNext_11 : decode cJ30_hasNext 11 = .ok (.if_icmp .eq 7, 3) := dk_159 0 7 (dk_at dksJ30_hasNext_0 11 rfl rfl)
theorem dJ30_hasNext_14 : decode cJ30_hasNext 14 = .ok (.iconst 1, 1) := dk_4 (dk_at dksJ30_hasNext_0 14 rfl rfl)
theorem dJ30_hasNext_15 : decode cJ30_hasNext 15 = .ok (.goto 4, 3) := dk_167 0 4 (dk_at dksJ30_hasNext_0 15 rfl rfl)
theorem dJ30_hasNext_18 : decode cJ30_hasNext 18 = .ok (.iconst 0, 1) := dk_3 (dk_at dksJ30_hasNext_0 18 rfl rfl)
theorem dJ30_hasNext_19 : decode cJ30_hasNext 19 = .ok (.ireturn, 1) := dk_172 (dk_at dksJ30_hasNext_0 19 rfl rfl)
abbrev cJ30_next : ByteArray := prog_55_method_3_code
def yJ30_next : MethodName := ⟨RJ30, "next", "()Ljava/lang/Object;"⟩
def dkwJ30_next_1 : List UInt8 := [27, 4, 96, 181, 0, 13, 44, 176, 76, 42, 182, 0, 32, 187, 0, 41, 89, 43, 183, 0, 43, 191]
abbrev dktJ30_next_1 : List UInt8 := dkwJ30_next_1 ++ []
def dkwJ30_next_0 : List UInt8 := [42, 182, 0, 32, 42, 180, 0, 13, 60, 42, 180, 0, 1, 27, 182, 0, 35, 77, 42, 27, 181, 0, 17, 42]
abbrev dktJ30_next_0 : List UInt8 := dkwJ30_next_0 ++ dktJ30_next_1
theorem dksJ30_next_0 : cJ30_next.data.toList.drop 0 = dktJ30_next_0 := by decide +kernel
theorem dksJ30_next_1 : cJ30_next.data.toList.drop 24 = dktJ30_next_1 := dk_seg dksJ30_next_0 24 rfl rfl
theorem dJ30_next_0 : decode cJ30_next 0 = .ok (.aload_n 0, 1) := dk_42 (dk_at dksJ30_next_0 0 rfl rfl)
theorem dJ30_next_1 : decode cJ30_next 1 = .ok (.invokevirtual 32, 3) := dk_182 0 32 (dk_at dksJ30_next_0 1 rfl rfl)
theorem dJ30_next_4 : decode cJ30_next 4 = .ok (.aload_n 0, 1) := dk_42 (dk_at dksJ30_next_0 4 rfl rfl)
theorem dJ30_next_5 : decode cJ30_next 5 = .ok (.getfield 13, 3) := dk_180 0 13 (dk_at dksJ30_next_0 5 rfl rfl)
theorem dJ30_next_8 : decode cJ30_next 8 = .ok (.istore_n 1, 1) := dk_60 (dk_at dksJ30_next_0 8 rfl rfl)
theorem dJ30_next_9 : decode cJ30_next 9 = .ok (.aload_n 0, 1) := dk_42 (dk_at dksJ30_next_0 9 rfl rfl)
theorem dJ30_next_10 : decode cJ30_next 10 = .ok (.getfield 1, 3) := dk_180 0 1 (dk_at dksJ30_next_0 10 rfl rfl)
theorem dJ30_next_13 : decode cJ30_next 13 = .ok (.iload_n 1, 1) := dk_27 (dk_at dksJ30_next_0 13 rfl rfl)
theorem dJ30_next_14 : decode cJ30_next 14 = .ok (.invokevirtual 35, 3) := dk_182 0 35 (dk_at dksJ30_next_0 14 rfl rfl)
theorem dJ30_next_17 : decode cJ30_next 17 = .ok (.astore_n 2, 1) := dk_77 (dk_at dksJ30_next_0 17 rfl rfl)
theorem dJ30_next_18 : decode cJ30_next 18 = .ok (.aload_n 0, 1) := dk_42 (dk_at dksJ30_next_0 18 rfl rfl)
theorem dJ30_next_19 : decode cJ30_next 19 = .ok (.iload_n 1, 1) := dk_27 (dk_at dksJ30_next_0 19 rfl rfl)
theorem dJ30_next_20 : decode cJ30_next 20 = .ok (.putfield 17, 3) := dk_181 0 17 (dk_at dksJ30_next_0 20 rfl rfl)
theorem dJ30_next_23 : decode cJ30_next 23 = .ok (.aload_n 0, 1) := dk_42 (dk_at dksJ30_next_0 23 rfl rfl)
theorem dJ30_next_24 : decode cJ30_next 24 = .ok (.iload_n 1, 1) := dk_27 (dk_at dksJ30_next_1 0 rfl rfl)
theorem dJ30_next_25 : decode cJ30_next 25 = .ok (.iconst 1, 1) := dk_4 (dk_at dksJ30_next_1 1 rfl rfl)
theorem dJ30_next_26 : decode cJ30_next 26 = .ok (.iadd, 1) := dk_96 (dk_at dksJ30_next_1 2 rfl rfl)
theorem dJ30_next_27 : decode cJ30_next 27 = .ok (.putfield 13, 3) := dk_181 0 13 (dk_at dksJ30_next_1 3 rfl rfl)
theorem dJ30_next_30 : decode cJ30_next 30 = .ok (.aload_n 2, 1) := dk_44 (dk_at dksJ30_next_1 6 rfl rfl)
theorem dJ30_next_31 : decode cJ30_next 31 = .ok (.areturn, 1) := dk_176 (dk_at dksJ30_next_1 7 rfl rfl)
theorem dJ30_next_32 : decode cJ30_next 32 = .ok (.astore_n 1, 1) := dk_76 (dk_at dksJ30_next_1 8 rfl rfl)
theorem dJ30_next_33 : decode cJ30_next 33 = .ok (.aload_n 0, 1) := dk_42 (dk_at dksJ30_next_1 9 rfl rfl)
theorem dJ30_next_34 : decode cJ30_next 34 = .ok (.invokevirtual 32, 3) := dk_182 0 32 (dk_at dksJ30_next_1 10 rfl rfl)
theorem dJ30_next_37 : decode cJ30_next 37 = .ok (.new 41, 3) := dk_187 0 41 (dk_at dksJ30_next_1 13 rfl rfl)
theorem dJ30_next_40 : decode cJ30_next 40 = .ok (.dup, 1) := dk_89 (dk_at dksJ30_next_1 16 rfl rfl)
theorem dJ30_next_41 : decode cJ30_next 41 = .ok (.aload_n 1, 1) := dk_43 (dk_at dksJ30_next_1 17 rfl rfl)
theorem dJ30_next_42 : decode cJ30_next 42 = .ok (.invokespecial 43, 3) := dk_183 0 43 (dk_at dksJ30_next_1 18 rfl rfl)
theorem dJ30_next_45 : decode cJ30_next 45 = .ok (.athrow, 1) := dk_191 (dk_at dksJ30_next_1 21 rfl rfl)
abbrev cJ30_checkForComodification : ByteArray := prog_55_method_5_code
def yJ30_checkForComodification : MethodName := ⟨RJ30, "checkForComodification", "()V"⟩
def dkwJ30_checkForComodification_0 : List UInt8 := [42, 180, 0, 1, 180, 0, 20, 42, 180, 0, 25, 159, 0, 11, 187, 0, 52, 89, 183, 0, 54, 191, 177]
abbrev dktJ30_checkForComodification_0 : List UInt8 := dkwJ30_checkForComodification_0 ++ []
theorem dksJ30_checkForComodification_0 : cJ30_checkForComodification.data.toList.drop 0 = dktJ30_checkForComodification_0 := by decide +kernel
theorem dJ30_checkForComodification_0 : decode cJ30_checkForComodification 0 = .ok (.aload_n 0, 1) := dk_42 (dk_at dksJ30_checkForComodification_0 0 rfl rfl)
theorem dJ30_checkForComodification_1 : decode cJ30_checkForComodification 1 = .ok (.getfield 1, 3) := dk_180 0 1 (dk_at dksJ30_checkForComodification_0 1 rfl rfl)
theorem dJ30_checkForComodification_4 : decode cJ30_checkForComodification 4 = .ok (.getfield 20, 3) := dk_180 0 20 (dk_at dksJ30_checkForComodification_0 4 rfl rfl)
theorem dJ30_checkForComodification_7 : decode cJ30_checkForComodification 7 = .ok (.aload_n 0, 1) := dk_42 (dk_at dksJ30_checkForComodification_0 7 rfl rfl)
theorem dJ30_checkForComodification_8 : decode cJ30_checkForComodification 8 = .ok (.getfield 25, 3) := dk_180 0 25 (dk_at dksJ30_checkForComodification_0 8 rfl rfl)
theorem dJ30_checkForComodification_11 : decode cJ30_checkForComodification 11 = .ok (.if_icmp .eq 11, 3) := dk_159 0 11 (dk_at dksJ30_checkForComodification_0 11 rfl rfl)
theorem dJ30_checkForComodification_14 : decode cJ30_checkForComodification 14 = .ok (.new 52, 3) := dk_187 0 52 (dk_at dksJ30_checkForComodification_0 14 rfl rfl)
theorem dJ30_checkForComodification_17 : decode cJ30_checkForComodification 17 = .ok (.dup, 1) := dk_89 (dk_at dksJ30_checkForComodification_0 17 rfl rfl)
theorem dJ30_checkForComodification_18 : decode cJ30_checkForComodification 18 = .ok (.invokespecial 54, 3) := dk_183 0 54 (dk_at dksJ30_checkForComodification_0 18 rfl rfl)
theorem dJ30_checkForComodification_21 : decode cJ30_checkForComodification 21 = .ok (.athrow, 1) := dk_191 (dk_at dksJ30_checkForComodification_0 21 rfl rfl)
theorem dJ30_checkForComodification_22 : decode cJ30_checkForComodification 22 = .ok (.return_, 1) := dk_177 (dk_at dksJ30_checkForComodification_0 22 rfl rfl)
theorem q173 : (Jvm.Cond.initialized "java/util/AbstractList$Itr") ∈ lw_all := lw_g (lw_at lw_m1 53 rfl) rfl
theorem q346 : (Jvm.Cond.fieldLink "java/util/AbstractList$Itr" (20 : Nat) "java/util/AbstractList" "modCount" "I") ∈ lw_all := lw_g (lw_at lw_m1 226 rfl) rfl
theorem q1685 : (Jvm.Cond.instanceMethod ({ cls := "java/util/AbstractList$Itr", name := "hasNext", desc := "()Z" } : Jvm.MethodName)) ∈ lw_all := lw_g (lw_at lw_m7 125 rfl) rfl
theorem q1686 : (Jvm.Cond.publicMethod ({ cls := "java/util/AbstractList$Itr", name := "hasNext", desc := "()Z" } : Jvm.MethodName)) ∈ lw_tbl := lw_at lw_m7 126 rfl
theorem q1687 : (Jvm.Cond.code ({ cls := "java/util/AbstractList$Itr", name := "hasNext", desc := "()Z" } : Jvm.MethodName) prog_55_method_2_code (1 : Nat) (Option.some Jvm.ClassFile.FieldType.boolean)) ∈ lw_all := lw_g (lw_at lw_m7 127 rfl) rfl
theorem q1688 : (Jvm.Cond.methodLink "java/util/AbstractList$Itr" (28 : Nat) ({ cls := "java/util/AbstractList", name := "size", desc := "()I" } : Jvm.MethodName)) ∈ lw_all := lw_g (lw_at lw_m7 128 rfl) rfl
theorem q1795 : (Jvm.Cond.instanceMethod ({ cls := "java/util/AbstractList$Itr", name := "next", desc := "()Ljava/lang/Object;" } : Jvm.MethodName)) ∈ lw_all := lw_g (lw_at lw_m7 235 rfl) rfl
theorem q1796 : (Jvm.Cond.publicMethod ({ cls := "java/util/AbstractList$Itr", name := "next", desc := "()Ljava/lang/Object;" } : Jvm.MethodName)) ∈ lw_tbl := lw_at lw_m7 236 rfl
theorem q1797 : (Jvm.Cond.codeWith ({ cls := "java/util/AbstractList$Itr", name := "next", desc := "()Ljava/lang/Object;" } : Jvm.MethodName) prog_55_method_3_code (3 : Nat) (Option.some (Jvm.ClassFile.FieldType.object "java/lang/Object")) [((4 : Nat), (31 : Nat), (32 : Nat), (39 : Nat))]) ∈ lw_all := lw_g (lw_at lw_m7 237 rfl) rfl
theorem q1798 : (Jvm.Cond.methodLink "java/util/AbstractList$Itr" (32 : Nat) ({ cls := "java/util/AbstractList$Itr", name := "checkForComodification", desc := "()V" } : Jvm.MethodName)) ∈ lw_all := lw_g (lw_at lw_m7 238 rfl) rfl
theorem q1799 : (Jvm.Cond.instanceMethod ({ cls := "java/util/AbstractList$Itr", name := "checkForComodification", desc := "()V" } : Jvm.MethodName)) ∈ lw_all := lw_g (lw_at lw_m7 239 rfl) rfl
theorem q1800 : (Jvm.Cond.sameMethod "java/util/AbstractList$Itr" "java/util/AbstractList$Itr" "checkForComodification" "()V") ∈ lw_all := lw_g (lw_at lw_m8 0 rfl) rfl
theorem q1802 : (Jvm.Cond.code ({ cls := "java/util/AbstractList$Itr", name := "checkForComodification", desc := "()V" } : Jvm.MethodName) prog_55_method_5_code (1 : Nat) (Option.none : Option Jvm.ClassFile.FieldType)) ∈ lw_all := lw_g (lw_at lw_m8 2 rfl) rfl
theorem q1803 : (Jvm.Cond.methodLink "java/util/AbstractList$Itr" (35 : Nat) ({ cls := "java/util/AbstractList", name := "get", desc := "(I)Ljava/lang/Object;" } : Jvm.MethodName)) ∈ lw_all := lw_g (lw_at lw_m8 3 rfl) rfl
theorem q1869 : (Jvm.Cond.classLink "java/util/AbstractList$Itr" (41 : Nat) "java/util/NoSuchElementException") ∈ lw_all := lw_g (lw_at lw_m8 69 rfl) rfl
theorem q1878 : (Jvm.Cond.methodLink "java/util/AbstractList$Itr" (43 : Nat) ({ cls := "java/util/NoSuchElementException", name := "<init>", desc := "(Ljava/lang/Throwable;)V" } : Jvm.MethodName)) ∈ lw_all := lw_g (lw_at lw_m8 78 rfl) rfl
theorem q3676 : (Jvm.Cond.fieldLink "java/util/AbstractList$Itr" (13 : Nat) "java/util/AbstractList$Itr" "cursor" "I") ∈ lw_all := lw_g (lw_at lw_m15 196 rfl) rfl
theorem q3677 : (Jvm.Cond.fieldLink "java/util/AbstractList$Itr" (1 : Nat) "java/util/AbstractList$Itr" "this$0" "Ljava/util/AbstractList;") ∈ lw_all := lw_g (lw_at lw_m15 197 rfl) rfl
theorem q3678 : (Jvm.Cond.fieldLink "java/util/AbstractList$Itr" (25 : Nat) "java/util/AbstractList$Itr" "expectedModCount" "I") ∈ lw_all := lw_g (lw_at lw_m15 198 rfl) rfl
theorem q3679 : (Jvm.Cond.fieldLink "java/util/AbstractList$Itr" (17 : Nat) "java/util/AbstractList$Itr" "lastRet" "I") ∈ lw_all := lw_g (lw_at lw_m15 199 rfl) rfl

/-! java/util/ArrayList$Itr -/
set_option maxRecDepth 100000
def RJ31 : String := "java/util/ArrayList$Itr"
abbrev cJ31_hasNext : ByteArray := prog_59_method_2_code
def yJ31_hasNext : MethodName := ⟨RJ31, "hasNext", "()Z"⟩
def dkwJ31_hasNext_0 : List UInt8 := [42, 180, 0, 25, 42, 180, 0, 1, 180, 0, 28, 159, 0, 7, 4, 167, 0, 4, 3, 172]
abbrev dktJ31_hasNext_0 : List UInt8 := dkwJ31_hasNext_0 ++ []
theorem dksJ31_hasNext_0 : cJ31_hasNext.data.toList.drop 0 = dktJ31_hasNext_0 := by decide +kernel
theorem dJ31_hasNext_0 : decode cJ31_hasNext 0 = .ok (.aload_n 0, 1) := dk_42 (dk_at dksJ31_hasNext_0 0 rfl rfl)
theorem dJ31_hasNext_1 : decode cJ31_hasNext 1 = .ok (.getfield 25, 3) := dk_180 0 25 (dk_at dksJ31_hasNext_0 1 rfl rfl)
theorem dJ31_hasNext_4 : decode cJ31_hasNext 4 = .ok (.aload_n 0, 1) := dk_42 (dk_at dksJ31_hasNext_0 4 rfl rfl)
theorem dJ31_hasNext_5 : decode cJ31_hasNext 5 = .ok (.getfield 1, 3) := dk_180 0 1 (dk_at dksJ31_hasNext_0 5 rfl rfl)
theorem dJ31_hasNext_8 : decode cJ31_hasNext 8 = .ok (.getfield 28, 3) := dk_180 0 28 (dk_at dksJ31_hasNext_0 8 rfl rfl)
theorem dJ31_hasNext_11 : decode cJ31_hasNext 11 = .ok (.if_icmp .eq 7, 3) := dk_159 0 7 (dk_at dksJ31_hasNext_0 11 rfl rfl)
theorem dJ31_hasNext_14 : decode cJ31_hasNext 14 = .ok (.iconst 1, 1) := dk_4 (dk_at dksJ31_hasNext_0 14 rfl rfl)
theorem dJ31_hasNext_15 : decode cJ31_hasNext 15 = .ok (.goto 4, 3) := dk_167 0 4 (dk_at dksJ31_hasNext_0 15 rfl rfl)
theorem dJ31_hasNext_18 : decode cJ31_hasNext 18 = .ok (.iconst 0, 1) := dk_3 (dk_at dksJ31_hasNext_0 18 rfl rfl)
theorem dJ31_hasNext_19 : decode cJ31_hasNext 19 = .ok (.ireturn, 1) := dk_172 (dk_at dksJ31_hasNext_0 19 rfl rfl)
abbrev cJ31_next : ByteArray := prog_59_method_3_code
def yJ31_next : MethodName := ⟨RJ31, "next", "()Ljava/lang/Object;"⟩
def dkwJ31_next_2 : List UInt8 := [183, 0, 43, 191, 42, 27, 4, 96, 181, 0, 25, 44, 42, 27, 90, 181, 0, 13, 50, 176]
abbrev dktJ31_next_2 : List UInt8 := dkwJ31_next_2 ++ []
def dkwJ31_next_1 : List UInt8 := [183, 0, 36, 191, 42, 180, 0, 1, 180, 0, 37, 77, 27, 44, 190, 161, 0, 11, 187, 0, 41, 89]
abbrev dktJ31_next_1 : List UInt8 := dkwJ31_next_1 ++ dktJ31_next_2
def dkwJ31_next_0 : List UInt8 := [42, 182, 0, 31, 42, 180, 0, 25, 60, 27, 42, 180, 0, 1, 180, 0, 28, 161, 0, 11, 187, 0, 34, 89]
abbrev dktJ31_next_0 : List UInt8 := dkwJ31_next_0 ++ dktJ31_next_1
theorem dksJ31_next_0 : cJ31_next.data.toList.drop 0 = dktJ31_next_0 := by decide +kernel
theorem dksJ31_next_1 : cJ31_next.data.toList.drop 24 = dktJ31_next_1 := dk_seg dksJ31_next_0 24 rfl rfl
theorem dksJ31_next_2 : cJ31_next.data.toList.drop 46 = dktJ31_next_2 := dk_seg dksJ31_next_1 22 rfl rfl
theorem dJ31_next_0 : decode cJ31_next 0 = .ok (.aload_n 0, 1) := dk_42 (dk_at dksJ31_next_0 0 rfl rfl)
theorem dJ31_next_1 : decode cJ31_next 1 = .ok (.invokevirtual 31, 3) := dk_182 0 31 (dk_at dksJ31_next_0 1 rfl rfl)
theorem dJ31_next_4 : decode cJ31_next 4 = .ok (.aload_n 0, 1) := dk_42 (dk_at dksJ31_next_0 4 rfl rfl)
theorem dJ31_next_5 : decode cJ31_next 5 = .ok (.getfield 25, 3) := dk_180 0 25 (dk_at dksJ31_next_0 5 rfl rfl)
theorem dJ31_next_8 : decode cJ31_next 8 = .ok (.istore_n 1, 1) := dk_60 (dk_at dksJ31_next_0 8 rfl rfl)
theorem dJ31_next_9 : decode cJ31_next 9 = .ok (.iload_n 1, 1) := dk_27 (dk_at dksJ31_next_0 9 rfl rfl)
theorem dJ31_next_10 : decode cJ31_next 10 = .ok (.aload_n 0, 1) := dk_42 (dk_at dksJ31_next_0 10 rfl rfl)
theorem dJ31_next_11 : decode cJ31_next 11 = .ok (.getfield 1, 3) := dk_180 0 1 (dk_at dksJ31_next_0 11 rfl rfl)
theorem dJ31_next_14 : decode cJ31_next 14 = .ok (.getfield 28, 3) := dk_180 0 28 (dk_at dksJ31_next_0 14 rfl rfl)
theorem dJ31_next_17 : decode cJ31_next 17 = .ok (.if_icmp .lt 11, 3) := dk_161 0 11 (dk_at dksJ31_next_0 17 rfl rfl)
theorem dJ31_next_20 : decode cJ31_next 20 = .ok (.new 34, 3) := dk_187 0 34 (dk_at dksJ31_next_0 20 rfl rfl)
theorem dJ31_next_23 : decode cJ31_next 23 = .ok (.dup, 1) := dk_89 (dk_at dksJ31_next_0 23 rfl rfl)
theorem dJ31_next_24 : decode cJ31_next 24 = .ok (.invokespecial 36, 3) := dk_183 0 36 (dk_at dksJ31_next_1 0 rfl rfl)
theorem dJ31_next_27 : decode cJ31_next 27 = .ok (.athrow, 1) := dk_191 (dk_at dksJ31_next_1 3 rfl rfl)
theorem dJ31_next_28 : decode cJ31_next 28 = .ok (.aload_n 0, 1) := dk_42 (dk_at dksJ31_next_1 4 rfl rfl)
theorem dJ31_next_29 : decode cJ31_next 29 = .ok (.getfield 1, 3) := dk_180 0 1 (dk_at dksJ31_next_1 5 rfl rfl)
theorem dJ31_next_32 : decode cJ31_next 32 = .ok (.getfield 37, 3) := dk_180 0 37 (dk_at dksJ31_next_1 8 rfl rfl)
theorem dJ31_next_35 : decode cJ31_next 35 = .ok (.astore_n 2, 1) := dk_77 (dk_at dksJ31_next_1 11 rfl rfl)
theorem dJ31_next_36 : decode cJ31_next 36 = .ok (.iload_n 1, 1) := dk_27 (dk_at dksJ31_next_1 12 rfl rfl)
theorem dJ31_next_37 : decode cJ31_next 37 = .ok (.aload_n 2, 1) := dk_44 (dk_at dksJ31_next_1 13 rfl rfl)
theorem dJ31_next_38 : decode cJ31_next 38 = .ok (.arraylength, 1) := dk_190 (dk_at dksJ31_next_1 14 rfl rfl)
theorem dJ31_next_39 : decode cJ31_next 39 = .ok (.if_icmp .lt 11, 3) := dk_161 0 11 (dk_at dksJ31_next_1 15 rfl rfl)
theorem dJ31_next_42 : decode cJ31_next 42 = .ok (.new 41, 3) := dk_187 0 41 (dk_at dksJ31_next_1 18 rfl rfl)
theorem dJ31_next_45 : decode cJ31_next 45 = .ok (.dup, 1) := dk_89 (dk_at dksJ31_next_1 21 rfl rfl)
theorem dJ31_next_46 : decode cJ31_next 46 = .ok (.invokespecial 43, 3) := dk_183 0 43 (dk_at dksJ31_next_2 0 rfl rfl)
theorem dJ31_next_49 : decode cJ31_next 49 = .ok (.athrow, 1) := dk_191 (dk_at dksJ31_next_2 3 rfl rfl)
theorem dJ31_next_50 : decode cJ31_next 50 = .ok (.aload_n 0, 1) := dk_42 (dk_at dksJ31_next_2 4 rfl rfl)
theorem dJ31_next_51 : decode cJ31_next 51 = .ok (.iload_n 1, 1) := dk_27 (dk_at dksJ31_next_2 5 rfl rfl)
theorem dJ31_next_52 : decode cJ31_next 52 = .ok (.iconst 1, 1) := dk_4 (dk_at dksJ31_next_2 6 rfl rfl)
theorem dJ31_next_53 : decode cJ31_next 53 = .ok (.iadd, 1) := dk_96 (dk_at dksJ31_next_2 7 rfl rfl)
theorem dJ31_next_54 : decode cJ31_next 54 = .ok (.putfield 25, 3) := dk_181 0 25 (dk_at dksJ31_next_2 8 rfl rfl)
theorem dJ31_next_57 : decode cJ31_next 57 = .ok (.aload_n 2, 1) := dk_44 (dk_at dksJ31_next_2 11 rfl rfl)
theorem dJ31_next_58 : decode cJ31_next 58 = .ok (.aload_n 0, 1) := dk_42 (dk_at dksJ31_next_2 12 rfl rfl)
theorem dJ31_next_59 : decode cJ31_next 59 = .ok (.iload_n 1, 1) := dk_27 (dk_at dksJ31_next_2 13 rfl rfl)
theorem dJ31_next_60 : decode cJ31_next 60 = .ok (.dup_x1, 1) := dk_90 (dk_at dksJ31_next_2 14 rfl rfl)
theorem dJ31_next_61 : decode cJ31_next 61 = .ok (.putfield 13, 3) := dk_181 0 13 (dk_at dksJ31_next_2 15 rfl rfl)
theorem dJ31_next_64 : decode cJ31_next 64 = .ok (.aaload, 1) := dk_50 (dk_at dksJ31_next_2 18 rfl rfl)
theorem dJ31_next_65 : decode cJ31_next 65 = .ok (.areturn, 1) := dk_176 (dk_at dksJ31_next_2 19 rfl rfl)
abbrev cJ31_checkForComodification : ByteArray := prog_59_method_6_code
def yJ31_checkForComodification : MethodName := ⟨RJ31, "checkForComodification", "()V"⟩
def dkwJ31_checkForComodification_0 : List UInt8 := [42, 180, 0, 1, 180, 0, 17, 42, 180, 0, 22, 159, 0, 11, 187, 0, 41, 89, 183, 0, 43, 191, 177]
abbrev dktJ31_checkForComodification_0 : List UInt8 := dkwJ31_checkForComodification_0 ++ []
theorem dksJ31_checkForComodification_0 : cJ31_checkForComodification.data.toList.drop 0 = dktJ31_checkForComodification_0 := by decide +kernel
theorem dJ31_checkForComodification_0 : decode cJ31_checkForComodification 0 = .ok (.aload_n 0, 1) := dk_42 (dk_at dksJ31_checkForComodification_0 0 rfl rfl)
theorem dJ31_checkForComodification_1 : decode cJ31_checkForComodification 1 = .ok (.getfield 1, 3) := dk_180 0 1 (dk_at dksJ31_checkForComodification_0 1 rfl rfl)
theorem dJ31_checkForComodification_4 : decode cJ31_checkForComodification 4 = .ok (.getfield 17, 3) := dk_180 0 17 (dk_at dksJ31_checkForComodification_0 4 rfl rfl)
theorem dJ31_checkForComodification_7 : decode cJ31_checkForComodification 7 = .ok (.aload_n 0, 1) := dk_42 (dk_at dksJ31_checkForComodification_0 7 rfl rfl)
theorem dJ31_checkForComodification_8 : decode cJ31_checkForComodification 8 = .ok (.getfield 22, 3) := dk_180 0 22 (dk_at dksJ31_checkForComodification_0 8 rfl rfl)
theorem dJ31_checkForComodification_11 : decode cJ31_checkForComodification 11 = .ok (.if_icmp .eq 11, 3) := dk_159 0 11 (dk_at dksJ31_checkForComodification_0 11 rfl rfl)
theorem dJ31_checkForComodification_14 : decode cJ31_checkForComodification 14 = .ok (.new 41, 3) := dk_187 0 41 (dk_at dksJ31_checkForComodification_0 14 rfl rfl)
theorem dJ31_checkForComodification_17 : decode cJ31_checkForComodification 17 = .ok (.dup, 1) := dk_89 (dk_at dksJ31_checkForComodification_0 17 rfl rfl)
theorem dJ31_checkForComodification_18 : decode cJ31_checkForComodification 18 = .ok (.invokespecial 43, 3) := dk_183 0 43 (dk_at dksJ31_checkForComodification_0 18 rfl rfl)
theorem dJ31_checkForComodification_21 : decode cJ31_checkForComodification 21 = .ok (.athrow, 1) := dk_191 (dk_at dksJ31_checkForComodification_0 21 rfl rfl)
theorem dJ31_checkForComodification_22 : decode cJ31_checkForComodification 22 = .ok (.return_, 1) := dk_177 (dk_at dksJ31_checkForComodification_0 22 rfl rfl)
abbrev cJ31_init : ByteArray := prog_59_method_1_code
def yJ31_init : MethodName := ⟨RJ31, "<init>", "(Ljava/util/ArrayList;)V"⟩
def dkwJ31_init_1 : List UInt8 := [181, 0, 22, 177]
abbrev dktJ31_init_1 : List UInt8 := dkwJ31_init_1 ++ []
def dkwJ31_init_0 : List UInt8 := [42, 43, 181, 0, 1, 42, 183, 0, 7, 42, 2, 181, 0, 13, 42, 42, 180, 0, 1, 180, 0, 17]
abbrev dktJ31_init_0 : List UInt8 := dkwJ31_init_0 ++ dktJ31_init_1
theorem dksJ31_init_0 : cJ31_init.data.toList.drop 0 = dktJ31_init_0 := by decide +kernel
theorem dksJ31_init_1 : cJ31_init.data.toList.drop 22 = dktJ31_init_1 := dk_seg dksJ31_init_0 22 rfl rfl
theorem dJ31_init_0 : decode cJ31_init 0 = .ok (.aload_n 0, 1) := dk_42 (dk_at dksJ31_init_0 0 rfl rfl)
theorem dJ31_init_1 : decode cJ31_init 1 = .ok (.aload_n 1, 1) := dk_43 (dk_at dksJ31_init_0 1 rfl rfl)
theorem dJ31_init_2 : decode cJ31_init 2 = .ok (.putfield 1, 3) := dk_181 0 1 (dk_at dksJ31_init_0 2 rfl rfl)
theorem dJ31_init_5 : decode cJ31_init 5 = .ok (.aload_n 0, 1) := dk_42 (dk_at dksJ31_init_0 5 rfl rfl)
theorem dJ31_init_6 : decode cJ31_init 6 = .ok (.invokespecial 7, 3) := dk_183 0 7 (dk_at dksJ31_init_0 6 rfl rfl)
theorem dJ31_init_9 : decode cJ31_init 9 = .ok (.aload_n 0, 1) := dk_42 (dk_at dksJ31_init_0 9 rfl rfl)
theorem dJ31_init_10 : decode cJ31_init 10 = .ok (.iconst (-1), 1) := dk_2 (dk_at dksJ31_init_0 10 rfl rfl)
theorem dJ31_init_11 : decode cJ31_init 11 = .ok (.putfield 13, 3) := dk_181 0 13 (dk_at dksJ31_init_0 11 rfl rfl)
theorem dJ31_init_14 : decode cJ31_init 14 = .ok (.aload_n 0, 1) := dk_42 (dk_at dksJ31_init_0 14 rfl rfl)
theorem dJ31_init_15 : decode cJ31_init 15 = .ok (.aload_n 0, 1) := dk_42 (dk_at dksJ31_init_0 15 rfl rfl)
theorem dJ31_init_16 : decode cJ31_init 16 = .ok (.getfield 1, 3) := dk_180 0 1 (dk_at dksJ31_init_0 16 rfl rfl)
theorem dJ31_init_19 : decode cJ31_init 19 = .ok (.getfield 17, 3) := dk_180 0 17 (dk_at dksJ31_init_0 19 rfl rfl)
theorem dJ31_init_22 : decode cJ31_init 22 = .ok (.putfield 22, 3) := dk_181 0 22 (dk_at dksJ31_init_1 0 rfl rfl)
theorem dJ31_init_25 : decode cJ31_init 25 = .ok (.return_, 1) := dk_177 (dk_at dksJ31_init_1 3 rfl rfl)
theorem q175 : (Jvm.Cond.initialized "java/util/ArrayList$Itr") ∈ lw_all := lw_g (lw_at lw_m1 55 rfl) rfl
theorem q338 : (Jvm.Cond.fieldLink "java/util/ArrayList$Itr" (37 : Nat) "java/util/ArrayList" "elementData" "[Ljava/lang/Object;") ∈ lw_all := lw_g (lw_at lw_m1 218 rfl) rfl
theorem q339 : (Jvm.Cond.fieldLinkNest "java/util/ArrayList$Itr" (28 : Nat) "java/util/ArrayList" "size" "I" "java/util/ArrayList") ∈ lw_tbl := lw_at lw_m1 219 rfl
theorem q344 : (Jvm.Cond.fieldLink "java/util/ArrayList$Itr" (17 : Nat) "java/util/ArrayList" "modCount" "I") ∈ lw_all := lw_g (lw_at lw_m1 224 rfl) rfl
theorem q1698 : (Jvm.Cond.instanceMethod ({ cls := "java/util/ArrayList$Itr", name := "hasNext", desc := "()Z" } : Jvm.MethodName)) ∈ lw_all := lw_g (lw_at lw_m7 138 rfl) rfl
theorem q1699 : (Jvm.Cond.publicMethod ({ cls := "java/util/ArrayList$Itr", name := "hasNext", desc := "()Z" } : Jvm.MethodName)) ∈ lw_tbl := lw_at lw_m7 139 rfl
theorem q1700 : (Jvm.Cond.code ({ cls := "java/util/ArrayList$Itr", name := "hasNext", desc := "()Z" } : Jvm.MethodName) prog_59_method_2_code (1 : Nat) (Option.some Jvm.ClassFile.FieldType.boolean)) ∈ lw_all := lw_g (lw_at lw_m7 140 rfl) rfl
theorem q1947 : (Jvm.Cond.instanceMethod ({ cls := "java/util/ArrayList$Itr", name := "next", desc := "()Ljava/lang/Object;" } : Jvm.MethodName)) ∈ lw_all := lw_g (lw_at lw_m8 147 rfl) rfl
theorem q1948 : (Jvm.Cond.publicMethod ({ cls := "java/util/ArrayList$Itr", name := "next", desc := "()Ljava/lang/Object;" } : Jvm.MethodName)) ∈ lw_tbl := lw_at lw_m8 148 rfl
theorem q1949 : (Jvm.Cond.code ({ cls := "java/util/ArrayList$Itr", name := "next", desc := "()Ljava/lang/Object;" } : Jvm.MethodName) prog_59_method_3_code (3 : Nat) (Option.some (Jvm.ClassFile.FieldType.object "java/lang/Object"))) ∈ lw_all := lw_g (lw_at lw_m8 149 rfl) rfl
theorem q1950 : (Jvm.Cond.methodLink "java/util/ArrayList$Itr" (31 : Nat) ({ cls := "java/util/ArrayList$Itr", name := "checkForComodification", desc := "()V" } : Jvm.MethodName)) ∈ lw_all := lw_g (lw_at lw_m8 150 rfl) rfl
theorem q1951 : (Jvm.Cond.instanceMethod ({ cls := "java/util/ArrayList$Itr", name := "checkForComodification", desc := "()V" } : Jvm.MethodName)) ∈ lw_all := lw_g (lw_at lw_m8 151 rfl) rfl
theorem q1952 : (Jvm.Cond.sameMethod "java/util/ArrayList$Itr" "java/util/ArrayList$Itr" "checkForComodification" "()V") ∈ lw_all := lw_g (lw_at lw_m8 152 rfl) rfl
theorem q1954 : (Jvm.Cond.code ({ cls := "java/util/ArrayList$Itr", name := "checkForComodification", desc := "()V" } : Jvm.MethodName) prog_59_method_6_code (1 : Nat) (Option.none : Option Jvm.ClassFile.FieldType)) ∈ lw_all := lw_g (lw_at lw_m8 154 rfl) rfl
theorem q2974 : (Jvm.Cond.instanceMethod ({ cls := "java/util/ArrayList$Itr", name := "<init>", desc := "(Ljava/util/ArrayList;)V" } : Jvm.MethodName)) ∈ lw_all := lw_g (lw_at lw_m12 214 rfl) rfl
theorem q2975 : (Jvm.Cond.code ({ cls := "java/util/ArrayList$Itr", name := "<init>", desc := "(Ljava/util/ArrayList;)V" } : Jvm.MethodName) prog_59_method_1_code (2 : Nat) (Option.none : Option Jvm.ClassFile.FieldType)) ∈ lw_all := lw_g (lw_at lw_m12 215 rfl) rfl
theorem q2976 : (Jvm.Cond.methodLink "java/util/ArrayList$Itr" (7 : Nat) ({ cls := "java/lang/Object", name := "<init>", desc := "()V" } : Jvm.MethodName)) ∈ lw_all := lw_g (lw_at lw_m12 216 rfl) rfl
theorem q2980 : (Jvm.Cond.fieldLink "java/util/ArrayList$Itr" (25 : Nat) "java/util/ArrayList$Itr" "cursor" "I") ∈ lw_all := lw_g (lw_at lw_m12 220 rfl) rfl
theorem q2981 : (Jvm.Cond.fieldLink "java/util/ArrayList$Itr" (13 : Nat) "java/util/ArrayList$Itr" "lastRet" "I") ∈ lw_all := lw_g (lw_at lw_m12 221 rfl) rfl
theorem q2982 : (Jvm.Cond.fieldLink "java/util/ArrayList$Itr" (22 : Nat) "java/util/ArrayList$Itr" "expectedModCount" "I") ∈ lw_all := lw_g (lw_at lw_m12 222 rfl) rfl
theorem q2983 : (Jvm.Cond.fieldLink "java/util/ArrayList$Itr" (1 : Nat) "java/util/ArrayList$Itr" "this$0" "Ljava/util/ArrayList;") ∈ lw_all := lw_g (lw_at lw_m12 223 rfl) rfl
theorem q2987 : (Jvm.Cond.soleField "java/util/ArrayList$Itr" "cursor") ∈ lw_all := lw_g (lw_at lw_m12 227 rfl) rfl
theorem q2989 : (Jvm.Cond.soleField "java/util/ArrayList$Itr" "lastRet") ∈ lw_all := lw_g (lw_at lw_m12 229 rfl) rfl
theorem q2991 : (Jvm.Cond.soleField "java/util/ArrayList$Itr" "expectedModCount") ∈ lw_all := lw_g (lw_at lw_m12 231 rfl) rfl
theorem q2993 : (Jvm.Cond.soleField "java/util/ArrayList$Itr" "this$0") ∈ lw_all := lw_g (lw_at lw_m12 233 rfl) rfl

/-! java/util/ArrayList$ListItr -/
set_option maxRecDepth 100000
def RJ32 : String := "java/util/ArrayList$ListItr"
def TJ32 : u_T := fun k => match k with
  | 0 => ("java/util/ArrayList$Itr", "cursor", "I", false)
  | 1 => ("java/util/ArrayList$Itr", "lastRet", "I", false)
  | 2 => ("java/util/ArrayList$Itr", "expectedModCount", "I", false)
  | 3 => ("java/util/ArrayList$Itr", "this$0", "Ljava/util/ArrayList;", true)
  | _ => ("java/util/ArrayList$ListItr", "this$0", "Ljava/util/ArrayList;", true)
def tyJ32 : Nat → FieldType := fun k => match k with
  | 0 => .int
  | 1 => .int
  | 2 => .int
  | 3 => .object "java/util/ArrayList"
  | _ => .object "java/util/ArrayList"
abbrev wsJ320 : List Cond := u_ws RJ32 TJ32 5
-- two fields of one name: no nmJ32
theorem tyJ32_ok : ∀ k, k < 5 → parseFieldDescriptor (TJ32 k).2.2.1 = some (tyJ32 k) := by decide +kernel
abbrev cJ32_init : ByteArray := prog_60_method_1_code
def yJ32_init : MethodName := ⟨RJ32, "<init>", "(Ljava/util/ArrayList;I)V"⟩
def dkwJ32_init_0 : List UInt8 := [42, 43, 181, 0, 1, 42, 43, 183, 0, 7, 42, 28, 181, 0, 13, 177]
abbrev dktJ32_init_0 : List UInt8 := dkwJ32_init_0 ++ []
theorem dksJ32_init_0 : cJ32_init.data.toList.drop 0 = dktJ32_init_0 := by decide +kernel
theorem dJ32_init_0 : decode cJ32_init 0 = .ok (.aload_n 0, 1) := dk_42 (dk_at dksJ32_init_0 0 rfl rfl)
theorem dJ32_init_1 : decode cJ32_init 1 = .ok (.aload_n 1, 1) := dk_43 (dk_at dksJ32_init_0 1 rfl rfl)
theorem dJ32_init_2 : decode cJ32_init 2 = .ok (.putfield 1, 3) := dk_181 0 1 (dk_at dksJ32_init_0 2 rfl rfl)
theorem dJ32_init_5 : decode cJ32_init 5 = .ok (.aload_n 0, 1) := dk_42 (dk_at dksJ32_init_0 5 rfl rfl)
theorem dJ32_init_6 : decode cJ32_init 6 = .ok (.aload_n 1, 1) := dk_43 (dk_at dksJ32_init_0 6 rfl rfl)
theorem dJ32_init_7 : decode cJ32_init 7 = .ok (.invokespecial 7, 3) := dk_183 0 7 (dk_at dksJ32_init_0 7 rfl rfl)
theorem dJ32_init_10 : decode cJ32_init 10 = .ok (.aload_n 0, 1) := dk_42 (dk_at dksJ32_init_0 10 rfl rfl)
theorem dJ32_init_11 : decode cJ32_init 11 = .ok (.iload_n 2, 1) := dk_28 (dk_at dksJ32_init_0 11 rfl rfl)
theorem dJ32_init_12 : decode cJ32_init 12 = .ok (.putfield 13, 3) := dk_181 0 13 (dk_at dksJ32_init_0 12 rfl rfl)
theorem dJ32_init_15 : decode cJ32_init 15 = .ok (.return_, 1) := dk_177 (dk_at dksJ32_init_0 15 rfl rfl)
theorem q176 : (Jvm.Cond.initialized "java/util/ArrayList$ListItr") ∈ lw_all := lw_g (lw_at lw_m1 56 rfl) rfl
theorem q1472 : (Jvm.Cond.selects "java/util/ArrayList$ListItr" ({ cls := "java/lang/Object", name := "getClass", desc := "()Ljava/lang/Class;" } : Jvm.MethodName) ({ cls := "java/lang/Object", name := "getClass", desc := "()Ljava/lang/Class;" } : Jvm.MethodName)) ∈ lw_all := lw_g (lw_at lw_m6 152 rfl) rfl
theorem q1695 : (Jvm.Cond.castable "java/util/ArrayList$ListItr" "java/util/Iterator") ∈ lw_tbl := lw_at lw_m7 135 rfl
theorem q1696 : (Jvm.Cond.selects "java/util/ArrayList$ListItr" ({ cls := "java/util/Iterator", name := "hasNext", desc := "()Z" } : Jvm.MethodName) ({ cls := "java/util/ArrayList$Itr", name := "hasNext", desc := "()Z" } : Jvm.MethodName)) ∈ lw_all := lw_g (lw_at lw_m7 136 rfl) rfl
theorem q1697 : (Jvm.Cond.unhidden "java/util/ArrayList$ListItr" "hasNext" "()Z") ∈ lw_tbl := lw_at lw_m7 137 rfl
theorem q1945 : (Jvm.Cond.selects "java/util/ArrayList$ListItr" ({ cls := "java/util/Iterator", name := "next", desc := "()Ljava/lang/Object;" } : Jvm.MethodName) ({ cls := "java/util/ArrayList$Itr", name := "next", desc := "()Ljava/lang/Object;" } : Jvm.MethodName)) ∈ lw_all := lw_g (lw_at lw_m8 145 rfl) rfl
theorem q1946 : (Jvm.Cond.unhidden "java/util/ArrayList$ListItr" "next" "()Ljava/lang/Object;") ∈ lw_tbl := lw_at lw_m8 146 rfl
theorem q1953 : (Jvm.Cond.selects "java/util/ArrayList$ListItr" ({ cls := "java/util/ArrayList$Itr", name := "checkForComodification", desc := "()V" } : Jvm.MethodName) ({ cls := "java/util/ArrayList$Itr", name := "checkForComodification", desc := "()V" } : Jvm.MethodName)) ∈ lw_all := lw_g (lw_at lw_m8 153 rfl) rfl
theorem q2969 : (Jvm.Cond.instantiable "java/util/ArrayList$ListItr" (5 : Nat)) ∈ lw_all := lw_g (lw_at lw_m12 209 rfl) rfl
theorem q2971 : (Jvm.Cond.instanceMethod ({ cls := "java/util/ArrayList$ListItr", name := "<init>", desc := "(Ljava/util/ArrayList;I)V" } : Jvm.MethodName)) ∈ lw_all := lw_g (lw_at lw_m12 211 rfl) rfl
theorem q2972 : (Jvm.Cond.code ({ cls := "java/util/ArrayList$ListItr", name := "<init>", desc := "(Ljava/util/ArrayList;I)V" } : Jvm.MethodName) prog_60_method_1_code (3 : Nat) (Option.none : Option Jvm.ClassFile.FieldType)) ∈ lw_all := lw_g (lw_at lw_m12 212 rfl) rfl
theorem q2973 : (Jvm.Cond.methodLink "java/util/ArrayList$ListItr" (7 : Nat) ({ cls := "java/util/ArrayList$Itr", name := "<init>", desc := "(Ljava/util/ArrayList;)V" } : Jvm.MethodName)) ∈ lw_all := lw_g (lw_at lw_m12 213 rfl) rfl
theorem q2977 : (Jvm.Cond.fieldLink "java/util/ArrayList$ListItr" (1 : Nat) "java/util/ArrayList$ListItr" "this$0" "Ljava/util/ArrayList;") ∈ lw_all := lw_g (lw_at lw_m12 217 rfl) rfl
theorem q2978 : (Jvm.Cond.fieldLink "java/util/ArrayList$ListItr" (13 : Nat) "java/util/ArrayList$ListItr" "cursor" "I") ∈ lw_all := lw_g (lw_at lw_m12 218 rfl) rfl
theorem q2979 : (Jvm.Cond.sameField "java/util/ArrayList$ListItr" "java/util/ArrayList$Itr" "cursor" "I") ∈ lw_all := lw_g (lw_at lw_m12 219 rfl) rfl
theorem q2984 : (Jvm.Cond.laysFinal "java/util/ArrayList$ListItr" "java/util/ArrayList$ListItr" "this$0" "Ljava/util/ArrayList;") ∈ lw_all := lw_g (lw_at lw_m12 224 rfl) rfl
theorem q2985 : (Jvm.Cond.soleField "java/util/ArrayList$ListItr" "this$0") ∈ lw_all := lw_g (lw_at lw_m12 225 rfl) rfl
theorem q2986 : (Jvm.Cond.lays "java/util/ArrayList$ListItr" "java/util/ArrayList$Itr" "cursor" "I") ∈ lw_all := lw_g (lw_at lw_m12 226 rfl) rfl
theorem q2988 : (Jvm.Cond.lays "java/util/ArrayList$ListItr" "java/util/ArrayList$Itr" "lastRet" "I") ∈ lw_all := lw_g (lw_at lw_m12 228 rfl) rfl
theorem q2990 : (Jvm.Cond.lays "java/util/ArrayList$ListItr" "java/util/ArrayList$Itr" "expectedModCount" "I") ∈ lw_all := lw_g (lw_at lw_m12 230 rfl) rfl
theorem q2992 : (Jvm.Cond.laysFinal "java/util/ArrayList$ListItr" "java/util/ArrayList$Itr" "this$0" "Ljava/util/ArrayList;") ∈ lw_all := lw_g (lw_at lw_m12 232 rfl) rfl
theorem q2994 : (Jvm.Cond.superclass "java/util/ArrayList$ListItr" "java/util/ArrayList$Itr") ∈ lw_all := lw_g (lw_at lw_m12 234 rfl) rfl
theorem q3659 : (Jvm.Cond.castable "java/util/ArrayList$ListItr" "java/lang/Object") ∈ lw_tbl := lw_at lw_m15 179 rfl
theorem in_J32 : ∀ w ∈ wsJ320, w ∈ lw_all := lw_in wsJ320 [2986, 2988, 2990, 2992, 2984] (by decide +kernel) (by decide +kernel)

/-! java/lang/Object -/
set_option maxRecDepth 100000
def RJ33 : String := "java/lang/Object"
abbrev cJ33_init : ByteArray := object_method_1_code
def yJ33_init : MethodName := ⟨RJ33, "<init>", "()V"⟩
theorem dJ33_init_0 : decode cJ33_init 0 = .ok (.return_, 1) := by decide +kernel
theorem q183 : (Jvm.Cond.instanceMethod ({ cls := "java/lang/Object", name := "<init>", desc := "()V" } : Jvm.MethodName)) ∈ lw_all := lw_g (lw_at lw_m1 63 rfl) rfl
theorem q184 : (Jvm.Cond.code ({ cls := "java/lang/Object", name := "<init>", desc := "()V" } : Jvm.MethodName) object_method_1_code (1 : Nat) (Option.none : Option Jvm.ClassFile.FieldType)) ∈ lw_all := lw_g (lw_at lw_m1 64 rfl) rfl
theorem q1049 : (Jvm.Cond.native ({ cls := "java/lang/Object", name := "clone", desc := "()Ljava/lang/Object;" } : Jvm.MethodName)) ∈ lw_all := lw_g (lw_at lw_m4 209 rfl) rfl
theorem q1050 : (Jvm.Cond.instanceMethod ({ cls := "java/lang/Object", name := "clone", desc := "()Ljava/lang/Object;" } : Jvm.MethodName)) ∈ lw_all := lw_g (lw_at lw_m4 210 rfl) rfl
theorem q1440 : (Jvm.Cond.instanceMethod ({ cls := "java/lang/Object", name := "getClass", desc := "()Ljava/lang/Class;" } : Jvm.MethodName)) ∈ lw_all := lw_g (lw_at lw_m6 120 rfl) rfl
theorem q1441 : (Jvm.Cond.sameMethod "java/lang/Object" "java/lang/Object" "getClass" "()Ljava/lang/Class;") ∈ lw_all := lw_g (lw_at lw_m6 121 rfl) rfl
theorem q1478 : (Jvm.Cond.native ({ cls := "java/lang/Object", name := "getClass", desc := "()Ljava/lang/Class;" } : Jvm.MethodName)) ∈ lw_all := lw_g (lw_at lw_m6 158 rfl) rfl
theorem q3617 : (Jvm.Cond.initialized "java/lang/Object") ∈ lw_all := lw_g (lw_at lw_m15 137 rfl) rfl
theorem q3664 : (Jvm.Cond.declares ({ cls := "java/lang/Object", name := "getClass", desc := "()Ljava/lang/Class;" } : Jvm.MethodName)) ∈ lw_tbl := lw_at lw_m15 184 rfl
theorem q3683 : (Jvm.Cond.instantiable "java/lang/Object" (0 : Nat)) ∈ lw_all := lw_g (lw_at lw_m15 203 rfl) rfl

/-! java/lang/System$2 -/
set_option maxRecDepth 100000
def RJ34 : String := "java/lang/System$2"
abbrev cJ34_getUTF16Char : ByteArray := prog_49_method_45_code
def yJ34_getUTF16Char : MethodName := ⟨RJ34, "getUTF16Char", "([BI)C"⟩
def dkwJ34_getUTF16Char_0 : List UInt8 := [43, 28, 184, 0, 185, 172]
abbrev dktJ34_getUTF16Char_0 : List UInt8 := dkwJ34_getUTF16Char_0 ++ []
theorem dksJ34_getUTF16Char_0 : cJ34_getUTF16Char.data.toList.drop 0 = dktJ34_getUTF16Char_0 := by decide +kernel
theorem dJ34_getUTF16Char_0 : decode cJ34_getUTF16Char 0 = .ok (.aload_n 1, 1) := dk_43 (dk_at dksJ34_getUTF16Char_0 0 rfl rfl)
theorem dJ34_getUTF16Char_1 : decode cJ34_getUTF16Char 1 = .ok (.iload_n 2, 1) := dk_28 (dk_at dksJ34_getUTF16Char_0 1 rfl rfl)
theorem dJ34_getUTF16Char_2 : decode cJ34_getUTF16Char 2 = .ok (.invokestatic 185, 3) := dk_184 0 185 (dk_at dksJ34_getUTF16Char_0 2 rfl rfl)
theorem dJ34_getUTF16Char_5 : decode cJ34_getUTF16Char 5 = .ok (.ireturn, 1) := dk_172 (dk_at dksJ34_getUTF16Char_0 5 rfl rfl)
theorem q1204 : (Jvm.Cond.castable "java/lang/System$2" "jdk/internal/access/JavaLangAccess") ∈ lw_tbl := lw_at lw_m5 124 rfl
theorem q1205 : (Jvm.Cond.selects "java/lang/System$2" ({ cls := "jdk/internal/access/JavaLangAccess", name := "getUTF16Char", desc := "([BI)C" } : Jvm.MethodName) ({ cls := "java/lang/System$2", name := "getUTF16Char", desc := "([BI)C" } : Jvm.MethodName)) ∈ lw_all := lw_g (lw_at lw_m5 125 rfl) rfl
theorem q1206 : (Jvm.Cond.unhidden "java/lang/System$2" "getUTF16Char" "([BI)C") ∈ lw_tbl := lw_at lw_m5 126 rfl
theorem q1207 : (Jvm.Cond.instanceMethod ({ cls := "java/lang/System$2", name := "getUTF16Char", desc := "([BI)C" } : Jvm.MethodName)) ∈ lw_all := lw_g (lw_at lw_m5 127 rfl) rfl
theorem q1208 : (Jvm.Cond.publicMethod ({ cls := "java/lang/System$2", name := "getUTF16Char", desc := "([BI)C" } : Jvm.MethodName)) ∈ lw_tbl := lw_at lw_m5 128 rfl
theorem q1209 : (Jvm.Cond.code ({ cls := "java/lang/System$2", name := "getUTF16Char", desc := "([BI)C" } : Jvm.MethodName) prog_49_method_45_code (3 : Nat) (Option.some Jvm.ClassFile.FieldType.char)) ∈ lw_all := lw_g (lw_at lw_m5 129 rfl) rfl
theorem q1210 : (Jvm.Cond.methodLink "java/lang/System$2" (185 : Nat) ({ cls := "java/lang/StringUTF16", name := "getChar", desc := "([BI)C" } : Jvm.MethodName)) ∈ lw_all := lw_g (lw_at lw_m5 130 rfl) rfl
theorem q1469 : (Jvm.Cond.selects "java/lang/System$2" ({ cls := "java/lang/Object", name := "getClass", desc := "()Ljava/lang/Class;" } : Jvm.MethodName) ({ cls := "java/lang/Object", name := "getClass", desc := "()Ljava/lang/Class;" } : Jvm.MethodName)) ∈ lw_all := lw_g (lw_at lw_m6 149 rfl) rfl
theorem q3647 : (Jvm.Cond.castable "java/lang/System$2" "java/lang/Object") ∈ lw_tbl := lw_at lw_m15 167 rfl
