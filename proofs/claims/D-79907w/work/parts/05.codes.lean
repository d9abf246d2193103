set_option maxRecDepth 100000
abbrev cJ0_init : ByteArray := prog_36_method_1_code
def yJ0_init : MethodName := ⟨RJ0, "<init>", "()V"⟩
theorem dJ0_init_0 : decode cJ0_init 0 = .ok (.aload_n 0, 1) := by decide +kernel
theorem dJ0_init_1 : decode cJ0_init 1 = .ok (.invokespecial 1, 3) := by decide +kernel
theorem dJ0_init_4 : decode cJ0_init 4 = .ok (.return_, 1) := by decide +kernel
abbrev cJ1_init : ByteArray := prog_37_method_1_code
def yJ1_init : MethodName := ⟨RJ1, "<init>", "()V"⟩
def dkwJ1_init_0 : List UInt8 := [42, 183, 0, 1, 42, 3, 181, 0, 7, 177]
abbrev dktJ1_init_0 : List UInt8 := dkwJ1_init_0 ++ []
theorem dksJ1_init_0 : cJ1_init.data.toList.drop 0 = dktJ1_init_0 := by decide +kernel
theorem dJ1_init_0 : decode cJ1_init 0 = .ok (.aload_n 0, 1) := dk_42 (dk_at dksJ1_init_0 0 rfl rfl)
theorem dJ1_init_1 : decode cJ1_init 1 = .ok (.invokespecial 1, 3) := dk_183 0 1 (dk_at dksJ1_init_0 1 rfl rfl)
theorem dJ1_init_4 : decode cJ1_init 4 = .ok (.aload_n 0, 1) := dk_42 (dk_at dksJ1_init_0 4 rfl rfl)
theorem dJ1_init_5 : decode cJ1_init 5 = .ok (.iconst 0, 1) := dk_3 (dk_at dksJ1_init_0 5 rfl rfl)
theorem dJ1_init_6 : decode cJ1_init 6 = .ok (.putfield 7, 3) := dk_181 0 7 (dk_at dksJ1_init_0 6 rfl rfl)
theorem dJ1_init_9 : decode cJ1_init 9 = .ok (.return_, 1) := dk_177 (dk_at dksJ1_init_0 9 rfl rfl)
abbrev cJ10_isValidCodePoint : ByteArray := prog_19_method_11_code
def yJ10_isValidCodePoint : MethodName := ⟨RJ10, "isValidCodePoint", "(I)Z"⟩
def dkwJ10_isValidCodePoint_0 : List UInt8 := [26, 16, 16, 124, 60, 27, 16, 17, 162, 0, 7, 4, 167, 0, 4, 3, 172]
abbrev dktJ10_isValidCodePoint_0 : List UInt8 := dkwJ10_isValidCodePoint_0 ++ []
theorem dksJ10_isValidCodePoint_0 : cJ10_isValidCodePoint.data.toList.drop 0 = dktJ10_isValidCodePoint_0 := by decide +kernel
theorem dJ10_isValidCodePoint_0 : decode cJ10_isValidCodePoint 0 = .ok (.iload_n 0, 1) := dk_26 (dk_at dksJ10_isValidCodePoint_0 0 rfl rfl)
theorem dJ10_isValidCodePoint_1 : decode cJ10_isValidCodePoint 1 = .ok (.bipush 16, 2) := dk_16 16 (dk_at dksJ10_isValidCodePoint_0 1 rfl rfl)
theorem dJ10_isValidCodePoint_3 : decode cJ10_isValidCodePoint 3 = .ok (.iushr, 1) := dk_124 (dk_at dksJ10_isValidCodePoint_0 3 rfl rfl)
theorem dJ10_isValidCodePoint_4 : decode cJ10_isValidCodePoint 4 = .ok (.istore_n 1, 1) := dk_60 (dk_at dksJ10_isValidCodePoint_0 4 rfl rfl)
theorem dJ10_isValidCodePoint_5 : decode cJ10_isValidCodePoint 5 = .ok (.iload_n 1, 1) := dk_27 (dk_at dksJ10_isValidCodePoint_0 5 rfl rfl)
theorem dJ10_isValidCodePoint_6 : decode cJ10_isValidCodePoint 6 = .ok (.bipush 17, 2) := dk_16 17 (dk_at dksJ10_isValidCodePoint_0 6 rfl rfl)
theorem dJ10_isValidCodePoint_8 : decode cJ10_isValidCodePoint 8 = .ok (.if_icmp .ge 7, 3) := dk_162 0 7 (dk_at dksJ10_isValidCodePoint_0 8 rfl rfl)
theorem dJ10_isValidCodePoint_11 : decode cJ10_isValidCodePoint 11 = .ok (.iconst 1, 1) := dk_4 (dk_at dksJ10_isValidCodePoint_0 11 rfl rfl)
theorem dJ10_isValidCodePoint_12 : decode cJ10_isValidCodePoint 12 = .ok (.goto 4, 3) := dk_167 0 4 (dk_at dksJ10_isValidCodePoint_0 12 rfl rfl)
theorem dJ10_isValidCodePoint_15 : decode cJ10_isValidCodePoint 15 = .ok (.iconst 0, 1) := dk_3 (dk_at dksJ10_isValidCodePoint_0 15 rfl rfl)
theorem dJ10_isValidCodePoint_16 : decode cJ10_isValidCodePoint 16 = .ok (.ireturn, 1) := dk_172 (dk_at dksJ10_isValidCodePoint_0 16 rfl rfl)
abbrev cJ10_highSurrogate : ByteArray := prog_19_method_28_code
def yJ10_highSurrogate : MethodName := ⟨RJ10, "highSurrogate", "(I)C"⟩
def dkwJ10_highSurrogate_0 : List UInt8 := [26, 16, 10, 124, 18, 110, 96, 146, 172]
abbrev dktJ10_highSurrogate_0 : List UInt8 := dkwJ10_highSurrogate_0 ++ []
theorem dksJ10_highSurrogate_0 : cJ10_highSurrogate.data.toList.drop 0 = dktJ10_highSurrogate_0 := by decide +kernel
theorem dJ10_highSurrogate_0 : decode cJ10_highSurrogate 0 = .ok (.iload_n 0, 1) := dk_26 (dk_at dksJ10_highSurrogate_0 0 rfl rfl)
theorem dJ10_highSurrogate_1 : decode cJ10_highSurrogate 1 = .ok (.bipush 10, 2) := dk_16 10 (dk_at dksJ10_highSurrogate_0 1 rfl rfl)
theorem dJ10_highSurrogate_3 : decode cJ10_highSurrogate 3 = .ok (.iushr, 1) := dk_124 (dk_at dksJ10_highSurrogate_0 3 rfl rfl)
theorem dJ10_highSurrogate_4 : decode cJ10_highSurrogate 4 = .ok (.ldc 110, 2) := dk_18 110 (dk_at dksJ10_highSurrogate_0 4 rfl rfl)
theorem dJ10_highSurrogate_6 : decode cJ10_highSurrogate 6 = .ok (.iadd, 1) := dk_96 (dk_at dksJ10_highSurrogate_0 6 rfl rfl)
theorem dJ10_highSurrogate_7 : decode cJ10_highSurrogate 7 = .ok (.i2c, 1) := dk_146 (dk_at dksJ10_highSurrogate_0 7 rfl rfl)
theorem dJ10_highSurrogate_8 : decode cJ10_highSurrogate 8 = .ok (.ireturn, 1) := dk_172 (dk_at dksJ10_highSurrogate_0 8 rfl rfl)
abbrev cJ10_lowSurrogate : ByteArray := prog_19_method_29_code
def yJ10_lowSurrogate : MethodName := ⟨RJ10, "lowSurrogate", "(I)C"⟩
def dkwJ10_lowSurrogate_0 : List UInt8 := [26, 17, 3, 255, 126, 18, 76, 96, 146, 172]
abbrev dktJ10_lowSurrogate_0 : List UInt8 := dkwJ10_lowSurrogate_0 ++ []
theorem dksJ10_lowSurrogate_0 : cJ10_lowSurrogate.data.toList.drop 0 = dktJ10_lowSurrogate_0 := by decide +kernel
theorem dJ10_lowSurrogate_0 : decode cJ10_lowSurrogate 0 = .ok (.iload_n 0, 1) := dk_26 (dk_at dksJ10_lowSurrogate_0 0 rfl rfl)
theorem dJ10_lowSurrogate_1 : decode cJ10_lowSurrogate 1 = .ok (.sipush 1023, 3) := dk_17 3 255 (dk_at dksJ10_lowSurrogate_0 1 rfl rfl)
theorem dJ10_lowSurrogate_4 : decode cJ10_lowSurrogate 4 = .ok (.iand, 1) := dk_126 (dk_at dksJ10_lowSurrogate_0 4 rfl rfl)
theorem dJ10_lowSurrogate_5 : decode cJ10_lowSurrogate 5 = .ok (.ldc 76, 2) := dk_18 76 (dk_at dksJ10_lowSurrogate_0 5 rfl rfl)
theorem dJ10_lowSurrogate_7 : decode cJ10_lowSurrogate 7 = .ok (.iadd, 1) := dk_96 (dk_at dksJ10_lowSurrogate_0 7 rfl rfl)
theorem dJ10_lowSurrogate_8 : decode cJ10_lowSurrogate 8 = .ok (.i2c, 1) := dk_146 (dk_at dksJ10_lowSurrogate_0 8 rfl rfl)
theorem dJ10_lowSurrogate_9 : decode cJ10_lowSurrogate 9 = .ok (.ireturn, 1) := dk_172 (dk_at dksJ10_lowSurrogate_0 9 rfl rfl)
abbrev cJ11_newLength : ByteArray := prog_45_method_27_code
def yJ11_newLength : MethodName := ⟨RJ11, "newLength", "(III)I"⟩
def dkwJ11_newLength_1 : List UInt8 := [184, 0, 201, 172]
abbrev dktJ11_newLength_1 : List UInt8 := dkwJ11_newLength_1 ++ []
def dkwJ11_newLength_0 : List UInt8 := [26, 27, 28, 184, 0, 194, 96, 62, 3, 29, 162, 0, 11, 29, 18, 200, 163, 0, 5, 29, 172, 26, 27]
abbrev dktJ11_newLength_0 : List UInt8 := dkwJ11_newLength_0 ++ dktJ11_newLength_1
theorem dksJ11_newLength_0 : cJ11_newLength.data.toList.drop 0 = dktJ11_newLength_0 := by decide +kernel
theorem dksJ11_newLength_1 : cJ11_newLength.data.toList.drop 23 = dktJ11_newLength_1 := dk_seg dksJ11_newLength_0 23 rfl rfl
theorem dJ11_newLength_0 : decode cJ11_newLength 0 = .ok (.iload_n 0, 1) := dk_26 (dk_at dksJ11_newLength_0 0 rfl rfl)
theorem dJ11_newLength_1 : decode cJ11_newLength 1 = .ok (.iload_n 1, 1) := dk_27 (dk_at dksJ11_newLength_0 1 rfl rfl)
theorem dJ11_newLength_2 : decode cJ11_newLength 2 = .ok (.iload_n 2, 1) := dk_28 (dk_at dksJ11_newLength_0 2 rfl rfl)
theorem dJ11_newLength_3 : decode cJ11_newLength 3 = .ok (.invokestatic 194, 3) := dk_184 0 194 (dk_at dksJ11_newLength_0 3 rfl rfl)
theorem dJ11_newLength_6 : decode cJ11_newLength 6 = .ok (.iadd, 1) := dk_96 (dk_at dksJ11_newLength_0 6 rfl rfl)
theorem dJ11_newLength_7 : decode cJ11_newLength 7 = .ok (.istore_n 3, 1) := dk_62 (dk_at dksJ11_newLength_0 7 rfl rfl)
theorem dJ11_newLength_8 : decode cJ11_newLength 8 = .ok (.iconst 0, 1) := dk_3 (dk_at dksJ11_newLength_0 8 rfl rfl)
theorem dJ11_newLength_9 : decode cJ11_newLength 9 = .ok (.iload_n 3, 1) := dk_29 (dk_at dksJ11_newLength_0 9 rfl rfl)
theorem dJ11_newLength_10 : decode cJ11_newLength 10 = .ok (.if_icmp .ge 11, 3) := dk_162 0 11 (dk_at dksJ11_newLength_0 10 rfl rfl)
theorem dJ11_newLength_13 : decode cJ11_newLength 13 = .ok (.iload_n 3, 1) := dk_29 (dk_at dksJ11_newLength_0 13 rfl rfl)
theorem dJ11_newLength_14 : decode cJ11_newLength 14 = .ok (.ldc 200, 2) := dk_18 200 (dk_at dksJ11_newLength_0 14 rfl rfl)
theorem dJ11_newLength_16 : decode cJ11_newLength 16 = .ok (.if_icmp .gt 5, 3) := dk_163 0 5 (dk_at dksJ11_newLength_0 16 rfl rfl)
theorem dJ11_newLength_19 : decode cJ11_newLength 19 = .ok (.iload_n 3, 1) := dk_29 (dk_at dksJ11_newLength_0 19 rfl rfl)
theorem dJ11_newLength_20 : decode cJ11_newLength 20 = .ok (.ireturn, 1) := dk_172 (dk_at dksJ11_newLength_0 20 rfl rfl)
theorem dJ11_newLength_21 : decode cJ11_newLength 21 = .ok (.iload_n 0, 1) := dk_26 (dk_at dksJ11_newLength_0 21 rfl rfl)
theorem dJ11_newLength_22 : decode cJ11_newLength 22 = .ok (.iload_n 1, 1) := dk_27 (dk_at dksJ11_newLength_0 22 rfl rfl)
theorem dJ11_newLength_23 : decode cJ11_newLength 23 = .ok (.invokestatic 201, 3) := dk_184 0 201 (dk_at dksJ11_newLength_1 0 rfl rfl)
theorem dJ11_newLength_26 : decode cJ11_newLength 26 = .ok (.ireturn, 1) := dk_172 (dk_at dksJ11_newLength_1 3 rfl rfl)
abbrev cJ11_hugeLength : ByteArray := prog_45_method_28_code
def yJ11_hugeLength : MethodName := ⟨RJ11, "hugeLength", "(II)I"⟩
def dkwJ11_hugeLength_2 : List UInt8 := [191, 28, 18, 200, 163, 0, 6, 18, 200, 172, 28, 172]
abbrev dktJ11_hugeLength_2 : List UInt8 := dkwJ11_hugeLength_2 ++ []
def dkwJ11_hugeLength_1 : List UInt8 := [26, 182, 0, 98, 18, 208, 182, 0, 94, 27, 182, 0, 98, 18, 210, 182, 0, 94, 182, 0, 101, 183, 0, 212]
abbrev dktJ11_hugeLength_1 : List UInt8 := dkwJ11_hugeLength_1 ++ dktJ11_hugeLength_2
def dkwJ11_hugeLength_0 : List UInt8 := [26, 27, 96, 61, 28, 156, 0, 44, 187, 0, 204, 89, 187, 0, 89, 89, 183, 0, 91, 18, 206, 182, 0, 94]
abbrev dktJ11_hugeLength_0 : List UInt8 := dkwJ11_hugeLength_0 ++ dktJ11_hugeLength_1
theorem dksJ11_hugeLength_0 : cJ11_hugeLength.data.toList.drop 0 = dktJ11_hugeLength_0 := by decide +kernel
theorem dksJ11_hugeLength_1 : cJ11_hugeLength.data.toList.drop 24 = dktJ11_hugeLength_1 := dk_seg dksJ11_hugeLength_0 24 rfl rfl
theorem dksJ11_hugeLength_2 : cJ11_hugeLength.data.toList.drop 48 = dktJ11_hugeLength_2 := dk_seg dksJ11_hugeLength_1 24 rfl rfl
theorem dJ11_hugeLength_0 : decode cJ11_hugeLength 0 = .ok (.iload_n 0, 1) := dk_26 (dk_at dksJ11_hugeLength_0 0 rfl rfl)
theorem dJ11_hugeLength_1 : decode cJ11_hugeLength 1 = .ok (.iload_n 1, 1) := dk_27 (dk_at dksJ11_hugeLength_0 1 rfl rfl)
theorem dJ11_hugeLength_2 : decode cJ11_hugeLength 2 = .ok (.iadd, 1) := dk_96 (dk_at dksJ11_hugeLength_0 2 rfl rfl)
theorem dJ11_hugeLength_3 : decode cJ11_hugeLength 3 = .ok (.istore_n 2, 1) := dk_61 (dk_at dksJ11_hugeLength_0 3 rfl rfl)
theorem dJ11_hugeLength_4 : decode cJ11_hugeLength 4 = .ok (.iload_n 2, 1) := dk_28 (dk_at dksJ11_hugeLength_0 4 rfl rfl)
theorem dJ11_hugeLength_5 : decode cJ11_hugeLength 5 = .ok (.ifCond .ge 44, 3) := dk_156 0 44 (dk_at dksJ11_hugeLength_0 5 rfl rfl)
theorem dJ11_hugeLength_8 : decode cJ11_hugeLength 8 = .ok (.new 204, 3) := dk_187 0 204 (dk_at dksJ11_hugeLength_0 8 rfl rfl)
theorem dJ11_hugeLength_11 : decode cJ11_hugeLength 11 = .ok (.dup, 1) := dk_89 (dk_at dksJ11_hugeLength_0 11 rfl rfl)
theorem dJ11_hugeLength_12 : decode cJ11_hugeLength 12 = .ok (.new 89, 3) := dk_187 0 89 (dk_at dksJ11_hugeLength_0 12 rfl rfl)
theorem dJ11_hugeLength_15 : decode cJ11_hugeLength 15 = .ok (.dup, 1) := dk_89 (dk_at dksJ11_hugeLength_0 15 rfl rfl)
theorem dJ11_hugeLength_16 : decode cJ11_hugeLength 16 = .ok (.invokespecial 91, 3) := dk_183 0 91 (dk_at dksJ11_hugeLength_0 16 rfl rfl)
theorem dJ11_hugeLength_19 : decode cJ11_hugeLength 19 = .ok (.ldc 206, 2) := dk_18 206 (dk_at dksJ11_hugeLength_0 19 rfl rfl)
theorem dJ11_hugeLength_21 : decode cJ11_hugeLength 21 = .ok (.invokevirtual 94, 3) := dk_182 0 94 (dk_at dksJ11_hugeLength_0 21 rfl rfl)
theorem dJ11_hugeLength_24 : decode cJ11_hugeLength 24 = .ok (.iload_n 0, 1) := dk_26 (dk_at dksJ11_hugeLength_1 0 rfl rfl)
theorem dJ11_hugeLength_25 : decode cJ11_hugeLength 25 = .ok (.invokevirtual 98, 3) := dk_182 0 98 (dk_at dksJ11_hugeLength_1 1 rfl rfl)
theorem dJ11_hugeLength_28 : decode cJ11_hugeLength 28 = .ok (.ldc 208, 2) := dk_18 208 (dk_at dksJ11_hugeLength_1 4 rfl rfl)
theorem dJ11_hugeLength_30 : decode cJ11_hugeLength 30 = .ok (.invokevirtual 94, 3) := dk_182 0 94 (dk_at dksJ11_hugeLength_1 6 rfl rfl)
theorem dJ11_hugeLength_33 : decode cJ11_hugeLength 33 = .ok (.iload_n 1, 1) := dk_27 (dk_at dksJ11_hugeLength_1 9 rfl rfl)
theorem dJ11_hugeLength_34 : decode cJ11_hugeLength 34 = .ok (.invokevirtual 98, 3) := dk_182 0 98 (dk_at dksJ11_hugeLength_1 10 rfl rfl)
theorem dJ11_hugeLength_37 : decode cJ11_hugeLength 37 = .ok (.ldc 210, 2) := dk_18 210 (dk_at dksJ11_hugeLength_1 13 rfl rfl)
theorem dJ11_hugeLength_39 : decode cJ11_hugeLength 39 = .ok (.invokevirtual 94, 3) := dk_182 0 94 (dk_at dksJ11_hugeLength_1 15 rfl rfl)
theorem dJ11_hugeLength_42 : decode cJ11_hugeLength 42 = .ok (.invokevirtual 101, 3) := dk_182 0 101 (dk_at dksJ11_hugeLength_1 18 rfl rfl)
theorem dJ11_hugeLength_45 : decode cJ11_hugeLength 45 = .ok (.invokespecial 212, 3) := dk_183 0 212 (dk_at dksJ11_hugeLength_1 21 rfl rfl)
theorem dJ11_hugeLength_48 : decode cJ11_hugeLength 48 = .ok (.athrow, 1) := dk_191 (dk_at dksJ11_hugeLength_2 0 rfl rfl)
theorem dJ11_hugeLength_49 : decode cJ11_hugeLength 49 = .ok (.iload_n 2, 1) := dk_28 (dk_at dksJ11_hugeLength_2 1 rfl rfl)
theorem dJ11_hugeLength_50 : decode cJ11_hugeLength 50 = .ok (.ldc 200, 2) := dk_18 200 (dk_at dksJ11_hugeLength_2 2 rfl rfl)
theorem dJ11_hugeLength_52 : decode cJ11_hugeLength 52 = .ok (.if_icmp .gt 6, 3) := dk_163 0 6 (dk_at dksJ11_hugeLength_2 4 rfl rfl)
theorem dJ11_hugeLength_55 : decode cJ11_hugeLength 55 = .ok (.ldc 200, 2) := dk_18 200 (dk_at dksJ11_hugeLength_2 7 rfl rfl)
theorem dJ11_hugeLength_57 : decode cJ11_hugeLength 57 = .ok (.ireturn, 1) := dk_172 (dk_at dksJ11_hugeLength_2 9 rfl rfl)
theorem dJ11_hugeLength_58 : decode cJ11_hugeLength 58 = .ok (.iload_n 2, 1) := dk_28 (dk_at dksJ11_hugeLength_2 10 rfl rfl)
theorem dJ11_hugeLength_59 : decode cJ11_hugeLength 59 = .ok (.ireturn, 1) := dk_172 (dk_at dksJ11_hugeLength_2 11 rfl rfl)
abbrev cJ12_copyOf : ByteArray := prog_39_method_119_code
def yJ12_copyOf : MethodName := ⟨RJ12, "copyOf", "([Ljava/lang/Object;I)[Ljava/lang/Object;"⟩
def dkwJ12_copyOf_0 : List UInt8 := [42, 27, 42, 182, 0, 86, 184, 1, 44, 176]
abbrev dktJ12_copyOf_0 : List UInt8 := dkwJ12_copyOf_0 ++ []
theorem dksJ12_copyOf_0 : cJ12_copyOf.data.toList.drop 0 = dktJ12_copyOf_0 := by decide +kernel
theorem dJ12_copyOf_0 : decode cJ12_copyOf 0 = .ok (.aload_n 0, 1) := dk_42 (dk_at dksJ12_copyOf_0 0 rfl rfl)
theorem dJ12_copyOf_1 : decode cJ12_copyOf 1 = .ok (.iload_n 1, 1) := dk_27 (dk_at dksJ12_copyOf_0 1 rfl rfl)
theorem dJ12_copyOf_2 : decode cJ12_copyOf 2 = .ok (.aload_n 0, 1) := dk_42 (dk_at dksJ12_copyOf_0 2 rfl rfl)
theorem dJ12_copyOf_3 : decode cJ12_copyOf 3 = .ok (.invokevirtual 86, 3) := dk_182 0 86 (dk_at dksJ12_copyOf_0 3 rfl rfl)
theorem dJ12_copyOf_6 : decode cJ12_copyOf 6 = .ok (.invokestatic 300, 3) := dk_184 1 44 (dk_at dksJ12_copyOf_0 6 rfl rfl)
theorem dJ12_copyOf_9 : decode cJ12_copyOf 9 = .ok (.areturn, 1) := dk_176 (dk_at dksJ12_copyOf_0 9 rfl rfl)
abbrev cJ12_copyOf_2 : ByteArray := prog_39_method_120_code
def yJ12_copyOf_2 : MethodName := ⟨RJ12, "copyOf", "([Ljava/lang/Object;ILjava/lang/Class;)[Ljava/lang/Object;"⟩
def dkwJ12_copyOf_2_1 : List UInt8 := [78, 42, 3, 45, 3, 42, 190, 27, 184, 1, 48, 184, 0, 150, 45, 176]
abbrev dktJ12_copyOf_2_1 : List UInt8 := dkwJ12_copyOf_2_1 ++ []
def dkwJ12_copyOf_2_0 : List UInt8 := [44, 18, 110, 166, 0, 10, 27, 189, 0, 2, 167, 0, 14, 44, 182, 0, 90, 27, 184, 0, 95, 192, 0, 110]
abbrev dktJ12_copyOf_2_0 : List UInt8 := dkwJ12_copyOf_2_0 ++ dktJ12_copyOf_2_1
theorem dksJ12_copyOf_2_0 : cJ12_copyOf_2.data.toList.drop 0 = dktJ12_copyOf_2_0 := by decide +kernel
theorem dksJ12_copyOf_2_1 : cJ12_copyOf_2.data.toList.drop 24 = dktJ12_copyOf_2_1 := dk_seg dksJ12_copyOf_2_0 24 rfl rfl
theorem dJ12_copyOf_2_0 : decode cJ12_copyOf_2 0 = .ok (.aload_n 2, 1) := dk_44 (dk_at dksJ12_copyOf_2_0 0 rfl rfl)
theorem dJ12_copyOf_2_1 : decode cJ12_copyOf_2 1 = .ok (.ldc 110, 2) := dk_18 110 (dk_at dksJ12_copyOf_2_0 1 rfl rfl)
theorem dJ12_copyOf_2_3 : decode cJ12_copyOf_2 3 = .ok (.if_acmp .ne 10, 3) := dk_166 0 10 (dk_at dksJ12_copyOf_2_0 3 rfl rfl)
theorem dJ12_copyOf_2_6 : decode cJ12_copyOf_2 6 = .ok (.iload_n 1, 1) := dk_27 (dk_at dksJ12_copyOf_2_0 6 rfl rfl)
theorem dJ12_copyOf_2_7 : decode cJ12_copyOf_2 7 = .ok (.anewarray 2, 3) := dk_189 0 2 (dk_at dksJ12_copyOf_2_0 7 rfl rfl)
theorem dJ12_copyOf_2_10 : decode cJ12_copyOf_2 10 = .ok (.goto 14, 3) := dk_167 0 14 (dk_at dksJ12_copyOf_2_0 10 rfl rfl)
theorem dJ12_copyOf_2_13 : decode cJ12_copyOf_2 13 = .ok (.aload_n 2, 1) := dk_44 (dk_at dksJ12_copyOf_2_0 13 rfl rfl)
theorem dJ12_copyOf_2_14 : decode cJ12_copyOf_2 14 = .ok (.invokevirtual 90, 3) := dk_182 0 90 (dk_at dksJ12_copyOf_2_0 14 rfl rfl)
theorem dJ12_copyOf_2_17 : decode cJ12_copyOf_2 17 = .ok (.iload_n 1, 1) := dk_27 (dk_at dksJ12_copyOf_2_0 17 rfl rfl)
theorem dJ12_copyOf_2_18 : decode cJ12_copyOf_2 18 = .ok (.invokestatic 95, 3) := dk_184 0 95 (dk_at dksJ12_copyOf_2_0 18 rfl rfl)
theorem dJ12_copyOf_2_21 : decode cJ12_copyOf_2 21 = .ok (.checkcast 110, 3) := dk_192 0 110 (dk_at dksJ12_copyOf_2_0 21 rfl rfl)
theorem dJ12_copyOf_2_24 : decode cJ12_copyOf_2 24 = .ok (.astore_n 3, 1) := dk_78 (dk_at dksJ12_copyOf_2_1 0 rfl rfl)
theorem dJ12_copyOf_2_25 : decode cJ12_copyOf_2 25 = .ok (.aload_n 0, 1) := dk_42 (dk_at dksJ12_copyOf_2_1 1 rfl rfl)
theorem dJ12_copyOf_2_26 : decode cJ12_copyOf_2 26 = .ok (.iconst 0, 1) := dk_3 (dk_at dksJ12_copyOf_2_1 2 rfl rfl)
theorem dJ12_copyOf_2_27 : decode cJ12_copyOf_2 27 = .ok (.aload_n 3, 1) := dk_45 (dk_at dksJ12_copyOf_2_1 3 rfl rfl)
theorem dJ12_copyOf_2_28 : decode cJ12_copyOf_2 28 = .ok (.iconst 0, 1) := dk_3 (dk_at dksJ12_copyOf_2_1 4 rfl rfl)
theorem dJ12_copyOf_2_29 : decode cJ12_copyOf_2 29 = .ok (.aload_n 0, 1) := dk_42 (dk_at dksJ12_copyOf_2_1 5 rfl rfl)
theorem dJ12_copyOf_2_30 : decode cJ12_copyOf_2 30 = .ok (.arraylength, 1) := dk_190 (dk_at dksJ12_copyOf_2_1 6 rfl rfl)
theorem dJ12_copyOf_2_31 : decode cJ12_copyOf_2 31 = .ok (.iload_n 1, 1) := dk_27 (dk_at dksJ12_copyOf_2_1 7 rfl rfl)
theorem dJ12_copyOf_2_32 : decode cJ12_copyOf_2 32 = .ok (.invokestatic 304, 3) := dk_184 1 48 (dk_at dksJ12_copyOf_2_1 8 rfl rfl)
theorem dJ12_copyOf_2_35 : decode cJ12_copyOf_2 35 = .ok (.invokestatic 150, 3) := dk_184 0 150 (dk_at dksJ12_copyOf_2_1 11 rfl rfl)
theorem dJ12_copyOf_2_38 : decode cJ12_copyOf_2 38 = .ok (.aload_n 3, 1) := dk_45 (dk_at dksJ12_copyOf_2_1 14 rfl rfl)
theorem dJ12_copyOf_2_39 : decode cJ12_copyOf_2 39 = .ok (.areturn, 1) := dk_176 (dk_at dksJ12_copyOf_2_1 15 rfl rfl)
abbrev cJ13_checkIndex : ByteArray := prog_42_method_17_code
def yJ13_checkIndex : MethodName := ⟨RJ13, "checkIndex", "(II)I"⟩
def dkwJ13_checkIndex_0 : List UInt8 := [26, 27, 1, 184, 0, 105, 172]
abbrev dktJ13_checkIndex_0 : List UInt8 := dkwJ13_checkIndex_0 ++ []
theorem dksJ13_checkIndex_0 : cJ13_checkIndex.data.toList.drop 0 = dktJ13_checkIndex_0 := by decide +kernel
theorem dJ13_checkIndex_0 : decode cJ13_checkIndex 0 = .ok (.iload_n 0, 1) := dk_26 (dk_at dksJ13_checkIndex_0 0 rfl rfl)
theorem dJ13_checkIndex_1 : decode cJ13_checkIndex 1 = .ok (.iload_n 1, 1) := dk_27 (dk_at dksJ13_checkIndex_0 1 rfl rfl)
theorem dJ13_checkIndex_2 : decode cJ13_checkIndex 2 = .ok (.aconst_null, 1) := dk_1 (dk_at dksJ13_checkIndex_0 2 rfl rfl)
theorem dJ13_checkIndex_3 : decode cJ13_checkIndex 3 = .ok (.invokestatic 105, 3) := dk_184 0 105 (dk_at dksJ13_checkIndex_0 3 rfl rfl)
theorem dJ13_checkIndex_6 : decode cJ13_checkIndex 6 = .ok (.ireturn, 1) := dk_172 (dk_at dksJ13_checkIndex_0 6 rfl rfl)
abbrev cJ14_init : ByteArray := prog_28_method_2_code
def yJ14_init : MethodName := ⟨RJ14, "<init>", "(Ljava/lang/String;)V"⟩
def dkwJ14_init_0 : List UInt8 := [42, 43, 183, 0, 7, 177]
abbrev dktJ14_init_0 : List UInt8 := dkwJ14_init_0 ++ []
theorem dksJ14_init_0 : cJ14_init.data.toList.drop 0 = dktJ14_init_0 := by decide +kernel
theorem dJ14_init_0 : decode cJ14_init 0 = .ok (.aload_n 0, 1) := dk_42 (dk_at dksJ14_init_0 0 rfl rfl)
theorem dJ14_init_1 : decode cJ14_init 1 = .ok (.aload_n 1, 1) := dk_43 (dk_at dksJ14_init_0 1 rfl rfl)
theorem dJ14_init_2 : decode cJ14_init 2 = .ok (.invokespecial 7, 3) := dk_183 0 7 (dk_at dksJ14_init_0 2 rfl rfl)
theorem dJ14_init_5 : decode cJ14_init 5 = .ok (.return_, 1) := dk_177 (dk_at dksJ14_init_0 5 rfl rfl)
abbrev cJ15_init : ByteArray := prog_27_method_2_code
def yJ15_init : MethodName := ⟨RJ15, "<init>", "(Ljava/lang/String;)V"⟩
def dkwJ15_init_0 : List UInt8 := [42, 43, 183, 0, 7, 177]
abbrev dktJ15_init_0 : List UInt8 := dkwJ15_init_0 ++ []
theorem dksJ15_init_0 : cJ15_init.data.toList.drop 0 = dktJ15_init_0 := by decide +kernel
theorem dJ15_init_0 : decode cJ15_init 0 = .ok (.aload_n 0, 1) := dk_42 (dk_at dksJ15_init_0 0 rfl rfl)
theorem dJ15_init_1 : decode cJ15_init 1 = .ok (.aload_n 1, 1) := dk_43 (dk_at dksJ15_init_0 1 rfl rfl)
theorem dJ15_init_2 : decode cJ15_init 2 = .ok (.invokespecial 7, 3) := dk_183 0 7 (dk_at dksJ15_init_0 2 rfl rfl)
theorem dJ15_init_5 : decode cJ15_init 5 = .ok (.return_, 1) := dk_177 (dk_at dksJ15_init_0 5 rfl rfl)
abbrev cJ16_init : ByteArray := prog_20_method_2_code
def yJ16_init : MethodName := ⟨RJ16, "<init>", "(Ljava/lang/String;)V"⟩
def dkwJ16_init_0 : List UInt8 := [42, 43, 183, 0, 7, 177]
abbrev dktJ16_init_0 : List UInt8 := dkwJ16_init_0 ++ []
theorem dksJ16_init_0 : cJ16_init.data.toList.drop 0 = dktJ16_init_0 := by decide +kernel
theorem dJ16_init_0 : decode cJ16_init 0 = .ok (.aload_n 0, 1) := dk_42 (dk_at dksJ16_init_0 0 rfl rfl)
theorem dJ16_init_1 : decode cJ16_init 1 = .ok (.aload_n 1, 1) := dk_43 (dk_at dksJ16_init_0 1 rfl rfl)
theorem dJ16_init_2 : decode cJ16_init 2 = .ok (.invokespecial 7, 3) := dk_183 0 7 (dk_at dksJ16_init_0 2 rfl rfl)
theorem dJ16_init_5 : decode cJ16_init 5 = .ok (.return_, 1) := dk_177 (dk_at dksJ16_init_0 5 rfl rfl)
abbrev cJ17_init : ByteArray := prog_24_method_2_code
def yJ17_init : MethodName := ⟨RJ17, "<init>", "(Ljava/lang/String;)V"⟩
def dkwJ17_init_0 : List UInt8 := [42, 43, 183, 0, 7, 177]
abbrev dktJ17_init_0 : List UInt8 := dkwJ17_init_0 ++ []
theorem dksJ17_init_0 : cJ17_init.data.toList.drop 0 = dktJ17_init_0 := by decide +kernel
theorem dJ17_init_0 : decode cJ17_init 0 = .ok (.aload_n 0, 1) := dk_42 (dk_at dksJ17_init_0 0 rfl rfl)
theorem dJ17_init_1 : decode cJ17_init 1 = .ok (.aload_n 1, 1) := dk_43 (dk_at dksJ17_init_0 1 rfl rfl)
theorem dJ17_init_2 : decode cJ17_init 2 = .ok (.invokespecial 7, 3) := dk_183 0 7 (dk_at dksJ17_init_0 2 rfl rfl)
theorem dJ17_init_5 : decode cJ17_init 5 = .ok (.return_, 1) := dk_177 (dk_at dksJ17_init_0 5 rfl rfl)
abbrev cJ18_init : ByteArray := prog_17_method_2_code
def yJ18_init : MethodName := ⟨RJ18, "<init>", "(Ljava/lang/String;)V"⟩
def dkwJ18_init_0 : List UInt8 := [42, 43, 183, 0, 7, 177]
abbrev dktJ18_init_0 : List UInt8 := dkwJ18_init_0 ++ []
theorem dksJ18_init_0 : cJ18_init.data.toList.drop 0 = dktJ18_init_0 := by decide +kernel
theorem dJ18_init_0 : decode cJ18_init 0 = .ok (.aload_n 0, 1) := dk_42 (dk_at dksJ18_init_0 0 rfl rfl)
theorem dJ18_init_1 : decode cJ18_init 1 = .ok (.aload_n 1, 1) := dk_43 (dk_at dksJ18_init_0 1 rfl rfl)
theorem dJ18_init_2 : decode cJ18_init 2 = .ok (.invokespecial 7, 3) := dk_183 0 7 (dk_at dksJ18_init_0 2 rfl rfl)
theorem dJ18_init_5 : decode cJ18_init 5 = .ok (.return_, 1) := dk_177 (dk_at dksJ18_init_0 5 rfl rfl)
abbrev cJ19_init : ByteArray := object_method_1_code
def yJ19_init : MethodName := ⟨RJ19, "<init>", "()V"⟩
theorem dJ19_init_0 : decode cJ19_init 0 = .ok (.return_, 1) := by decide +kernel
abbrev cJ19_equals : ByteArray := object_method_4_code
def yJ19_equals : MethodName := ⟨RJ19, "equals", "(Ljava/lang/Object;)Z"⟩
def dkwJ19_equals_0 : List UInt8 := [42, 43, 166, 0, 7, 4, 167, 0, 4, 3, 172]
abbrev dktJ19_equals_0 : List UInt8 := dkwJ19_equals_0 ++ []
theorem dksJ19_equals_0 : cJ19_equals.data.toList.drop 0 = dktJ19_equals_0 := by decide +kernel
theorem dJ19_equals_0 : decode cJ19_equals 0 = .ok (.aload_n 0, 1) := dk_42 (dk_at dksJ19_equals_0 0 rfl rfl)
theorem dJ19_equals_1 : decode cJ19_equals 1 = .ok (.aload_n 1, 1) := dk_43 (dk_at dksJ19_equals_0 1 rfl rfl)
theorem dJ19_equals_2 : decode cJ19_equals 2 = .ok (.if_acmp .ne 7, 3) := dk_166 0 7 (dk_at dksJ19_equals_0 2 rfl rfl)
theorem dJ19_equals_5 : decode cJ19_equals 5 = .ok (.iconst 1, 1) := dk_4 (dk_at dksJ19_equals_0 5 rfl rfl)
theorem dJ19_equals_6 : decode cJ19_equals 6 = .ok (.goto 4, 3) := dk_167 0 4 (dk_at dksJ19_equals_0 6 rfl rfl)
theorem dJ19_equals_9 : decode cJ19_equals 9 = .ok (.iconst 0, 1) := dk_3 (dk_at dksJ19_equals_0 9 rfl rfl)
theorem dJ19_equals_10 : decode cJ19_equals 10 = .ok (.ireturn, 1) := dk_172 (dk_at dksJ19_equals_0 10 rfl rfl)
abbrev cJ2_init : ByteArray := prog_38_method_2_code
def yJ2_init : MethodName := ⟨RJ2, "<init>", "()V"⟩
def dkwJ2_init_0 : List UInt8 := [42, 183, 0, 1, 42, 178, 0, 39, 181, 0, 9, 177]
abbrev dktJ2_init_0 : List UInt8 := dkwJ2_init_0 ++ []
theorem dksJ2_init_0 : cJ2_init.data.toList.drop 0 = dktJ2_init_0 := by decide +kernel
theorem dJ2_init_0 : decode cJ2_init 0 = .ok (.aload_n 0, 1) := dk_42 (dk_at dksJ2_init_0 0 rfl rfl)
theorem dJ2_init_1 : decode cJ2_init 1 = .ok (.invokespecial 1, 3) := dk_183 0 1 (dk_at dksJ2_init_0 1 rfl rfl)
theorem dJ2_init_4 : decode cJ2_init 4 = .ok (.aload_n 0, 1) := dk_42 (dk_at dksJ2_init_0 4 rfl rfl)
theorem dJ2_init_5 : decode cJ2_init 5 = .ok (.getstatic 39, 3) := dk_178 0 39 (dk_at dksJ2_init_0 5 rfl rfl)
theorem dJ2_init_8 : decode cJ2_init 8 = .ok (.putfield 9, 3) := dk_181 0 9 (dk_at dksJ2_init_0 8 rfl rfl)
theorem dJ2_init_11 : decode cJ2_init 11 = .ok (.return_, 1) := dk_177 (dk_at dksJ2_init_0 11 rfl rfl)
abbrev cJ2_clear : ByteArray := prog_38_method_40_code
def yJ2_clear : MethodName := ⟨RJ2, "clear", "()V"⟩
def dkwJ2_clear_1 : List UInt8 := [181, 0, 48, 62, 29, 28, 162, 0, 13, 43, 29, 1, 83, 132, 3, 1, 167, 255, 244, 177]
abbrev dktJ2_clear_1 : List UInt8 := dkwJ2_clear_1 ++ []
def dkwJ2_clear_0 : List UInt8 := [42, 89, 180, 0, 63, 4, 96, 181, 0, 63, 42, 180, 0, 9, 76, 42, 180, 0, 48, 61, 42, 3, 90]
abbrev dktJ2_clear_0 : List UInt8 := dkwJ2_clear_0 ++ dktJ2_clear_1
theorem dksJ2_clear_0 : cJ2_clear.data.toList.drop 0 = dktJ2_clear_0 := by decide +kernel
theorem dksJ2_clear_1 : cJ2_clear.data.toList.drop 23 = dktJ2_clear_1 := dk_seg dksJ2_clear_0 23 rfl rfl
theorem dJ2_clear_0 : decode cJ2_clear 0 = .ok (.aload_n 0, 1) := dk_42 (dk_at dksJ2_clear_0 0 rfl rfl)
theorem dJ2_clear_1 : decode cJ2_clear 1 = .ok (.dup, 1) := dk_89 (dk_at dksJ2_clear_0 1 rfl rfl)
theorem dJ2_clear_2 : decode cJ2_clear 2 = .ok (.getfield 63, 3) := dk_180 0 63 (dk_at dksJ2_clear_0 2 rfl rfl)
theorem dJ2_clear_5 : decode cJ2_clear 5 = .ok (.iconst 1, 1) := dk_4 (dk_at dksJ2_clear_0 5 rfl rfl)
theorem dJ2_clear_6 : decode cJ2_clear 6 = .ok (.iadd, 1) := dk_96 (dk_at dksJ2_clear_0 6 rfl rfl)
theorem dJ2_clear_7 : decode cJ2_clear 7 = .ok (.putfield 63, 3) := dk_181 0 63 (dk_at dksJ2_clear_0 7 rfl rfl)
theorem dJ2_clear_10 : decode cJ2_clear 10 = .ok (.aload_n 0, 1) := dk_42 (dk_at dksJ2_clear_0 10 rfl rfl)
theorem dJ2_clear_11 : decode cJ2_clear 11 = .ok (.getfield 9, 3) := dk_180 0 9 (dk_at dksJ2_clear_0 11 rfl rfl)
theorem dJ2_clear_14 : decode cJ2_clear 14 = .ok (.astore_n 1, 1) := dk_76 (dk_at dksJ2_clear_0 14 rfl rfl)
theorem dJ2_clear_15 : decode cJ2_clear 15 = .ok (.aload_n 0, 1) := dk_42 (dk_at dksJ2_clear_0 15 rfl rfl)
theorem dJ2_clear_16 : decode cJ2_clear 16 = .ok (.getfield 48, 3) := dk_180 0 48 (dk_at dksJ2_clear_0 16 rfl rfl)
theorem dJ2_clear_19 : decode cJ2_clear 19 = .ok (.istore_n 2, 1) := dk_61 (dk_at dksJ2_clear_0 19 rfl rfl)
theorem dJ2_clear_20 : decode cJ2_clear 20 = .ok (.aload_n 0, 1) := dk_42 (dk_at dksJ2_clear_0 20 rfl rfl)
theorem dJ2_clear_21 : decode cJ2_clear 21 = .ok (.iconst 0, 1) := dk_3 (dk_at dksJ2_clear_0 21 rfl rfl)
theorem dJ2_clear_22 : decode cJ2_clear 22 = .ok (.dup_x1, 1) := dk_90 (dk_at dksJ2_clear_0 22 rfl rfl)
theorem dJ2_clear_23 : decode cJ2_clear 23 = .ok (.putfield 48, 3) := dk_181 0 48 (dk_at dksJ2_clear_1 0 rfl rfl)
theorem dJ2_clear_26 : decode cJ2_clear 26 = .ok (.istore_n 3, 1) := dk_62 (dk_at dksJ2_clear_1 3 rfl rfl)
theorem dJ2_clear_27 : decode cJ2_clear 27 = .ok (.iload_n 3, 1) := dk_29 (dk_at dksJ2_clear_1 4 rfl rfl)
theorem dJ2_clear_28 : decode cJ2_clear 28 = .ok (.iload_n 2, 1) := dk_28 (dk_at dksJ2_clear_1 5 rfl rfl)
theorem dJ2_clear_29 : decode cJ2_clear 29 = .ok (.if_icmp .ge 13, 3) := dk_162 0 13 (dk_at dksJ2_clear_1 6 rfl rfl)
theorem dJ2_clear_32 : decode cJ2_clear 32 = .ok (.aload_n 1, 1) := dk_43 (dk_at dksJ2_clear_1 9 rfl rfl)
theorem dJ2_clear_33 : decode cJ2_clear 33 = .ok (.iload_n 3, 1) := dk_29 (dk_at dksJ2_clear_1 10 rfl rfl)
theorem dJ2_clear_34 : decode cJ2_clear 34 = .ok (.aconst_null, 1) := dk_1 (dk_at dksJ2_clear_1 11 rfl rfl)
theorem dJ2_clear_35 : decode cJ2_clear 35 = .ok (.aastore, 1) := dk_83 (dk_at dksJ2_clear_1 12 rfl rfl)
theorem dJ2_clear_36 : decode cJ2_clear 36 = .ok (.iinc 3 1, 3) := dk_132 3 1 (dk_at dksJ2_clear_1 13 rfl rfl)
theorem dJ2_clear_39 : decode cJ2_clear 39 = .ok (.goto (-12), 3) := dk_167 255 244 (dk_at dksJ2_clear_1 16 rfl rfl)
theorem dJ2_clear_42 : decode cJ2_clear 42 = .ok (.return_, 1) := dk_177 (dk_at dksJ2_clear_1 19 rfl rfl)
abbrev cJ2_size : ByteArray := prog_38_method_8_code
def yJ2_size : MethodName := ⟨RJ2, "size", "()I"⟩
theorem dJ2_size_0 : decode cJ2_size 0 = .ok (.aload_n 0, 1) := by decide +kernel
theorem dJ2_size_1 : decode cJ2_size 1 = .ok (.getfield 48, 3) := by decide +kernel
theorem dJ2_size_4 : decode cJ2_size 4 = .ok (.ireturn, 1) := by decide +kernel
abbrev cJ2_add : ByteArray := prog_38_method_25_code
def yJ2_add : MethodName := ⟨RJ2, "add", "(Ljava/lang/Object;)Z"⟩
def dkwJ2_add_1 : List UInt8 := [172]
abbrev dktJ2_add_1 : List UInt8 := dkwJ2_add_1 ++ []
def dkwJ2_add_0 : List UInt8 := [42, 89, 180, 0, 63, 4, 96, 181, 0, 63, 42, 43, 42, 180, 0, 9, 42, 180, 0, 48, 182, 0, 131, 4]
abbrev dktJ2_add_0 : List UInt8 := dkwJ2_add_0 ++ dktJ2_add_1
theorem dksJ2_add_0 : cJ2_add.data.toList.drop 0 = dktJ2_add_0 := by decide +kernel
theorem dksJ2_add_1 : cJ2_add.data.toList.drop 24 = dktJ2_add_1 := dk_seg dksJ2_add_0 24 rfl rfl
theorem dJ2_add_0 : decode cJ2_add 0 = .ok (.aload_n 0, 1) := dk_42 (dk_at dksJ2_add_0 0 rfl rfl)
theorem dJ2_add_1 : decode cJ2_add 1 = .ok (.dup, 1) := dk_89 (dk_at dksJ2_add_0 1 rfl rfl)
theorem dJ2_add_2 : decode cJ2_add 2 = .ok (.getfield 63, 3) := dk_180 0 63 (dk_at dksJ2_add_0 2 rfl rfl)
theorem dJ2_add_5 : decode cJ2_add 5 = .ok (.iconst 1, 1) := dk_4 (dk_at dksJ2_add_0 5 rfl rfl)
theorem dJ2_add_6 : decode cJ2_add 6 = .ok (.iadd, 1) := dk_96 (dk_at dksJ2_add_0 6 rfl rfl)
theorem dJ2_add_7 : decode cJ2_add 7 = .ok (.putfield 63, 3) := dk_181 0 63 (dk_at dksJ2_add_0 7 rfl rfl)
theorem dJ2_add_10 : decode cJ2_add 10 = .ok (.aload_n 0, 1) := dk_42 (dk_at dksJ2_add_0 10 rfl rfl)
theorem dJ2_add_11 : decode cJ2_add 11 = .ok (.aload_n 1, 1) := dk_43 (dk_at dksJ2_add_0 11 rfl rfl)
theorem dJ2_add_12 : decode cJ2_add 12 = .ok (.aload_n 0, 1) := dk_42 (dk_at dksJ2_add_0 12 rfl rfl)
theorem dJ2_add_13 : decode cJ2_add 13 = .ok (.getfield 9, 3) := dk_180 0 9 (dk_at dksJ2_add_0 13 rfl rfl)
theorem dJ2_add_16 : decode cJ2_add 16 = .ok (.aload_n 0, 1) := dk_42 (dk_at dksJ2_add_0 16 rfl rfl)
theorem dJ2_add_17 : decode cJ2_add 17 = .ok (.getfield 48, 3) := dk_180 0 48 (dk_at dksJ2_add_0 17 rfl rfl)
theorem dJ2_add_20 : decode cJ2_add 20 = .ok (.invokevirtual 131, 3) := dk_182 0 131 (dk_at dksJ2_add_0 20 rfl rfl)
theorem dJ2_add_23 : decode cJ2_add 23 = .ok (.iconst 1, 1) := dk_4 (dk_at dksJ2_add_0 23 rfl rfl)
theorem dJ2_add_24 : decode cJ2_add 24 = .ok (.ireturn, 1) := dk_172 (dk_at dksJ2_add_1 0 rfl rfl)
abbrev cJ2_add_2 : ByteArray := prog_38_method_24_code
def yJ2_add_2 : MethodName := ⟨RJ2, "add", "(Ljava/lang/Object;[Ljava/lang/Object;I)V"⟩
def dkwJ2_add_2_0 : List UInt8 := [29, 44, 190, 160, 0, 8, 42, 182, 0, 129, 77, 44, 29, 43, 83, 42, 29, 4, 96, 181, 0, 48, 177]
abbrev dktJ2_add_2_0 : List UInt8 := dkwJ2_add_2_0 ++ []
theorem dksJ2_add_2_0 : cJ2_add_2.data.toList.drop 0 = dktJ2_add_2_0 := by decide +kernel
theorem dJ2_add_2_0 : decode cJ2_add_2 0 = .ok (.iload_n 3, 1) := dk_29 (dk_at dksJ2_add_2_0 0 rfl rfl)
theorem dJ2_add_2_1 : decode cJ2_add_2 1 = .ok (.aload_n 2, 1) := dk_44 (dk_at dksJ2_add_2_0 1 rfl rfl)
theorem dJ2_add_2_2 : decode cJ2_add_2 2 = .ok (.arraylength, 1) := dk_190 (dk_at dksJ2_add_2_0 2 rfl rfl)
theorem dJ2_add_2_3 : decode cJ2_add_2 3 = .ok (.if_icmp .ne 8, 3) := dk_160 0 8 (dk_at dksJ2_add_2_0 3 rfl rfl)
theorem dJ2_add_2_6 : decode cJ2_add_2 6 = .ok (.aload_n 0, 1) := dk_42 (dk_at dksJ2_add_2_0 6 rfl rfl)
theorem dJ2_add_2_7 : decode cJ2_add_2 7 = .ok (.invokevirtual 129, 3) := dk_182 0 129 (dk_at dksJ2_add_2_0 7 rfl rfl)
theorem dJ2_add_2_10 : decode cJ2_add_2 10 = .ok (.astore_n 2, 1) := dk_77 (dk_at dksJ2_add_2_0 10 rfl rfl)
theorem dJ2_add_2_11 : decode cJ2_add_2 11 = .ok (.aload_n 2, 1) := dk_44 (dk_at dksJ2_add_2_0 11 rfl rfl)
theorem dJ2_add_2_12 : decode cJ2_add_2 12 = .ok (.iload_n 3, 1) := dk_29 (dk_at dksJ2_add_2_0 12 rfl rfl)
theorem dJ2_add_2_13 : decode cJ2_add_2 13 = .ok (.aload_n 1, 1) := dk_43 (dk_at dksJ2_add_2_0 13 rfl rfl)
theorem dJ2_add_2_14 : decode cJ2_add_2 14 = .ok (.aastore, 1) := dk_83 (dk_at dksJ2_add_2_0 14 rfl rfl)
theorem dJ2_add_2_15 : decode cJ2_add_2 15 = .ok (.aload_n 0, 1) := dk_42 (dk_at dksJ2_add_2_0 15 rfl rfl)
theorem dJ2_add_2_16 : decode cJ2_add_2 16 = .ok (.iload_n 3, 1) := dk_29 (dk_at dksJ2_add_2_0 16 rfl rfl)
theorem dJ2_add_2_17 : decode cJ2_add_2 17 = .ok (.iconst 1, 1) := dk_4 (dk_at dksJ2_add_2_0 17 rfl rfl)
theorem dJ2_add_2_18 : decode cJ2_add_2 18 = .ok (.iadd, 1) := dk_96 (dk_at dksJ2_add_2_0 18 rfl rfl)
theorem dJ2_add_2_19 : decode cJ2_add_2 19 = .ok (.putfield 48, 3) := dk_181 0 48 (dk_at dksJ2_add_2_0 19 rfl rfl)
theorem dJ2_add_2_22 : decode cJ2_add_2 22 = .ok (.return_, 1) := dk_177 (dk_at dksJ2_add_2_0 22 rfl rfl)
abbrev cJ2_grow : ByteArray := prog_38_method_7_code
def yJ2_grow : MethodName := ⟨RJ2, "grow", "()[Ljava/lang/Object;"⟩
def dkwJ2_grow_0 : List UInt8 := [42, 42, 180, 0, 48, 4, 96, 182, 0, 69, 176]
abbrev dktJ2_grow_0 : List UInt8 := dkwJ2_grow_0 ++ []
theorem dksJ2_grow_0 : cJ2_grow.data.toList.drop 0 = dktJ2_grow_0 := by decide +kernel
theorem dJ2_grow_0 : decode cJ2_grow 0 = .ok (.aload_n 0, 1) := dk_42 (dk_at dksJ2_grow_0 0 rfl rfl)
theorem dJ2_grow_1 : decode cJ2_grow 1 = .ok (.aload_n 0, 1) := dk_42 (dk_at dksJ2_grow_0 1 rfl rfl)
theorem dJ2_grow_2 : decode cJ2_grow 2 = .ok (.getfield 48, 3) := dk_180 0 48 (dk_at dksJ2_grow_0 2 rfl rfl)
theorem dJ2_grow_5 : decode cJ2_grow 5 = .ok (.iconst 1, 1) := dk_4 (dk_at dksJ2_grow_0 5 rfl rfl)
theorem dJ2_grow_6 : decode cJ2_grow 6 = .ok (.iadd, 1) := dk_96 (dk_at dksJ2_grow_0 6 rfl rfl)
theorem dJ2_grow_7 : decode cJ2_grow 7 = .ok (.invokevirtual 69, 3) := dk_182 0 69 (dk_at dksJ2_grow_0 7 rfl rfl)
theorem dJ2_grow_10 : decode cJ2_grow 10 = .ok (.areturn, 1) := dk_176 (dk_at dksJ2_grow_0 10 rfl rfl)
abbrev cJ2_grow_2 : ByteArray := prog_38_method_6_code
def yJ2_grow_2 : MethodName := ⟨RJ2, "grow", "(I)[Ljava/lang/Object;"⟩
def dkwJ2_grow_2_2 : List UInt8 := [27, 184, 0, 79, 189, 0, 7, 90, 181, 0, 9, 176]
abbrev dktJ2_grow_2_2 : List UInt8 := dkwJ2_grow_2_2 ++ []
def dkwJ2_grow_2_1 : List UInt8 := [28, 4, 122, 184, 0, 73, 62, 42, 42, 180, 0, 9, 29, 184, 0, 66, 90, 181, 0, 9, 176, 42, 16, 10]
abbrev dktJ2_grow_2_1 : List UInt8 := dkwJ2_grow_2_1 ++ dktJ2_grow_2_2
def dkwJ2_grow_2_0 : List UInt8 := [42, 180, 0, 9, 190, 61, 28, 157, 0, 13, 42, 180, 0, 9, 178, 0, 39, 165, 0, 28, 28, 27, 28, 100]
abbrev dktJ2_grow_2_0 : List UInt8 := dkwJ2_grow_2_0 ++ dktJ2_grow_2_1
theorem dksJ2_grow_2_0 : cJ2_grow_2.data.toList.drop 0 = dktJ2_grow_2_0 := by decide +kernel
theorem dksJ2_grow_2_1 : cJ2_grow_2.data.toList.drop 24 = dktJ2_grow_2_1 := dk_seg dksJ2_grow_2_0 24 rfl rfl
theorem dksJ2_grow_2_2 : cJ2_grow_2.data.toList.drop 48 = dktJ2_grow_2_2 := dk_seg dksJ2_grow_2_1 24 rfl rfl
theorem dJ2_grow_2_0 : decode cJ2_grow_2 0 = .ok (.aload_n 0, 1) := dk_42 (dk_at dksJ2_grow_2_0 0 rfl rfl)
theorem dJ2_grow_2_1 : decode cJ2_grow_2 1 = .ok (.getfield 9, 3) := dk_180 0 9 (dk_at dksJ2_grow_2_0 1 rfl rfl)
theorem dJ2_grow_2_4 : decode cJ2_grow_2 4 = .ok (.arraylength, 1) := dk_190 (dk_at dksJ2_grow_2_0 4 rfl rfl)
theorem dJ2_grow_2_5 : decode cJ2_grow_2 5 = .ok (.istore_n 2, 1) := dk_61 (dk_at dksJ2_grow_2_0 5 rfl rfl)
theorem dJ2_grow_2_6 : decode cJ2_grow_2 6 = .ok (.iload_n 2, 1) := dk_28 (dk_at dksJ2_grow_2_0 6 rfl rfl)
theorem dJ2_grow_2_7 : decode cJ2_grow_2 7 = .ok (.ifCond .gt 13, 3) := dk_157 0 13 (dk_at dksJ2_grow_2_0 7 rfl rfl)
theorem dJ2_grow_2_10 : decode cJ2_grow_2 10 = .ok (.aload_n 0, 1) := dk_42 (dk_at dksJ2_grow_2_0 10 rfl rfl)
theorem dJ2_grow_2_11 : decode cJ2_grow_2 11 = .ok (.getfield 9, 3) := dk_180 0 9 (dk_at dksJ2_grow_2_0 11 rfl rfl)
theorem dJ2_grow_2_14 : decode cJ2_grow_2 14 = .ok (.getstatic 39, 3) := dk_178 0 39 (dk_at dksJ2_grow_2_0 14 rfl rfl)
theorem dJ2_grow_2_17 : decode cJ2_grow_2 17 = .ok (.if_acmp .eq 28, 3) := dk_165 0 28 (dk_at dksJ2_grow_2_0 17 rfl rfl)
theorem dJ2_grow_2_20 : decode cJ2_grow_2 20 = .ok (.iload_n 2, 1) := dk_28 (dk_at dksJ2_grow_2_0 20 rfl rfl)
theorem dJ2_grow_2_21 : decode cJ2_grow_2 21 = .ok (.iload_n 1, 1) := dk_27 (dk_at dksJ2_grow_2_0 21 rfl rfl)
theorem dJ2_grow_2_22 : decode cJ2_grow_2 22 = .ok (.iload_n 2, 1) := dk_28 (dk_at dksJ2_grow_2_0 22 rfl rfl)
theorem dJ2_grow_2_23 : decode cJ2_grow_2 23 = .ok (.isub, 1) := dk_100 (dk_at dksJ2_grow_2_0 23 rfl rfl)
theorem dJ2_grow_2_24 : decode cJ2_grow_2 24 = .ok (.iload_n 2, 1) := dk_28 (dk_at dksJ2_grow_2_1 0 rfl rfl)
theorem dJ2_grow_2_25 : decode cJ2_grow_2 25 = .ok (.iconst 1, 1) := dk_4 (dk_at dksJ2_grow_2_1 1 rfl rfl)
theorem dJ2_grow_2_26 : decode cJ2_grow_2 26 = .ok (.ishr, 1) := dk_122 (dk_at dksJ2_grow_2_1 2 rfl rfl)
theorem dJ2_grow_2_27 : decode cJ2_grow_2 27 = .ok (.invokestatic 73, 3) := dk_184 0 73 (dk_at dksJ2_grow_2_1 3 rfl rfl)
theorem dJ2_grow_2_30 : decode cJ2_grow_2 30 = .ok (.istore_n 3, 1) := dk_62 (dk_at dksJ2_grow_2_1 6 rfl rfl)
theorem dJ2_grow_2_31 : decode cJ2_grow_2 31 = .ok (.aload_n 0, 1) := dk_42 (dk_at dksJ2_grow_2_1 7 rfl rfl)
theorem dJ2_grow_2_32 : decode cJ2_grow_2 32 = .ok (.aload_n 0, 1) := dk_42 (dk_at dksJ2_grow_2_1 8 rfl rfl)
theorem dJ2_grow_2_33 : decode cJ2_grow_2 33 = .ok (.getfield 9, 3) := dk_180 0 9 (dk_at dksJ2_grow_2_1 9 rfl rfl)
theorem dJ2_grow_2_36 : decode cJ2_grow_2 36 = .ok (.iload_n 3, 1) := dk_29 (dk_at dksJ2_grow_2_1 12 rfl rfl)
theorem dJ2_grow_2_37 : decode cJ2_grow_2 37 = .ok (.invokestatic 66, 3) := dk_184 0 66 (dk_at dksJ2_grow_2_1 13 rfl rfl)
theorem dJ2_grow_2_40 : decode cJ2_grow_2 40 = .ok (.dup_x1, 1) := dk_90 (dk_at dksJ2_grow_2_1 16 rfl rfl)
theorem dJ2_grow_2_41 : decode cJ2_grow_2 41 = .ok (.putfield 9, 3) := dk_181 0 9 (dk_at dksJ2_grow_2_1 17 rfl rfl)
theorem dJ2_grow_2_44 : decode cJ2_grow_2 44 = .ok (.areturn, 1) := dk_176 (dk_at dksJ2_grow_2_1 20 rfl rfl)
theorem dJ2_grow_2_45 : decode cJ2_grow_2 45 = .ok (.aload_n 0, 1) := dk_42 (dk_at dksJ2_grow_2_1 21 rfl rfl)
theorem dJ2_grow_2_46 : decode cJ2_grow_2 46 = .ok (.bipush 10, 2) := dk_16 10 (dk_at dksJ2_grow_2_1 22 rfl rfl)
theorem dJ2_grow_2_48 : decode cJ2_grow_2 48 = .ok (.iload_n 1, 1) := dk_27 (dk_at dksJ2_grow_2_2 0 rfl rfl)
theorem dJ2_grow_2_49 : decode cJ2_grow_2 49 = .ok (.invokestatic 79, 3) := dk_184 0 79 (dk_at dksJ2_grow_2_2 1 rfl rfl)
theorem dJ2_grow_2_52 : decode cJ2_grow_2 52 = .ok (.anewarray 7, 3) := dk_189 0 7 (dk_at dksJ2_grow_2_2 4 rfl rfl)
theorem dJ2_grow_2_55 : decode cJ2_grow_2 55 = .ok (.dup_x1, 1) := dk_90 (dk_at dksJ2_grow_2_2 7 rfl rfl)
theorem dJ2_grow_2_56 : decode cJ2_grow_2 56 = .ok (.putfield 9, 3) := dk_181 0 9 (dk_at dksJ2_grow_2_2 8 rfl rfl)
theorem dJ2_grow_2_59 : decode cJ2_grow_2 59 = .ok (.areturn, 1) := dk_176 (dk_at dksJ2_grow_2_2 11 rfl rfl)
abbrev cJ2_get : ByteArray := prog_38_method_20_code
def yJ2_get : MethodName := ⟨RJ2, "get", "(I)Ljava/lang/Object;"⟩
def dkwJ2_get_0 : List UInt8 := [27, 42, 180, 0, 48, 184, 0, 118, 87, 42, 27, 182, 0, 123, 176]
abbrev dktJ2_get_0 : List UInt8 := dkwJ2_get_0 ++ []
theorem dksJ2_get_0 : cJ2_get.data.toList.drop 0 = dktJ2_get_0 := by decide +kernel
theorem dJ2_get_0 : decode cJ2_get 0 = .ok (.iload_n 1, 1) := dk_27 (dk_at dksJ2_get_0 0 rfl rfl)
theorem dJ2_get_1 : decode cJ2_get 1 = .ok (.aload_n 0, 1) := dk_42 (dk_at dksJ2_get_0 1 rfl rfl)
theorem dJ2_get_2 : decode cJ2_get 2 = .ok (.getfield 48, 3) := dk_180 0 48 (dk_at dksJ2_get_0 2 rfl rfl)
theorem dJ2_get_5 : decode cJ2_get 5 = .ok (.invokestatic 118, 3) := dk_184 0 118 (dk_at dksJ2_get_0 5 rfl rfl)
theorem dJ2_get_8 : decode cJ2_get 8 = .ok (.pop, 1) := dk_87 (dk_at dksJ2_get_0 8 rfl rfl)
theorem dJ2_get_9 : decode cJ2_get 9 = .ok (.aload_n 0, 1) := dk_42 (dk_at dksJ2_get_0 9 rfl rfl)
theorem dJ2_get_10 : decode cJ2_get 10 = .ok (.iload_n 1, 1) := dk_27 (dk_at dksJ2_get_0 10 rfl rfl)
theorem dJ2_get_11 : decode cJ2_get 11 = .ok (.invokevirtual 123, 3) := dk_182 0 123 (dk_at dksJ2_get_0 11 rfl rfl)
theorem dJ2_get_14 : decode cJ2_get 14 = .ok (.areturn, 1) := dk_176 (dk_at dksJ2_get_0 14 rfl rfl)
abbrev cJ2_elementData : ByteArray := prog_38_method_18_code
def yJ2_elementData : MethodName := ⟨RJ2, "elementData", "(I)Ljava/lang/Object;"⟩
def dkwJ2_elementData_0 : List UInt8 := [42, 180, 0, 9, 27, 50, 176]
abbrev dktJ2_elementData_0 : List UInt8 := dkwJ2_elementData_0 ++ []
theorem dksJ2_elementData_0 : cJ2_elementData.data.toList.drop 0 = dktJ2_elementData_0 := by decide +kernel
theorem dJ2_elementData_0 : decode cJ2_elementData 0 = .ok (.aload_n 0, 1) := dk_42 (dk_at dksJ2_elementData_0 0 rfl rfl)
theorem dJ2_elementData_1 : decode cJ2_elementData 1 = .ok (.getfield 9, 3) := dk_180 0 9 (dk_at dksJ2_elementData_0 1 rfl rfl)
theorem dJ2_elementData_4 : decode cJ2_elementData 4 = .ok (.iload_n 1, 1) := dk_27 (dk_at dksJ2_elementData_0 4 rfl rfl)
theorem dJ2_elementData_5 : decode cJ2_elementData 5 = .ok (.aaload, 1) := dk_50 (dk_at dksJ2_elementData_0 5 rfl rfl)
theorem dJ2_elementData_6 : decode cJ2_elementData 6 = .ok (.areturn, 1) := dk_176 (dk_at dksJ2_elementData_0 6 rfl rfl)
abbrev cJ2_isEmpty : ByteArray := prog_38_method_9_code
def yJ2_isEmpty : MethodName := ⟨RJ2, "isEmpty", "()Z"⟩
def dkwJ2_isEmpty_0 : List UInt8 := [42, 180, 0, 48, 154, 0, 7, 4, 167, 0, 4, 3, 172]
abbrev dktJ2_isEmpty_0 : List UInt8 := dkwJ2_isEmpty_0 ++ []
theorem dksJ2_isEmpty_0 : cJ2_isEmpty.data.toList.drop 0 = dktJ2_isEmpty_0 := by decide +kernel
theorem dJ2_isEmpty_0 : decode cJ2_isEmpty 0 = .ok (.aload_n 0, 1) := dk_42 (dk_at dksJ2_isEmpty_0 0 rfl rfl)
theorem dJ2_isEmpty_1 : decode cJ2_isEmpty 1 = .ok (.getfield 48, 3) := dk_180 0 48 (dk_at dksJ2_isEmpty_0 1 rfl rfl)
theorem dJ2_isEmpty_4 : decode cJ2_isEmpty 4 = .ok (.ifCond .ne 7, 3) := dk_154 0 7 (dk_at dksJ2_isEmpty_0 4 rfl rfl)
theorem dJ2_isEmpty_7 : decode cJ2_isEmpty 7 = .ok (.iconst 1, 1) := dk_4 (dk_at dksJ2_isEmpty_0 7 rfl rfl)
theorem dJ2_isEmpty_8 : decode cJ2_isEmpty 8 = .ok (.goto 4, 3) := dk_167 0 4 (dk_at dksJ2_isEmpty_0 8 rfl rfl)
theorem dJ2_isEmpty_11 : decode cJ2_isEmpty 11 = .ok (.iconst 0, 1) := dk_3 (dk_at dksJ2_isEmpty_0 11 rfl rfl)
theorem dJ2_isEmpty_12 : decode cJ2_isEmpty 12 = .ok (.ireturn, 1) := dk_172 (dk_at dksJ2_isEmpty_0 12 rfl rfl)
abbrev cJ2_remove : ByteArray := prog_38_method_29_code
def yJ2_remove : MethodName := ⟨RJ2, "remove", "(I)Ljava/lang/Object;"⟩
def dkwJ2_remove_1 : List UInt8 := [45, 176]
abbrev dktJ2_remove_1 : List UInt8 := dkwJ2_remove_1 ++ []
def dkwJ2_remove_0 : List UInt8 := [27, 42, 180, 0, 48, 184, 0, 118, 87, 42, 180, 0, 9, 77, 44, 27, 50, 78, 42, 44, 27, 182, 0, 144]
abbrev dktJ2_remove_0 : List UInt8 := dkwJ2_remove_0 ++ dktJ2_remove_1
theorem dksJ2_remove_0 : cJ2_remove.data.toList.drop 0 = dktJ2_remove_0 := by decide +kernel
theorem dksJ2_remove_1 : cJ2_remove.data.toList.drop 24 = dktJ2_remove_1 := dk_seg dksJ2_remove_0 24 rfl rfl
theorem dJ2_remove_0 : decode cJ2_remove 0 = .ok (.iload_n 1, 1) := dk_27 (dk_at dksJ2_remove_0 0 rfl rfl)
theorem dJ2_remove_1 : decode cJ2_remove 1 = .ok (.aload_n 0, 1) := dk_42 (dk_at dksJ2_remove_0 1 rfl rfl)
theorem dJ2_remove_2 : decode cJ2_remove 2 = .ok (.getfield 48, 3) := dk_180 0 48 (dk_at dksJ2_remove_0 2 rfl rfl)
theorem dJ2_remove_5 : decode cJ2_remove 5 = .ok (.invokestatic 118, 3) := dk_184 0 118 (dk_at dksJ2_remove_0 5 rfl rfl)
theorem dJ2_remove_8 : decode cJ2_remove 8 = .ok (.pop, 1) := dk_87 (dk_at dksJ2_remove_0 8 rfl rfl)
theorem dJ2_remove_9 : decode cJ2_remove 9 = .ok (.aload_n 0, 1) := dk_42 (dk_at dksJ2_remove_0 9 rfl rfl)
theorem dJ2_remove_10 : decode cJ2_remove 10 = .ok (.getfield 9, 3) := dk_180 0 9 (dk_at dksJ2_remove_0 10 rfl rfl)
theorem dJ2_remove_13 : decode cJ2_remove 13 = .ok (.astore_n 2, 1) := dk_77 (dk_at dksJ2_remove_0 13 rfl rfl)
theorem dJ2_remove_14 : decode cJ2_remove 14 = .ok (.aload_n 2, 1) := dk_44 (dk_at dksJ2_remove_0 14 rfl rfl)
theorem dJ2_remove_15 : decode cJ2_remove 15 = .ok (.iload_n 1, 1) := dk_27 (dk_at dksJ2_remove_0 15 rfl rfl)
theorem dJ2_remove_16 : decode cJ2_remove 16 = .ok (.aaload, 1) := dk_50 (dk_at dksJ2_remove_0 16 rfl rfl)
theorem dJ2_remove_17 : decode cJ2_remove 17 = .ok (.astore_n 3, 1) := dk_78 (dk_at dksJ2_remove_0 17 rfl rfl)
theorem dJ2_remove_18 : decode cJ2_remove 18 = .ok (.aload_n 0, 1) := dk_42 (dk_at dksJ2_remove_0 18 rfl rfl)
theorem dJ2_remove_19 : decode cJ2_remove 19 = .ok (.aload_n 2, 1) := dk_44 (dk_at dksJ2_remove_0 19 rfl rfl)
theorem dJ2_remove_20 : decode cJ2_remove 20 = .ok (.iload_n 1, 1) := dk_27 (dk_at dksJ2_remove_0 20 rfl rfl)
theorem dJ2_remove_21 : decode cJ2_remove 21 = .ok (.invokevirtual 144, 3) := dk_182 0 144 (dk_at dksJ2_remove_0 21 rfl rfl)
theorem dJ2_remove_24 : decode cJ2_remove 24 = .ok (.aload_n 3, 1) := dk_45 (dk_at dksJ2_remove_1 0 rfl rfl)
theorem dJ2_remove_25 : decode cJ2_remove 25 = .ok (.areturn, 1) := dk_176 (dk_at dksJ2_remove_1 1 rfl rfl)
abbrev cJ2_fastRemove : ByteArray := prog_38_method_39_code
def yJ2_fastRemove : MethodName := ⟨RJ2, "fastRemove", "([Ljava/lang/Object;I)V"⟩
def dkwJ2_fastRemove_1 : List UInt8 := [4, 96, 43, 28, 29, 28, 100, 184, 0, 112, 43, 42, 29, 90, 181, 0, 48, 1, 83, 177]
abbrev dktJ2_fastRemove_1 : List UInt8 := dkwJ2_fastRemove_1 ++ []
def dkwJ2_fastRemove_0 : List UInt8 := [42, 89, 180, 0, 63, 4, 96, 181, 0, 63, 42, 180, 0, 48, 4, 100, 89, 62, 28, 164, 0, 15, 43, 28]
abbrev dktJ2_fastRemove_0 : List UInt8 := dkwJ2_fastRemove_0 ++ dktJ2_fastRemove_1
theorem dksJ2_fastRemove_0 : cJ2_fastRemove.data.toList.drop 0 = dktJ2_fastRemove_0 := by decide +kernel
theorem dksJ2_fastRemove_1 : cJ2_fastRemove.data.toList.drop 24 = dktJ2_fastRemove_1 := dk_seg dksJ2_fastRemove_0 24 rfl rfl
theorem dJ2_fastRemove_0 : decode cJ2_fastRemove 0 = .ok (.aload_n 0, 1) := dk_42 (dk_at dksJ2_fastRemove_0 0 rfl rfl)
theorem dJ2_fastRemove_1 : decode cJ2_fastRemove 1 = .ok (.dup, 1) := dk_89 (dk_at dksJ2_fastRemove_0 1 rfl rfl)
theorem dJ2_fastRemove_2 : decode cJ2_fastRemove 2 = .ok (.getfield 63, 3) := dk_180 0 63 (dk_at dksJ2_fastRemove_0 2 rfl rfl)
theorem dJ2_fastRemove_5 : decode cJ2_fastRemove 5 = .ok (.iconst 1, 1) := dk_4 (dk_at dksJ2_fastRemove_0 5 rfl rfl)
theorem dJ2_fastRemove_6 : decode cJ2_fastRemove 6 = .ok (.iadd, 1) := dk_96 (dk_at dksJ2_fastRemove_0 6 rfl rfl)
theorem dJ2_fastRemove_7 : decode cJ2_fastRemove 7 = .ok (.putfield 63, 3) := dk_181 0 63 (dk_at dksJ2_fastRemove_0 7 rfl rfl)
theorem dJ2_fastRemove_10 : decode cJ2_fastRemove 10 = .ok (.aload_n 0, 1) := dk_42 (dk_at dksJ2_fastRemove_0 10 rfl rfl)
theorem dJ2_fastRemove_11 : decode cJ2_fastRemove 11 = .ok (.getfield 48, 3) := dk_180 0 48 (dk_at dksJ2_fastRemove_0 11 rfl rfl)
theorem dJ2_fastRemove_14 : decode cJ2_fastRemove 14 = .ok (.iconst 1, 1) := dk_4 (dk_at dksJ2_fastRemove_0 14 rfl rfl)
theorem dJ2_fastRemove_15 : decode cJ2_fastRemove 15 = .ok (.isub, 1) := dk_100 (dk_at dksJ2_fastRemove_0 15 rfl rfl)
theorem dJ2_fastRemove_16 : decode cJ2_fastRemove 16 = .ok (.dup, 1) := dk_89 (dk_at dksJ2_fastRemove_0 16 rfl rfl)
theorem dJ2_fastRemove_17 : decode cJ2_fastRemove 17 = .ok (.istore_n 3, 1) := dk_62 (dk_at dksJ2_fastRemove_0 17 rfl rfl)
theorem dJ2_fastRemove_18 : decode cJ2_fastRemove 18 = .ok (.iload_n 2, 1) := dk_28 (dk_at dksJ2_fastRemove_0 18 rfl rfl)
theorem dJ2_fastRemove_19 : decode cJ2_fastRemove 19 = .ok (.if_icmp .le 15, 3) := dk_164 0 15 (dk_at dksJ2_fastRemove_0 19 rfl rfl)
theorem dJ2_fastRemove_22 : decode cJ2_fastRemove 22 = .ok (.aload_n 1, 1) := dk_43 (dk_at dksJ2_fastRemove_0 22 rfl rfl)
theorem dJ2_fastRemove_23 : decode cJ2_fastRemove 23 = .ok (.iload_n 2, 1) := dk_28 (dk_at dksJ2_fastRemove_0 23 rfl rfl)
theorem dJ2_fastRemove_24 : decode cJ2_fastRemove 24 = .ok (.iconst 1, 1) := dk_4 (dk_at dksJ2_fastRemove_1 0 rfl rfl)
theorem dJ2_fastRemove_25 : decode cJ2_fastRemove 25 = .ok (.iadd, 1) := dk_96 (dk_at dksJ2_fastRemove_1 1 rfl rfl)
theorem dJ2_fastRemove_26 : decode cJ2_fastRemove 26 = .ok (.aload_n 1, 1) := dk_43 (dk_at dksJ2_fastRemove_1 2 rfl rfl)
theorem dJ2_fastRemove_27 : decode cJ2_fastRemove 27 = .ok (.iload_n 2, 1) := dk_28 (dk_at dksJ2_fastRemove_1 3 rfl rfl)
theorem dJ2_fastRemove_28 : decode cJ2_fastRemove 28 = .ok (.iload_n 3, 1) := dk_29 (dk_at dksJ2_fastRemove_1 4 rfl rfl)
theorem dJ2_fastRemove_29 : decode cJ2_fastRemove 29 = .ok (.iload_n 2, 1) := dk_28 (dk_at dksJ2_fastRemove_1 5 rfl rfl)
theorem dJ2_fastRemove_30 : decode cJ2_fastRemove 30 = .ok (.isub, 1) := dk_100 (dk_at dksJ2_fastRemove_1 6 rfl rfl)
theorem dJ2_fastRemove_31 : decode cJ2_fastRemove 31 = .ok (.invokestatic 112, 3) := dk_184 0 112 (dk_at dksJ2_fastRemove_1 7 rfl rfl)
theorem dJ2_fastRemove_34 : decode cJ2_fastRemove 34 = .ok (.aload_n 1, 1) := dk_43 (dk_at dksJ2_fastRemove_1 10 rfl rfl)
theorem dJ2_fastRemove_35 : decode cJ2_fastRemove 35 = .ok (.aload_n 0, 1) := dk_42 (dk_at dksJ2_fastRemove_1 11 rfl rfl)
theorem dJ2_fastRemove_36 : decode cJ2_fastRemove 36 = .ok (.iload_n 3, 1) := dk_29 (dk_at dksJ2_fastRemove_1 12 rfl rfl)
theorem dJ2_fastRemove_37 : decode cJ2_fastRemove 37 = .ok (.dup_x1, 1) := dk_90 (dk_at dksJ2_fastRemove_1 13 rfl rfl)
theorem dJ2_fastRemove_38 : decode cJ2_fastRemove 38 = .ok (.putfield 48, 3) := dk_181 0 48 (dk_at dksJ2_fastRemove_1 14 rfl rfl)
theorem dJ2_fastRemove_41 : decode cJ2_fastRemove 41 = .ok (.aconst_null, 1) := dk_1 (dk_at dksJ2_fastRemove_1 17 rfl rfl)
theorem dJ2_fastRemove_42 : decode cJ2_fastRemove 42 = .ok (.aastore, 1) := dk_83 (dk_at dksJ2_fastRemove_1 18 rfl rfl)
theorem dJ2_fastRemove_43 : decode cJ2_fastRemove 43 = .ok (.return_, 1) := dk_177 (dk_at dksJ2_fastRemove_1 19 rfl rfl)
abbrev cJ2_indexOf : ByteArray := prog_38_method_11_code
def yJ2_indexOf : MethodName := ⟨RJ2, "indexOf", "(Ljava/lang/Object;)I"⟩
def dkwJ2_indexOf_0 : List UInt8 := [42, 43, 3, 42, 180, 0, 48, 182, 0, 89, 172]
abbrev dktJ2_indexOf_0 : List UInt8 := dkwJ2_indexOf_0 ++ []
theorem dksJ2_indexOf_0 : cJ2_indexOf.data.toList.drop 0 = dktJ2_indexOf_0 := by decide +kernel
theorem dJ2_indexOf_0 : decode cJ2_indexOf 0 = .ok (.aload_n 0, 1) := dk_42 (dk_at dksJ2_indexOf_0 0 rfl rfl)
theorem dJ2_indexOf_1 : decode cJ2_indexOf 1 = .ok (.aload_n 1, 1) := dk_43 (dk_at dksJ2_indexOf_0 1 rfl rfl)
theorem dJ2_indexOf_2 : decode cJ2_indexOf 2 = .ok (.iconst 0, 1) := dk_3 (dk_at dksJ2_indexOf_0 2 rfl rfl)
theorem dJ2_indexOf_3 : decode cJ2_indexOf 3 = .ok (.aload_n 0, 1) := dk_42 (dk_at dksJ2_indexOf_0 3 rfl rfl)
theorem dJ2_indexOf_4 : decode cJ2_indexOf 4 = .ok (.getfield 48, 3) := dk_180 0 48 (dk_at dksJ2_indexOf_0 4 rfl rfl)
theorem dJ2_indexOf_7 : decode cJ2_indexOf 7 = .ok (.invokevirtual 89, 3) := dk_182 0 89 (dk_at dksJ2_indexOf_0 7 rfl rfl)
theorem dJ2_indexOf_10 : decode cJ2_indexOf 10 = .ok (.ireturn, 1) := dk_172 (dk_at dksJ2_indexOf_0 10 rfl rfl)
abbrev cJ2_indexOfRange : ByteArray := prog_38_method_12_code
def yJ2_indexOfRange : MethodName := ⟨RJ2, "indexOfRange", "(Ljava/lang/Object;II)I"⟩
def dkwJ2_indexOfRange_2 : List UInt8 := [43, 25, 4, 21, 5, 50, 182, 0, 93, 153, 0, 6, 21, 5, 172, 132, 5, 1, 167, 255, 232, 2, 172]
abbrev dktJ2_indexOfRange_2 : List UInt8 := dkwJ2_indexOfRange_2 ++ []
def dkwJ2_indexOfRange_1 : List UInt8 := [199, 0, 6, 21, 5, 172, 132, 5, 1, 167, 255, 236, 167, 0, 33, 28, 54, 5, 21, 5, 29, 162, 0, 24]
abbrev dktJ2_indexOfRange_1 : List UInt8 := dkwJ2_indexOfRange_1 ++ dktJ2_indexOfRange_2
def dkwJ2_indexOfRange_0 : List UInt8 := [42, 180, 0, 9, 58, 4, 43, 199, 0, 32, 28, 54, 5, 21, 5, 29, 162, 0, 20, 25, 4, 21, 5, 50]
abbrev dktJ2_indexOfRange_0 : List UInt8 := dkwJ2_indexOfRange_0 ++ dktJ2_indexOfRange_1
theorem dksJ2_indexOfRange_0 : cJ2_indexOfRange.data.toList.drop 0 = dktJ2_indexOfRange_0 := by decide +kernel
theorem dksJ2_indexOfRange_1 : cJ2_indexOfRange.data.toList.drop 24 = dktJ2_indexOfRange_1 := dk_seg dksJ2_indexOfRange_0 24 rfl rfl
theorem dksJ2_indexOfRange_2 : cJ2_indexOfRange.data.toList.drop 48 = dktJ2_indexOfRange_2 := dk_seg dksJ2_indexOfRange_1 24 rfl rfl
theorem dJ2_indexOfRange_0 : decode cJ2_indexOfRange 0 = .ok (.aload_n 0, 1) := dk_42 (dk_at dksJ2_indexOfRange_0 0 rfl rfl)
theorem dJ2_indexOfRange_1 : decode cJ2_indexOfRange 1 = .ok (.getfield 9, 3) := dk_180 0 9 (dk_at dksJ2_indexOfRange_0 1 rfl rfl)
theorem dJ2_indexOfRange_4 : decode cJ2_indexOfRange 4 = .ok (.astore 4, 2) := dk_58 4 (dk_at dksJ2_indexOfRange_0 4 rfl rfl)
theorem dJ2_indexOfRange_6 : decode cJ2_indexOfRange 6 = .ok (.aload_n 1, 1) := dk_43 (dk_at dksJ2_indexOfRange_0 6 rfl rfl)
theorem dJ2_indexOfRange_7 : decode cJ2_indexOfRange 7 = .ok (.ifnonnull 32, 3) := dk_199 0 32 (dk_at dksJ2_indexOfRange_0 7 rfl rfl)
theorem dJ2_indexOfRange_10 : decode cJ2_indexOfRange 10 = .ok (.iload_n 2, 1) := dk_28 (dk_at dksJ2_indexOfRange_0 10 rfl rfl)
theorem dJ2_indexOfRange_11 : decode cJ2_indexOfRange 11 = .ok (.istore 5, 2) := dk_54 5 (dk_at dksJ2_indexOfRange_0 11 rfl rfl)
theorem dJ2_indexOfRange_13 : decode cJ2_indexOfRange 13 = .ok (.iload 5, 2) := dk_21 5 (dk_at dksJ2_indexOfRange_0 13 rfl rfl)
theorem dJ2_indexOfRange_15 : decode cJ2_indexOfRange 15 = .ok (.iload_n 3, 1) := dk_29 (dk_at dksJ2_indexOfRange_0 15 rfl rfl)
theorem dJ2_indexOfRange_16 : decode cJ2_indexOfRange 16 = .ok (.if_icmp .ge 20, 3) := dk_162 0 20 (dk_at dksJ2_indexOfRange_0 16 rfl rfl)
theorem dJ2_indexOfRange_19 : decode cJ2_indexOfRange 19 = .ok (.aload 4, 2) := dk_25 4 (dk_at dksJ2_indexOfRange_0 19 rfl rfl)
theorem dJ2_indexOfRange_21 : decode cJ2_indexOfRange 21 = .ok (.iload 5, 2) := dk_21 5 (dk_at dksJ2_indexOfRange_0 21 rfl rfl)
theorem dJ2_indexOfRange_23 : decode cJ2_indexOfRange 23 = .ok (.aaload, 1) := dk_50 (dk_at dksJ2_indexOfRange_0 23 rfl rfl)
theorem dJ2_indexOfRange_24 : decode cJ2_indexOfRange 24 = .ok (.ifnonnull 6, 3) := dk_199 0 6 (dk_at dksJ2_indexOfRange_1 0 rfl rfl)
theorem dJ2_indexOfRange_27 : decode cJ2_indexOfRange 27 = .ok (.iload 5, 2) := dk_21 5 (dk_at dksJ2_indexOfRange_1 3 rfl rfl)
theorem dJ2_indexOfRange_29 : decode cJ2_indexOfRange 29 = .ok (.ireturn, 1) := dk_172 (dk_at dksJ2_indexOfRange_1 5 rfl rfl)
theorem dJ2_indexOfRange_30 : decode cJ2_indexOfRange 30 = .ok (.iinc 5 1, 3) := dk_132 5 1 (dk_at dksJ2_indexOfRange_1 6 rfl rfl)
theorem dJ2_indexOfRange_33 : decode cJ2_indexOfRange 33 = .ok (.goto (-20), 3) := dk_167 255 236 (dk_at dksJ2_indexOfRange_1 9 rfl rfl)
theorem dJ2_indexOfRange_36 : decode cJ2_indexOfRange 36 = .ok (.goto 33, 3) := dk_167 0 33 (dk_at dksJ2_indexOfRange_1 12 rfl rfl)
theorem dJ2_indexOfRange_39 : decode cJ2_indexOfRange 39 = .ok (.iload_n 2, 1) := dk_28 (dk_at dksJ2_indexOfRange_1 15 rfl rfl)
theorem dJ2_indexOfRange_40 : decode cJ2_indexOfRange 40 = .ok (.istore 5, 2) := dk_54 5 (dk_at dksJ2_indexOfRange_1 16 rfl rfl)
theorem dJ2_indexOfRange_42 : decode cJ2_indexOfRange 42 = .ok (.iload 5, 2) := dk_21 5 (dk_at dksJ2_indexOfRange_1 18 rfl rfl)
theorem dJ2_indexOfRange_44 : decode cJ2_indexOfRange 44 = .ok (.iload_n 3, 1) := dk_29 (dk_at dksJ2_indexOfRange_1 20 rfl rfl)
theorem dJ2_indexOfRange_45 : decode cJ2_indexOfRange 45 = .ok (.if_icmp .ge 24, 3) := dk_162 0 24 (dk_at dksJ2_indexOfRange_1 21 rfl rfl)
theorem dJ2_indexOfRange_48 : decode cJ2_indexOfRange 48 = .ok (.aload_n 1, 1) := dk_43 (dk_at dksJ2_indexOfRange_2 0 rfl rfl)
theorem dJ2_indexOfRange_49 : decode cJ2_indexOfRange 49 = .ok (.aload 4, 2) := dk_25 4 (dk_at dksJ2_indexOfRange_2 1 rfl rfl)
theorem dJ2_indexOfRange_51 : decode cJ2_indexOfRange 51 = .ok (.iload 5, 2) := dk_21 5 (dk_at dksJ2_indexOfRange_2 3 rfl rfl)
theorem dJ2_indexOfRange_53 : decode cJ2_indexOfRange 53 = .ok (.aaload, 1) := dk_50 (dk_at dksJ2_indexOfRange_2 5 rfl rfl)
theorem dJ2_indexOfRange_54 : decode cJ2_indexOfRange 54 = .ok (.invokevirtual 93, 3) := dk_182 0 93 (dk_at dksJ2_indexOfRange_2 6 rfl rfl)
theorem dJ2_indexOfRange_57 : decode cJ2_indexOfRange 57 = .ok (.ifCond .eq 6, 3) := dk_153 0 6 (dk_at dksJ2_indexOfRange_2 9 rfl rfl)
theorem dJ2_indexOfRange_60 : decode cJ2_indexOfRange 60 = .ok (.iload 5, 2) := dk_21 5 (dk_at dksJ2_indexOfRange_2 12 rfl rfl)
theorem dJ2_indexOfRange_62 : decode cJ2_indexOfRange 62 = .ok (.ireturn, 1) := dk_172 (dk_at dksJ2_indexOfRange_2 14 rfl rfl)
theorem dJ2_indexOfRange_63 : decode cJ2_indexOfRange 63 = .ok (.iinc 5 1, 3) := dk_132 5 1 (dk_at dksJ2_indexOfRange_2 15 rfl rfl)
theorem dJ2_indexOfRange_66 : decode cJ2_indexOfRange 66 = .ok (.goto (-24), 3) := dk_167 255 232 (dk_at dksJ2_indexOfRange_2 18 rfl rfl)
theorem dJ2_indexOfRange_69 : decode cJ2_indexOfRange 69 = .ok (.iconst (-1), 1) := dk_2 (dk_at dksJ2_indexOfRange_2 21 rfl rfl)
theorem dJ2_indexOfRange_70 : decode cJ2_indexOfRange 70 = .ok (.ireturn, 1) := dk_172 (dk_at dksJ2_indexOfRange_2 22 rfl rfl)
abbrev cJ3_init : ByteArray := prog_33_method_1_code
def yJ3_init : MethodName := ⟨RJ3, "<init>", "()V"⟩
def dkwJ3_init_1 : List UInt8 := [182, 0, 27, 87, 177]
abbrev dktJ3_init_1 : List UInt8 := dkwJ3_init_1 ++ []
def dkwJ3_init_0 : List UInt8 := [42, 183, 0, 1, 42, 42, 181, 0, 7, 42, 178, 0, 13, 181, 0, 17, 42, 178, 0, 20, 181, 0, 24, 42]
abbrev dktJ3_init_0 : List UInt8 := dkwJ3_init_0 ++ dktJ3_init_1
theorem dksJ3_init_0 : cJ3_init.data.toList.drop 0 = dktJ3_init_0 := by decide +kernel
theorem dksJ3_init_1 : cJ3_init.data.toList.drop 24 = dktJ3_init_1 := dk_seg dksJ3_init_0 24 rfl rfl
theorem dJ3_init_0 : decode cJ3_init 0 = .ok (.aload_n 0, 1) := dk_42 (dk_at dksJ3_init_0 0 rfl rfl)
theorem dJ3_init_1 : decode cJ3_init 1 = .ok (.invokespecial 1, 3) := dk_183 0 1 (dk_at dksJ3_init_0 1 rfl rfl)
theorem dJ3_init_4 : decode cJ3_init 4 = .ok (.aload_n 0, 1) := dk_42 (dk_at dksJ3_init_0 4 rfl rfl)
theorem dJ3_init_5 : decode cJ3_init 5 = .ok (.aload_n 0, 1) := dk_42 (dk_at dksJ3_init_0 5 rfl rfl)
theorem dJ3_init_6 : decode cJ3_init 6 = .ok (.putfield 7, 3) := dk_181 0 7 (dk_at dksJ3_init_0 6 rfl rfl)
theorem dJ3_init_9 : decode cJ3_init 9 = .ok (.aload_n 0, 1) := dk_42 (dk_at dksJ3_init_0 9 rfl rfl)
theorem dJ3_init_10 : decode cJ3_init 10 = .ok (.getstatic 13, 3) := dk_178 0 13 (dk_at dksJ3_init_0 10 rfl rfl)
theorem dJ3_init_13 : decode cJ3_init 13 = .ok (.putfield 17, 3) := dk_181 0 17 (dk_at dksJ3_init_0 13 rfl rfl)
theorem dJ3_init_16 : decode cJ3_init 16 = .ok (.aload_n 0, 1) := dk_42 (dk_at dksJ3_init_0 16 rfl rfl)
theorem dJ3_init_17 : decode cJ3_init 17 = .ok (.getstatic 20, 3) := dk_178 0 20 (dk_at dksJ3_init_0 17 rfl rfl)
theorem dJ3_init_20 : decode cJ3_init 20 = .ok (.putfield 24, 3) := dk_181 0 24 (dk_at dksJ3_init_0 20 rfl rfl)
theorem dJ3_init_23 : decode cJ3_init 23 = .ok (.aload_n 0, 1) := dk_42 (dk_at dksJ3_init_0 23 rfl rfl)
theorem dJ3_init_24 : decode cJ3_init 24 = .ok (.invokevirtual 27, 3) := dk_182 0 27 (dk_at dksJ3_init_1 0 rfl rfl)
theorem dJ3_init_27 : decode cJ3_init 27 = .ok (.pop, 1) := dk_87 (dk_at dksJ3_init_1 3 rfl rfl)
theorem dJ3_init_28 : decode cJ3_init 28 = .ok (.return_, 1) := dk_177 (dk_at dksJ3_init_1 4 rfl rfl)
abbrev cJ3_init_2 : ByteArray := prog_33_method_5_code
def yJ3_init_2 : MethodName := ⟨RJ3, "<init>", "(Ljava/lang/String;Ljava/lang/Throwable;ZZ)V"⟩
def dkwJ3_init_2_2 : List UInt8 := [44, 181, 0, 7, 29, 154, 0, 8, 42, 1, 181, 0, 24, 177]
abbrev dktJ3_init_2_2 : List UInt8 := dkwJ3_init_2_2 ++ []
def dkwJ3_init_2_1 : List UInt8 := [21, 4, 153, 0, 11, 42, 182, 0, 27, 87, 167, 0, 8, 42, 1, 181, 0, 17, 42, 43, 181, 0, 31, 42]
abbrev dktJ3_init_2_1 : List UInt8 := dkwJ3_init_2_1 ++ dktJ3_init_2_2
def dkwJ3_init_2_0 : List UInt8 := [42, 183, 0, 1, 42, 42, 181, 0, 7, 42, 178, 0, 13, 181, 0, 17, 42, 178, 0, 20, 181, 0, 24]
abbrev dktJ3_init_2_0 : List UInt8 := dkwJ3_init_2_0 ++ dktJ3_init_2_1
theorem dksJ3_init_2_0 : cJ3_init_2.data.toList.drop 0 = dktJ3_init_2_0 := by decide +kernel
theorem dksJ3_init_2_1 : cJ3_init_2.data.toList.drop 23 = dktJ3_init_2_1 := dk_seg dksJ3_init_2_0 23 rfl rfl
theorem dksJ3_init_2_2 : cJ3_init_2.data.toList.drop 47 = dktJ3_init_2_2 := dk_seg dksJ3_init_2_1 24 rfl rfl
theorem dJ3_init_2_0 : decode cJ3_init_2 0 = .ok (.aload_n 0, 1) := dk_42 (dk_at dksJ3_init_2_0 0 rfl rfl)
theorem dJ3_init_2_1 : decode cJ3_init_2 1 = .ok (.invokespecial 1, 3) := dk_183 0 1 (dk_at dksJ3_init_2_0 1 rfl rfl)
theorem dJ3_init_2_4 : decode cJ3_init_2 4 = .ok (.aload_n 0, 1) := dk_42 (dk_at dksJ3_init_2_0 4 rfl rfl)
theorem dJ3_init_2_5 : decode cJ3_init_2 5 = .ok (.aload_n 0, 1) := dk_42 (dk_at dksJ3_init_2_0 5 rfl rfl)
theorem dJ3_init_2_6 : decode cJ3_init_2 6 = .ok (.putfield 7, 3) := dk_181 0 7 (dk_at dksJ3_init_2_0 6 rfl rfl)
theorem dJ3_init_2_9 : decode cJ3_init_2 9 = .ok (.aload_n 0, 1) := dk_42 (dk_at dksJ3_init_2_0 9 rfl rfl)
theorem dJ3_init_2_10 : decode cJ3_init_2 10 = .ok (.getstatic 13, 3) := dk_178 0 13 (dk_at dksJ3_init_2_0 10 rfl rfl)
theorem dJ3_init_2_13 : decode cJ3_init_2 13 = .ok (.putfield 17, 3) := dk_181 0 17 (dk_at dksJ3_init_2_0 13 rfl rfl)
theorem dJ3_init_2_16 : decode cJ3_init_2 16 = .ok (.aload_n 0, 1) := dk_42 (dk_at dksJ3_init_2_0 16 rfl rfl)
theorem dJ3_init_2_17 : decode cJ3_init_2 17 = .ok (.getstatic 20, 3) := dk_178 0 20 (dk_at dksJ3_init_2_0 17 rfl rfl)
theorem dJ3_init_2_20 : decode cJ3_init_2 20 = .ok (.putfield 24, 3) := dk_181 0 24 (dk_at dksJ3_init_2_0 20 rfl rfl)
theorem dJ3_init_2_23 : decode cJ3_init_2 23 = .ok (.iload 4, 2) := dk_21 4 (dk_at dksJ3_init_2_1 0 rfl rfl)
theorem dJ3_init_2_25 : decode cJ3_init_2 25 = .ok (.ifCond .eq 11, 3) := dk_153 0 11 (dk_at dksJ3_init_2_1 2 rfl rfl)
theorem dJ3_init_2_28 : decode cJ3_init_2 28 = .ok (.aload_n 0, 1) := dk_42 (dk_at dksJ3_init_2_1 5 rfl rfl)
theorem dJ3_init_2_29 : decode cJ3_init_2 29 = .ok (.invokevirtual 27, 3) := dk_182 0 27 (dk_at dksJ3_init_2_1 6 rfl rfl)
theorem dJ3_init_2_32 : decode cJ3_init_2 32 = .ok (.pop, 1) := dk_87 (dk_at dksJ3_init_2_1 9 rfl rfl)
theorem dJ3_init_2_33 : decode cJ3_init_2 33 = .ok (.goto 8, 3) := dk_167 0 8 (dk_at dksJ3_init_2_1 10 rfl rfl)
theorem dJ3_init_2_36 : decode cJ3_init_2 36 = .ok (.aload_n 0, 1) := dk_42 (dk_at dksJ3_init_2_1 13 rfl rfl)
theorem dJ3_init_2_37 : decode cJ3_init_2 37 = .ok (.aconst_null, 1) := dk_1 (dk_at dksJ3_init_2_1 14 rfl rfl)
theorem dJ3_init_2_38 : decode cJ3_init_2 38 = .ok (.putfield 17, 3) := dk_181 0 17 (dk_at dksJ3_init_2_1 15 rfl rfl)
theorem dJ3_init_2_41 : decode cJ3_init_2 41 = .ok (.aload_n 0, 1) := dk_42 (dk_at dksJ3_init_2_1 18 rfl rfl)
theorem dJ3_init_2_42 : decode cJ3_init_2 42 = .ok (.aload_n 1, 1) := dk_43 (dk_at dksJ3_init_2_1 19 rfl rfl)
theorem dJ3_init_2_43 : decode cJ3_init_2 43 = .ok (.putfield 31, 3) := dk_181 0 31 (dk_at dksJ3_init_2_1 20 rfl rfl)
theorem dJ3_init_2_46 : decode cJ3_init_2 46 = .ok (.aload_n 0, 1) := dk_42 (dk_at dksJ3_init_2_1 23 rfl rfl)
theorem dJ3_init_2_47 : decode cJ3_init_2 47 = .ok (.aload_n 2, 1) := dk_44 (dk_at dksJ3_init_2_2 0 rfl rfl)
theorem dJ3_init_2_48 : decode cJ3_init_2 48 = .ok (.putfield 7, 3) := dk_181 0 7 (dk_at dksJ3_init_2_2 1 rfl rfl)
theorem dJ3_init_2_51 : decode cJ3_init_2 51 = .ok (.iload_n 3, 1) := dk_29 (dk_at dksJ3_init_2_2 4 rfl rfl)
theorem dJ3_init_2_52 : decode cJ3_init_2 52 = .ok (.ifCond .ne 8, 3) := dk_154 0 8 (dk_at dksJ3_init_2_2 5 rfl rfl)
theorem dJ3_init_2_55 : decode cJ3_init_2 55 = .ok (.aload_n 0, 1) := dk_42 (dk_at dksJ3_init_2_2 8 rfl rfl)
theorem dJ3_init_2_56 : decode cJ3_init_2 56 = .ok (.aconst_null, 1) := dk_1 (dk_at dksJ3_init_2_2 9 rfl rfl)
theorem dJ3_init_2_57 : decode cJ3_init_2 57 = .ok (.putfield 24, 3) := dk_181 0 24 (dk_at dksJ3_init_2_2 10 rfl rfl)
theorem dJ3_init_2_60 : decode cJ3_init_2 60 = .ok (.return_, 1) := dk_177 (dk_at dksJ3_init_2_2 13 rfl rfl)
abbrev cJ3_init_3 : ByteArray := prog_33_method_2_code
def yJ3_init_3 : MethodName := ⟨RJ3, "<init>", "(Ljava/lang/String;)V"⟩
def dkwJ3_init_3_1 : List UInt8 := [182, 0, 27, 87, 42, 43, 181, 0, 31, 177]
abbrev dktJ3_init_3_1 : List UInt8 := dkwJ3_init_3_1 ++ []
def dkwJ3_init_3_0 : List UInt8 := [42, 183, 0, 1, 42, 42, 181, 0, 7, 42, 178, 0, 13, 181, 0, 17, 42, 178, 0, 20, 181, 0, 24, 42]
abbrev dktJ3_init_3_0 : List UInt8 := dkwJ3_init_3_0 ++ dktJ3_init_3_1
theorem dksJ3_init_3_0 : cJ3_init_3.data.toList.drop 0 = dktJ3_init_3_0 := by decide +kernel
theorem dksJ3_init_3_1 : cJ3_init_3.data.toList.drop 24 = dktJ3_init_3_1 := dk_seg dksJ3_init_3_0 24 rfl rfl
theorem dJ3_init_3_0 : decode cJ3_init_3 0 = .ok (.aload_n 0, 1) := dk_42 (dk_at dksJ3_init_3_0 0 rfl rfl)
theorem dJ3_init_3_1 : decode cJ3_init_3 1 = .ok (.invokespecial 1, 3) := dk_183 0 1 (dk_at dksJ3_init_3_0 1 rfl rfl)
theorem dJ3_init_3_4 : decode cJ3_init_3 4 = .ok (.aload_n 0, 1) := dk_42 (dk_at dksJ3_init_3_0 4 rfl rfl)
theorem dJ3_init_3_5 : decode cJ3_init_3 5 = .ok (.aload_n 0, 1) := dk_42 (dk_at dksJ3_init_3_0 5 rfl rfl)
theorem dJ3_init_3_6 : decode cJ3_init_3 6 = .ok (.putfield 7, 3) := dk_181 0 7 (dk_at dksJ3_init_3_0 6 rfl rfl)
theorem dJ3_init_3_9 : decode cJ3_init_3 9 = .ok (.aload_n 0, 1) := dk_42 (dk_at dksJ3_init_3_0 9 rfl rfl)
theorem dJ3_init_3_10 : decode cJ3_init_3 10 = .ok (.getstatic 13, 3) := dk_178 0 13 (dk_at dksJ3_init_3_0 10 rfl rfl)
theorem dJ3_init_3_13 : decode cJ3_init_3 13 = .ok (.putfield 17, 3) := dk_181 0 17 (dk_at dksJ3_init_3_0 13 rfl rfl)
theorem dJ3_init_3_16 : decode cJ3_init_3 16 = .ok (.aload_n 0, 1) := dk_42 (dk_at dksJ3_init_3_0 16 rfl rfl)
theorem dJ3_init_3_17 : decode cJ3_init_3 17 = .ok (.getstatic 20, 3) := dk_178 0 20 (dk_at dksJ3_init_3_0 17 rfl rfl)
theorem dJ3_init_3_20 : decode cJ3_init_3 20 = .ok (.putfield 24, 3) := dk_181 0 24 (dk_at dksJ3_init_3_0 20 rfl rfl)
theorem dJ3_init_3_23 : decode cJ3_init_3 23 = .ok (.aload_n 0, 1) := dk_42 (dk_at dksJ3_init_3_0 23 rfl rfl)
theorem dJ3_init_3_24 : decode cJ3_init_3 24 = .ok (.invokevirtual 27, 3) := dk_182 0 27 (dk_at dksJ3_init_3_1 0 rfl rfl)
theorem dJ3_init_3_27 : decode cJ3_init_3 27 = .ok (.pop, 1) := dk_87 (dk_at dksJ3_init_3_1 3 rfl rfl)
theorem dJ3_init_3_28 : decode cJ3_init_3 28 = .ok (.aload_n 0, 1) := dk_42 (dk_at dksJ3_init_3_1 4 rfl rfl)
theorem dJ3_init_3_29 : decode cJ3_init_3 29 = .ok (.aload_n 1, 1) := dk_43 (dk_at dksJ3_init_3_1 5 rfl rfl)
theorem dJ3_init_3_30 : decode cJ3_init_3 30 = .ok (.putfield 31, 3) := dk_181 0 31 (dk_at dksJ3_init_3_1 6 rfl rfl)
theorem dJ3_init_3_33 : decode cJ3_init_3 33 = .ok (.return_, 1) := dk_177 (dk_at dksJ3_init_3_1 9 rfl rfl)
abbrev cJ4_init : ByteArray := prog_23_method_5_code
def yJ4_init : MethodName := ⟨RJ4, "<init>", "(Ljava/lang/String;Ljava/lang/Throwable;ZZ)V"⟩
def dkwJ4_init_0 : List UInt8 := [42, 43, 44, 29, 21, 4, 183, 0, 16, 177]
abbrev dktJ4_init_0 : List UInt8 := dkwJ4_init_0 ++ []
theorem dksJ4_init_0 : cJ4_init.data.toList.drop 0 = dktJ4_init_0 := by decide +kernel
theorem dJ4_init_0 : decode cJ4_init 0 = .ok (.aload_n 0, 1) := dk_42 (dk_at dksJ4_init_0 0 rfl rfl)
theorem dJ4_init_1 : decode cJ4_init 1 = .ok (.aload_n 1, 1) := dk_43 (dk_at dksJ4_init_0 1 rfl rfl)
theorem dJ4_init_2 : decode cJ4_init 2 = .ok (.aload_n 2, 1) := dk_44 (dk_at dksJ4_init_0 2 rfl rfl)
theorem dJ4_init_3 : decode cJ4_init 3 = .ok (.iload_n 3, 1) := dk_29 (dk_at dksJ4_init_0 3 rfl rfl)
theorem dJ4_init_4 : decode cJ4_init 4 = .ok (.iload 4, 2) := dk_21 4 (dk_at dksJ4_init_0 4 rfl rfl)
theorem dJ4_init_6 : decode cJ4_init 6 = .ok (.invokespecial 16, 3) := dk_183 0 16 (dk_at dksJ4_init_0 6 rfl rfl)
theorem dJ4_init_9 : decode cJ4_init 9 = .ok (.return_, 1) := dk_177 (dk_at dksJ4_init_0 9 rfl rfl)
abbrev cJ4_init_2 : ByteArray := prog_23_method_2_code
def yJ4_init_2 : MethodName := ⟨RJ4, "<init>", "(Ljava/lang/String;)V"⟩
def dkwJ4_init_2_0 : List UInt8 := [42, 43, 183, 0, 7, 177]
abbrev dktJ4_init_2_0 : List UInt8 := dkwJ4_init_2_0 ++ []
theorem dksJ4_init_2_0 : cJ4_init_2.data.toList.drop 0 = dktJ4_init_2_0 := by decide +kernel
theorem dJ4_init_2_0 : decode cJ4_init_2 0 = .ok (.aload_n 0, 1) := dk_42 (dk_at dksJ4_init_2_0 0 rfl rfl)
theorem dJ4_init_2_1 : decode cJ4_init_2 1 = .ok (.aload_n 1, 1) := dk_43 (dk_at dksJ4_init_2_0 1 rfl rfl)
theorem dJ4_init_2_2 : decode cJ4_init_2 2 = .ok (.invokespecial 7, 3) := dk_183 0 7 (dk_at dksJ4_init_2_0 2 rfl rfl)
theorem dJ4_init_2_5 : decode cJ4_init_2 5 = .ok (.return_, 1) := dk_177 (dk_at dksJ4_init_2_0 5 rfl rfl)
abbrev cJ5_indexOf : ByteArray := prog_29_method_79_code
def yJ5_indexOf : MethodName := ⟨RJ5, "indexOf", "(I)I"⟩
def dkwJ5_indexOf_0 : List UInt8 := [42, 27, 3, 182, 2, 121, 172]
abbrev dktJ5_indexOf_0 : List UInt8 := dkwJ5_indexOf_0 ++ []
theorem dksJ5_indexOf_0 : cJ5_indexOf.data.toList.drop 0 = dktJ5_indexOf_0 := by decide +kernel
theorem dJ5_indexOf_0 : decode cJ5_indexOf 0 = .ok (.aload_n 0, 1) := dk_42 (dk_at dksJ5_indexOf_0 0 rfl rfl)
theorem dJ5_indexOf_1 : decode cJ5_indexOf 1 = .ok (.iload_n 1, 1) := dk_27 (dk_at dksJ5_indexOf_0 1 rfl rfl)
theorem dJ5_indexOf_2 : decode cJ5_indexOf 2 = .ok (.iconst 0, 1) := dk_3 (dk_at dksJ5_indexOf_0 2 rfl rfl)
theorem dJ5_indexOf_3 : decode cJ5_indexOf 3 = .ok (.invokevirtual 633, 3) := dk_182 2 121 (dk_at dksJ5_indexOf_0 3 rfl rfl)
theorem dJ5_indexOf_6 : decode cJ5_indexOf 6 = .ok (.ireturn, 1) := dk_172 (dk_at dksJ5_indexOf_0 6 rfl rfl)
abbrev cJ5_indexOf_2 : ByteArray := prog_29_method_80_code
def yJ5_indexOf_2 : MethodName := ⟨RJ5, "indexOf", "(II)I"⟩
def dkwJ5_indexOf_2_1 : List UInt8 := [180, 0, 9, 27, 28, 42, 182, 1, 249, 184, 2, 128, 172]
abbrev dktJ5_indexOf_2_1 : List UInt8 := dkwJ5_indexOf_2_1 ++ []
def dkwJ5_indexOf_2_0 : List UInt8 := [42, 182, 1, 236, 153, 0, 19, 42, 180, 0, 9, 27, 28, 42, 182, 1, 249, 184, 2, 125, 167, 0, 16, 42]
abbrev dktJ5_indexOf_2_0 : List UInt8 := dkwJ5_indexOf_2_0 ++ dktJ5_indexOf_2_1
theorem dksJ5_indexOf_2_0 : cJ5_indexOf_2.data.toList.drop 0 = dktJ5_indexOf_2_0 := by decide +kernel
theorem dksJ5_indexOf_2_1 : cJ5_indexOf_2.data.toList.drop 24 = dktJ5_indexOf_2_1 := dk_seg dksJ5_indexOf_2_0 24 rfl rfl
theorem dJ5_indexOf_2_0 : decode cJ5_indexOf_2 0 = .ok (.aload_n 0, 1) := dk_42 (dk_at dksJ5_indexOf_2_0 0 rfl rfl)
theorem dJ5_indexOf_2_1 : decode cJ5_indexOf_2 1 = .ok (.invokevirtual 492, 3) := dk_182 1 236 (dk_at dksJ5_indexOf_2_0 1 rfl rfl)
theorem dJ5_indexOf_2_4 : decode cJ5_indexOf_2 4 = .ok (.ifCond .eq 19, 3) := dk_153 0 19 (dk_at dksJ5_indexOf_2_0 4 rfl rfl)
theorem dJ5_indexOf_2_7 : decode cJ5_indexOf_2 7 = .ok (.aload_n 0, 1) := dk_42 (dk_at dksJ5_indexOf_2_0 7 rfl rfl)
theorem dJ5_indexOf_2_8 : decode cJ5_indexOf_2 8 = .ok (.getfield 9, 3) := dk_180 0 9 (dk_at dksJ5_indexOf_2_0 8 rfl rfl)
theorem dJ5_indexOf_2_11 : decode cJ5_indexOf_2 11 = .ok (.iload_n 1, 1) := dk_27 (dk_at dksJ5_indexOf_2_0 11 rfl rfl)
theorem dJ5_indexOf_2_12 : decode cJ5_indexOf_2 12 = .ok (.iload_n 2, 1) := dk_28 (dk_at dksJ5_indexOf_2_0 12 rfl rfl)
theorem dJ5_indexOf_2_13 : decode cJ5_indexOf_2 13 = .ok (.aload_n 0, 1) := dk_42 (dk_at dksJ5_indexOf_2_0 13 rfl rfl)
theorem dJ5_indexOf_2_14 : decode cJ5_indexOf_2 14 = .ok (.invokevirtual 505, 3) := dk_182 1 249 (dk_at dksJ5_indexOf_2_0 14 rfl rfl)
theorem dJ5_indexOf_2_17 : decode cJ5_indexOf_2 17 = .ok (.invokestatic 637, 3) := dk_184 2 125 (dk_at dksJ5_indexOf_2_0 17 rfl rfl)
theorem dJ5_indexOf_2_20 : decode cJ5_indexOf_2 20 = .ok (.goto 16, 3) := dk_167 0 16 (dk_at dksJ5_indexOf_2_0 20 rfl rfl)
theorem dJ5_indexOf_2_23 : decode cJ5_indexOf_2 23 = .ok (.aload_n 0, 1) := dk_42 (dk_at dksJ5_indexOf_2_0 23 rfl rfl)
theorem dJ5_indexOf_2_24 : decode cJ5_indexOf_2 24 = .ok (.getfield 9, 3) := dk_180 0 9 (dk_at dksJ5_indexOf_2_1 0 rfl rfl)
theorem dJ5_indexOf_2_27 : decode cJ5_indexOf_2 27 = .ok (.iload_n 1, 1) := dk_27 (dk_at dksJ5_indexOf_2_1 3 rfl rfl)
theorem dJ5_indexOf_2_28 : decode cJ5_indexOf_2 28 = .ok (.iload_n 2, 1) := dk_28 (dk_at dksJ5_indexOf_2_1 4 rfl rfl)
theorem dJ5_indexOf_2_29 : decode cJ5_indexOf_2 29 = .ok (.aload_n 0, 1) := dk_42 (dk_at dksJ5_indexOf_2_1 5 rfl rfl)
theorem dJ5_indexOf_2_30 : decode cJ5_indexOf_2 30 = .ok (.invokevirtual 505, 3) := dk_182 1 249 (dk_at dksJ5_indexOf_2_1 6 rfl rfl)
theorem dJ5_indexOf_2_33 : decode cJ5_indexOf_2 33 = .ok (.invokestatic 640, 3) := dk_184 2 128 (dk_at dksJ5_indexOf_2_1 9 rfl rfl)
theorem dJ5_indexOf_2_36 : decode cJ5_indexOf_2 36 = .ok (.ireturn, 1) := dk_172 (dk_at dksJ5_indexOf_2_1 12 rfl rfl)
abbrev cJ5_isLatin1 : ByteArray := prog_29_method_154_code
def yJ5_isLatin1 : MethodName := ⟨RJ5, "isLatin1", "()Z"⟩
def dkwJ5_isLatin1_0 : List UInt8 := [178, 0, 38, 153, 0, 14, 42, 180, 0, 15, 154, 0, 7, 4, 167, 0, 4, 3, 172]
abbrev dktJ5_isLatin1_0 : List UInt8 := dkwJ5_isLatin1_0 ++ []
theorem dksJ5_isLatin1_0 : cJ5_isLatin1.data.toList.drop 0 = dktJ5_isLatin1_0 := by decide +kernel
theorem dJ5_isLatin1_0 : decode cJ5_isLatin1 0 = .ok (.getstatic 38, 3) := dk_178 0 38 (dk_at dksJ5_isLatin1_0 0 rfl rfl)
theorem dJ5_isLatin1_3 : decode cJ5_isLatin1 3 = .ok (.ifCond .eq 14, 3) := dk_153 0 14 (dk_at dksJ5_isLatin1_0 3 rfl rfl)
theorem dJ5_isLatin1_6 : decode cJ5_isLatin1 6 = .ok (.aload_n 0, 1) := dk_42 (dk_at dksJ5_isLatin1_0 6 rfl rfl)
theorem dJ5_isLatin1_7 : decode cJ5_isLatin1 7 = .ok (.getfield 15, 3) := dk_180 0 15 (dk_at dksJ5_isLatin1_0 7 rfl rfl)
theorem dJ5_isLatin1_10 : decode cJ5_isLatin1 10 = .ok (.ifCond .ne 7, 3) := dk_154 0 7 (dk_at dksJ5_isLatin1_0 10 rfl rfl)
theorem dJ5_isLatin1_13 : decode cJ5_isLatin1 13 = .ok (.iconst 1, 1) := dk_4 (dk_at dksJ5_isLatin1_0 13 rfl rfl)
theorem dJ5_isLatin1_14 : decode cJ5_isLatin1 14 = .ok (.goto 4, 3) := dk_167 0 4 (dk_at dksJ5_isLatin1_0 14 rfl rfl)
theorem dJ5_isLatin1_17 : decode cJ5_isLatin1 17 = .ok (.iconst 0, 1) := dk_3 (dk_at dksJ5_isLatin1_0 17 rfl rfl)
theorem dJ5_isLatin1_18 : decode cJ5_isLatin1 18 = .ok (.ireturn, 1) := dk_172 (dk_at dksJ5_isLatin1_0 18 rfl rfl)
abbrev cJ5_length : ByteArray := prog_29_method_54_code
def yJ5_length : MethodName := ⟨RJ5, "length", "()I"⟩
def dkwJ5_length_0 : List UInt8 := [42, 180, 0, 9, 190, 42, 182, 1, 79, 122, 172]
abbrev dktJ5_length_0 : List UInt8 := dkwJ5_length_0 ++ []
theorem dksJ5_length_0 : cJ5_length.data.toList.drop 0 = dktJ5_length_0 := by decide +kernel
theorem dJ5_length_0 : decode cJ5_length 0 = .ok (.aload_n 0, 1) := dk_42 (dk_at dksJ5_length_0 0 rfl rfl)
theorem dJ5_length_1 : decode cJ5_length 1 = .ok (.getfield 9, 3) := dk_180 0 9 (dk_at dksJ5_length_0 1 rfl rfl)
theorem dJ5_length_4 : decode cJ5_length 4 = .ok (.arraylength, 1) := dk_190 (dk_at dksJ5_length_0 4 rfl rfl)
theorem dJ5_length_5 : decode cJ5_length 5 = .ok (.aload_n 0, 1) := dk_42 (dk_at dksJ5_length_0 5 rfl rfl)
theorem dJ5_length_6 : decode cJ5_length 6 = .ok (.invokevirtual 335, 3) := dk_182 1 79 (dk_at dksJ5_length_0 6 rfl rfl)
theorem dJ5_length_9 : decode cJ5_length 9 = .ok (.ishr, 1) := dk_122 (dk_at dksJ5_length_0 9 rfl rfl)
theorem dJ5_length_10 : decode cJ5_length 10 = .ok (.ireturn, 1) := dk_172 (dk_at dksJ5_length_0 10 rfl rfl)
abbrev cJ5_coder : ByteArray := prog_29_method_152_code
def yJ5_coder : MethodName := ⟨RJ5, "coder", "()B"⟩
def dkwJ5_coder_0 : List UInt8 := [178, 0, 38, 153, 0, 10, 42, 180, 0, 15, 167, 0, 4, 4, 172]
abbrev dktJ5_coder_0 : List UInt8 := dkwJ5_coder_0 ++ []
theorem dksJ5_coder_0 : cJ5_coder.data.toList.drop 0 = dktJ5_coder_0 := by decide +kernel
theorem dJ5_coder_0 : decode cJ5_coder 0 = .ok (.getstatic 38, 3) := dk_178 0 38 (dk_at dksJ5_coder_0 0 rfl rfl)
theorem dJ5_coder_3 : decode cJ5_coder 3 = .ok (.ifCond .eq 10, 3) := dk_153 0 10 (dk_at dksJ5_coder_0 3 rfl rfl)
theorem dJ5_coder_6 : decode cJ5_coder 6 = .ok (.aload_n 0, 1) := dk_42 (dk_at dksJ5_coder_0 6 rfl rfl)
theorem dJ5_coder_7 : decode cJ5_coder 7 = .ok (.getfield 15, 3) := dk_180 0 15 (dk_at dksJ5_coder_0 7 rfl rfl)
theorem dJ5_coder_10 : decode cJ5_coder 10 = .ok (.goto 4, 3) := dk_167 0 4 (dk_at dksJ5_coder_0 10 rfl rfl)
theorem dJ5_coder_13 : decode cJ5_coder 13 = .ok (.iconst 1, 1) := dk_4 (dk_at dksJ5_coder_0 13 rfl rfl)
theorem dJ5_coder_14 : decode cJ5_coder 14 = .ok (.ireturn, 1) := dk_172 (dk_at dksJ5_coder_0 14 rfl rfl)
abbrev cJ5_checkBoundsBeginEnd : ByteArray := prog_29_method_158_code
def yJ5_checkBoundsBeginEnd : MethodName := ⟨RJ5, "checkBoundsBeginEnd", "(III)V"⟩
def dkwJ5_checkBoundsBeginEnd_0 : List UInt8 := [26, 27, 28, 178, 4, 29, 184, 4, 38, 87, 177]
abbrev dktJ5_checkBoundsBeginEnd_0 : List UInt8 := dkwJ5_checkBoundsBeginEnd_0 ++ []
theorem dksJ5_checkBoundsBeginEnd_0 : cJ5_checkBoundsBeginEnd.data.toList.drop 0 = dktJ5_checkBoundsBeginEnd_0 := by decide +kernel
theorem dJ5_checkBoundsBeginEnd_0 : decode cJ5_checkBoundsBeginEnd 0 = .ok (.iload_n 0, 1) := dk_26 (dk_at dksJ5_checkBoundsBeginEnd_0 0 rfl rfl)
theorem dJ5_checkBoundsBeginEnd_1 : decode cJ5_checkBoundsBeginEnd 1 = .ok (.iload_n 1, 1) := dk_27 (dk_at dksJ5_checkBoundsBeginEnd_0 1 rfl rfl)
theorem dJ5_checkBoundsBeginEnd_2 : decode cJ5_checkBoundsBeginEnd 2 = .ok (.iload_n 2, 1) := dk_28 (dk_at dksJ5_checkBoundsBeginEnd_0 2 rfl rfl)
theorem dJ5_checkBoundsBeginEnd_3 : decode cJ5_checkBoundsBeginEnd 3 = .ok (.getstatic 1053, 3) := dk_178 4 29 (dk_at dksJ5_checkBoundsBeginEnd_0 3 rfl rfl)
theorem dJ5_checkBoundsBeginEnd_6 : decode cJ5_checkBoundsBeginEnd 6 = .ok (.invokestatic 1062, 3) := dk_184 4 38 (dk_at dksJ5_checkBoundsBeginEnd_0 6 rfl rfl)
theorem dJ5_checkBoundsBeginEnd_9 : decode cJ5_checkBoundsBeginEnd 9 = .ok (.pop, 1) := dk_87 (dk_at dksJ5_checkBoundsBeginEnd_0 9 rfl rfl)
theorem dJ5_checkBoundsBeginEnd_10 : decode cJ5_checkBoundsBeginEnd 10 = .ok (.return_, 1) := dk_177 (dk_at dksJ5_checkBoundsBeginEnd_0 10 rfl rfl)
abbrev cJ5_equals : ByteArray := prog_29_method_66_code
def yJ5_equals : MethodName := ⟨RJ5, "equals", "(Ljava/lang/Object;)Z"⟩
def dkwJ5_equals_2 : List UInt8 := [184, 2, 29, 153, 0, 7, 4, 167, 0, 4, 3, 172]
abbrev dktJ5_equals_2 : List UInt8 := dkwJ5_equals_2 ++ []
def dkwJ5_equals_1 : List UInt8 := [153, 0, 14, 42, 180, 0, 15, 44, 180, 0, 15, 160, 0, 21, 42, 180, 0, 9, 44, 180, 0, 9]
abbrev dktJ5_equals_1 : List UInt8 := dkwJ5_equals_1 ++ dktJ5_equals_2
def dkwJ5_equals_0 : List UInt8 := [42, 43, 166, 0, 5, 4, 172, 43, 193, 0, 10, 153, 0, 43, 43, 192, 0, 10, 77, 178, 0, 38]
abbrev dktJ5_equals_0 : List UInt8 := dkwJ5_equals_0 ++ dktJ5_equals_1
theorem dksJ5_equals_0 : cJ5_equals.data.toList.drop 0 = dktJ5_equals_0 := by decide +kernel
theorem dksJ5_equals_1 : cJ5_equals.data.toList.drop 22 = dktJ5_equals_1 := dk_seg dksJ5_equals_0 22 rfl rfl
theorem dksJ5_equals_2 : cJ5_equals.data.toList.drop 44 = dktJ5_equals_2 := dk_seg dksJ5_equals_1 22 rfl rfl
theorem dJ5_equals_0 : decode cJ5_equals 0 = .ok (.aload_n 0, 1) := dk_42 (dk_at dksJ5_equals_0 0 rfl rfl)
theorem dJ5_equals_1 : decode cJ5_equals 1 = .ok (.aload_n 1, 1) := dk_43 (dk_at dksJ5_equals_0 1 rfl rfl)
theorem dJ5_equals_2 : decode cJ5_equals 2 = .ok (.if_acmp .ne 5, 3) := dk_166 0 5 (dk_at dksJ5_equals_0 2 rfl rfl)
theorem dJ5_equals_5 : decode cJ5_equals 5 = .ok (.iconst 1, 1) := dk_4 (dk_at dksJ5_equals_0 5 rfl rfl)
theorem dJ5_equals_6 : decode cJ5_equals 6 = .ok (.ireturn, 1) := dk_172 (dk_at dksJ5_equals_0 6 rfl rfl)
theorem dJ5_equals_7 : decode cJ5_equals 7 = .ok (.aload_n 1, 1) := dk_43 (dk_at dksJ5_equals_0 7 rfl rfl)
theorem dJ5_equals_8 : decode cJ5_equals 8 = .ok (.instanceof 10, 3) := dk_193 0 10 (dk_at dksJ5_equals_0 8 rfl rfl)
theorem dJ5_equals_11 : decode cJ5_equals 11 = .ok (.ifCond .eq 43, 3) := dk_153 0 43 (dk_at dksJ5_equals_0 11 rfl rfl)
theorem dJ5_equals_14 : decode cJ5_equals 14 = .ok (.aload_n 1, 1) := dk_43 (dk_at dksJ5_equals_0 14 rfl rfl)
theorem dJ5_equals_15 : decode cJ5_equals 15 = .ok (.checkcast 10, 3) := dk_192 0 10 (dk_at dksJ5_equals_0 15 rfl rfl)
theorem dJ5_equals_18 : decode cJ5_equals 18 = .ok (.astore_n 2, 1) := dk_77 (dk_at dksJ5_equals_0 18 rfl rfl)
theorem dJ5_equals_19 : decode cJ5_equals 19 = .ok (.getstatic 38, 3) := dk_178 0 38 (dk_at dksJ5_equals_0 19 rfl rfl)
theorem dJ5_equals_22 : decode cJ5_equals 22 = .ok (.ifCond .eq 14, 3) := dk_153 0 14 (dk_at dksJ5_equals_1 0 rfl rfl)
theorem dJ5_equals_25 : decode cJ5_equals 25 = .ok (.aload_n 0, 1) := dk_42 (dk_at dksJ5_equals_1 3 rfl rfl)
theorem dJ5_equals_26 : decode cJ5_equals 26 = .ok (.getfield 15, 3) := dk_180 0 15 (dk_at dksJ5_equals_1 4 rfl rfl)
theorem dJ5_equals_29 : decode cJ5_equals 29 = .ok (.aload_n 2, 1) := dk_44 (dk_at dksJ5_equals_1 7 rfl rfl)
theorem dJ5_equals_30 : decode cJ5_equals 30 = .ok (.getfield 15, 3) := dk_180 0 15 (dk_at dksJ5_equals_1 8 rfl rfl)
theorem dJ5_equals_33 : decode cJ5_equals 33 = .ok (.if_icmp .ne 21, 3) := dk_160 0 21 (dk_at dksJ5_equals_1 11 rfl rfl)
theorem dJ5_equals_36 : decode cJ5_equals 36 = .ok (.aload_n 0, 1) := dk_42 (dk_at dksJ5_equals_1 14 rfl rfl)
theorem dJ5_equals_37 : decode cJ5_equals 37 = .ok (.getfield 9, 3) := dk_180 0 9 (dk_at dksJ5_equals_1 15 rfl rfl)
theorem dJ5_equals_40 : decode cJ5_equals 40 = .ok (.aload_n 2, 1) := dk_44 (dk_at dksJ5_equals_1 18 rfl rfl)
theorem dJ5_equals_41 : decode cJ5_equals 41 = .ok (.getfield 9, 3) := dk_180 0 9 (dk_at dksJ5_equals_1 19 rfl rfl)
theorem dJ5_equals_44 : decode cJ5_equals 44 = .ok (.invokestatic 541, 3) := dk_184 2 29 (dk_at dksJ5_equals_2 0 rfl rfl)
theorem dJ5_equals_47 : decode cJ5_equals 47 = .ok (.ifCond .eq 7, 3) := dk_153 0 7 (dk_at dksJ5_equals_2 3 rfl rfl)
theorem dJ5_equals_50 : decode cJ5_equals 50 = .ok (.iconst 1, 1) := dk_4 (dk_at dksJ5_equals_2 6 rfl rfl)
theorem dJ5_equals_51 : decode cJ5_equals 51 = .ok (.goto 4, 3) := dk_167 0 4 (dk_at dksJ5_equals_2 7 rfl rfl)
theorem dJ5_equals_54 : decode cJ5_equals 54 = .ok (.iconst 0, 1) := dk_3 (dk_at dksJ5_equals_2 10 rfl rfl)
theorem dJ5_equals_55 : decode cJ5_equals 55 = .ok (.ireturn, 1) := dk_172 (dk_at dksJ5_equals_2 11 rfl rfl)
abbrev cJ6_indexOf : ByteArray := prog_30_method_22_code
def yJ6_indexOf : MethodName := ⟨RJ6, "indexOf", "([BIII)I"⟩
def dkwJ6_indexOf_1 : List UInt8 := [161, 0, 5, 2, 172, 42, 27, 28, 29, 184, 0, 95, 172]
abbrev dktJ6_indexOf_1 : List UInt8 := dkwJ6_indexOf_1 ++ []
def dkwJ6_indexOf_0 : List UInt8 := [27, 184, 0, 88, 154, 0, 5, 2, 172, 28, 3, 184, 0, 92, 61, 29, 42, 190, 184, 0, 38, 62, 28, 29]
abbrev dktJ6_indexOf_0 : List UInt8 := dkwJ6_indexOf_0 ++ dktJ6_indexOf_1
theorem dksJ6_indexOf_0 : cJ6_indexOf.data.toList.drop 0 = dktJ6_indexOf_0 := by decide +kernel
theorem dksJ6_indexOf_1 : cJ6_indexOf.data.toList.drop 24 = dktJ6_indexOf_1 := dk_seg dksJ6_indexOf_0 24 rfl rfl
theorem dJ6_indexOf_0 : decode cJ6_indexOf 0 = .ok (.iload_n 1, 1) := dk_27 (dk_at dksJ6_indexOf_0 0 rfl rfl)
theorem dJ6_indexOf_1 : decode cJ6_indexOf 1 = .ok (.invokestatic 88, 3) := dk_184 0 88 (dk_at dksJ6_indexOf_0 1 rfl rfl)
theorem dJ6_indexOf_4 : decode cJ6_indexOf 4 = .ok (.ifCond .ne 5, 3) := dk_154 0 5 (dk_at dksJ6_indexOf_0 4 rfl rfl)
theorem dJ6_indexOf_7 : decode cJ6_indexOf 7 = .ok (.iconst (-1), 1) := dk_2 (dk_at dksJ6_indexOf_0 7 rfl rfl)
theorem dJ6_indexOf_8 : decode cJ6_indexOf 8 = .ok (.ireturn, 1) := dk_172 (dk_at dksJ6_indexOf_0 8 rfl rfl)
theorem dJ6_indexOf_9 : decode cJ6_indexOf 9 = .ok (.iload_n 2, 1) := dk_28 (dk_at dksJ6_indexOf_0 9 rfl rfl)
theorem dJ6_indexOf_10 : decode cJ6_indexOf 10 = .ok (.iconst 0, 1) := dk_3 (dk_at dksJ6_indexOf_0 10 rfl rfl)
theorem dJ6_indexOf_11 : decode cJ6_indexOf 11 = .ok (.invokestatic 92, 3) := dk_184 0 92 (dk_at dksJ6_indexOf_0 11 rfl rfl)
theorem dJ6_indexOf_14 : decode cJ6_indexOf 14 = .ok (.istore_n 2, 1) := dk_61 (dk_at dksJ6_indexOf_0 14 rfl rfl)
theorem dJ6_indexOf_15 : decode cJ6_indexOf 15 = .ok (.iload_n 3, 1) := dk_29 (dk_at dksJ6_indexOf_0 15 rfl rfl)
theorem dJ6_indexOf_16 : decode cJ6_indexOf 16 = .ok (.aload_n 0, 1) := dk_42 (dk_at dksJ6_indexOf_0 16 rfl rfl)
theorem dJ6_indexOf_17 : decode cJ6_indexOf 17 = .ok (.arraylength, 1) := dk_190 (dk_at dksJ6_indexOf_0 17 rfl rfl)
theorem dJ6_indexOf_18 : decode cJ6_indexOf 18 = .ok (.invokestatic 38, 3) := dk_184 0 38 (dk_at dksJ6_indexOf_0 18 rfl rfl)
theorem dJ6_indexOf_21 : decode cJ6_indexOf 21 = .ok (.istore_n 3, 1) := dk_62 (dk_at dksJ6_indexOf_0 21 rfl rfl)
theorem dJ6_indexOf_22 : decode cJ6_indexOf 22 = .ok (.iload_n 2, 1) := dk_28 (dk_at dksJ6_indexOf_0 22 rfl rfl)
theorem dJ6_indexOf_23 : decode cJ6_indexOf 23 = .ok (.iload_n 3, 1) := dk_29 (dk_at dksJ6_indexOf_0 23 rfl rfl)
theorem dJ6_indexOf_24 : decode cJ6_indexOf 24 = .ok (.if_icmp .lt 5, 3) := dk_161 0 5 (dk_at dksJ6_indexOf_1 0 rfl rfl)
theorem dJ6_indexOf_27 : decode cJ6_indexOf 27 = .ok (.iconst (-1), 1) := dk_2 (dk_at dksJ6_indexOf_1 3 rfl rfl)
theorem dJ6_indexOf_28 : decode cJ6_indexOf 28 = .ok (.ireturn, 1) := dk_172 (dk_at dksJ6_indexOf_1 4 rfl rfl)
theorem dJ6_indexOf_29 : decode cJ6_indexOf 29 = .ok (.aload_n 0, 1) := dk_42 (dk_at dksJ6_indexOf_1 5 rfl rfl)
theorem dJ6_indexOf_30 : decode cJ6_indexOf 30 = .ok (.iload_n 1, 1) := dk_27 (dk_at dksJ6_indexOf_1 6 rfl rfl)
theorem dJ6_indexOf_31 : decode cJ6_indexOf 31 = .ok (.iload_n 2, 1) := dk_28 (dk_at dksJ6_indexOf_1 7 rfl rfl)
theorem dJ6_indexOf_32 : decode cJ6_indexOf 32 = .ok (.iload_n 3, 1) := dk_29 (dk_at dksJ6_indexOf_1 8 rfl rfl)
theorem dJ6_indexOf_33 : decode cJ6_indexOf 33 = .ok (.invokestatic 95, 3) := dk_184 0 95 (dk_at dksJ6_indexOf_1 9 rfl rfl)
theorem dJ6_indexOf_36 : decode cJ6_indexOf 36 = .ok (.ireturn, 1) := dk_172 (dk_at dksJ6_indexOf_1 12 rfl rfl)
abbrev cJ6_canEncode : ByteArray := prog_30_method_4_code
def yJ6_canEncode : MethodName := ⟨RJ6, "canEncode", "(I)Z"⟩
def dkwJ6_canEncode_0 : List UInt8 := [26, 155, 0, 14, 26, 17, 0, 255, 163, 0, 7, 4, 167, 0, 4, 3, 172]
abbrev dktJ6_canEncode_0 : List UInt8 := dkwJ6_canEncode_0 ++ []
theorem dksJ6_canEncode_0 : cJ6_canEncode.data.toList.drop 0 = dktJ6_canEncode_0 := by decide +kernel
theorem dJ6_canEncode_0 : decode cJ6_canEncode 0 = .ok (.iload_n 0, 1) := dk_26 (dk_at dksJ6_canEncode_0 0 rfl rfl)
theorem dJ6_canEncode_1 : decode cJ6_canEncode 1 = .ok (.ifCond .lt 14, 3) := dk_155 0 14 (dk_at dksJ6_canEncode_0 1 rfl rfl)
theorem dJ6_canEncode_4 : decode cJ6_canEncode 4 = .ok (.iload_n 0, 1) := dk_26 (dk_at dksJ6_canEncode_0 4 rfl rfl)
theorem dJ6_canEncode_5 : decode cJ6_canEncode 5 = .ok (.sipush 255, 3) := dk_17 0 255 (dk_at dksJ6_canEncode_0 5 rfl rfl)
theorem dJ6_canEncode_8 : decode cJ6_canEncode 8 = .ok (.if_icmp .gt 7, 3) := dk_163 0 7 (dk_at dksJ6_canEncode_0 8 rfl rfl)
theorem dJ6_canEncode_11 : decode cJ6_canEncode 11 = .ok (.iconst 1, 1) := dk_4 (dk_at dksJ6_canEncode_0 11 rfl rfl)
theorem dJ6_canEncode_12 : decode cJ6_canEncode 12 = .ok (.goto 4, 3) := dk_167 0 4 (dk_at dksJ6_canEncode_0 12 rfl rfl)
theorem dJ6_canEncode_15 : decode cJ6_canEncode 15 = .ok (.iconst 0, 1) := dk_3 (dk_at dksJ6_canEncode_0 15 rfl rfl)
theorem dJ6_canEncode_16 : decode cJ6_canEncode 16 = .ok (.ireturn, 1) := dk_172 (dk_at dksJ6_canEncode_0 16 rfl rfl)
abbrev cJ6_indexOfChar : ByteArray := prog_30_method_23_code
def yJ6_indexOfChar : MethodName := ⟨RJ6, "indexOfChar", "([BIII)I"⟩
def dkwJ6_indexOfChar_1 : List UInt8 := [172, 132, 5, 1, 167, 255, 235, 2, 172]
abbrev dktJ6_indexOfChar_1 : List UInt8 := dkwJ6_indexOfChar_1 ++ []
def dkwJ6_indexOfChar_0 : List UInt8 := [27, 145, 54, 4, 28, 54, 5, 21, 5, 29, 162, 0, 21, 42, 21, 5, 51, 21, 4, 160, 0, 6, 21, 5]
abbrev dktJ6_indexOfChar_0 : List UInt8 := dkwJ6_indexOfChar_0 ++ dktJ6_indexOfChar_1
theorem dksJ6_indexOfChar_0 : cJ6_indexOfChar.data.toList.drop 0 = dktJ6_indexOfChar_0 := by decide +kernel
theorem dksJ6_indexOfChar_1 : cJ6_indexOfChar.data.toList.drop 24 = dktJ6_indexOfChar_1 := dk_seg dksJ6_indexOfChar_0 24 rfl rfl
theorem dJ6_indexOfChar_0 : decode cJ6_indexOfChar 0 = .ok (.iload_n 1, 1) := dk_27 (dk_at dksJ6_indexOfChar_0 0 rfl rfl)
theorem dJ6_indexOfChar_1 : decode cJ6_indexOfChar 1 = .ok (.i2b, 1) := dk_145 (dk_at dksJ6_indexOfChar_0 1 rfl rfl)
theorem dJ6_indexOfChar_2 : decode cJ6_indexOfChar 2 = .ok (.istore 4, 2) := dk_54 4 (dk_at dksJ6_indexOfChar_0 2 rfl rfl)
theorem dJ6_indexOfChar_4 : decode cJ6_indexOfChar 4 = .ok (.iload_n 2, 1) := dk_28 (dk_at dksJ6_indexOfChar_0 4 rfl rfl)
theorem dJ6_indexOfChar_5 : decode cJ6_indexOfChar 5 = .ok (.istore 5, 2) := dk_54 5 (dk_at dksJ6_indexOfChar_0 5 rfl rfl)
theorem dJ6_indexOfChar_7 : decode cJ6_indexOfChar 7 = .ok (.iload 5, 2) := dk_21 5 (dk_at dksJ6_indexOfChar_0 7 rfl rfl)
theorem dJ6_indexOfChar_9 : decode cJ6_indexOfChar 9 = .ok (.iload_n 3, 1) := dk_29 (dk_at dksJ6_indexOfChar_0 9 rfl rfl)
theorem dJ6_indexOfChar_10 : decode cJ6_indexOfChar 10 = .ok (.if_icmp .ge 21, 3) := dk_162 0 21 (dk_at dksJ6_indexOfChar_0 10 rfl rfl)
theorem dJ6_indexOfChar_13 : decode cJ6_indexOfChar 13 = .ok (.aload_n 0, 1) := dk_42 (dk_at dksJ6_indexOfChar_0 13 rfl rfl)
theorem dJ6_indexOfChar_14 : decode cJ6_indexOfChar 14 = .ok (.iload 5, 2) := dk_21 5 (dk_at dksJ6_indexOfChar_0 14 rfl rfl)
theorem dJ6_indexOfChar_16 : decode cJ6_indexOfChar 16 = .ok (.baload, 1) := dk_51 (dk_at dksJ6_indexOfChar_0 16 rfl rfl)
theorem dJ6_indexOfChar_17 : decode cJ6_indexOfChar 17 = .ok (.iload 4, 2) := dk_21 4 (dk_at dksJ6_indexOfChar_0 17 rfl rfl)
theorem dJ6_indexOfChar_19 : decode cJ6_indexOfChar 19 = .ok (.if_icmp .ne 6, 3) := dk_160 0 6 (dk_at dksJ6_indexOfChar_0 19 rfl rfl)
theorem dJ6_indexOfChar_22 : decode cJ6_indexOfChar 22 = .ok (.iload 5, 2) := dk_21 5 (dk_at dksJ6_indexOfChar_0 22 rfl rfl)
theorem dJ6_indexOfChar_24 : decode cJ6_indexOfChar 24 = .ok (.ireturn, 1) := dk_172 (dk_at dksJ6_indexOfChar_1 0 rfl rfl)
theorem dJ6_indexOfChar_25 : decode cJ6_indexOfChar 25 = .ok (.iinc 5 1, 3) := dk_132 5 1 (dk_at dksJ6_indexOfChar_1 1 rfl rfl)
theorem dJ6_indexOfChar_28 : decode cJ6_indexOfChar 28 = .ok (.goto (-21), 3) := dk_167 255 235 (dk_at dksJ6_indexOfChar_1 4 rfl rfl)
theorem dJ6_indexOfChar_31 : decode cJ6_indexOfChar 31 = .ok (.iconst (-1), 1) := dk_2 (dk_at dksJ6_indexOfChar_1 7 rfl rfl)
theorem dJ6_indexOfChar_32 : decode cJ6_indexOfChar 32 = .ok (.ireturn, 1) := dk_172 (dk_at dksJ6_indexOfChar_1 8 rfl rfl)
abbrev cJ6_equals : ByteArray := prog_30_method_13_code
def yJ6_equals : MethodName := ⟨RJ6, "equals", "([B[B)Z"⟩
def dkwJ6_equals_1 : List UInt8 := [3, 172, 132, 2, 1, 167, 255, 236, 4, 172, 3, 172]
abbrev dktJ6_equals_1 : List UInt8 := dkwJ6_equals_1 ++ []
def dkwJ6_equals_0 : List UInt8 := [42, 190, 43, 190, 160, 0, 30, 3, 61, 28, 42, 190, 162, 0, 20, 42, 28, 51, 43, 28, 51, 159, 0, 5]
abbrev dktJ6_equals_0 : List UInt8 := dkwJ6_equals_0 ++ dktJ6_equals_1
theorem dksJ6_equals_0 : cJ6_equals.data.toList.drop 0 = dktJ6_equals_0 := by decide +kernel
theorem dksJ6_equals_1 : cJ6_equals.data.toList.drop 24 = dktJ6_equals_1 := dk_seg dksJ6_equals_0 24 rfl rfl
theorem dJ6_equals_0 : decode cJ6_equals 0 = .ok (.aload_n 0, 1) := dk_42 (dk_at dksJ6_equals_0 0 rfl rfl)
theorem dJ6_equals_1 : decode cJ6_equals 1 = .ok (.arraylength, 1) := dk_190 (dk_at dksJ6_equals_0 1 rfl rfl)
theorem dJ6_equals_2 : decode cJ6_equals 2 = .ok (.aload_n 1, 1) := dk_43 (dk_at dksJ6_equals_0 2 rfl rfl)
theorem dJ6_equals_3 : decode cJ6_equals 3 = .ok (.arraylength, 1) := dk_190 (dk_at dksJ6_equals_0 3 rfl rfl)
theorem dJ6_equals_4 : decode cJ6_equals 4 = .ok (.if_icmp .ne 30, 3) := dk_160 0 30 (dk_at dksJ6_equals_0 4 rfl rfl)
theorem dJ6_equals_7 : decode cJ6_equals 7 = .ok (.iconst 0, 1) := dk_3 (dk_at dksJ6_equals_0 7 rfl rfl)
theorem dJ6_equals_8 : decode cJ6_equals 8 = .ok (.istore_n 2, 1) := dk_61 (dk_at dksJ6_equals_0 8 rfl rfl)
theorem dJ6_equals_9 : decode cJ6_equals 9 = .ok (.iload_n 2, 1) := dk_28 (dk_at dksJ6_equals_0 9 rfl rfl)
theorem dJ6_equals_10 : decode cJ6_equals 10 = .ok (.aload_n 0, 1) := dk_42 (dk_at dksJ6_equals_0 10 rfl rfl)
theorem dJ6_equals_11 : decode cJ6_equals 11 = .ok (.arraylength, 1) := dk_190 (dk_at dksJ6_equals_0 11 rfl rfl)
theorem dJ6_equals_12 : decode cJ6_equals 12 = .ok (.if_icmp .ge 20, 3) := dk_162 0 20 (dk_at dksJ6_equals_0 12 rfl rfl)
theorem dJ6_equals_15 : decode cJ6_equals 15 = .ok (.aload_n 0, 1) := dk_42 (dk_at dksJ6_equals_0 15 rfl rfl)
theorem dJ6_equals_16 : decode cJ6_equals 16 = .ok (.iload_n 2, 1) := dk_28 (dk_at dksJ6_equals_0 16 rfl rfl)
theorem dJ6_equals_17 : decode cJ6_equals 17 = .ok (.baload, 1) := dk_51 (dk_at dksJ6_equals_0 17 rfl rfl)
theorem dJ6_equals_18 : decode cJ6_equals 18 = .ok (.aload_n 1, 1) := dk_43 (dk_at dksJ6_equals_0 18 rfl rfl)
theorem dJ6_equals_19 : decode cJ6_equals 19 = .ok (.iload_n 2, 1) := dk_28 (dk_at dksJ6_equals_0 19 rfl rfl)
theorem dJ6_equals_20 : decode cJ6_equals 20 = .ok (.baload, 1) := dk_51 (dk_at dksJ6_equals_0 20 rfl rfl)
theorem dJ6_equals_21 : decode cJ6_equals 21 = .ok (.if_icmp .eq 5, 3) := dk_159 0 5 (dk_at dksJ6_equals_0 21 rfl rfl)
theorem dJ6_equals_24 : decode cJ6_equals 24 = .ok (.iconst 0, 1) := dk_3 (dk_at dksJ6_equals_1 0 rfl rfl)
theorem dJ6_equals_25 : decode cJ6_equals 25 = .ok (.ireturn, 1) := dk_172 (dk_at dksJ6_equals_1 1 rfl rfl)
theorem dJ6_equals_26 : decode cJ6_equals 26 = .ok (.iinc 2 1, 3) := dk_132 2 1 (dk_at dksJ6_equals_1 2 rfl rfl)
theorem dJ6_equals_29 : decode cJ6_equals 29 = .ok (.goto (-20), 3) := dk_167 255 236 (dk_at dksJ6_equals_1 5 rfl rfl)
theorem dJ6_equals_32 : decode cJ6_equals 32 = .ok (.iconst 1, 1) := dk_4 (dk_at dksJ6_equals_1 8 rfl rfl)
theorem dJ6_equals_33 : decode cJ6_equals 33 = .ok (.ireturn, 1) := dk_172 (dk_at dksJ6_equals_1 9 rfl rfl)
theorem dJ6_equals_34 : decode cJ6_equals 34 = .ok (.iconst 0, 1) := dk_3 (dk_at dksJ6_equals_1 10 rfl rfl)
theorem dJ6_equals_35 : decode cJ6_equals 35 = .ok (.ireturn, 1) := dk_172 (dk_at dksJ6_equals_1 11 rfl rfl)
abbrev cJ7_max : ByteArray := prog_26_method_65_code
def yJ7_max : MethodName := ⟨RJ7, "max", "(II)I"⟩
def dkwJ7_max_0 : List UInt8 := [26, 27, 161, 0, 7, 26, 167, 0, 4, 27, 172]
abbrev dktJ7_max_0 : List UInt8 := dkwJ7_max_0 ++ []
theorem dksJ7_max_0 : cJ7_max.data.toList.drop 0 = dktJ7_max_0 := by decide +kernel
theorem dJ7_max_0 : decode cJ7_max 0 = .ok (.iload_n 0, 1) := dk_26 (dk_at dksJ7_max_0 0 rfl rfl)
theorem dJ7_max_1 : decode cJ7_max 1 = .ok (.iload_n 1, 1) := dk_27 (dk_at dksJ7_max_0 1 rfl rfl)
theorem dJ7_max_2 : decode cJ7_max 2 = .ok (.if_icmp .lt 7, 3) := dk_161 0 7 (dk_at dksJ7_max_0 2 rfl rfl)
theorem dJ7_max_5 : decode cJ7_max 5 = .ok (.iload_n 0, 1) := dk_26 (dk_at dksJ7_max_0 5 rfl rfl)
theorem dJ7_max_6 : decode cJ7_max 6 = .ok (.goto 4, 3) := dk_167 0 4 (dk_at dksJ7_max_0 6 rfl rfl)
theorem dJ7_max_9 : decode cJ7_max 9 = .ok (.iload_n 1, 1) := dk_27 (dk_at dksJ7_max_0 9 rfl rfl)
theorem dJ7_max_10 : decode cJ7_max 10 = .ok (.ireturn, 1) := dk_172 (dk_at dksJ7_max_0 10 rfl rfl)
abbrev cJ7_min : ByteArray := prog_26_method_69_code
def yJ7_min : MethodName := ⟨RJ7, "min", "(II)I"⟩
def dkwJ7_min_0 : List UInt8 := [26, 27, 163, 0, 7, 26, 167, 0, 4, 27, 172]
abbrev dktJ7_min_0 : List UInt8 := dkwJ7_min_0 ++ []
theorem dksJ7_min_0 : cJ7_min.data.toList.drop 0 = dktJ7_min_0 := by decide +kernel
theorem dJ7_min_0 : decode cJ7_min 0 = .ok (.iload_n 0, 1) := dk_26 (dk_at dksJ7_min_0 0 rfl rfl)
theorem dJ7_min_1 : decode cJ7_min 1 = .ok (.iload_n 1, 1) := dk_27 (dk_at dksJ7_min_0 1 rfl rfl)
theorem dJ7_min_2 : decode cJ7_min 2 = .ok (.if_icmp .gt 7, 3) := dk_163 0 7 (dk_at dksJ7_min_0 2 rfl rfl)
theorem dJ7_min_5 : decode cJ7_min 5 = .ok (.iload_n 0, 1) := dk_26 (dk_at dksJ7_min_0 5 rfl rfl)
theorem dJ7_min_6 : decode cJ7_min 6 = .ok (.goto 4, 3) := dk_167 0 4 (dk_at dksJ7_min_0 6 rfl rfl)
theorem dJ7_min_9 : decode cJ7_min 9 = .ok (.iload_n 1, 1) := dk_27 (dk_at dksJ7_min_0 9 rfl rfl)
theorem dJ7_min_10 : decode cJ7_min 10 = .ok (.ireturn, 1) := dk_172 (dk_at dksJ7_min_0 10 rfl rfl)
abbrev cJ8_indexOf : ByteArray := prog_31_method_40_code
def yJ8_indexOf : MethodName := ⟨RJ8, "indexOf", "([BIII)I"⟩
def dkwJ8_indexOf_1 : List UInt8 := [18, 227, 162, 0, 11, 42, 27, 28, 29, 184, 0, 228, 172, 42, 27, 28, 29, 184, 0, 232, 172]
abbrev dktJ8_indexOf_1 : List UInt8 := dkwJ8_indexOf_1 ++ []
def dkwJ8_indexOf_0 : List UInt8 := [28, 3, 184, 0, 224, 61, 29, 42, 190, 4, 122, 184, 0, 183, 62, 28, 29, 161, 0, 5, 2, 172, 27]
abbrev dktJ8_indexOf_0 : List UInt8 := dkwJ8_indexOf_0 ++ dktJ8_indexOf_1
theorem dksJ8_indexOf_0 : cJ8_indexOf.data.toList.drop 0 = dktJ8_indexOf_0 := by decide +kernel
theorem dksJ8_indexOf_1 : cJ8_indexOf.data.toList.drop 23 = dktJ8_indexOf_1 := dk_seg dksJ8_indexOf_0 23 rfl rfl
theorem dJ8_indexOf_0 : decode cJ8_indexOf 0 = .ok (.iload_n 2, 1) := dk_28 (dk_at dksJ8_indexOf_0 0 rfl rfl)
theorem dJ8_indexOf_1 : decode cJ8_indexOf 1 = .ok (.iconst 0, 1) := dk_3 (dk_at dksJ8_indexOf_0 1 rfl rfl)
theorem dJ8_indexOf_2 : decode cJ8_indexOf 2 = .ok (.invokestatic 224, 3) := dk_184 0 224 (dk_at dksJ8_indexOf_0 2 rfl rfl)
theorem dJ8_indexOf_5 : decode cJ8_indexOf 5 = .ok (.istore_n 2, 1) := dk_61 (dk_at dksJ8_indexOf_0 5 rfl rfl)
theorem dJ8_indexOf_6 : decode cJ8_indexOf 6 = .ok (.iload_n 3, 1) := dk_29 (dk_at dksJ8_indexOf_0 6 rfl rfl)
theorem dJ8_indexOf_7 : decode cJ8_indexOf 7 = .ok (.aload_n 0, 1) := dk_42 (dk_at dksJ8_indexOf_0 7 rfl rfl)
theorem dJ8_indexOf_8 : decode cJ8_indexOf 8 = .ok (.arraylength, 1) := dk_190 (dk_at dksJ8_indexOf_0 8 rfl rfl)
theorem dJ8_indexOf_9 : decode cJ8_indexOf 9 = .ok (.iconst 1, 1) := dk_4 (dk_at dksJ8_indexOf_0 9 rfl rfl)
theorem dJ8_indexOf_10 : decode cJ8_indexOf 10 = .ok (.ishr, 1) := dk_122 (dk_at dksJ8_indexOf_0 10 rfl rfl)
theorem dJ8_indexOf_11 : decode cJ8_indexOf 11 = .ok (.invokestatic 183, 3) := dk_184 0 183 (dk_at dksJ8_indexOf_0 11 rfl rfl)
theorem dJ8_indexOf_14 : decode cJ8_indexOf 14 = .ok (.istore_n 3, 1) := dk_62 (dk_at dksJ8_indexOf_0 14 rfl rfl)
theorem dJ8_indexOf_15 : decode cJ8_indexOf 15 = .ok (.iload_n 2, 1) := dk_28 (dk_at dksJ8_indexOf_0 15 rfl rfl)
theorem dJ8_indexOf_16 : decode cJ8_indexOf 16 = .ok (.iload_n 3, 1) := dk_29 (dk_at dksJ8_indexOf_0 16 rfl rfl)
theorem dJ8_indexOf_17 : decode cJ8_indexOf 17 = .ok (.if_icmp .lt 5, 3) := dk_161 0 5 (dk_at dksJ8_indexOf_0 17 rfl rfl)
theorem dJ8_indexOf_20 : decode cJ8_indexOf 20 = .ok (.iconst (-1), 1) := dk_2 (dk_at dksJ8_indexOf_0 20 rfl rfl)
theorem dJ8_indexOf_21 : decode cJ8_indexOf 21 = .ok (.ireturn, 1) := dk_172 (dk_at dksJ8_indexOf_0 21 rfl rfl)
theorem dJ8_indexOf_22 : decode cJ8_indexOf 22 = .ok (.iload_n 1, 1) := dk_27 (dk_at dksJ8_indexOf_0 22 rfl rfl)
theorem dJ8_indexOf_23 : decode cJ8_indexOf 23 = .ok (.ldc 227, 2) := dk_18 227 (dk_at dksJ8_indexOf_1 0 rfl rfl)
theorem dJ8_indexOf_25 : decode cJ8_indexOf 25 = .ok (.if_icmp .ge 11, 3) := dk_162 0 11 (dk_at dksJ8_indexOf_1 2 rfl rfl)
theorem dJ8_indexOf_28 : decode cJ8_indexOf 28 = .ok (.aload_n 0, 1) := dk_42 (dk_at dksJ8_indexOf_1 5 rfl rfl)
theorem dJ8_indexOf_29 : decode cJ8_indexOf 29 = .ok (.iload_n 1, 1) := dk_27 (dk_at dksJ8_indexOf_1 6 rfl rfl)
theorem dJ8_indexOf_30 : decode cJ8_indexOf 30 = .ok (.iload_n 2, 1) := dk_28 (dk_at dksJ8_indexOf_1 7 rfl rfl)
theorem dJ8_indexOf_31 : decode cJ8_indexOf 31 = .ok (.iload_n 3, 1) := dk_29 (dk_at dksJ8_indexOf_1 8 rfl rfl)
theorem dJ8_indexOf_32 : decode cJ8_indexOf 32 = .ok (.invokestatic 228, 3) := dk_184 0 228 (dk_at dksJ8_indexOf_1 9 rfl rfl)
theorem dJ8_indexOf_35 : decode cJ8_indexOf 35 = .ok (.ireturn, 1) := dk_172 (dk_at dksJ8_indexOf_1 12 rfl rfl)
theorem dJ8_indexOf_36 : decode cJ8_indexOf 36 = .ok (.aload_n 0, 1) := dk_42 (dk_at dksJ8_indexOf_1 13 rfl rfl)
theorem dJ8_indexOf_37 : decode cJ8_indexOf 37 = .ok (.iload_n 1, 1) := dk_27 (dk_at dksJ8_indexOf_1 14 rfl rfl)
theorem dJ8_indexOf_38 : decode cJ8_indexOf 38 = .ok (.iload_n 2, 1) := dk_28 (dk_at dksJ8_indexOf_1 15 rfl rfl)
theorem dJ8_indexOf_39 : decode cJ8_indexOf 39 = .ok (.iload_n 3, 1) := dk_29 (dk_at dksJ8_indexOf_1 16 rfl rfl)
theorem dJ8_indexOf_40 : decode cJ8_indexOf 40 = .ok (.invokestatic 232, 3) := dk_184 0 232 (dk_at dksJ8_indexOf_1 17 rfl rfl)
theorem dJ8_indexOf_43 : decode cJ8_indexOf 43 = .ok (.ireturn, 1) := dk_172 (dk_at dksJ8_indexOf_1 20 rfl rfl)
abbrev cJ8_indexOfChar : ByteArray := prog_31_method_47_code
def yJ8_indexOfChar : MethodName := ⟨RJ8, "indexOfChar", "([BIII)I"⟩
def dkwJ8_indexOfChar_0 : List UInt8 := [28, 29, 42, 184, 0, 96, 42, 27, 28, 29, 184, 0, 244, 172]
abbrev dktJ8_indexOfChar_0 : List UInt8 := dkwJ8_indexOfChar_0 ++ []
theorem dksJ8_indexOfChar_0 : cJ8_indexOfChar.data.toList.drop 0 = dktJ8_indexOfChar_0 := by decide +kernel
theorem dJ8_indexOfChar_0 : decode cJ8_indexOfChar 0 = .ok (.iload_n 2, 1) := dk_28 (dk_at dksJ8_indexOfChar_0 0 rfl rfl)
theorem dJ8_indexOfChar_1 : decode cJ8_indexOfChar 1 = .ok (.iload_n 3, 1) := dk_29 (dk_at dksJ8_indexOfChar_0 1 rfl rfl)
theorem dJ8_indexOfChar_2 : decode cJ8_indexOfChar 2 = .ok (.aload_n 0, 1) := dk_42 (dk_at dksJ8_indexOfChar_0 2 rfl rfl)
theorem dJ8_indexOfChar_3 : decode cJ8_indexOfChar 3 = .ok (.invokestatic 96, 3) := dk_184 0 96 (dk_at dksJ8_indexOfChar_0 3 rfl rfl)
theorem dJ8_indexOfChar_6 : decode cJ8_indexOfChar 6 = .ok (.aload_n 0, 1) := dk_42 (dk_at dksJ8_indexOfChar_0 6 rfl rfl)
theorem dJ8_indexOfChar_7 : decode cJ8_indexOfChar 7 = .ok (.iload_n 1, 1) := dk_27 (dk_at dksJ8_indexOfChar_0 7 rfl rfl)
theorem dJ8_indexOfChar_8 : decode cJ8_indexOfChar 8 = .ok (.iload_n 2, 1) := dk_28 (dk_at dksJ8_indexOfChar_0 8 rfl rfl)
theorem dJ8_indexOfChar_9 : decode cJ8_indexOfChar 9 = .ok (.iload_n 3, 1) := dk_29 (dk_at dksJ8_indexOfChar_0 9 rfl rfl)
theorem dJ8_indexOfChar_10 : decode cJ8_indexOfChar 10 = .ok (.invokestatic 244, 3) := dk_184 0 244 (dk_at dksJ8_indexOfChar_0 10 rfl rfl)
theorem dJ8_indexOfChar_13 : decode cJ8_indexOfChar 13 = .ok (.ireturn, 1) := dk_172 (dk_at dksJ8_indexOfChar_0 13 rfl rfl)
abbrev cJ8_checkBoundsBeginEnd : ByteArray := prog_31_method_93_code
def yJ8_checkBoundsBeginEnd : MethodName := ⟨RJ8, "checkBoundsBeginEnd", "(II[B)V"⟩
def dkwJ8_checkBoundsBeginEnd_0 : List UInt8 := [26, 27, 44, 184, 0, 48, 184, 0, 241, 177]
abbrev dktJ8_checkBoundsBeginEnd_0 : List UInt8 := dkwJ8_checkBoundsBeginEnd_0 ++ []
theorem dksJ8_checkBoundsBeginEnd_0 : cJ8_checkBoundsBeginEnd.data.toList.drop 0 = dktJ8_checkBoundsBeginEnd_0 := by decide +kernel
theorem dJ8_checkBoundsBeginEnd_0 : decode cJ8_checkBoundsBeginEnd 0 = .ok (.iload_n 0, 1) := dk_26 (dk_at dksJ8_checkBoundsBeginEnd_0 0 rfl rfl)
theorem dJ8_checkBoundsBeginEnd_1 : decode cJ8_checkBoundsBeginEnd 1 = .ok (.iload_n 1, 1) := dk_27 (dk_at dksJ8_checkBoundsBeginEnd_0 1 rfl rfl)
theorem dJ8_checkBoundsBeginEnd_2 : decode cJ8_checkBoundsBeginEnd 2 = .ok (.aload_n 2, 1) := dk_44 (dk_at dksJ8_checkBoundsBeginEnd_0 2 rfl rfl)
theorem dJ8_checkBoundsBeginEnd_3 : decode cJ8_checkBoundsBeginEnd 3 = .ok (.invokestatic 48, 3) := dk_184 0 48 (dk_at dksJ8_checkBoundsBeginEnd_0 3 rfl rfl)
theorem dJ8_checkBoundsBeginEnd_6 : decode cJ8_checkBoundsBeginEnd 6 = .ok (.invokestatic 241, 3) := dk_184 0 241 (dk_at dksJ8_checkBoundsBeginEnd_0 6 rfl rfl)
theorem dJ8_checkBoundsBeginEnd_9 : decode cJ8_checkBoundsBeginEnd 9 = .ok (.return_, 1) := dk_177 (dk_at dksJ8_checkBoundsBeginEnd_0 9 rfl rfl)
abbrev cJ8_length : ByteArray := prog_31_method_6_code
def yJ8_length : MethodName := ⟨RJ8, "length", "([B)I"⟩
def dkwJ8_length_0 : List UInt8 := [42, 190, 4, 122, 172]
abbrev dktJ8_length_0 : List UInt8 := dkwJ8_length_0 ++ []
theorem dksJ8_length_0 : cJ8_length.data.toList.drop 0 = dktJ8_length_0 := by decide +kernel
theorem dJ8_length_0 : decode cJ8_length 0 = .ok (.aload_n 0, 1) := dk_42 (dk_at dksJ8_length_0 0 rfl rfl)
theorem dJ8_length_1 : decode cJ8_length 1 = .ok (.arraylength, 1) := dk_190 (dk_at dksJ8_length_0 1 rfl rfl)
theorem dJ8_length_2 : decode cJ8_length 2 = .ok (.iconst 1, 1) := dk_4 (dk_at dksJ8_length_0 2 rfl rfl)
theorem dJ8_length_3 : decode cJ8_length 3 = .ok (.ishr, 1) := dk_122 (dk_at dksJ8_length_0 3 rfl rfl)
theorem dJ8_length_4 : decode cJ8_length 4 = .ok (.ireturn, 1) := dk_172 (dk_at dksJ8_length_0 4 rfl rfl)
abbrev cJ8_indexOfCharUnsafe : ByteArray := prog_31_method_48_code
def yJ8_indexOfCharUnsafe : MethodName := ⟨RJ8, "indexOfCharUnsafe", "([BIII)I"⟩
def dkwJ8_indexOfCharUnsafe_1 : List UInt8 := [132, 4, 1, 167, 255, 234, 2, 172]
abbrev dktJ8_indexOfCharUnsafe_1 : List UInt8 := dkwJ8_indexOfCharUnsafe_1 ++ []
def dkwJ8_indexOfCharUnsafe_0 : List UInt8 := [28, 54, 4, 21, 4, 29, 162, 0, 22, 42, 21, 4, 184, 0, 71, 27, 160, 0, 6, 21, 4, 172]
abbrev dktJ8_indexOfCharUnsafe_0 : List UInt8 := dkwJ8_indexOfCharUnsafe_0 ++ dktJ8_indexOfCharUnsafe_1
theorem dksJ8_indexOfCharUnsafe_0 : cJ8_indexOfCharUnsafe.data.toList.drop 0 = dktJ8_indexOfCharUnsafe_0 := by decide +kernel
theorem dksJ8_indexOfCharUnsafe_1 : cJ8_indexOfCharUnsafe.data.toList.drop 22 = dktJ8_indexOfCharUnsafe_1 := dk_seg dksJ8_indexOfCharUnsafe_0 22 rfl rfl
theorem dJ8_indexOfCharUnsafe_0 : decode cJ8_indexOfCharUnsafe 0 = .ok (.iload_n 2, 1) := dk_28 (dk_at dksJ8_indexOfCharUnsafe_0 0 rfl rfl)
theorem dJ8_indexOfCharUnsafe_1 : decode cJ8_indexOfCharUnsafe 1 = .ok (.istore 4, 2) := dk_54 4 (dk_at dksJ8_indexOfCharUnsafe_0 1 rfl rfl)
theorem dJ8_indexOfCharUnsafe_3 : decode cJ8_indexOfCharUnsafe 3 = .ok (.iload 4, 2) := dk_21 4 (dk_at dksJ8_indexOfCharUnsafe_0 3 rfl rfl)
theorem dJ8_indexOfCharUnsafe_5 : decode cJ8_indexOfCharUnsafe 5 = .ok (.iload_n 3, 1) := dk_29 (dk_at dksJ8_indexOfCharUnsafe_0 5 rfl rfl)
theorem dJ8_indexOfCharUnsafe_6 : decode cJ8_indexOfCharUnsafe 6 = .ok (.if_icmp .ge 22, 3) := dk_162 0 22 (dk_at dksJ8_indexOfCharUnsafe_0 6 rfl rfl)
theorem dJ8_indexOfCharUnsafe_9 : decode cJ8_indexOfCharUnsafe 9 = .ok (.aload_n 0, 1) := dk_42 (dk_at dksJ8_indexOfCharUnsafe_0 9 rfl rfl)
theorem dJ8_indexOfCharUnsafe_10 : decode cJ8_indexOfCharUnsafe 10 = .ok (.iload 4, 2) := dk_21 4 (dk_at dksJ8_indexOfCharUnsafe_0 10 rfl rfl)
theorem dJ8_indexOfCharUnsafe_12 : decode cJ8_indexOfCharUnsafe 12 = .ok (.invokestatic 71, 3) := dk_184 0 71 (dk_at dksJ8_indexOfCharUnsafe_0 12 rfl rfl)
theorem dJ8_indexOfCharUnsafe_15 : decode cJ8_indexOfCharUnsafe 15 = .ok (.iload_n 1, 1) := dk_27 (dk_at dksJ8_indexOfCharUnsafe_0 15 rfl rfl)
theorem dJ8_indexOfCharUnsafe_16 : decode cJ8_indexOfCharUnsafe 16 = .ok (.if_icmp .ne 6, 3) := dk_160 0 6 (dk_at dksJ8_indexOfCharUnsafe_0 16 rfl rfl)
theorem dJ8_indexOfCharUnsafe_19 : decode cJ8_indexOfCharUnsafe 19 = .ok (.iload 4, 2) := dk_21 4 (dk_at dksJ8_indexOfCharUnsafe_0 19 rfl rfl)
theorem dJ8_indexOfCharUnsafe_21 : decode cJ8_indexOfCharUnsafe 21 = .ok (.ireturn, 1) := dk_172 (dk_at dksJ8_indexOfCharUnsafe_0 21 rfl rfl)
theorem dJ8_indexOfCharUnsafe_22 : decode cJ8_indexOfCharUnsafe 22 = .ok (.iinc 4 1, 3) := dk_132 4 1 (dk_at dksJ8_indexOfCharUnsafe_1 0 rfl rfl)
theorem dJ8_indexOfCharUnsafe_25 : decode cJ8_indexOfCharUnsafe 25 = .ok (.goto (-22), 3) := dk_167 255 234 (dk_at dksJ8_indexOfCharUnsafe_1 3 rfl rfl)
theorem dJ8_indexOfCharUnsafe_28 : decode cJ8_indexOfCharUnsafe 28 = .ok (.iconst (-1), 1) := dk_2 (dk_at dksJ8_indexOfCharUnsafe_1 6 rfl rfl)
theorem dJ8_indexOfCharUnsafe_29 : decode cJ8_indexOfCharUnsafe 29 = .ok (.ireturn, 1) := dk_172 (dk_at dksJ8_indexOfCharUnsafe_1 7 rfl rfl)
abbrev cJ8_getChar : ByteArray := prog_31_method_5_code
def yJ8_getChar : MethodName := ⟨RJ8, "getChar", "([BI)C"⟩
def dkwJ8_getChar_2 : List UInt8 := [51, 17, 0, 255, 126, 178, 0, 63, 120, 128, 146, 172]
abbrev dktJ8_getChar_2 : List UInt8 := dkwJ8_getChar_2 ++ []
def dkwJ8_getChar_1 : List UInt8 := [183, 0, 56, 191, 27, 4, 120, 60, 42, 27, 132, 1, 1, 51, 17, 0, 255, 126, 178, 0, 59, 120, 42, 27]
abbrev dktJ8_getChar_1 : List UInt8 := dkwJ8_getChar_1 ++ dktJ8_getChar_2
def dkwJ8_getChar_0 : List UInt8 := [178, 0, 44, 154, 0, 25, 27, 155, 0, 11, 27, 42, 184, 0, 48, 161, 0, 13, 187, 0, 52, 89, 18, 54]
abbrev dktJ8_getChar_0 : List UInt8 := dkwJ8_getChar_0 ++ dktJ8_getChar_1
theorem dksJ8_getChar_0 : cJ8_getChar.data.toList.drop 0 = dktJ8_getChar_0 := by decide +kernel
theorem dksJ8_getChar_1 : cJ8_getChar.data.toList.drop 24 = dktJ8_getChar_1 := dk_seg dksJ8_getChar_0 24 rfl rfl
theorem dksJ8_getChar_2 : cJ8_getChar.data.toList.drop 48 = dktJ8_getChar_2 := dk_seg dksJ8_getChar_1 24 rfl rfl
theorem dJ8_getChar_0 : decode cJ8_getChar 0 = .ok (.getstatic 44, 3) := dk_178 0 44 (dk_at dksJ8_getChar_0 0 rfl rfl)
theorem dJ8_getChar_3 : decode cJ8_getChar 3 = .ok (.ifCond .ne 25, 3) := dk_154 0 25 (dk_at dksJ8_getChar_0 3 rfl rfl)
theorem dJ8_getChar_6 : decode cJ8_getChar 6 = .ok (.iload_n 1, 1) := dk_27 (dk_at dksJ8_getChar_0 6 rfl rfl)
theorem dJ8_getChar_7 : decode cJ8_getChar 7 = .ok (.ifCond .lt 11, 3) := dk_155 0 11 (dk_at dksJ8_getChar_0 7 rfl rfl)
theorem dJ8_getChar_10 : decode cJ8_getChar 10 = .ok (.iload_n 1, 1) := dk_27 (dk_at dksJ8_getChar_0 10 rfl rfl)
theorem dJ8_getChar_11 : decode cJ8_getChar 11 = .ok (.aload_n 0, 1) := dk_42 (dk_at dksJ8_getChar_0 11 rfl rfl)
theorem dJ8_getChar_12 : decode cJ8_getChar 12 = .ok (.invokestatic 48, 3) := dk_184 0 48 (dk_at dksJ8_getChar_0 12 rfl rfl)
theorem dJ8_getChar_15 : decode cJ8_getChar 15 = .ok (.if_icmp .lt 13, 3) := dk_161 0 13 (dk_at dksJ8_getChar_0 15 rfl rfl)
theorem dJ8_getChar_18 : decode cJ8_getChar 18 = .ok (.new 52, 3) := dk_187 0 52 (dk_at dksJ8_getChar_0 18 rfl rfl)
theorem dJ8_getChar_21 : decode cJ8_getChar 21 = .ok (.dup, 1) := dk_89 (dk_at dksJ8_getChar_0 21 rfl rfl)
theorem dJ8_getChar_22 : decode cJ8_getChar 22 = .ok (.ldc 54, 2) := dk_18 54 (dk_at dksJ8_getChar_0 22 rfl rfl)
theorem dJ8_getChar_24 : decode cJ8_getChar 24 = .ok (.invokespecial 56, 3) := dk_183 0 56 (dk_at dksJ8_getChar_1 0 rfl rfl)
theorem dJ8_getChar_27 : decode cJ8_getChar 27 = .ok (.athrow, 1) := dk_191 (dk_at dksJ8_getChar_1 3 rfl rfl)
theorem dJ8_getChar_28 : decode cJ8_getChar 28 = .ok (.iload_n 1, 1) := dk_27 (dk_at dksJ8_getChar_1 4 rfl rfl)
theorem dJ8_getChar_29 : decode cJ8_getChar 29 = .ok (.iconst 1, 1) := dk_4 (dk_at dksJ8_getChar_1 5 rfl rfl)
theorem dJ8_getChar_30 : decode cJ8_getChar 30 = .ok (.ishl, 1) := dk_120 (dk_at dksJ8_getChar_1 6 rfl rfl)
theorem dJ8_getChar_31 : decode cJ8_getChar 31 = .ok (.istore_n 1, 1) := dk_60 (dk_at dksJ8_getChar_1 7 rfl rfl)
theorem dJ8_getChar_32 : decode cJ8_getChar 32 = .ok (.aload_n 0, 1) := dk_42 (dk_at dksJ8_getChar_1 8 rfl rfl)
theorem dJ8_getChar_33 : decode cJ8_getChar 33 = .ok (.iload_n 1, 1) := dk_27 (dk_at dksJ8_getChar_1 9 rfl rfl)
theorem dJ8_getChar_34 : decode cJ8_getChar 34 = .ok (.iinc 1 1, 3) := dk_132 1 1 (dk_at dksJ8_getChar_1 10 rfl rfl)
theorem dJ8_getChar_37 : decode cJ8_getChar 37 = .ok (.baload, 1) := dk_51 (dk_at dksJ8_getChar_1 13 rfl rfl)
theorem dJ8_getChar_38 : decode cJ8_getChar 38 = .ok (.sipush 255, 3) := dk_17 0 255 (dk_at dksJ8_getChar_1 14 rfl rfl)
theorem dJ8_getChar_41 : decode cJ8_getChar 41 = .ok (.iand, 1) := dk_126 (dk_at dksJ8_getChar_1 17 rfl rfl)
theorem dJ8_getChar_42 : decode cJ8_getChar 42 = .ok (.getstatic 59, 3) := dk_178 0 59 (dk_at dksJ8_getChar_1 18 rfl rfl)
theorem dJ8_getChar_45 : decode cJ8_getChar 45 = .ok (.ishl, 1) := dk_120 (dk_at dksJ8_getChar_1 21 rfl rfl)
theorem dJ8_getChar_46 : decode cJ8_getChar 46 = .ok (.aload_n 0, 1) := dk_42 (dk_at dksJ8_getChar_1 22 rfl rfl)
theorem dJ8_getChar_47 : decode cJ8_getChar 47 = .ok (.iload_n 1, 1) := dk_27 (dk_at dksJ8_getChar_1 23 rfl rfl)
theorem dJ8_getChar_48 : decode cJ8_getChar 48 = .ok (.baload, 1) := dk_51 (dk_at dksJ8_getChar_2 0 rfl rfl)
theorem dJ8_getChar_49 : decode cJ8_getChar 49 = .ok (.sipush 255, 3) := dk_17 0 255 (dk_at dksJ8_getChar_2 1 rfl rfl)
theorem dJ8_getChar_52 : decode cJ8_getChar 52 = .ok (.iand, 1) := dk_126 (dk_at dksJ8_getChar_2 4 rfl rfl)
theorem dJ8_getChar_53 : decode cJ8_getChar 53 = .ok (.getstatic 63, 3) := dk_178 0 63 (dk_at dksJ8_getChar_2 5 rfl rfl)
theorem dJ8_getChar_56 : decode cJ8_getChar 56 = .ok (.ishl, 1) := dk_120 (dk_at dksJ8_getChar_2 8 rfl rfl)
theorem dJ8_getChar_57 : decode cJ8_getChar 57 = .ok (.ior, 1) := dk_128 (dk_at dksJ8_getChar_2 9 rfl rfl)
theorem dJ8_getChar_58 : decode cJ8_getChar 58 = .ok (.i2c, 1) := dk_146 (dk_at dksJ8_getChar_2 10 rfl rfl)
theorem dJ8_getChar_59 : decode cJ8_getChar 59 = .ok (.ireturn, 1) := dk_172 (dk_at dksJ8_getChar_2 11 rfl rfl)
abbrev cJ8_indexOfSupplementary : ByteArray := prog_31_method_49_code
def yJ8_indexOfSupplementary : MethodName := ⟨RJ8, "indexOfSupplementary", "([BIII)I"⟩
def dkwJ8_indexOfSupplementary_3 : List UInt8 := [167, 255, 218, 2, 172]
abbrev dktJ8_indexOfSupplementary_3 : List UInt8 := dkwJ8_indexOfSupplementary_3 ++ []
def dkwJ8_indexOfSupplementary_2 : List UInt8 := [160, 0, 19, 42, 21, 6, 4, 96, 184, 0, 71, 21, 5, 160, 0, 6, 21, 6, 172, 132, 6, 1]
abbrev dktJ8_indexOfSupplementary_2 : List UInt8 := dkwJ8_indexOfSupplementary_2 ++ dktJ8_indexOfSupplementary_3
def dkwJ8_indexOfSupplementary_1 : List UInt8 := [184, 0, 96, 28, 54, 6, 21, 6, 29, 4, 100, 162, 0, 36, 42, 21, 6, 184, 0, 71, 21, 4]
abbrev dktJ8_indexOfSupplementary_1 : List UInt8 := dkwJ8_indexOfSupplementary_1 ++ dktJ8_indexOfSupplementary_2
def dkwJ8_indexOfSupplementary_0 : List UInt8 := [27, 184, 0, 164, 153, 0, 65, 27, 184, 0, 157, 54, 4, 27, 184, 0, 161, 54, 5, 28, 29, 42]
abbrev dktJ8_indexOfSupplementary_0 : List UInt8 := dkwJ8_indexOfSupplementary_0 ++ dktJ8_indexOfSupplementary_1
theorem dksJ8_indexOfSupplementary_0 : cJ8_indexOfSupplementary.data.toList.drop 0 = dktJ8_indexOfSupplementary_0 := by decide +kernel
theorem dksJ8_indexOfSupplementary_1 : cJ8_indexOfSupplementary.data.toList.drop 22 = dktJ8_indexOfSupplementary_1 := dk_seg dksJ8_indexOfSupplementary_0 22 rfl rfl
theorem dksJ8_indexOfSupplementary_2 : cJ8_indexOfSupplementary.data.toList.drop 44 = dktJ8_indexOfSupplementary_2 := dk_seg dksJ8_indexOfSupplementary_1 22 rfl rfl
theorem dksJ8_indexOfSupplementary_3 : cJ8_indexOfSupplementary.data.toList.drop 66 = dktJ8_indexOfSupplementary_3 := dk_seg dksJ8_indexOfSupplementary_2 22 rfl rfl
theorem dJ8_indexOfSupplementary_0 : decode cJ8_indexOfSupplementary 0 = .ok (.iload_n 1, 1) := dk_27 (dk_at dksJ8_indexOfSupplementary_0 0 rfl rfl)
theorem dJ8_indexOfSupplementary_1 : decode cJ8_indexOfSupplementary 1 = .ok (.invokestatic 164, 3) := dk_184 0 164 (dk_at dksJ8_indexOfSupplementary_0 1 rfl rfl)
theorem dJ8_indexOfSupplementary_4 : decode cJ8_indexOfSupplementary 4 = .ok (.ifCond .eq 65, 3) := dk_153 0 65 (dk_at dksJ8_indexOfSupplementary_0 4 rfl rfl)
theorem dJ8_indexOfSupplementary_7 : decode cJ8_indexOfSupplementary 7 = .ok (.iload_n 1, 1) := dk_27 (dk_at dksJ8_indexOfSupplementary_0 7 rfl rfl)
theorem dJ8_indexOfSupplementary_8 : decode cJ8_indexOfSupplementary 8 = .ok (.invokestatic 157, 3) := dk_184 0 157 (dk_at dksJ8_indexOfSupplementary_0 8 rfl rfl)
theorem dJ8_indexOfSupplementary_11 : decode cJ8_indexOfSupplementary 11 = .ok (.istore 4, 2) := dk_54 4 (dk_at dksJ8_indexOfSupplementary_0 11 rfl rfl)
theorem dJ8_indexOfSupplementary_13 : decode cJ8_indexOfSupplementary 13 = .ok (.iload_n 1, 1) := dk_27 (dk_at dksJ8_indexOfSupplementary_0 13 rfl rfl)
theorem dJ8_indexOfSupplementary_14 : decode cJ8_indexOfSupplementary 14 = .ok (.invokestatic 161, 3) := dk_184 0 161 (dk_at dksJ8_indexOfSupplementary_0 14 rfl rfl)
theorem dJ8_indexOfSupplementary_17 : decode cJ8_indexOfSupplementary 17 = .ok (.istore 5, 2) := dk_54 5 (dk_at dksJ8_indexOfSupplementary_0 17 rfl rfl)
theorem dJ8_indexOfSupplementary_19 : decode cJ8_indexOfSupplementary 19 = .ok (.iload_n 2, 1) := dk_28 (dk_at dksJ8_indexOfSupplementary_0 19 rfl rfl)
theorem dJ8_indexOfSupplementary_20 : decode cJ8_indexOfSupplementary 20 = .ok (.iload_n 3, 1) := dk_29 (dk_at dksJ8_indexOfSupplementary_0 20 rfl rfl)
theorem dJ8_indexOfSupplementary_21 : decode cJ8_indexOfSupplementary 21 = .ok (.aload_n 0, 1) := dk_42 (dk_at dksJ8_indexOfSupplementary_0 21 rfl rfl)
theorem dJ8_indexOfSupplementary_22 : decode cJ8_indexOfSupplementary 22 = .ok (.invokestatic 96, 3) := dk_184 0 96 (dk_at dksJ8_indexOfSupplementary_1 0 rfl rfl)
theorem dJ8_indexOfSupplementary_25 : decode cJ8_indexOfSupplementary 25 = .ok (.iload_n 2, 1) := dk_28 (dk_at dksJ8_indexOfSupplementary_1 3 rfl rfl)
theorem dJ8_indexOfSupplementary_26 : decode cJ8_indexOfSupplementary 26 = .ok (.istore 6, 2) := dk_54 6 (dk_at dksJ8_indexOfSupplementary_1 4 rfl rfl)
theorem dJ8_indexOfSupplementary_28 : decode cJ8_indexOfSupplementary 28 = .ok (.iload 6, 2) := dk_21 6 (dk_at dksJ8_indexOfSupplementary_1 6 rfl rfl)
theorem dJ8_indexOfSupplementary_30 : decode cJ8_indexOfSupplementary 30 = .ok (.iload_n 3, 1) := dk_29 (dk_at dksJ8_indexOfSupplementary_1 8 rfl rfl)
theorem dJ8_indexOfSupplementary_31 : decode cJ8_indexOfSupplementary 31 = .ok (.iconst 1, 1) := dk_4 (dk_at dksJ8_indexOfSupplementary_1 9 rfl rfl)
theorem dJ8_indexOfSupplementary_32 : decode cJ8_indexOfSupplementary 32 = .ok (.isub, 1) := dk_100 (dk_at dksJ8_indexOfSupplementary_1 10 rfl rfl)
theorem dJ8_indexOfSupplementary_33 : decode cJ8_indexOfSupplementary 33 = .ok (.if_icmp .ge 36, 3) := dk_162 0 36 (dk_at dksJ8_indexOfSupplementary_1 11 rfl rfl)
theorem dJ8_indexOfSupplementary_36 : decode cJ8_indexOfSupplementary 36 = .ok (.aload_n 0, 1) := dk_42 (dk_at dksJ8_indexOfSupplementary_1 14 rfl rfl)
theorem dJ8_indexOfSupplementary_37 : decode cJ8_indexOfSupplementary 37 = .ok (.iload 6, 2) := dk_21 6 (dk_at dksJ8_indexOfSupplementary_1 15 rfl rfl)
theorem dJ8_indexOfSupplementary_39 : decode cJ8_indexOfSupplementary 39 = .ok (.invokestatic 71, 3) := dk_184 0 71 (dk_at dksJ8_indexOfSupplementary_1 17 rfl rfl)
theorem dJ8_indexOfSupplementary_42 : decode cJ8_indexOfSupplementary 42 = .ok (.iload 4, 2) := dk_21 4 (dk_at dksJ8_indexOfSupplementary_1 20 rfl rfl)
theorem dJ8_indexOfSupplementary_44 : decode cJ8_indexOfSupplementary 44 = .ok (.if_icmp .ne 19, 3) := dk_160 0 19 (dk_at dksJ8_indexOfSupplementary_2 0 rfl rfl)
theorem dJ8_indexOfSupplementary_47 : decode cJ8_indexOfSupplementary 47 = .ok (.aload_n 0, 1) := dk_42 (dk_at dksJ8_indexOfSupplementary_2 3 rfl rfl)
theorem dJ8_indexOfSupplementary_48 : decode cJ8_indexOfSupplementary 48 = .ok (.iload 6, 2) := dk_21 6 (dk_at dksJ8_indexOfSupplementary_2 4 rfl rfl)
theorem dJ8_indexOfSupplementary_50 : decode cJ8_indexOfSupplementary 50 = .ok (.iconst 1, 1) := dk_4 (dk_at dksJ8_indexOfSupplementary_2 6 rfl rfl)
theorem dJ8_indexOfSupplementary_51 : decode cJ8_indexOfSupplementary 51 = .ok (.iadd, 1) := dk_96 (dk_at dksJ8_indexOfSupplementary_2 7 rfl rfl)
theorem dJ8_indexOfSupplementary_52 : decode cJ8_indexOfSupplementary 52 = .ok (.invokestatic 71, 3) := dk_184 0 71 (dk_at dksJ8_indexOfSupplementary_2 8 rfl rfl)
theorem dJ8_indexOfSupplementary_55 : decode cJ8_indexOfSupplementary 55 = .ok (.iload 5, 2) := dk_21 5 (dk_at dksJ8_indexOfSupplementary_2 11 rfl rfl)
theorem dJ8_indexOfSupplementary_57 : decode cJ8_indexOfSupplementary 57 = .ok (.if_icmp .ne 6, 3) := dk_160 0 6 (dk_at dksJ8_indexOfSupplementary_2 13 rfl rfl)
theorem dJ8_indexOfSupplementary_60 : decode cJ8_indexOfSupplementary 60 = .ok (.iload 6, 2) := dk_21 6 (dk_at dksJ8_indexOfSupplementary_2 16 rfl rfl)
theorem dJ8_indexOfSupplementary_62 : decode cJ8_indexOfSupplementary 62 = .ok (.ireturn, 1) := dk_172 (dk_at dksJ8_indexOfSupplementary_2 18 rfl rfl)
theorem dJ8_indexOfSupplementary_63 : decode cJ8_indexOfSupplementary 63 = .ok (.iinc 6 1, 3) := dk_132 6 1 (dk_at dksJ8_indexOfSupplementary_2 19 rfl rfl)
theorem dJ8_indexOfSupplementary_66 : decode cJ8_indexOfSupplementary 66 = .ok (.goto (-38), 3) := dk_167 255 218 (dk_at dksJ8_indexOfSupplementary_3 0 rfl rfl)
theorem dJ8_indexOfSupplementary_69 : decode cJ8_indexOfSupplementary 69 = .ok (.iconst (-1), 1) := dk_2 (dk_at dksJ8_indexOfSupplementary_3 3 rfl rfl)
theorem dJ8_indexOfSupplementary_70 : decode cJ8_indexOfSupplementary 70 = .ok (.ireturn, 1) := dk_172 (dk_at dksJ8_indexOfSupplementary_3 4 rfl rfl)
abbrev cJ9_checkFromToIndex : ByteArray := prog_46_method_12_code
def yJ9_checkFromToIndex : MethodName := ⟨RJ9, "checkFromToIndex", "(IIILjava/util/function/BiFunction;)I"⟩
def dkwJ9_checkFromToIndex_0 : List UInt8 := [26, 155, 0, 13, 26, 27, 163, 0, 8, 27, 28, 164, 0, 11, 45, 26, 27, 28, 184, 0, 99, 191, 26, 172]
abbrev dktJ9_checkFromToIndex_0 : List UInt8 := dkwJ9_checkFromToIndex_0 ++ []
theorem dksJ9_checkFromToIndex_0 : cJ9_checkFromToIndex.data.toList.drop 0 = dktJ9_checkFromToIndex_0 := by decide +kernel
theorem dJ9_checkFromToIndex_0 : decode cJ9_checkFromToIndex 0 = .ok (.iload_n 0, 1) := dk_26 (dk_at dksJ9_checkFromToIndex_0 0 rfl rfl)
theorem dJ9_checkFromToIndex_1 : decode cJ9_checkFromToIndex 1 = .ok (.ifCond .lt 13, 3) := dk_155 0 13 (dk_at dksJ9_checkFromToIndex_0 1 rfl rfl)
theorem dJ9_checkFromToIndex_4 : decode cJ9_checkFromToIndex 4 = .ok (.iload_n 0, 1) := dk_26 (dk_at dksJ9_checkFromToIndex_0 4 rfl rfl)
theorem dJ9_checkFromToIndex_5 : decode cJ9_checkFromToIndex 5 = .ok (.iload_n 1, 1) := dk_27 (dk_at dksJ9_checkFromToIndex_0 5 rfl rfl)
theorem dJ9_checkFromToIndex_6 : decode cJ9_checkFromToIndex 6 = .ok (.if_icmp .gt 8, 3) := dk_163 0 8 (dk_at dksJ9_checkFromToIndex_0 6 rfl rfl)
theorem dJ9_checkFromToIndex_9 : decode cJ9_checkFromToIndex 9 = .ok (.iload_n 1, 1) := dk_27 (dk_at dksJ9_checkFromToIndex_0 9 rfl rfl)
theorem dJ9_checkFromToIndex_10 : decode cJ9_checkFromToIndex 10 = .ok (.iload_n 2, 1) := dk_28 (dk_at dksJ9_checkFromToIndex_0 10 rfl rfl)
theorem dJ9_checkFromToIndex_11 : decode cJ9_checkFromToIndex 11 = .ok (.if_icmp .le 11, 3) := dk_164 0 11 (dk_at dksJ9_checkFromToIndex_0 11 rfl rfl)
theorem dJ9_checkFromToIndex_14 : decode cJ9_checkFromToIndex 14 = .ok (.aload_n 3, 1) := dk_45 (dk_at dksJ9_checkFromToIndex_0 14 rfl rfl)
theorem dJ9_checkFromToIndex_15 : decode cJ9_checkFromToIndex 15 = .ok (.iload_n 0, 1) := dk_26 (dk_at dksJ9_checkFromToIndex_0 15 rfl rfl)
theorem dJ9_checkFromToIndex_16 : decode cJ9_checkFromToIndex 16 = .ok (.iload_n 1, 1) := dk_27 (dk_at dksJ9_checkFromToIndex_0 16 rfl rfl)
theorem dJ9_checkFromToIndex_17 : decode cJ9_checkFromToIndex 17 = .ok (.iload_n 2, 1) := dk_28 (dk_at dksJ9_checkFromToIndex_0 17 rfl rfl)
theorem dJ9_checkFromToIndex_18 : decode cJ9_checkFromToIndex 18 = .ok (.invokestatic 99, 3) := dk_184 0 99 (dk_at dksJ9_checkFromToIndex_0 18 rfl rfl)
theorem dJ9_checkFromToIndex_21 : decode cJ9_checkFromToIndex 21 = .ok (.athrow, 1) := dk_191 (dk_at dksJ9_checkFromToIndex_0 21 rfl rfl)
theorem dJ9_checkFromToIndex_22 : decode cJ9_checkFromToIndex 22 = .ok (.iload_n 0, 1) := dk_26 (dk_at dksJ9_checkFromToIndex_0 22 rfl rfl)
theorem dJ9_checkFromToIndex_23 : decode cJ9_checkFromToIndex 23 = .ok (.ireturn, 1) := dk_172 (dk_at dksJ9_checkFromToIndex_0 23 rfl rfl)
abbrev cJ9_checkIndex : ByteArray := prog_46_method_11_code
def yJ9_checkIndex : MethodName := ⟨RJ9, "checkIndex", "(IILjava/util/function/BiFunction;)I"⟩
def dkwJ9_checkIndex_0 : List UInt8 := [26, 155, 0, 8, 26, 27, 161, 0, 10, 44, 26, 27, 184, 0, 95, 191, 26, 172]
abbrev dktJ9_checkIndex_0 : List UInt8 := dkwJ9_checkIndex_0 ++ []
theorem dksJ9_checkIndex_0 : cJ9_checkIndex.data.toList.drop 0 = dktJ9_checkIndex_0 := by decide +kernel
theorem dJ9_checkIndex_0 : decode cJ9_checkIndex 0 = .ok (.iload_n 0, 1) := dk_26 (dk_at dksJ9_checkIndex_0 0 rfl rfl)
theorem dJ9_checkIndex_1 : decode cJ9_checkIndex 1 = .ok (.ifCond .lt 8, 3) := dk_155 0 8 (dk_at dksJ9_checkIndex_0 1 rfl rfl)
theorem dJ9_checkIndex_4 : decode cJ9_checkIndex 4 = .ok (.iload_n 0, 1) := dk_26 (dk_at dksJ9_checkIndex_0 4 rfl rfl)
theorem dJ9_checkIndex_5 : decode cJ9_checkIndex 5 = .ok (.iload_n 1, 1) := dk_27 (dk_at dksJ9_checkIndex_0 5 rfl rfl)
theorem dJ9_checkIndex_6 : decode cJ9_checkIndex 6 = .ok (.if_icmp .lt 10, 3) := dk_161 0 10 (dk_at dksJ9_checkIndex_0 6 rfl rfl)
theorem dJ9_checkIndex_9 : decode cJ9_checkIndex 9 = .ok (.aload_n 2, 1) := dk_44 (dk_at dksJ9_checkIndex_0 9 rfl rfl)
theorem dJ9_checkIndex_10 : decode cJ9_checkIndex 10 = .ok (.iload_n 0, 1) := dk_26 (dk_at dksJ9_checkIndex_0 10 rfl rfl)
theorem dJ9_checkIndex_11 : decode cJ9_checkIndex 11 = .ok (.iload_n 1, 1) := dk_27 (dk_at dksJ9_checkIndex_0 11 rfl rfl)
theorem dJ9_checkIndex_12 : decode cJ9_checkIndex 12 = .ok (.invokestatic 95, 3) := dk_184 0 95 (dk_at dksJ9_checkIndex_0 12 rfl rfl)
theorem dJ9_checkIndex_15 : decode cJ9_checkIndex 15 = .ok (.athrow, 1) := dk_191 (dk_at dksJ9_checkIndex_0 15 rfl rfl)
theorem dJ9_checkIndex_16 : decode cJ9_checkIndex 16 = .ok (.iload_n 0, 1) := dk_26 (dk_at dksJ9_checkIndex_0 16 rfl rfl)
theorem dJ9_checkIndex_17 : decode cJ9_checkIndex 17 = .ok (.ireturn, 1) := dk_172 (dk_at dksJ9_checkIndex_0 17 rfl rfl)
abbrev cX1_init : ByteArray := prog_11_method_1_code
def yX1_init : MethodName := ⟨RX1, "<init>", "()V"⟩
def dkwX1_init_0 : List UInt8 := [42, 183, 0, 3, 42, 16, 31, 188, 8, 181, 0, 9, 177]
abbrev dktX1_init_0 : List UInt8 := dkwX1_init_0 ++ []
theorem dksX1_init_0 : cX1_init.data.toList.drop 0 = dktX1_init_0 := by decide +kernel
theorem dX1_init_0 : decode cX1_init 0 = .ok (.aload_n 0, 1) := dk_42 (dk_at dksX1_init_0 0 rfl rfl)
theorem dX1_init_1 : decode cX1_init 1 = .ok (.invokespecial 3, 3) := dk_183 0 3 (dk_at dksX1_init_0 1 rfl rfl)
theorem dX1_init_4 : decode cX1_init 4 = .ok (.aload_n 0, 1) := dk_42 (dk_at dksX1_init_0 4 rfl rfl)
theorem dX1_init_5 : decode cX1_init 5 = .ok (.bipush 31, 2) := dk_16 31 (dk_at dksX1_init_0 5 rfl rfl)
theorem dX1_init_7 : decode cX1_init 7 = .ok (.newarray .byte, 2) := dk_188_8 (dk_at dksX1_init_0 7 rfl rfl)
theorem dX1_init_9 : decode cX1_init 9 = .ok (.putfield 9, 3) := dk_181 0 9 (dk_at dksX1_init_0 9 rfl rfl)
theorem dX1_init_12 : decode cX1_init 12 = .ok (.return_, 1) := dk_177 (dk_at dksX1_init_0 12 rfl rfl)
abbrev cX1_type : ByteArray := prog_11_method_5_code
def yX1_type : MethodName := ⟨RX1, "type", "(I)I"⟩
def dkwX1_type_1 : List UInt8 := [145, 84, 42, 89, 180, 0, 15, 4, 96, 181, 0, 15, 42, 3, 181, 0, 19, 42, 180, 0, 15, 172]
abbrev dktX1_type_1 : List UInt8 := dkwX1_type_1 ++ []
def dkwX1_type_0 : List UInt8 := [42, 180, 0, 15, 42, 180, 0, 9, 190, 160, 0, 6, 16, 252, 172, 42, 180, 0, 9, 42, 180, 0, 15, 27]
abbrev dktX1_type_0 : List UInt8 := dkwX1_type_0 ++ dktX1_type_1
theorem dksX1_type_0 : cX1_type.data.toList.drop 0 = dktX1_type_0 := by decide +kernel
theorem dksX1_type_1 : cX1_type.data.toList.drop 24 = dktX1_type_1 := dk_seg dksX1_type_0 24 rfl rfl
theorem dX1_type_0 : decode cX1_type 0 = .ok (.aload_n 0, 1) := dk_42 (dk_at dksX1_type_0 0 rfl rfl)
theorem dX1_type_1 : decode cX1_type 1 = .ok (.getfield 15, 3) := dk_180 0 15 (dk_at dksX1_type_0 1 rfl rfl)
theorem dX1_type_4 : decode cX1_type 4 = .ok (.aload_n 0, 1) := dk_42 (dk_at dksX1_type_0 4 rfl rfl)
theorem dX1_type_5 : decode cX1_type 5 = .ok (.getfield 9, 3) := dk_180 0 9 (dk_at dksX1_type_0 5 rfl rfl)
theorem dX1_type_8 : decode cX1_type 8 = .ok (.arraylength, 1) := dk_190 (dk_at dksX1_type_0 8 rfl rfl)
theorem dX1_type_9 : decode cX1_type 9 = .ok (.if_icmp .ne 6, 3) := dk_160 0 6 (dk_at dksX1_type_0 9 rfl rfl)
theorem dX1_type_12 : decode cX1_type 12 = .ok (.bipush (-4), 2) := dk_16 252 (dk_at dksX1_type_0 12 rfl rfl)
theorem dX1_type_14 : decode cX1_type 14 = .ok (.ireturn, 1) := dk_172 (dk_at dksX1_type_0 14 rfl rfl)
theorem dX1_type_15 : decode cX1_type 15 = .ok (.aload_n 0, 1) := dk_42 (dk_at dksX1_type_0 15 rfl rfl)
theorem dX1_type_16 : decode cX1_type 16 = .ok (.getfield 9, 3) := dk_180 0 9 (dk_at dksX1_type_0 16 rfl rfl)
theorem dX1_type_19 : decode cX1_type 19 = .ok (.aload_n 0, 1) := dk_42 (dk_at dksX1_type_0 19 rfl rfl)
theorem dX1_type_20 : decode cX1_type 20 = .ok (.getfield 15, 3) := dk_180 0 15 (dk_at dksX1_type_0 20 rfl rfl)
theorem dX1_type_23 : decode cX1_type 23 = .ok (.iload_n 1, 1) := dk_27 (dk_at dksX1_type_0 23 rfl rfl)
theorem dX1_type_24 : decode cX1_type 24 = .ok (.i2b, 1) := dk_145 (dk_at dksX1_type_1 0 rfl rfl)
theorem dX1_type_25 : decode cX1_type 25 = .ok (.bastore, 1) := dk_84 (dk_at dksX1_type_1 1 rfl rfl)
theorem dX1_type_26 : decode cX1_type 26 = .ok (.aload_n 0, 1) := dk_42 (dk_at dksX1_type_1 2 rfl rfl)
theorem dX1_type_27 : decode cX1_type 27 = .ok (.dup, 1) := dk_89 (dk_at dksX1_type_1 3 rfl rfl)
theorem dX1_type_28 : decode cX1_type 28 = .ok (.getfield 15, 3) := dk_180 0 15 (dk_at dksX1_type_1 4 rfl rfl)
theorem dX1_type_31 : decode cX1_type 31 = .ok (.iconst 1, 1) := dk_4 (dk_at dksX1_type_1 7 rfl rfl)
theorem dX1_type_32 : decode cX1_type 32 = .ok (.iadd, 1) := dk_96 (dk_at dksX1_type_1 8 rfl rfl)
theorem dX1_type_33 : decode cX1_type 33 = .ok (.putfield 15, 3) := dk_181 0 15 (dk_at dksX1_type_1 9 rfl rfl)
theorem dX1_type_36 : decode cX1_type 36 = .ok (.aload_n 0, 1) := dk_42 (dk_at dksX1_type_1 12 rfl rfl)
theorem dX1_type_37 : decode cX1_type 37 = .ok (.iconst 0, 1) := dk_3 (dk_at dksX1_type_1 13 rfl rfl)
theorem dX1_type_38 : decode cX1_type 38 = .ok (.putfield 19, 3) := dk_181 0 19 (dk_at dksX1_type_1 14 rfl rfl)
theorem dX1_type_41 : decode cX1_type 41 = .ok (.aload_n 0, 1) := dk_42 (dk_at dksX1_type_1 17 rfl rfl)
theorem dX1_type_42 : decode cX1_type 42 = .ok (.getfield 15, 3) := dk_180 0 15 (dk_at dksX1_type_1 18 rfl rfl)
theorem dX1_type_45 : decode cX1_type 45 = .ok (.ireturn, 1) := dk_172 (dk_at dksX1_type_1 21 rfl rfl)
abbrev cX1_wipe : ByteArray := prog_11_method_6_code
def yX1_wipe : MethodName := ⟨RX1, "wipe", "()I"⟩
def dkwX1_wipe_0 : List UInt8 := [42, 180, 0, 15, 60, 42, 3, 181, 0, 15, 42, 3, 181, 0, 19, 27, 172]
abbrev dktX1_wipe_0 : List UInt8 := dkwX1_wipe_0 ++ []
theorem dksX1_wipe_0 : cX1_wipe.data.toList.drop 0 = dktX1_wipe_0 := by decide +kernel
theorem dX1_wipe_0 : decode cX1_wipe 0 = .ok (.aload_n 0, 1) := dk_42 (dk_at dksX1_wipe_0 0 rfl rfl)
theorem dX1_wipe_1 : decode cX1_wipe 1 = .ok (.getfield 15, 3) := dk_180 0 15 (dk_at dksX1_wipe_0 1 rfl rfl)
theorem dX1_wipe_4 : decode cX1_wipe 4 = .ok (.istore_n 1, 1) := dk_60 (dk_at dksX1_wipe_0 4 rfl rfl)
theorem dX1_wipe_5 : decode cX1_wipe 5 = .ok (.aload_n 0, 1) := dk_42 (dk_at dksX1_wipe_0 5 rfl rfl)
theorem dX1_wipe_6 : decode cX1_wipe 6 = .ok (.iconst 0, 1) := dk_3 (dk_at dksX1_wipe_0 6 rfl rfl)
theorem dX1_wipe_7 : decode cX1_wipe 7 = .ok (.putfield 15, 3) := dk_181 0 15 (dk_at dksX1_wipe_0 7 rfl rfl)
theorem dX1_wipe_10 : decode cX1_wipe 10 = .ok (.aload_n 0, 1) := dk_42 (dk_at dksX1_wipe_0 10 rfl rfl)
theorem dX1_wipe_11 : decode cX1_wipe 11 = .ok (.iconst 0, 1) := dk_3 (dk_at dksX1_wipe_0 11 rfl rfl)
theorem dX1_wipe_12 : decode cX1_wipe 12 = .ok (.putfield 19, 3) := dk_181 0 19 (dk_at dksX1_wipe_0 12 rfl rfl)
theorem dX1_wipe_15 : decode cX1_wipe 15 = .ok (.iload_n 1, 1) := dk_27 (dk_at dksX1_wipe_0 15 rfl rfl)
theorem dX1_wipe_16 : decode cX1_wipe 16 = .ok (.ireturn, 1) := dk_172 (dk_at dksX1_wipe_0 16 rfl rfl)
abbrev cX1_undo : ByteArray := prog_11_method_7_code
def yX1_undo : MethodName := ⟨RX1, "undo", "()I"⟩
def dkwX1_undo_1 : List UInt8 := [181, 0, 19, 42, 180, 0, 15, 172]
abbrev dktX1_undo_1 : List UInt8 := dkwX1_undo_1 ++ []
def dkwX1_undo_0 : List UInt8 := [42, 180, 0, 15, 154, 0, 6, 16, 253, 172, 42, 89, 180, 0, 15, 4, 100, 181, 0, 15, 42, 3]
abbrev dktX1_undo_0 : List UInt8 := dkwX1_undo_0 ++ dktX1_undo_1
theorem dksX1_undo_0 : cX1_undo.data.toList.drop 0 = dktX1_undo_0 := by decide +kernel
theorem dksX1_undo_1 : cX1_undo.data.toList.drop 22 = dktX1_undo_1 := dk_seg dksX1_undo_0 22 rfl rfl
theorem dX1_undo_0 : decode cX1_undo 0 = .ok (.aload_n 0, 1) := dk_42 (dk_at dksX1_undo_0 0 rfl rfl)
theorem dX1_undo_1 : decode cX1_undo 1 = .ok (.getfield 15, 3) := dk_180 0 15 (dk_at dksX1_undo_0 1 rfl rfl)
theorem dX1_undo_4 : decode cX1_undo 4 = .ok (.ifCond .ne 6, 3) := dk_154 0 6 (dk_at dksX1_undo_0 4 rfl rfl)
theorem dX1_undo_7 : decode cX1_undo 7 = .ok (.bipush (-3), 2) := dk_16 253 (dk_at dksX1_undo_0 7 rfl rfl)
theorem dX1_undo_9 : decode cX1_undo 9 = .ok (.ireturn, 1) := dk_172 (dk_at dksX1_undo_0 9 rfl rfl)
theorem dX1_undo_10 : decode cX1_undo 10 = .ok (.aload_n 0, 1) := dk_42 (dk_at dksX1_undo_0 10 rfl rfl)
theorem dX1_undo_11 : decode cX1_undo 11 = .ok (.dup, 1) := dk_89 (dk_at dksX1_undo_0 11 rfl rfl)
theorem dX1_undo_12 : decode cX1_undo 12 = .ok (.getfield 15, 3) := dk_180 0 15 (dk_at dksX1_undo_0 12 rfl rfl)
theorem dX1_undo_15 : decode cX1_undo 15 = .ok (.iconst 1, 1) := dk_4 (dk_at dksX1_undo_0 15 rfl rfl)
theorem dX1_undo_16 : decode cX1_undo 16 = .ok (.isub, 1) := dk_100 (dk_at dksX1_undo_0 16 rfl rfl)
theorem dX1_undo_17 : decode cX1_undo 17 = .ok (.putfield 15, 3) := dk_181 0 15 (dk_at dksX1_undo_0 17 rfl rfl)
theorem dX1_undo_20 : decode cX1_undo 20 = .ok (.aload_n 0, 1) := dk_42 (dk_at dksX1_undo_0 20 rfl rfl)
theorem dX1_undo_21 : decode cX1_undo 21 = .ok (.iconst 0, 1) := dk_3 (dk_at dksX1_undo_0 21 rfl rfl)
theorem dX1_undo_22 : decode cX1_undo 22 = .ok (.putfield 19, 3) := dk_181 0 19 (dk_at dksX1_undo_1 0 rfl rfl)
theorem dX1_undo_25 : decode cX1_undo 25 = .ok (.aload_n 0, 1) := dk_42 (dk_at dksX1_undo_1 3 rfl rfl)
theorem dX1_undo_26 : decode cX1_undo 26 = .ok (.getfield 15, 3) := dk_180 0 15 (dk_at dksX1_undo_1 4 rfl rfl)
theorem dX1_undo_29 : decode cX1_undo 29 = .ok (.ireturn, 1) := dk_172 (dk_at dksX1_undo_1 7 rfl rfl)
abbrev cX1_read : ByteArray := prog_11_method_12_code
def yX1_read : MethodName := ⟨RX1, "read", "()I"⟩
def dkwX1_read_1 : List UInt8 := [172]
abbrev dktX1_read_1 : List UInt8 := dkwX1_read_1 ++ []
def dkwX1_read_0 : List UInt8 := [42, 180, 0, 19, 154, 0, 11, 42, 42, 182, 0, 61, 181, 0, 64, 42, 4, 181, 0, 19, 42, 180, 0, 64]
abbrev dktX1_read_0 : List UInt8 := dkwX1_read_0 ++ dktX1_read_1
theorem dksX1_read_0 : cX1_read.data.toList.drop 0 = dktX1_read_0 := by decide +kernel
theorem dksX1_read_1 : cX1_read.data.toList.drop 24 = dktX1_read_1 := dk_seg dksX1_read_0 24 rfl rfl
theorem dX1_read_0 : decode cX1_read 0 = .ok (.aload_n 0, 1) := dk_42 (dk_at dksX1_read_0 0 rfl rfl)
theorem dX1_read_1 : decode cX1_read 1 = .ok (.getfield 19, 3) := dk_180 0 19 (dk_at dksX1_read_0 1 rfl rfl)
theorem dX1_read_4 : decode cX1_read 4 = .ok (.ifCond .ne 11, 3) := dk_154 0 11 (dk_at dksX1_read_0 4 rfl rfl)
theorem dX1_read_7 : decode cX1_read 7 = .ok (.aload_n 0, 1) := dk_42 (dk_at dksX1_read_0 7 rfl rfl)
theorem dX1_read_8 : decode cX1_read 8 = .ok (.aload_n 0, 1) := dk_42 (dk_at dksX1_read_0 8 rfl rfl)
theorem dX1_read_9 : decode cX1_read 9 = .ok (.invokevirtual 61, 3) := dk_182 0 61 (dk_at dksX1_read_0 9 rfl rfl)
theorem dX1_read_12 : decode cX1_read 12 = .ok (.putfield 64, 3) := dk_181 0 64 (dk_at dksX1_read_0 12 rfl rfl)
theorem dX1_read_15 : decode cX1_read 15 = .ok (.aload_n 0, 1) := dk_42 (dk_at dksX1_read_0 15 rfl rfl)
theorem dX1_read_16 : decode cX1_read 16 = .ok (.iconst 1, 1) := dk_4 (dk_at dksX1_read_0 16 rfl rfl)
theorem dX1_read_17 : decode cX1_read 17 = .ok (.putfield 19, 3) := dk_181 0 19 (dk_at dksX1_read_0 17 rfl rfl)
theorem dX1_read_20 : decode cX1_read 20 = .ok (.aload_n 0, 1) := dk_42 (dk_at dksX1_read_0 20 rfl rfl)
theorem dX1_read_21 : decode cX1_read 21 = .ok (.getfield 64, 3) := dk_180 0 64 (dk_at dksX1_read_0 21 rfl rfl)
theorem dX1_read_24 : decode cX1_read 24 = .ok (.ireturn, 1) := dk_172 (dk_at dksX1_read_1 0 rfl rfl)
abbrev cX1_reads : ByteArray := prog_11_method_11_code
def yX1_reads : MethodName := ⟨RX1, "reads", "()I"⟩
def dkwX1_reads_2 : List UInt8 := [42, 182, 0, 50, 43, 180, 0, 58, 172]
abbrev dktX1_reads_2 : List UInt8 := dkwX1_reads_2 ++ []
def dkwX1_reads_1 : List UInt8 := [42, 180, 0, 15, 162, 0, 17, 42, 18, 56, 182, 0, 43, 87, 42, 182, 0, 53, 167, 255, 234, 2, 172, 76]
abbrev dktX1_reads_1 : List UInt8 := dkwX1_reads_1 ++ dktX1_reads_2
def dkwX1_reads_0 : List UInt8 := [42, 3, 181, 0, 23, 42, 182, 0, 50, 42, 180, 0, 15, 158, 0, 7, 42, 182, 0, 53, 42, 180, 0, 23]
abbrev dktX1_reads_0 : List UInt8 := dkwX1_reads_0 ++ dktX1_reads_1
theorem dksX1_reads_0 : cX1_reads.data.toList.drop 0 = dktX1_reads_0 := by decide +kernel
theorem dksX1_reads_1 : cX1_reads.data.toList.drop 24 = dktX1_reads_1 := dk_seg dksX1_reads_0 24 rfl rfl
theorem dksX1_reads_2 : cX1_reads.data.toList.drop 48 = dktX1_reads_2 := dk_seg dksX1_reads_1 24 rfl rfl
theorem dX1_reads_0 : decode cX1_reads 0 = .ok (.aload_n 0, 1) := dk_42 (dk_at dksX1_reads_0 0 rfl rfl)
theorem dX1_reads_1 : decode cX1_reads 1 = .ok (.iconst 0, 1) := dk_3 (dk_at dksX1_reads_0 1 rfl rfl)
theorem dX1_reads_2 : decode cX1_reads 2 = .ok (.putfield 23, 3) := dk_181 0 23 (dk_at dksX1_reads_0 2 rfl rfl)
theorem dX1_reads_5 : decode cX1_reads 5 = .ok (.aload_n 0, 1) := dk_42 (dk_at dksX1_reads_0 5 rfl rfl)
theorem dX1_reads_6 : decode cX1_reads 6 = .ok (.invokevirtual 50, 3) := dk_182 0 50 (dk_at dksX1_reads_0 6 rfl rfl)
theorem dX1_reads_9 : decode cX1_reads 9 = .ok (.aload_n 0, 1) := dk_42 (dk_at dksX1_reads_0 9 rfl rfl)
theorem dX1_reads_10 : decode cX1_reads 10 = .ok (.getfield 15, 3) := dk_180 0 15 (dk_at dksX1_reads_0 10 rfl rfl)
theorem dX1_reads_13 : decode cX1_reads 13 = .ok (.ifCond .le 7, 3) := dk_158 0 7 (dk_at dksX1_reads_0 13 rfl rfl)
theorem dX1_reads_16 : decode cX1_reads 16 = .ok (.aload_n 0, 1) := dk_42 (dk_at dksX1_reads_0 16 rfl rfl)
theorem dX1_reads_17 : decode cX1_reads 17 = .ok (.invokevirtual 53, 3) := dk_182 0 53 (dk_at dksX1_reads_0 17 rfl rfl)
theorem dX1_reads_20 : decode cX1_reads 20 = .ok (.aload_n 0, 1) := dk_42 (dk_at dksX1_reads_0 20 rfl rfl)
theorem dX1_reads_21 : decode cX1_reads 21 = .ok (.getfield 23, 3) := dk_180 0 23 (dk_at dksX1_reads_0 21 rfl rfl)
theorem dX1_reads_24 : decode cX1_reads 24 = .ok (.aload_n 0, 1) := dk_42 (dk_at dksX1_reads_1 0 rfl rfl)
theorem dX1_reads_25 : decode cX1_reads 25 = .ok (.getfield 15, 3) := dk_180 0 15 (dk_at dksX1_reads_1 1 rfl rfl)
theorem dX1_reads_28 : decode cX1_reads 28 = .ok (.if_icmp .ge 17, 3) := dk_162 0 17 (dk_at dksX1_reads_1 4 rfl rfl)
theorem dX1_reads_31 : decode cX1_reads 31 = .ok (.aload_n 0, 1) := dk_42 (dk_at dksX1_reads_1 7 rfl rfl)
theorem dX1_reads_32 : decode cX1_reads 32 = .ok (.ldc 56, 2) := dk_18 56 (dk_at dksX1_reads_1 8 rfl rfl)
theorem dX1_reads_34 : decode cX1_reads 34 = .ok (.invokevirtual 43, 3) := dk_182 0 43 (dk_at dksX1_reads_1 10 rfl rfl)
theorem dX1_reads_37 : decode cX1_reads 37 = .ok (.pop, 1) := dk_87 (dk_at dksX1_reads_1 13 rfl rfl)
theorem dX1_reads_38 : decode cX1_reads 38 = .ok (.aload_n 0, 1) := dk_42 (dk_at dksX1_reads_1 14 rfl rfl)
theorem dX1_reads_39 : decode cX1_reads 39 = .ok (.invokevirtual 53, 3) := dk_182 0 53 (dk_at dksX1_reads_1 15 rfl rfl)
theorem dX1_reads_42 : decode cX1_reads 42 = .ok (.goto (-22), 3) := dk_167 255 234 (dk_at dksX1_reads_1 18 rfl rfl)
theorem dX1_reads_45 : decode cX1_reads 45 = .ok (.iconst (-1), 1) := dk_2 (dk_at dksX1_reads_1 21 rfl rfl)
theorem dX1_reads_46 : decode cX1_reads 46 = .ok (.ireturn, 1) := dk_172 (dk_at dksX1_reads_1 22 rfl rfl)
theorem dX1_reads_47 : decode cX1_reads 47 = .ok (.astore_n 1, 1) := dk_76 (dk_at dksX1_reads_1 23 rfl rfl)
theorem dX1_reads_48 : decode cX1_reads 48 = .ok (.aload_n 0, 1) := dk_42 (dk_at dksX1_reads_2 0 rfl rfl)
theorem dX1_reads_49 : decode cX1_reads 49 = .ok (.invokevirtual 50, 3) := dk_182 0 50 (dk_at dksX1_reads_2 1 rfl rfl)
theorem dX1_reads_52 : decode cX1_reads 52 = .ok (.aload_n 1, 1) := dk_43 (dk_at dksX1_reads_2 4 rfl rfl)
theorem dX1_reads_53 : decode cX1_reads 53 = .ok (.getfield 58, 3) := dk_180 0 58 (dk_at dksX1_reads_2 5 rfl rfl)
theorem dX1_reads_56 : decode cX1_reads 56 = .ok (.ireturn, 1) := dk_172 (dk_at dksX1_reads_2 8 rfl rfl)
abbrev cX1_next : ByteArray := prog_11_method_10_code
def yX1_next : MethodName := ⟨RX1, "next", "()V"⟩
def dkwX1_next_1 : List UInt8 := [18, 41, 182, 0, 43, 182, 0, 47, 177]
abbrev dktX1_next_1 : List UInt8 := dkwX1_next_1 ++ []
def dkwX1_next_0 : List UInt8 := [42, 182, 0, 37, 16, 8, 160, 0, 15, 187, 0, 32, 89, 42, 180, 0, 23, 183, 0, 34, 191, 42, 42]
abbrev dktX1_next_0 : List UInt8 := dkwX1_next_0 ++ dktX1_next_1
theorem dksX1_next_0 : cX1_next.data.toList.drop 0 = dktX1_next_0 := by decide +kernel
theorem dksX1_next_1 : cX1_next.data.toList.drop 23 = dktX1_next_1 := dk_seg dksX1_next_0 23 rfl rfl
theorem dX1_next_0 : decode cX1_next 0 = .ok (.aload_n 0, 1) := dk_42 (dk_at dksX1_next_0 0 rfl rfl)
theorem dX1_next_1 : decode cX1_next 1 = .ok (.invokevirtual 37, 3) := dk_182 0 37 (dk_at dksX1_next_0 1 rfl rfl)
theorem dX1_next_4 : decode cX1_next 4 = .ok (.bipush 8, 2) := dk_16 8 (dk_at dksX1_next_0 4 rfl rfl)
theorem dX1_next_6 : decode cX1_next 6 = .ok (.if_icmp .ne 15, 3) := dk_160 0 15 (dk_at dksX1_next_0 6 rfl rfl)
theorem dX1_next_9 : decode cX1_next 9 = .ok (.new 32, 3) := dk_187 0 32 (dk_at dksX1_next_0 9 rfl rfl)
theorem dX1_next_12 : decode cX1_next 12 = .ok (.dup, 1) := dk_89 (dk_at dksX1_next_0 12 rfl rfl)
theorem dX1_next_13 : decode cX1_next 13 = .ok (.aload_n 0, 1) := dk_42 (dk_at dksX1_next_0 13 rfl rfl)
theorem dX1_next_14 : decode cX1_next 14 = .ok (.getfield 23, 3) := dk_180 0 23 (dk_at dksX1_next_0 14 rfl rfl)
theorem dX1_next_17 : decode cX1_next 17 = .ok (.invokespecial 34, 3) := dk_183 0 34 (dk_at dksX1_next_0 17 rfl rfl)
theorem dX1_next_20 : decode cX1_next 20 = .ok (.athrow, 1) := dk_191 (dk_at dksX1_next_0 20 rfl rfl)
theorem dX1_next_21 : decode cX1_next 21 = .ok (.aload_n 0, 1) := dk_42 (dk_at dksX1_next_0 21 rfl rfl)
theorem dX1_next_22 : decode cX1_next 22 = .ok (.aload_n 0, 1) := dk_42 (dk_at dksX1_next_0 22 rfl rfl)
theorem dX1_next_23 : decode cX1_next 23 = .ok (.ldc 41, 2) := dk_18 41 (dk_at dksX1_next_1 0 rfl rfl)
theorem dX1_next_25 : decode cX1_next 25 = .ok (.invokevirtual 43, 3) := dk_182 0 43 (dk_at dksX1_next_1 2 rfl rfl)
theorem dX1_next_28 : decode cX1_next 28 = .ok (.invokevirtual 47, 3) := dk_182 0 47 (dk_at dksX1_next_1 5 rfl rfl)
theorem dX1_next_31 : decode cX1_next 31 = .ok (.return_, 1) := dk_177 (dk_at dksX1_next_1 8 rfl rfl)
abbrev cX1_passes : ByteArray := prog_11_method_9_code
def yX1_passes : MethodName := ⟨RX1, "passes", "(Ljava/lang/String;)I"⟩
def dkwX1_passes_2 : List UInt8 := [183, 0, 34, 191, 42, 89, 180, 0, 23, 4, 96, 181, 0, 23, 28, 172]
abbrev dktX1_passes_2 : List UInt8 := dkwX1_passes_2 ++ []
def dkwX1_passes_1 : List UInt8 := [51, 17, 0, 255, 126, 182, 0, 26, 61, 28, 2, 160, 0, 15, 187, 0, 32, 89, 42, 180, 0, 23]
abbrev dktX1_passes_1 : List UInt8 := dkwX1_passes_1 ++ dktX1_passes_2
def dkwX1_passes_0 : List UInt8 := [42, 180, 0, 23, 42, 180, 0, 15, 160, 0, 7, 2, 167, 0, 20, 43, 42, 180, 0, 9, 42, 180, 0, 23]
abbrev dktX1_passes_0 : List UInt8 := dkwX1_passes_0 ++ dktX1_passes_1
theorem dksX1_passes_0 : cX1_passes.data.toList.drop 0 = dktX1_passes_0 := by decide +kernel
theorem dksX1_passes_1 : cX1_passes.data.toList.drop 24 = dktX1_passes_1 := dk_seg dksX1_passes_0 24 rfl rfl
theorem dksX1_passes_2 : cX1_passes.data.toList.drop 46 = dktX1_passes_2 := dk_seg dksX1_passes_1 22 rfl rfl
theorem dX1_passes_0 : decode cX1_passes 0 = .ok (.aload_n 0, 1) := dk_42 (dk_at dksX1_passes_0 0 rfl rfl)
theorem dX1_passes_1 : decode cX1_passes 1 = .ok (.getfield 23, 3) := dk_180 0 23 (dk_at dksX1_passes_0 1 rfl rfl)
theorem dX1_passes_4 : decode cX1_passes 4 = .ok (.aload_n 0, 1) := dk_42 (dk_at dksX1_passes_0 4 rfl rfl)
theorem dX1_passes_5 : decode cX1_passes 5 = .ok (.getfield 15, 3) := dk_180 0 15 (dk_at dksX1_passes_0 5 rfl rfl)
theorem dX1_passes_8 : decode cX1_passes 8 = .ok (.if_icmp .ne 7, 3) := dk_160 0 7 (dk_at dksX1_passes_0 8 rfl rfl)
theorem dX1_passes_11 : decode cX1_passes 11 = .ok (.iconst (-1), 1) := dk_2 (dk_at dksX1_passes_0 11 rfl rfl)
theorem dX1_passes_12 : decode cX1_passes 12 = .ok (.goto 20, 3) := dk_167 0 20 (dk_at dksX1_passes_0 12 rfl rfl)
theorem dX1_passes_15 : decode cX1_passes 15 = .ok (.aload_n 1, 1) := dk_43 (dk_at dksX1_passes_0 15 rfl rfl)
theorem dX1_passes_16 : decode cX1_passes 16 = .ok (.aload_n 0, 1) := dk_42 (dk_at dksX1_passes_0 16 rfl rfl)
theorem dX1_passes_17 : decode cX1_passes 17 = .ok (.getfield 9, 3) := dk_180 0 9 (dk_at dksX1_passes_0 17 rfl rfl)
theorem dX1_passes_20 : decode cX1_passes 20 = .ok (.aload_n 0, 1) := dk_42 (dk_at dksX1_passes_0 20 rfl rfl)
theorem dX1_passes_21 : decode cX1_passes 21 = .ok (.getfield 23, 3) := dk_180 0 23 (dk_at dksX1_passes_0 21 rfl rfl)
theorem dX1_passes_24 : decode cX1_passes 24 = .ok (.baload, 1) := dk_51 (dk_at dksX1_passes_1 0 rfl rfl)
theorem dX1_passes_25 : decode cX1_passes 25 = .ok (.sipush 255, 3) := dk_17 0 255 (dk_at dksX1_passes_1 1 rfl rfl)
theorem dX1_passes_28 : decode cX1_passes 28 = .ok (.iand, 1) := dk_126 (dk_at dksX1_passes_1 4 rfl rfl)
theorem dX1_passes_29 : decode cX1_passes 29 = .ok (.invokevirtual 26, 3) := dk_182 0 26 (dk_at dksX1_passes_1 5 rfl rfl)
theorem dX1_passes_32 : decode cX1_passes 32 = .ok (.istore_n 2, 1) := dk_61 (dk_at dksX1_passes_1 8 rfl rfl)
theorem dX1_passes_33 : decode cX1_passes 33 = .ok (.iload_n 2, 1) := dk_28 (dk_at dksX1_passes_1 9 rfl rfl)
theorem dX1_passes_34 : decode cX1_passes 34 = .ok (.iconst (-1), 1) := dk_2 (dk_at dksX1_passes_1 10 rfl rfl)
theorem dX1_passes_35 : decode cX1_passes 35 = .ok (.if_icmp .ne 15, 3) := dk_160 0 15 (dk_at dksX1_passes_1 11 rfl rfl)
theorem dX1_passes_38 : decode cX1_passes 38 = .ok (.new 32, 3) := dk_187 0 32 (dk_at dksX1_passes_1 14 rfl rfl)
theorem dX1_passes_41 : decode cX1_passes 41 = .ok (.dup, 1) := dk_89 (dk_at dksX1_passes_1 17 rfl rfl)
theorem dX1_passes_42 : decode cX1_passes 42 = .ok (.aload_n 0, 1) := dk_42 (dk_at dksX1_passes_1 18 rfl rfl)
theorem dX1_passes_43 : decode cX1_passes 43 = .ok (.getfield 23, 3) := dk_180 0 23 (dk_at dksX1_passes_1 19 rfl rfl)
theorem dX1_passes_46 : decode cX1_passes 46 = .ok (.invokespecial 34, 3) := dk_183 0 34 (dk_at dksX1_passes_2 0 rfl rfl)
theorem dX1_passes_49 : decode cX1_passes 49 = .ok (.athrow, 1) := dk_191 (dk_at dksX1_passes_2 3 rfl rfl)
theorem dX1_passes_50 : decode cX1_passes 50 = .ok (.aload_n 0, 1) := dk_42 (dk_at dksX1_passes_2 4 rfl rfl)
theorem dX1_passes_51 : decode cX1_passes 51 = .ok (.dup, 1) := dk_89 (dk_at dksX1_passes_2 5 rfl rfl)
theorem dX1_passes_52 : decode cX1_passes 52 = .ok (.getfield 23, 3) := dk_180 0 23 (dk_at dksX1_passes_2 6 rfl rfl)
theorem dX1_passes_55 : decode cX1_passes 55 = .ok (.iconst 1, 1) := dk_4 (dk_at dksX1_passes_2 9 rfl rfl)
theorem dX1_passes_56 : decode cX1_passes 56 = .ok (.iadd, 1) := dk_96 (dk_at dksX1_passes_2 10 rfl rfl)
theorem dX1_passes_57 : decode cX1_passes 57 = .ok (.putfield 23, 3) := dk_181 0 23 (dk_at dksX1_passes_2 11 rfl rfl)
theorem dX1_passes_60 : decode cX1_passes 60 = .ok (.iload_n 2, 1) := dk_28 (dk_at dksX1_passes_2 14 rfl rfl)
theorem dX1_passes_61 : decode cX1_passes 61 = .ok (.ireturn, 1) := dk_172 (dk_at dksX1_passes_2 15 rfl rfl)
abbrev cX1_length : ByteArray := prog_11_method_8_code
def yX1_length : MethodName := ⟨RX1, "length", "()I"⟩
theorem dX1_length_0 : decode cX1_length 0 = .ok (.aload_n 0, 1) := by decide +kernel
theorem dX1_length_1 : decode cX1_length 1 = .ok (.getfield 15, 3) := by decide +kernel
theorem dX1_length_4 : decode cX1_length 4 = .ok (.ireturn, 1) := by decide +kernel
abbrev cX10_number : ByteArray := prog_3_method_2_code
def yX10_number : MethodName := ⟨RX10, "number", "()I"⟩
def dkwX10_number_0 : List UInt8 := [42, 183, 0, 7, 4, 96, 172]
abbrev dktX10_number_0 : List UInt8 := dkwX10_number_0 ++ []
theorem dksX10_number_0 : cX10_number.data.toList.drop 0 = dktX10_number_0 := by decide +kernel
theorem dX10_number_0 : decode cX10_number 0 = .ok (.aload_n 0, 1) := dk_42 (dk_at dksX10_number_0 0 rfl rfl)
theorem dX10_number_1 : decode cX10_number 1 = .ok (.invokespecial 7, 3) := dk_183 0 7 (dk_at dksX10_number_0 1 rfl rfl)
theorem dX10_number_4 : decode cX10_number 4 = .ok (.iconst 1, 1) := dk_4 (dk_at dksX10_number_0 4 rfl rfl)
theorem dX10_number_5 : decode cX10_number 5 = .ok (.iadd, 1) := dk_96 (dk_at dksX10_number_0 5 rfl rfl)
theorem dX10_number_6 : decode cX10_number 6 = .ok (.ireturn, 1) := dk_172 (dk_at dksX10_number_0 6 rfl rfl)
abbrev cX10_lasts : ByteArray := prog_3_method_4_code
def yX10_lasts : MethodName := ⟨RX10, "lasts", "()I"⟩
def dkwX10_lasts_0 : List UInt8 := [42, 183, 0, 14, 7, 96, 172]
abbrev dktX10_lasts_0 : List UInt8 := dkwX10_lasts_0 ++ []
theorem dksX10_lasts_0 : cX10_lasts.data.toList.drop 0 = dktX10_lasts_0 := by decide +kernel
theorem dX10_lasts_0 : decode cX10_lasts 0 = .ok (.aload_n 0, 1) := dk_42 (dk_at dksX10_lasts_0 0 rfl rfl)
theorem dX10_lasts_1 : decode cX10_lasts 1 = .ok (.invokespecial 14, 3) := dk_183 0 14 (dk_at dksX10_lasts_0 1 rfl rfl)
theorem dX10_lasts_4 : decode cX10_lasts 4 = .ok (.iconst 4, 1) := dk_7 (dk_at dksX10_lasts_0 4 rfl rfl)
theorem dX10_lasts_5 : decode cX10_lasts 5 = .ok (.iadd, 1) := dk_96 (dk_at dksX10_lasts_0 5 rfl rfl)
theorem dX10_lasts_6 : decode cX10_lasts 6 = .ok (.ireturn, 1) := dk_172 (dk_at dksX10_lasts_0 6 rfl rfl)
abbrev cX10_gives : ByteArray := prog_3_method_3_code
def yX10_gives : MethodName := ⟨RX10, "gives", "()I"⟩
def dkwX10_gives_0 : List UInt8 := [42, 183, 0, 11, 4, 100, 172]
abbrev dktX10_gives_0 : List UInt8 := dkwX10_gives_0 ++ []
theorem dksX10_gives_0 : cX10_gives.data.toList.drop 0 = dktX10_gives_0 := by decide +kernel
theorem dX10_gives_0 : decode cX10_gives 0 = .ok (.aload_n 0, 1) := dk_42 (dk_at dksX10_gives_0 0 rfl rfl)
theorem dX10_gives_1 : decode cX10_gives 1 = .ok (.invokespecial 11, 3) := dk_183 0 11 (dk_at dksX10_gives_0 1 rfl rfl)
theorem dX10_gives_4 : decode cX10_gives 4 = .ok (.iconst 1, 1) := dk_4 (dk_at dksX10_gives_0 4 rfl rfl)
theorem dX10_gives_5 : decode cX10_gives 5 = .ok (.isub, 1) := dk_100 (dk_at dksX10_gives_0 5 rfl rfl)
theorem dX10_gives_6 : decode cX10_gives 6 = .ok (.ireturn, 1) := dk_172 (dk_at dksX10_gives_0 6 rfl rfl)
abbrev cX11_number : ByteArray := prog_5_method_2_code
def yX11_number : MethodName := ⟨RX11, "number", "()I"⟩
def dkwX11_number_0 : List UInt8 := [42, 183, 0, 7, 4, 96, 172]
abbrev dktX11_number_0 : List UInt8 := dkwX11_number_0 ++ []
theorem dksX11_number_0 : cX11_number.data.toList.drop 0 = dktX11_number_0 := by decide +kernel
theorem dX11_number_0 : decode cX11_number 0 = .ok (.aload_n 0, 1) := dk_42 (dk_at dksX11_number_0 0 rfl rfl)
theorem dX11_number_1 : decode cX11_number 1 = .ok (.invokespecial 7, 3) := dk_183 0 7 (dk_at dksX11_number_0 1 rfl rfl)
theorem dX11_number_4 : decode cX11_number 4 = .ok (.iconst 1, 1) := dk_4 (dk_at dksX11_number_0 4 rfl rfl)
theorem dX11_number_5 : decode cX11_number 5 = .ok (.iadd, 1) := dk_96 (dk_at dksX11_number_0 5 rfl rfl)
theorem dX11_number_6 : decode cX11_number 6 = .ok (.ireturn, 1) := dk_172 (dk_at dksX11_number_0 6 rfl rfl)
abbrev cX11_needs : ByteArray := prog_5_method_3_code
def yX11_needs : MethodName := ⟨RX11, "needs", "()I"⟩
def dkwX11_needs_0 : List UInt8 := [6, 42, 183, 0, 11, 104, 172]
abbrev dktX11_needs_0 : List UInt8 := dkwX11_needs_0 ++ []
theorem dksX11_needs_0 : cX11_needs.data.toList.drop 0 = dktX11_needs_0 := by decide +kernel
theorem dX11_needs_0 : decode cX11_needs 0 = .ok (.iconst 3, 1) := dk_6 (dk_at dksX11_needs_0 0 rfl rfl)
theorem dX11_needs_1 : decode cX11_needs 1 = .ok (.aload_n 0, 1) := dk_42 (dk_at dksX11_needs_0 1 rfl rfl)
theorem dX11_needs_2 : decode cX11_needs 2 = .ok (.invokespecial 11, 3) := dk_183 0 11 (dk_at dksX11_needs_0 2 rfl rfl)
theorem dX11_needs_5 : decode cX11_needs 5 = .ok (.imul, 1) := dk_104 (dk_at dksX11_needs_0 5 rfl rfl)
theorem dX11_needs_6 : decode cX11_needs 6 = .ok (.ireturn, 1) := dk_172 (dk_at dksX11_needs_0 6 rfl rfl)
abbrev cX11_drinks : ByteArray := prog_5_method_4_code
def yX11_drinks : MethodName := ⟨RX11, "drinks", "()I"⟩
def dkwX11_drinks_0 : List UInt8 := [42, 183, 0, 14, 4, 96, 172]
abbrev dktX11_drinks_0 : List UInt8 := dkwX11_drinks_0 ++ []
theorem dksX11_drinks_0 : cX11_drinks.data.toList.drop 0 = dktX11_drinks_0 := by decide +kernel
theorem dX11_drinks_0 : decode cX11_drinks 0 = .ok (.aload_n 0, 1) := dk_42 (dk_at dksX11_drinks_0 0 rfl rfl)
theorem dX11_drinks_1 : decode cX11_drinks 1 = .ok (.invokespecial 14, 3) := dk_183 0 14 (dk_at dksX11_drinks_0 1 rfl rfl)
theorem dX11_drinks_4 : decode cX11_drinks 4 = .ok (.iconst 1, 1) := dk_4 (dk_at dksX11_drinks_0 4 rfl rfl)
theorem dX11_drinks_5 : decode cX11_drinks 5 = .ok (.iadd, 1) := dk_96 (dk_at dksX11_drinks_0 5 rfl rfl)
theorem dX11_drinks_6 : decode cX11_drinks 6 = .ok (.ireturn, 1) := dk_172 (dk_at dksX11_drinks_0 6 rfl rfl)
abbrev cX12_number : ByteArray := prog_6_method_2_code
def yX12_number : MethodName := ⟨RX12, "number", "()I"⟩
theorem dX12_number_0 : decode cX12_number 0 = .ok (.iconst 0, 1) := by decide +kernel
theorem dX12_number_1 : decode cX12_number 1 = .ok (.ireturn, 1) := by decide +kernel
abbrev cX12_lasts : ByteArray := prog_6_method_4_code
def yX12_lasts : MethodName := ⟨RX12, "lasts", "()I"⟩
theorem dX12_lasts_0 : decode cX12_lasts 0 = .ok (.iconst 3, 1) := by decide +kernel
theorem dX12_lasts_1 : decode cX12_lasts 1 = .ok (.ireturn, 1) := by decide +kernel
abbrev cX12_gives : ByteArray := prog_6_method_3_code
def yX12_gives : MethodName := ⟨RX12, "gives", "()I"⟩
theorem dX12_gives_0 : decode cX12_gives 0 = .ok (.iconst 3, 1) := by decide +kernel
theorem dX12_gives_1 : decode cX12_gives 1 = .ok (.ireturn, 1) := by decide +kernel
abbrev cX13_number : ByteArray := prog_10_method_2_code
def yX13_number : MethodName := ⟨RX13, "number", "()I"⟩
theorem dX13_number_0 : decode cX13_number 0 = .ok (.iconst 0, 1) := by decide +kernel
theorem dX13_number_1 : decode cX13_number 1 = .ok (.ireturn, 1) := by decide +kernel
abbrev cX13_needs : ByteArray := prog_10_method_3_code
def yX13_needs : MethodName := ⟨RX13, "needs", "()I"⟩
theorem dX13_needs_0 : decode cX13_needs 0 = .ok (.iconst 1, 1) := by decide +kernel
theorem dX13_needs_1 : decode cX13_needs 1 = .ok (.ireturn, 1) := by decide +kernel
abbrev cX13_drinks : ByteArray := prog_10_method_4_code
def yX13_drinks : MethodName := ⟨RX13, "drinks", "()I"⟩
theorem dX13_drinks_0 : decode cX13_drinks 0 = .ok (.iconst 3, 1) := by decide +kernel
theorem dX13_drinks_1 : decode cX13_drinks 1 = .ok (.ireturn, 1) := by decide +kernel
abbrev cX2_init : ByteArray := prog_13_method_1_code
def yX2_init : MethodName := ⟨RX2, "<init>", "()V"⟩
def dkwX2_init_0 : List UInt8 := [42, 183, 0, 1, 42, 187, 0, 7, 89, 183, 0, 9, 181, 0, 10, 177]
abbrev dktX2_init_0 : List UInt8 := dkwX2_init_0 ++ []
theorem dksX2_init_0 : cX2_init.data.toList.drop 0 = dktX2_init_0 := by decide +kernel
theorem dX2_init_0 : decode cX2_init 0 = .ok (.aload_n 0, 1) := dk_42 (dk_at dksX2_init_0 0 rfl rfl)
theorem dX2_init_1 : decode cX2_init 1 = .ok (.invokespecial 1, 3) := dk_183 0 1 (dk_at dksX2_init_0 1 rfl rfl)
theorem dX2_init_4 : decode cX2_init 4 = .ok (.aload_n 0, 1) := dk_42 (dk_at dksX2_init_0 4 rfl rfl)
theorem dX2_init_5 : decode cX2_init 5 = .ok (.new 7, 3) := dk_187 0 7 (dk_at dksX2_init_0 5 rfl rfl)
theorem dX2_init_8 : decode cX2_init 8 = .ok (.dup, 1) := dk_89 (dk_at dksX2_init_0 8 rfl rfl)
theorem dX2_init_9 : decode cX2_init 9 = .ok (.invokespecial 9, 3) := dk_183 0 9 (dk_at dksX2_init_0 9 rfl rfl)
theorem dX2_init_12 : decode cX2_init 12 = .ok (.putfield 10, 3) := dk_181 0 10 (dk_at dksX2_init_0 12 rfl rfl)
theorem dX2_init_15 : decode cX2_init 15 = .ok (.return_, 1) := dk_177 (dk_at dksX2_init_0 15 rfl rfl)
abbrev cX2_clear : ByteArray := prog_13_method_2_code
def yX2_clear : MethodName := ⟨RX2, "clear", "()V"⟩
def dkwX2_clear_0 : List UInt8 := [42, 180, 0, 10, 182, 0, 16, 177]
abbrev dktX2_clear_0 : List UInt8 := dkwX2_clear_0 ++ []
theorem dksX2_clear_0 : cX2_clear.data.toList.drop 0 = dktX2_clear_0 := by decide +kernel
theorem dX2_clear_0 : decode cX2_clear 0 = .ok (.aload_n 0, 1) := dk_42 (dk_at dksX2_clear_0 0 rfl rfl)
theorem dX2_clear_1 : decode cX2_clear 1 = .ok (.getfield 10, 3) := dk_180 0 10 (dk_at dksX2_clear_0 1 rfl rfl)
theorem dX2_clear_4 : decode cX2_clear 4 = .ok (.invokevirtual 16, 3) := dk_182 0 16 (dk_at dksX2_clear_0 4 rfl rfl)
theorem dX2_clear_7 : decode cX2_clear 7 = .ok (.return_, 1) := dk_177 (dk_at dksX2_clear_0 7 rfl rfl)
abbrev cX2_many : ByteArray := prog_13_method_3_code
def yX2_many : MethodName := ⟨RX2, "many", "()I"⟩
def dkwX2_many_0 : List UInt8 := [42, 180, 0, 10, 182, 0, 19, 172]
abbrev dktX2_many_0 : List UInt8 := dkwX2_many_0 ++ []
theorem dksX2_many_0 : cX2_many.data.toList.drop 0 = dktX2_many_0 := by decide +kernel
theorem dX2_many_0 : decode cX2_many 0 = .ok (.aload_n 0, 1) := dk_42 (dk_at dksX2_many_0 0 rfl rfl)
theorem dX2_many_1 : decode cX2_many 1 = .ok (.getfield 10, 3) := dk_180 0 10 (dk_at dksX2_many_0 1 rfl rfl)
theorem dX2_many_4 : decode cX2_many 4 = .ok (.invokevirtual 19, 3) := dk_182 0 19 (dk_at dksX2_many_0 4 rfl rfl)
theorem dX2_many_7 : decode cX2_many 7 = .ok (.ireturn, 1) := dk_172 (dk_at dksX2_many_0 7 rfl rfl)
abbrev cX2_part : ByteArray := prog_13_method_4_code
def yX2_part : MethodName := ⟨RX2, "part", "(I)V"⟩
def dkwX2_part_1 : List UInt8 := [18, 37, 182, 0, 31, 96, 183, 0, 39, 182, 0, 42, 87, 177]
abbrev dktX2_part_1 : List UInt8 := dkwX2_part_1 ++ []
def dkwX2_part_0 : List UInt8 := [178, 0, 23, 42, 18, 29, 182, 0, 31, 50, 77, 42, 180, 0, 10, 187, 0, 35, 89, 27, 44, 4, 42]
abbrev dktX2_part_0 : List UInt8 := dkwX2_part_0 ++ dktX2_part_1
theorem dksX2_part_0 : cX2_part.data.toList.drop 0 = dktX2_part_0 := by decide +kernel
theorem dksX2_part_1 : cX2_part.data.toList.drop 23 = dktX2_part_1 := dk_seg dksX2_part_0 23 rfl rfl
theorem dX2_part_0 : decode cX2_part 0 = .ok (.getstatic 23, 3) := dk_178 0 23 (dk_at dksX2_part_0 0 rfl rfl)
theorem dX2_part_3 : decode cX2_part 3 = .ok (.aload_n 0, 1) := dk_42 (dk_at dksX2_part_0 3 rfl rfl)
theorem dX2_part_4 : decode cX2_part 4 = .ok (.ldc 29, 2) := dk_18 29 (dk_at dksX2_part_0 4 rfl rfl)
theorem dX2_part_6 : decode cX2_part 6 = .ok (.invokevirtual 31, 3) := dk_182 0 31 (dk_at dksX2_part_0 6 rfl rfl)
theorem dX2_part_9 : decode cX2_part 9 = .ok (.aaload, 1) := dk_50 (dk_at dksX2_part_0 9 rfl rfl)
theorem dX2_part_10 : decode cX2_part 10 = .ok (.astore_n 2, 1) := dk_77 (dk_at dksX2_part_0 10 rfl rfl)
theorem dX2_part_11 : decode cX2_part 11 = .ok (.aload_n 0, 1) := dk_42 (dk_at dksX2_part_0 11 rfl rfl)
theorem dX2_part_12 : decode cX2_part 12 = .ok (.getfield 10, 3) := dk_180 0 10 (dk_at dksX2_part_0 12 rfl rfl)
theorem dX2_part_15 : decode cX2_part 15 = .ok (.new 35, 3) := dk_187 0 35 (dk_at dksX2_part_0 15 rfl rfl)
theorem dX2_part_18 : decode cX2_part 18 = .ok (.dup, 1) := dk_89 (dk_at dksX2_part_0 18 rfl rfl)
theorem dX2_part_19 : decode cX2_part 19 = .ok (.iload_n 1, 1) := dk_27 (dk_at dksX2_part_0 19 rfl rfl)
theorem dX2_part_20 : decode cX2_part 20 = .ok (.aload_n 2, 1) := dk_44 (dk_at dksX2_part_0 20 rfl rfl)
theorem dX2_part_21 : decode cX2_part 21 = .ok (.iconst 1, 1) := dk_4 (dk_at dksX2_part_0 21 rfl rfl)
theorem dX2_part_22 : decode cX2_part 22 = .ok (.aload_n 0, 1) := dk_42 (dk_at dksX2_part_0 22 rfl rfl)
theorem dX2_part_23 : decode cX2_part 23 = .ok (.ldc 37, 2) := dk_18 37 (dk_at dksX2_part_1 0 rfl rfl)
theorem dX2_part_25 : decode cX2_part 25 = .ok (.invokevirtual 31, 3) := dk_182 0 31 (dk_at dksX2_part_1 2 rfl rfl)
theorem dX2_part_28 : decode cX2_part 28 = .ok (.iadd, 1) := dk_96 (dk_at dksX2_part_1 5 rfl rfl)
theorem dX2_part_29 : decode cX2_part 29 = .ok (.invokespecial 39, 3) := dk_183 0 39 (dk_at dksX2_part_1 6 rfl rfl)
theorem dX2_part_32 : decode cX2_part 32 = .ok (.invokevirtual 42, 3) := dk_182 0 42 (dk_at dksX2_part_1 9 rfl rfl)
theorem dX2_part_35 : decode cX2_part 35 = .ok (.pop, 1) := dk_87 (dk_at dksX2_part_1 12 rfl rfl)
theorem dX2_part_36 : decode cX2_part 36 = .ok (.return_, 1) := dk_177 (dk_at dksX2_part_1 13 rfl rfl)
abbrev cX3_init : ByteArray := prog_4_method_1_code
def yX3_init : MethodName := ⟨RX3, "<init>", "()V"⟩
def dkwX3_init_0 : List UInt8 := [42, 183, 0, 1, 42, 187, 0, 7, 89, 183, 0, 9, 181, 0, 10, 177]
abbrev dktX3_init_0 : List UInt8 := dkwX3_init_0 ++ []
theorem dksX3_init_0 : cX3_init.data.toList.drop 0 = dktX3_init_0 := by decide +kernel
theorem dX3_init_0 : decode cX3_init 0 = .ok (.aload_n 0, 1) := dk_42 (dk_at dksX3_init_0 0 rfl rfl)
theorem dX3_init_1 : decode cX3_init 1 = .ok (.invokespecial 1, 3) := dk_183 0 1 (dk_at dksX3_init_0 1 rfl rfl)
theorem dX3_init_4 : decode cX3_init 4 = .ok (.aload_n 0, 1) := dk_42 (dk_at dksX3_init_0 4 rfl rfl)
theorem dX3_init_5 : decode cX3_init 5 = .ok (.new 7, 3) := dk_187 0 7 (dk_at dksX3_init_0 5 rfl rfl)
theorem dX3_init_8 : decode cX3_init 8 = .ok (.dup, 1) := dk_89 (dk_at dksX3_init_0 8 rfl rfl)
theorem dX3_init_9 : decode cX3_init 9 = .ok (.invokespecial 9, 3) := dk_183 0 9 (dk_at dksX3_init_0 9 rfl rfl)
theorem dX3_init_12 : decode cX3_init 12 = .ok (.putfield 10, 3) := dk_181 0 10 (dk_at dksX3_init_0 12 rfl rfl)
theorem dX3_init_15 : decode cX3_init 15 = .ok (.return_, 1) := dk_177 (dk_at dksX3_init_0 15 rfl rfl)
abbrev cX3_clear : ByteArray := prog_4_method_2_code
def yX3_clear : MethodName := ⟨RX3, "clear", "()V"⟩
def dkwX3_clear_0 : List UInt8 := [42, 180, 0, 10, 182, 0, 16, 177]
abbrev dktX3_clear_0 : List UInt8 := dkwX3_clear_0 ++ []
theorem dksX3_clear_0 : cX3_clear.data.toList.drop 0 = dktX3_clear_0 := by decide +kernel
theorem dX3_clear_0 : decode cX3_clear 0 = .ok (.aload_n 0, 1) := dk_42 (dk_at dksX3_clear_0 0 rfl rfl)
theorem dX3_clear_1 : decode cX3_clear 1 = .ok (.getfield 10, 3) := dk_180 0 10 (dk_at dksX3_clear_0 1 rfl rfl)
theorem dX3_clear_4 : decode cX3_clear 4 = .ok (.invokevirtual 16, 3) := dk_182 0 16 (dk_at dksX3_clear_0 4 rfl rfl)
theorem dX3_clear_7 : decode cX3_clear 7 = .ok (.return_, 1) := dk_177 (dk_at dksX3_clear_0 7 rfl rfl)
abbrev cX3_many : ByteArray := prog_4_method_3_code
def yX3_many : MethodName := ⟨RX3, "many", "()I"⟩
def dkwX3_many_0 : List UInt8 := [42, 180, 0, 10, 182, 0, 19, 172]
abbrev dktX3_many_0 : List UInt8 := dkwX3_many_0 ++ []
theorem dksX3_many_0 : cX3_many.data.toList.drop 0 = dktX3_many_0 := by decide +kernel
theorem dX3_many_0 : decode cX3_many 0 = .ok (.aload_n 0, 1) := dk_42 (dk_at dksX3_many_0 0 rfl rfl)
theorem dX3_many_1 : decode cX3_many 1 = .ok (.getfield 10, 3) := dk_180 0 10 (dk_at dksX3_many_0 1 rfl rfl)
theorem dX3_many_4 : decode cX3_many 4 = .ok (.invokevirtual 19, 3) := dk_182 0 19 (dk_at dksX3_many_0 4 rfl rfl)
theorem dX3_many_7 : decode cX3_many 7 = .ok (.ireturn, 1) := dk_172 (dk_at dksX3_many_0 7 rfl rfl)
abbrev cX3_part : ByteArray := prog_4_method_4_code
def yX3_part : MethodName := ⟨RX3, "part", "(I)V"⟩
def dkwX3_part_1 : List UInt8 := [18, 37, 182, 0, 31, 96, 183, 0, 39, 182, 0, 42, 87, 177]
abbrev dktX3_part_1 : List UInt8 := dkwX3_part_1 ++ []
def dkwX3_part_0 : List UInt8 := [178, 0, 23, 42, 18, 29, 182, 0, 31, 50, 77, 42, 180, 0, 10, 187, 0, 35, 89, 27, 44, 4, 42]
abbrev dktX3_part_0 : List UInt8 := dkwX3_part_0 ++ dktX3_part_1
theorem dksX3_part_0 : cX3_part.data.toList.drop 0 = dktX3_part_0 := by decide +kernel
theorem dksX3_part_1 : cX3_part.data.toList.drop 23 = dktX3_part_1 := dk_seg dksX3_part_0 23 rfl rfl
theorem dX3_part_0 : decode cX3_part 0 = .ok (.getstatic 23, 3) := dk_178 0 23 (dk_at dksX3_part_0 0 rfl rfl)
theorem dX3_part_3 : decode cX3_part 3 = .ok (.aload_n 0, 1) := dk_42 (dk_at dksX3_part_0 3 rfl rfl)
theorem dX3_part_4 : decode cX3_part 4 = .ok (.ldc 29, 2) := dk_18 29 (dk_at dksX3_part_0 4 rfl rfl)
theorem dX3_part_6 : decode cX3_part 6 = .ok (.invokevirtual 31, 3) := dk_182 0 31 (dk_at dksX3_part_0 6 rfl rfl)
theorem dX3_part_9 : decode cX3_part 9 = .ok (.aaload, 1) := dk_50 (dk_at dksX3_part_0 9 rfl rfl)
theorem dX3_part_10 : decode cX3_part 10 = .ok (.astore_n 2, 1) := dk_77 (dk_at dksX3_part_0 10 rfl rfl)
theorem dX3_part_11 : decode cX3_part 11 = .ok (.aload_n 0, 1) := dk_42 (dk_at dksX3_part_0 11 rfl rfl)
theorem dX3_part_12 : decode cX3_part 12 = .ok (.getfield 10, 3) := dk_180 0 10 (dk_at dksX3_part_0 12 rfl rfl)
theorem dX3_part_15 : decode cX3_part 15 = .ok (.new 35, 3) := dk_187 0 35 (dk_at dksX3_part_0 15 rfl rfl)
theorem dX3_part_18 : decode cX3_part 18 = .ok (.dup, 1) := dk_89 (dk_at dksX3_part_0 18 rfl rfl)
theorem dX3_part_19 : decode cX3_part 19 = .ok (.iload_n 1, 1) := dk_27 (dk_at dksX3_part_0 19 rfl rfl)
theorem dX3_part_20 : decode cX3_part 20 = .ok (.aload_n 2, 1) := dk_44 (dk_at dksX3_part_0 20 rfl rfl)
theorem dX3_part_21 : decode cX3_part 21 = .ok (.iconst 1, 1) := dk_4 (dk_at dksX3_part_0 21 rfl rfl)
theorem dX3_part_22 : decode cX3_part 22 = .ok (.aload_n 0, 1) := dk_42 (dk_at dksX3_part_0 22 rfl rfl)
theorem dX3_part_23 : decode cX3_part 23 = .ok (.ldc 37, 2) := dk_18 37 (dk_at dksX3_part_1 0 rfl rfl)
theorem dX3_part_25 : decode cX3_part 25 = .ok (.invokevirtual 31, 3) := dk_182 0 31 (dk_at dksX3_part_1 2 rfl rfl)
theorem dX3_part_28 : decode cX3_part 28 = .ok (.iadd, 1) := dk_96 (dk_at dksX3_part_1 5 rfl rfl)
theorem dX3_part_29 : decode cX3_part 29 = .ok (.invokespecial 39, 3) := dk_183 0 39 (dk_at dksX3_part_1 6 rfl rfl)
theorem dX3_part_32 : decode cX3_part 32 = .ok (.invokevirtual 42, 3) := dk_182 0 42 (dk_at dksX3_part_1 9 rfl rfl)
theorem dX3_part_35 : decode cX3_part 35 = .ok (.pop, 1) := dk_87 (dk_at dksX3_part_1 12 rfl rfl)
theorem dX3_part_36 : decode cX3_part 36 = .ok (.return_, 1) := dk_177 (dk_at dksX3_part_1 13 rfl rfl)
abbrev cX4_init : ByteArray := prog_9_method_1_code
def yX4_init : MethodName := ⟨RX4, "<init>", "()V"⟩
theorem dX4_init_0 : decode cX4_init 0 = .ok (.aload_n 0, 1) := by decide +kernel
theorem dX4_init_1 : decode cX4_init 1 = .ok (.invokespecial 1, 3) := by decide +kernel
theorem dX4_init_4 : decode cX4_init 4 = .ok (.return_, 1) := by decide +kernel
abbrev cX4_size : ByteArray := prog_9_method_3_code
def yX4_size : MethodName := ⟨RX4, "size", "()I"⟩
def dkwX4_size_3 : List UInt8 := [192, 0, 21, 190, 172]
abbrev dktX4_size_3 : List UInt8 := dkwX4_size_3 ++ []
def dkwX4_size_2 : List UInt8 := [42, 180, 0, 7, 192, 0, 13, 190, 172, 42, 180, 0, 7, 192, 0, 15, 190, 172, 42, 180, 0, 7]
abbrev dktX4_size_2 : List UInt8 := dkwX4_size_2 ++ dktX4_size_3
def dkwX4_size_1 : List UInt8 := [171, 0, 0, 0, 0, 0, 0, 46, 0, 0, 0, 2, 0, 0, 0, 0, 0, 0, 0, 28, 0, 0, 0, 1, 0, 0, 0, 37]
abbrev dktX4_size_1 : List UInt8 := dkwX4_size_1 ++ dktX4_size_2
def dkwX4_size_0 : List UInt8 := [42, 182, 0, 17]
abbrev dktX4_size_0 : List UInt8 := dkwX4_size_0 ++ dktX4_size_1
theorem dksX4_size_0 : cX4_size.data.toList.drop 0 = dktX4_size_0 := by decide +kernel
theorem dksX4_size_1 : cX4_size.data.toList.drop 4 = dktX4_size_1 := dk_seg dksX4_size_0 4 rfl rfl
theorem dksX4_size_2 : cX4_size.data.toList.drop 32 = dktX4_size_2 := dk_seg dksX4_size_1 28 rfl rfl
theorem dksX4_size_3 : cX4_size.data.toList.drop 54 = dktX4_size_3 := dk_seg dksX4_size_2 22 rfl rfl
theorem dX4_size_0 : decode cX4_size 0 = .ok (.aload_n 0, 1) := dk_42 (dk_at dksX4_size_0 0 rfl rfl)
theorem dX4_size_1 : decode cX4_size 1 = .ok (.invokevirtual 17, 3) := dk_182 0 17 (dk_at dksX4_size_0 1 rfl rfl)
theorem dX4_size_4 : decode cX4_size 4 = .ok (.lookupswitch 46 #[(0, 28), (1, 37)], 28) := by decide +kernel
theorem dX4_size_32 : decode cX4_size 32 = .ok (.aload_n 0, 1) := dk_42 (dk_at dksX4_size_2 0 rfl rfl)
theorem dX4_size_33 : decode cX4_size 33 = .ok (.getfield 7, 3) := dk_180 0 7 (dk_at dksX4_size_2 1 rfl rfl)
theorem dX4_size_36 : decode cX4_size 36 = .ok (.checkcast 13, 3) := dk_192 0 13 (dk_at dksX4_size_2 4 rfl rfl)
theorem dX4_size_39 : decode cX4_size 39 = .ok (.arraylength, 1) := dk_190 (dk_at dksX4_size_2 7 rfl rfl)
theorem dX4_size_40 : decode cX4_size 40 = .ok (.ireturn, 1) := dk_172 (dk_at dksX4_size_2 8 rfl rfl)
theorem dX4_size_41 : decode cX4_size 41 = .ok (.aload_n 0, 1) := dk_42 (dk_at dksX4_size_2 9 rfl rfl)
theorem dX4_size_42 : decode cX4_size 42 = .ok (.getfield 7, 3) := dk_180 0 7 (dk_at dksX4_size_2 10 rfl rfl)
theorem dX4_size_45 : decode cX4_size 45 = .ok (.checkcast 15, 3) := dk_192 0 15 (dk_at dksX4_size_2 13 rfl rfl)
theorem dX4_size_48 : decode cX4_size 48 = .ok (.arraylength, 1) := dk_190 (dk_at dksX4_size_2 16 rfl rfl)
theorem dX4_size_49 : decode cX4_size 49 = .ok (.ireturn, 1) := dk_172 (dk_at dksX4_size_2 17 rfl rfl)
theorem dX4_size_50 : decode cX4_size 50 = .ok (.aload_n 0, 1) := dk_42 (dk_at dksX4_size_2 18 rfl rfl)
theorem dX4_size_51 : decode cX4_size 51 = .ok (.getfield 7, 3) := dk_180 0 7 (dk_at dksX4_size_2 19 rfl rfl)
theorem dX4_size_54 : decode cX4_size 54 = .ok (.checkcast 21, 3) := dk_192 0 21 (dk_at dksX4_size_3 0 rfl rfl)
theorem dX4_size_57 : decode cX4_size 57 = .ok (.arraylength, 1) := dk_190 (dk_at dksX4_size_3 3 rfl rfl)
theorem dX4_size_58 : decode cX4_size 58 = .ok (.ireturn, 1) := dk_172 (dk_at dksX4_size_3 4 rfl rfl)
abbrev cX4_type : ByteArray := prog_9_method_2_code
def yX4_type : MethodName := ⟨RX4, "type", "()I"⟩
def dkwX4_type_1 : List UInt8 := [4, 167, 0, 4, 5, 172]
abbrev dktX4_type_1 : List UInt8 := dkwX4_type_1 ++ []
def dkwX4_type_0 : List UInt8 := [42, 180, 0, 7, 193, 0, 13, 153, 0, 7, 3, 167, 0, 18, 42, 180, 0, 7, 193, 0, 15, 153, 0, 7]
abbrev dktX4_type_0 : List UInt8 := dkwX4_type_0 ++ dktX4_type_1
theorem dksX4_type_0 : cX4_type.data.toList.drop 0 = dktX4_type_0 := by decide +kernel
theorem dksX4_type_1 : cX4_type.data.toList.drop 24 = dktX4_type_1 := dk_seg dksX4_type_0 24 rfl rfl
theorem dX4_type_0 : decode cX4_type 0 = .ok (.aload_n 0, 1) := dk_42 (dk_at dksX4_type_0 0 rfl rfl)
theorem dX4_type_1 : decode cX4_type 1 = .ok (.getfield 7, 3) := dk_180 0 7 (dk_at dksX4_type_0 1 rfl rfl)
theorem dX4_type_4 : decode cX4_type 4 = .ok (.instanceof 13, 3) := dk_193 0 13 (dk_at dksX4_type_0 4 rfl rfl)
theorem dX4_type_7 : decode cX4_type 7 = .ok (.ifCond .eq 7, 3) := dk_153 0 7 (dk_at dksX4_type_0 7 rfl rfl)
theorem dX4_type_10 : decode cX4_type 10 = .ok (.iconst 0, 1) := dk_3 (dk_at dksX4_type_0 10 rfl rfl)
theorem dX4_type_11 : decode cX4_type 11 = .ok (.goto 18, 3) := dk_167 0 18 (dk_at dksX4_type_0 11 rfl rfl)
theorem dX4_type_14 : decode cX4_type 14 = .ok (.aload_n 0, 1) := dk_42 (dk_at dksX4_type_0 14 rfl rfl)
theorem dX4_type_15 : decode cX4_type 15 = .ok (.getfield 7, 3) := dk_180 0 7 (dk_at dksX4_type_0 15 rfl rfl)
theorem dX4_type_18 : decode cX4_type 18 = .ok (.instanceof 15, 3) := dk_193 0 15 (dk_at dksX4_type_0 18 rfl rfl)
theorem dX4_type_21 : decode cX4_type 21 = .ok (.ifCond .eq 7, 3) := dk_153 0 7 (dk_at dksX4_type_0 21 rfl rfl)
theorem dX4_type_24 : decode cX4_type 24 = .ok (.iconst 1, 1) := dk_4 (dk_at dksX4_type_1 0 rfl rfl)
theorem dX4_type_25 : decode cX4_type 25 = .ok (.goto 4, 3) := dk_167 0 4 (dk_at dksX4_type_1 1 rfl rfl)
theorem dX4_type_28 : decode cX4_type 28 = .ok (.iconst 2, 1) := dk_5 (dk_at dksX4_type_1 4 rfl rfl)
theorem dX4_type_29 : decode cX4_type 29 = .ok (.ireturn, 1) := dk_172 (dk_at dksX4_type_1 5 rfl rfl)
abbrev cX4_item : ByteArray := prog_9_method_4_code
def yX4_item : MethodName := ⟨RX4, "item", "(II)I"⟩
def dkwX4_item_3 : List UInt8 := [192, 0, 21, 28, 46, 172]
abbrev dktX4_item_3 : List UInt8 := dkwX4_item_3 ++ []
def dkwX4_item_2 : List UInt8 := [42, 180, 0, 7, 192, 0, 13, 28, 51, 172, 42, 180, 0, 7, 192, 0, 15, 28, 53, 172, 42, 180, 0, 7]
abbrev dktX4_item_2 : List UInt8 := dkwX4_item_2 ++ dktX4_item_3
def dkwX4_item_1 : List UInt8 := [171, 0, 0, 0, 0, 0, 47, 0, 0, 0, 2, 0, 0, 0, 0, 0, 0, 0, 27, 0, 0, 0, 1, 0, 0, 0, 37]
abbrev dktX4_item_1 : List UInt8 := dkwX4_item_1 ++ dktX4_item_2
def dkwX4_item_0 : List UInt8 := [27]
abbrev dktX4_item_0 : List UInt8 := dkwX4_item_0 ++ dktX4_item_1
theorem dksX4_item_0 : cX4_item.data.toList.drop 0 = dktX4_item_0 := by decide +kernel
theorem dksX4_item_1 : cX4_item.data.toList.drop 1 = dktX4_item_1 := dk_seg dksX4_item_0 1 rfl rfl
theorem dksX4_item_2 : cX4_item.data.toList.drop 28 = dktX4_item_2 := dk_seg dksX4_item_1 27 rfl rfl
theorem dksX4_item_3 : cX4_item.data.toList.drop 52 = dktX4_item_3 := dk_seg dksX4_item_2 24 rfl rfl
theorem dX4_item_0 : decode cX4_item 0 = .ok (.iload_n 1, 1) := dk_27 (dk_at dksX4_item_0 0 rfl rfl)
theorem dX4_item_1 : decode cX4_item 1 = .ok (.lookupswitch 47 #[(0, 27), (1, 37)], 27) := by decide +kernel
theorem dX4_item_28 : decode cX4_item 28 = .ok (.aload_n 0, 1) := dk_42 (dk_at dksX4_item_2 0 rfl rfl)
theorem dX4_item_29 : decode cX4_item 29 = .ok (.getfield 7, 3) := dk_180 0 7 (dk_at dksX4_item_2 1 rfl rfl)
theorem dX4_item_32 : decode cX4_item 32 = .ok (.checkcast 13, 3) := dk_192 0 13 (dk_at dksX4_item_2 4 rfl rfl)
theorem dX4_item_35 : decode cX4_item 35 = .ok (.iload_n 2, 1) := dk_28 (dk_at dksX4_item_2 7 rfl rfl)
theorem dX4_item_36 : decode cX4_item 36 = .ok (.baload, 1) := dk_51 (dk_at dksX4_item_2 8 rfl rfl)
theorem dX4_item_37 : decode cX4_item 37 = .ok (.ireturn, 1) := dk_172 (dk_at dksX4_item_2 9 rfl rfl)
theorem dX4_item_38 : decode cX4_item 38 = .ok (.aload_n 0, 1) := dk_42 (dk_at dksX4_item_2 10 rfl rfl)
theorem dX4_item_39 : decode cX4_item 39 = .ok (.getfield 7, 3) := dk_180 0 7 (dk_at dksX4_item_2 11 rfl rfl)
theorem dX4_item_42 : decode cX4_item 42 = .ok (.checkcast 15, 3) := dk_192 0 15 (dk_at dksX4_item_2 14 rfl rfl)
theorem dX4_item_45 : decode cX4_item 45 = .ok (.iload_n 2, 1) := dk_28 (dk_at dksX4_item_2 17 rfl rfl)
theorem dX4_item_46 : decode cX4_item 46 = .ok (.saload, 1) := dk_53 (dk_at dksX4_item_2 18 rfl rfl)
theorem dX4_item_47 : decode cX4_item 47 = .ok (.ireturn, 1) := dk_172 (dk_at dksX4_item_2 19 rfl rfl)
theorem dX4_item_48 : decode cX4_item 48 = .ok (.aload_n 0, 1) := dk_42 (dk_at dksX4_item_2 20 rfl rfl)
theorem dX4_item_49 : decode cX4_item 49 = .ok (.getfield 7, 3) := dk_180 0 7 (dk_at dksX4_item_2 21 rfl rfl)
theorem dX4_item_52 : decode cX4_item 52 = .ok (.checkcast 21, 3) := dk_192 0 21 (dk_at dksX4_item_3 0 rfl rfl)
theorem dX4_item_55 : decode cX4_item 55 = .ok (.iload_n 2, 1) := dk_28 (dk_at dksX4_item_3 3 rfl rfl)
theorem dX4_item_56 : decode cX4_item 56 = .ok (.iaload, 1) := dk_46 (dk_at dksX4_item_3 4 rfl rfl)
theorem dX4_item_57 : decode cX4_item 57 = .ok (.ireturn, 1) := dk_172 (dk_at dksX4_item_3 5 rfl rfl)
abbrev cX4_lay : ByteArray := prog_9_method_5_code
def yX4_lay : MethodName := ⟨RX4, "lay", "(III)V"⟩
def dkwX4_lay_3 : List UInt8 := [86, 167, 0, 13, 42, 180, 0, 7, 192, 0, 21, 28, 29, 79, 177]
abbrev dktX4_lay_3 : List UInt8 := dkwX4_lay_3 ++ []
def dkwX4_lay_2 : List UInt8 := [42, 180, 0, 7, 192, 0, 13, 28, 29, 145, 84, 167, 0, 27, 42, 180, 0, 7, 192, 0, 15, 28, 29, 147]
abbrev dktX4_lay_2 : List UInt8 := dkwX4_lay_2 ++ dktX4_lay_3
def dkwX4_lay_1 : List UInt8 := [171, 0, 0, 0, 0, 0, 55, 0, 0, 0, 2, 0, 0, 0, 0, 0, 0, 0, 27, 0, 0, 0, 1, 0, 0, 0, 41]
abbrev dktX4_lay_1 : List UInt8 := dkwX4_lay_1 ++ dktX4_lay_2
def dkwX4_lay_0 : List UInt8 := [27]
abbrev dktX4_lay_0 : List UInt8 := dkwX4_lay_0 ++ dktX4_lay_1
theorem dksX4_lay_0 : cX4_lay.data.toList.drop 0 = dktX4_lay_0 := by decide +kernel
theorem dksX4_lay_1 : cX4_lay.data.toList.drop 1 = dktX4_lay_1 := dk_seg dksX4_lay_0 1 rfl rfl
theorem dksX4_lay_2 : cX4_lay.data.toList.drop 28 = dktX4_lay_2 := dk_seg dksX4_lay_1 27 rfl rfl
theorem dksX4_lay_3 : cX4_lay.data.toList.drop 52 = dktX4_lay_3 := dk_seg dksX4_lay_2 24 rfl rfl
theorem dX4_lay_0 : decode cX4_lay 0 = .ok (.iload_n 1, 1) := dk_27 (dk_at dksX4_lay_0 0 rfl rfl)
theorem dX4_lay_1 : decode cX4_lay 1 = .ok (.lookupswitch 55 #[(0, 27), (1, 41)], 27) := by decide +kernel
theorem dX4_lay_28 : decode cX4_lay 28 = .ok (.aload_n 0, 1) := dk_42 (dk_at dksX4_lay_2 0 rfl rfl)
theorem dX4_lay_29 : decode cX4_lay 29 = .ok (.getfield 7, 3) := dk_180 0 7 (dk_at dksX4_lay_2 1 rfl rfl)
theorem dX4_lay_32 : decode cX4_lay 32 = .ok (.checkcast 13, 3) := dk_192 0 13 (dk_at dksX4_lay_2 4 rfl rfl)
theorem dX4_lay_35 : decode cX4_lay 35 = .ok (.iload_n 2, 1) := dk_28 (dk_at dksX4_lay_2 7 rfl rfl)
theorem dX4_lay_36 : decode cX4_lay 36 = .ok (.iload_n 3, 1) := dk_29 (dk_at dksX4_lay_2 8 rfl rfl)
theorem dX4_lay_37 : decode cX4_lay 37 = .ok (.i2b, 1) := dk_145 (dk_at dksX4_lay_2 9 rfl rfl)
theorem dX4_lay_38 : decode cX4_lay 38 = .ok (.bastore, 1) := dk_84 (dk_at dksX4_lay_2 10 rfl rfl)
theorem dX4_lay_39 : decode cX4_lay 39 = .ok (.goto 27, 3) := dk_167 0 27 (dk_at dksX4_lay_2 11 rfl rfl)
theorem dX4_lay_42 : decode cX4_lay 42 = .ok (.aload_n 0, 1) := dk_42 (dk_at dksX4_lay_2 14 rfl rfl)
theorem dX4_lay_43 : decode cX4_lay 43 = .ok (.getfield 7, 3) := dk_180 0 7 (dk_at dksX4_lay_2 15 rfl rfl)
theorem dX4_lay_46 : decode cX4_lay 46 = .ok (.checkcast 15, 3) := dk_192 0 15 (dk_at dksX4_lay_2 18 rfl rfl)
theorem dX4_lay_49 : decode cX4_lay 49 = .ok (.iload_n 2, 1) := dk_28 (dk_at dksX4_lay_2 21 rfl rfl)
theorem dX4_lay_50 : decode cX4_lay 50 = .ok (.iload_n 3, 1) := dk_29 (dk_at dksX4_lay_2 22 rfl rfl)
theorem dX4_lay_51 : decode cX4_lay 51 = .ok (.i2s, 1) := dk_147 (dk_at dksX4_lay_2 23 rfl rfl)
theorem dX4_lay_52 : decode cX4_lay 52 = .ok (.sastore, 1) := dk_86 (dk_at dksX4_lay_3 0 rfl rfl)
theorem dX4_lay_53 : decode cX4_lay 53 = .ok (.goto 13, 3) := dk_167 0 13 (dk_at dksX4_lay_3 1 rfl rfl)
theorem dX4_lay_56 : decode cX4_lay 56 = .ok (.aload_n 0, 1) := dk_42 (dk_at dksX4_lay_3 4 rfl rfl)
theorem dX4_lay_57 : decode cX4_lay 57 = .ok (.getfield 7, 3) := dk_180 0 7 (dk_at dksX4_lay_3 5 rfl rfl)
theorem dX4_lay_60 : decode cX4_lay 60 = .ok (.checkcast 21, 3) := dk_192 0 21 (dk_at dksX4_lay_3 8 rfl rfl)
theorem dX4_lay_63 : decode cX4_lay 63 = .ok (.iload_n 2, 1) := dk_28 (dk_at dksX4_lay_3 11 rfl rfl)
theorem dX4_lay_64 : decode cX4_lay 64 = .ok (.iload_n 3, 1) := dk_29 (dk_at dksX4_lay_3 12 rfl rfl)
theorem dX4_lay_65 : decode cX4_lay 65 = .ok (.iastore, 1) := dk_79 (dk_at dksX4_lay_3 13 rfl rfl)
theorem dX4_lay_66 : decode cX4_lay 66 = .ok (.return_, 1) := dk_177 (dk_at dksX4_lay_3 14 rfl rfl)
abbrev cX6_init : ByteArray := prog_12_method_1_code
def yX6_init : MethodName := ⟨RX6, "<init>", "(I)V"⟩
def dkwX6_init_0 : List UInt8 := [42, 1, 1, 3, 3, 183, 0, 1, 42, 27, 181, 0, 7, 177]
abbrev dktX6_init_0 : List UInt8 := dkwX6_init_0 ++ []
theorem dksX6_init_0 : cX6_init.data.toList.drop 0 = dktX6_init_0 := by decide +kernel
theorem dX6_init_0 : decode cX6_init 0 = .ok (.aload_n 0, 1) := dk_42 (dk_at dksX6_init_0 0 rfl rfl)
theorem dX6_init_1 : decode cX6_init 1 = .ok (.aconst_null, 1) := dk_1 (dk_at dksX6_init_0 1 rfl rfl)
theorem dX6_init_2 : decode cX6_init 2 = .ok (.aconst_null, 1) := dk_1 (dk_at dksX6_init_0 2 rfl rfl)
theorem dX6_init_3 : decode cX6_init 3 = .ok (.iconst 0, 1) := dk_3 (dk_at dksX6_init_0 3 rfl rfl)
theorem dX6_init_4 : decode cX6_init 4 = .ok (.iconst 0, 1) := dk_3 (dk_at dksX6_init_0 4 rfl rfl)
theorem dX6_init_5 : decode cX6_init 5 = .ok (.invokespecial 1, 3) := dk_183 0 1 (dk_at dksX6_init_0 5 rfl rfl)
theorem dX6_init_8 : decode cX6_init 8 = .ok (.aload_n 0, 1) := dk_42 (dk_at dksX6_init_0 8 rfl rfl)
theorem dX6_init_9 : decode cX6_init 9 = .ok (.iload_n 1, 1) := dk_27 (dk_at dksX6_init_0 9 rfl rfl)
theorem dX6_init_10 : decode cX6_init 10 = .ok (.putfield 7, 3) := dk_181 0 7 (dk_at dksX6_init_0 10 rfl rfl)
theorem dX6_init_13 : decode cX6_init 13 = .ok (.return_, 1) := dk_177 (dk_at dksX6_init_0 13 rfl rfl)
abbrev cX7_init : ByteArray := prog_7_method_1_code
def yX7_init : MethodName := ⟨RX7, "<init>", "(ILSamovar$Taste;I)V"⟩
def dkwX7_init_0 : List UInt8 := [42, 183, 0, 3, 42, 27, 181, 0, 9, 42, 44, 181, 0, 15, 42, 29, 181, 0, 19, 177]
abbrev dktX7_init_0 : List UInt8 := dkwX7_init_0 ++ []
theorem dksX7_init_0 : cX7_init.data.toList.drop 0 = dktX7_init_0 := by decide +kernel
theorem dX7_init_0 : decode cX7_init 0 = .ok (.aload_n 0, 1) := dk_42 (dk_at dksX7_init_0 0 rfl rfl)
theorem dX7_init_1 : decode cX7_init 1 = .ok (.invokespecial 3, 3) := dk_183 0 3 (dk_at dksX7_init_0 1 rfl rfl)
theorem dX7_init_4 : decode cX7_init 4 = .ok (.aload_n 0, 1) := dk_42 (dk_at dksX7_init_0 4 rfl rfl)
theorem dX7_init_5 : decode cX7_init 5 = .ok (.iload_n 1, 1) := dk_27 (dk_at dksX7_init_0 5 rfl rfl)
theorem dX7_init_6 : decode cX7_init 6 = .ok (.putfield 9, 3) := dk_181 0 9 (dk_at dksX7_init_0 6 rfl rfl)
theorem dX7_init_9 : decode cX7_init 9 = .ok (.aload_n 0, 1) := dk_42 (dk_at dksX7_init_0 9 rfl rfl)
theorem dX7_init_10 : decode cX7_init 10 = .ok (.aload_n 2, 1) := dk_44 (dk_at dksX7_init_0 10 rfl rfl)
theorem dX7_init_11 : decode cX7_init 11 = .ok (.putfield 15, 3) := dk_181 0 15 (dk_at dksX7_init_0 11 rfl rfl)
theorem dX7_init_14 : decode cX7_init 14 = .ok (.aload_n 0, 1) := dk_42 (dk_at dksX7_init_0 14 rfl rfl)
theorem dX7_init_15 : decode cX7_init 15 = .ok (.iload_n 3, 1) := dk_29 (dk_at dksX7_init_0 15 rfl rfl)
theorem dX7_init_16 : decode cX7_init 16 = .ok (.putfield 19, 3) := dk_181 0 19 (dk_at dksX7_init_0 16 rfl rfl)
theorem dX7_init_19 : decode cX7_init 19 = .ok (.return_, 1) := dk_177 (dk_at dksX7_init_0 19 rfl rfl)
abbrev cX7_by : ByteArray := prog_7_method_2_code
def yX7_by : MethodName := ⟨RX7, "by", "(I)I"⟩
def dkwX7_by_1 : List UInt8 := [167, 0, 7, 42, 180, 0, 19, 172]
abbrev dktX7_by_1 : List UInt8 := dkwX7_by_1 ++ []
def dkwX7_by_0 : List UInt8 := [27, 154, 0, 10, 42, 180, 0, 9, 167, 0, 22, 27, 4, 160, 0, 13, 42, 180, 0, 15, 182, 0, 22]
abbrev dktX7_by_0 : List UInt8 := dkwX7_by_0 ++ dktX7_by_1
theorem dksX7_by_0 : cX7_by.data.toList.drop 0 = dktX7_by_0 := by decide +kernel
theorem dksX7_by_1 : cX7_by.data.toList.drop 23 = dktX7_by_1 := dk_seg dksX7_by_0 23 rfl rfl
theorem dX7_by_0 : decode cX7_by 0 = .ok (.iload_n 1, 1) := dk_27 (dk_at dksX7_by_0 0 rfl rfl)
theorem dX7_by_1 : decode cX7_by 1 = .ok (.ifCond .ne 10, 3) := dk_154 0 10 (dk_at dksX7_by_0 1 rfl rfl)
theorem dX7_by_4 : decode cX7_by 4 = .ok (.aload_n 0, 1) := dk_42 (dk_at dksX7_by_0 4 rfl rfl)
theorem dX7_by_5 : decode cX7_by 5 = .ok (.getfield 9, 3) := dk_180 0 9 (dk_at dksX7_by_0 5 rfl rfl)
theorem dX7_by_8 : decode cX7_by 8 = .ok (.goto 22, 3) := dk_167 0 22 (dk_at dksX7_by_0 8 rfl rfl)
theorem dX7_by_11 : decode cX7_by 11 = .ok (.iload_n 1, 1) := dk_27 (dk_at dksX7_by_0 11 rfl rfl)
theorem dX7_by_12 : decode cX7_by 12 = .ok (.iconst 1, 1) := dk_4 (dk_at dksX7_by_0 12 rfl rfl)
theorem dX7_by_13 : decode cX7_by 13 = .ok (.if_icmp .ne 13, 3) := dk_160 0 13 (dk_at dksX7_by_0 13 rfl rfl)
theorem dX7_by_16 : decode cX7_by 16 = .ok (.aload_n 0, 1) := dk_42 (dk_at dksX7_by_0 16 rfl rfl)
theorem dX7_by_17 : decode cX7_by 17 = .ok (.getfield 15, 3) := dk_180 0 15 (dk_at dksX7_by_0 17 rfl rfl)
theorem dX7_by_20 : decode cX7_by 20 = .ok (.invokevirtual 22, 3) := dk_182 0 22 (dk_at dksX7_by_0 20 rfl rfl)
theorem dX7_by_23 : decode cX7_by 23 = .ok (.goto 7, 3) := dk_167 0 7 (dk_at dksX7_by_1 0 rfl rfl)
theorem dX7_by_26 : decode cX7_by 26 = .ok (.aload_n 0, 1) := dk_42 (dk_at dksX7_by_1 3 rfl rfl)
theorem dX7_by_27 : decode cX7_by 27 = .ok (.getfield 19, 3) := dk_180 0 19 (dk_at dksX7_by_1 4 rfl rfl)
theorem dX7_by_30 : decode cX7_by 30 = .ok (.ireturn, 1) := dk_172 (dk_at dksX7_by_1 7 rfl rfl)
abbrev cX7_begins : ByteArray := prog_7_method_3_code
def yX7_begins : MethodName := ⟨RX7, "begins", "()V"⟩
def dkwX7_begins_1 : List UInt8 := [181, 0, 40, 177]
abbrev dktX7_begins_1 : List UInt8 := dkwX7_begins_1 ++ []
def dkwX7_begins_0 : List UInt8 := [42, 3, 181, 0, 28, 42, 3, 181, 0, 31, 42, 3, 181, 0, 34, 42, 3, 181, 0, 37, 42, 3]
abbrev dktX7_begins_0 : List UInt8 := dkwX7_begins_0 ++ dktX7_begins_1
theorem dksX7_begins_0 : cX7_begins.data.toList.drop 0 = dktX7_begins_0 := by decide +kernel
theorem dksX7_begins_1 : cX7_begins.data.toList.drop 22 = dktX7_begins_1 := dk_seg dksX7_begins_0 22 rfl rfl
theorem dX7_begins_0 : decode cX7_begins 0 = .ok (.aload_n 0, 1) := dk_42 (dk_at dksX7_begins_0 0 rfl rfl)
theorem dX7_begins_1 : decode cX7_begins 1 = .ok (.iconst 0, 1) := dk_3 (dk_at dksX7_begins_0 1 rfl rfl)
theorem dX7_begins_2 : decode cX7_begins 2 = .ok (.putfield 28, 3) := dk_181 0 28 (dk_at dksX7_begins_0 2 rfl rfl)
theorem dX7_begins_5 : decode cX7_begins 5 = .ok (.aload_n 0, 1) := dk_42 (dk_at dksX7_begins_0 5 rfl rfl)
theorem dX7_begins_6 : decode cX7_begins 6 = .ok (.iconst 0, 1) := dk_3 (dk_at dksX7_begins_0 6 rfl rfl)
theorem dX7_begins_7 : decode cX7_begins 7 = .ok (.putfield 31, 3) := dk_181 0 31 (dk_at dksX7_begins_0 7 rfl rfl)
theorem dX7_begins_10 : decode cX7_begins 10 = .ok (.aload_n 0, 1) := dk_42 (dk_at dksX7_begins_0 10 rfl rfl)
theorem dX7_begins_11 : decode cX7_begins 11 = .ok (.iconst 0, 1) := dk_3 (dk_at dksX7_begins_0 11 rfl rfl)
theorem dX7_begins_12 : decode cX7_begins 12 = .ok (.putfield 34, 3) := dk_181 0 34 (dk_at dksX7_begins_0 12 rfl rfl)
theorem dX7_begins_15 : decode cX7_begins 15 = .ok (.aload_n 0, 1) := dk_42 (dk_at dksX7_begins_0 15 rfl rfl)
theorem dX7_begins_16 : decode cX7_begins 16 = .ok (.iconst 0, 1) := dk_3 (dk_at dksX7_begins_0 16 rfl rfl)
theorem dX7_begins_17 : decode cX7_begins 17 = .ok (.putfield 37, 3) := dk_181 0 37 (dk_at dksX7_begins_0 17 rfl rfl)
theorem dX7_begins_20 : decode cX7_begins 20 = .ok (.aload_n 0, 1) := dk_42 (dk_at dksX7_begins_0 20 rfl rfl)
theorem dX7_begins_21 : decode cX7_begins 21 = .ok (.iconst 0, 1) := dk_3 (dk_at dksX7_begins_0 21 rfl rfl)
theorem dX7_begins_22 : decode cX7_begins 22 = .ok (.putfield 40, 3) := dk_181 0 40 (dk_at dksX7_begins_1 0 rfl rfl)
theorem dX7_begins_25 : decode cX7_begins 25 = .ok (.return_, 1) := dk_177 (dk_at dksX7_begins_1 3 rfl rfl)
abbrev cX7_comes : ByteArray := prog_7_method_4_code
def yX7_comes : MethodName := ⟨RX7, "comes", "(IZ)Z"⟩
def dkwX7_comes_2 : List UInt8 := [62, 29, 153, 0, 13, 42, 4, 181, 0, 28, 42, 3, 181, 0, 37, 29, 172]
abbrev dktX7_comes_2 : List UInt8 := dkwX7_comes_2 ++ []
def dkwX7_comes_1 : List UInt8 := [3, 167, 0, 23, 42, 180, 0, 28, 154, 0, 15, 42, 180, 0, 9, 27, 160, 0, 7, 4, 167, 0, 4, 3]
abbrev dktX7_comes_1 : List UInt8 := dkwX7_comes_1 ++ dktX7_comes_2
def dkwX7_comes_0 : List UInt8 := [28, 153, 0, 27, 42, 180, 0, 28, 5, 160, 0, 15, 42, 180, 0, 34, 27, 160, 0, 7, 4, 167, 0, 27]
abbrev dktX7_comes_0 : List UInt8 := dkwX7_comes_0 ++ dktX7_comes_1
theorem dksX7_comes_0 : cX7_comes.data.toList.drop 0 = dktX7_comes_0 := by decide +kernel
theorem dksX7_comes_1 : cX7_comes.data.toList.drop 24 = dktX7_comes_1 := dk_seg dksX7_comes_0 24 rfl rfl
theorem dksX7_comes_2 : cX7_comes.data.toList.drop 48 = dktX7_comes_2 := dk_seg dksX7_comes_1 24 rfl rfl
theorem dX7_comes_0 : decode cX7_comes 0 = .ok (.iload_n 2, 1) := dk_28 (dk_at dksX7_comes_0 0 rfl rfl)
theorem dX7_comes_1 : decode cX7_comes 1 = .ok (.ifCond .eq 27, 3) := dk_153 0 27 (dk_at dksX7_comes_0 1 rfl rfl)
theorem dX7_comes_4 : decode cX7_comes 4 = .ok (.aload_n 0, 1) := dk_42 (dk_at dksX7_comes_0 4 rfl rfl)
theorem dX7_comes_5 : decode cX7_comes 5 = .ok (.getfield 28, 3) := dk_180 0 28 (dk_at dksX7_comes_0 5 rfl rfl)
theorem dX7_comes_8 : decode cX7_comes 8 = .ok (.iconst 2, 1) := dk_5 (dk_at dksX7_comes_0 8 rfl rfl)
theorem dX7_comes_9 : decode cX7_comes 9 = .ok (.if_icmp .ne 15, 3) := dk_160 0 15 (dk_at dksX7_comes_0 9 rfl rfl)
theorem dX7_comes_12 : decode cX7_comes 12 = .ok (.aload_n 0, 1) := dk_42 (dk_at dksX7_comes_0 12 rfl rfl)
theorem dX7_comes_13 : decode cX7_comes 13 = .ok (.getfield 34, 3) := dk_180 0 34 (dk_at dksX7_comes_0 13 rfl rfl)
theorem dX7_comes_16 : decode cX7_comes 16 = .ok (.iload_n 1, 1) := dk_27 (dk_at dksX7_comes_0 16 rfl rfl)
theorem dX7_comes_17 : decode cX7_comes 17 = .ok (.if_icmp .ne 7, 3) := dk_160 0 7 (dk_at dksX7_comes_0 17 rfl rfl)
theorem dX7_comes_20 : decode cX7_comes 20 = .ok (.iconst 1, 1) := dk_4 (dk_at dksX7_comes_0 20 rfl rfl)
theorem dX7_comes_21 : decode cX7_comes 21 = .ok (.goto 27, 3) := dk_167 0 27 (dk_at dksX7_comes_0 21 rfl rfl)
theorem dX7_comes_24 : decode cX7_comes 24 = .ok (.iconst 0, 1) := dk_3 (dk_at dksX7_comes_1 0 rfl rfl)
theorem dX7_comes_25 : decode cX7_comes 25 = .ok (.goto 23, 3) := dk_167 0 23 (dk_at dksX7_comes_1 1 rfl rfl)
theorem dX7_comes_28 : decode cX7_comes 28 = .ok (.aload_n 0, 1) := dk_42 (dk_at dksX7_comes_1 4 rfl rfl)
theorem dX7_comes_29 : decode cX7_comes 29 = .ok (.getfield 28, 3) := dk_180 0 28 (dk_at dksX7_comes_1 5 rfl rfl)
theorem dX7_comes_32 : decode cX7_comes 32 = .ok (.ifCond .ne 15, 3) := dk_154 0 15 (dk_at dksX7_comes_1 8 rfl rfl)
theorem dX7_comes_35 : decode cX7_comes 35 = .ok (.aload_n 0, 1) := dk_42 (dk_at dksX7_comes_1 11 rfl rfl)
theorem dX7_comes_36 : decode cX7_comes 36 = .ok (.getfield 9, 3) := dk_180 0 9 (dk_at dksX7_comes_1 12 rfl rfl)
theorem dX7_comes_39 : decode cX7_comes 39 = .ok (.iload_n 1, 1) := dk_27 (dk_at dksX7_comes_1 15 rfl rfl)
theorem dX7_comes_40 : decode cX7_comes 40 = .ok (.if_icmp .ne 7, 3) := dk_160 0 7 (dk_at dksX7_comes_1 16 rfl rfl)
theorem dX7_comes_43 : decode cX7_comes 43 = .ok (.iconst 1, 1) := dk_4 (dk_at dksX7_comes_1 19 rfl rfl)
theorem dX7_comes_44 : decode cX7_comes 44 = .ok (.goto 4, 3) := dk_167 0 4 (dk_at dksX7_comes_1 20 rfl rfl)
theorem dX7_comes_47 : decode cX7_comes 47 = .ok (.iconst 0, 1) := dk_3 (dk_at dksX7_comes_1 23 rfl rfl)
theorem dX7_comes_48 : decode cX7_comes 48 = .ok (.istore_n 3, 1) := dk_62 (dk_at dksX7_comes_2 0 rfl rfl)
theorem dX7_comes_49 : decode cX7_comes 49 = .ok (.iload_n 3, 1) := dk_29 (dk_at dksX7_comes_2 1 rfl rfl)
theorem dX7_comes_50 : decode cX7_comes 50 = .ok (.ifCond .eq 13, 3) := dk_153 0 13 (dk_at dksX7_comes_2 2 rfl rfl)
theorem dX7_comes_53 : decode cX7_comes 53 = .ok (.aload_n 0, 1) := dk_42 (dk_at dksX7_comes_2 5 rfl rfl)
theorem dX7_comes_54 : decode cX7_comes 54 = .ok (.iconst 1, 1) := dk_4 (dk_at dksX7_comes_2 6 rfl rfl)
theorem dX7_comes_55 : decode cX7_comes 55 = .ok (.putfield 28, 3) := dk_181 0 28 (dk_at dksX7_comes_2 7 rfl rfl)
theorem dX7_comes_58 : decode cX7_comes 58 = .ok (.aload_n 0, 1) := dk_42 (dk_at dksX7_comes_2 10 rfl rfl)
theorem dX7_comes_59 : decode cX7_comes 59 = .ok (.iconst 0, 1) := dk_3 (dk_at dksX7_comes_2 11 rfl rfl)
theorem dX7_comes_60 : decode cX7_comes 60 = .ok (.putfield 37, 3) := dk_181 0 37 (dk_at dksX7_comes_2 12 rfl rfl)
theorem dX7_comes_63 : decode cX7_comes 63 = .ok (.iload_n 3, 1) := dk_29 (dk_at dksX7_comes_2 15 rfl rfl)
theorem dX7_comes_64 : decode cX7_comes 64 = .ok (.ireturn, 1) := dk_172 (dk_at dksX7_comes_2 16 rfl rfl)
abbrev cX7_served : ByteArray := prog_7_method_5_code
def yX7_served : MethodName := ⟨RX7, "served", "(I)V"⟩
def dkwX7_served_1 : List UInt8 := [167, 0, 4, 5, 181, 0, 28, 42, 27, 42, 180, 0, 15, 182, 0, 43, 96, 181, 0, 34, 177]
abbrev dktX7_served_1 : List UInt8 := dkwX7_served_1 ++ []
def dkwX7_served_0 : List UInt8 := [42, 89, 180, 0, 31, 4, 96, 181, 0, 31, 42, 42, 180, 0, 31, 42, 180, 0, 19, 160, 0, 7, 6]
abbrev dktX7_served_0 : List UInt8 := dkwX7_served_0 ++ dktX7_served_1
theorem dksX7_served_0 : cX7_served.data.toList.drop 0 = dktX7_served_0 := by decide +kernel
theorem dksX7_served_1 : cX7_served.data.toList.drop 23 = dktX7_served_1 := dk_seg dksX7_served_0 23 rfl rfl
theorem dX7_served_0 : decode cX7_served 0 = .ok (.aload_n 0, 1) := dk_42 (dk_at dksX7_served_0 0 rfl rfl)
theorem dX7_served_1 : decode cX7_served 1 = .ok (.dup, 1) := dk_89 (dk_at dksX7_served_0 1 rfl rfl)
theorem dX7_served_2 : decode cX7_served 2 = .ok (.getfield 31, 3) := dk_180 0 31 (dk_at dksX7_served_0 2 rfl rfl)
theorem dX7_served_5 : decode cX7_served 5 = .ok (.iconst 1, 1) := dk_4 (dk_at dksX7_served_0 5 rfl rfl)
theorem dX7_served_6 : decode cX7_served 6 = .ok (.iadd, 1) := dk_96 (dk_at dksX7_served_0 6 rfl rfl)
theorem dX7_served_7 : decode cX7_served 7 = .ok (.putfield 31, 3) := dk_181 0 31 (dk_at dksX7_served_0 7 rfl rfl)
theorem dX7_served_10 : decode cX7_served 10 = .ok (.aload_n 0, 1) := dk_42 (dk_at dksX7_served_0 10 rfl rfl)
theorem dX7_served_11 : decode cX7_served 11 = .ok (.aload_n 0, 1) := dk_42 (dk_at dksX7_served_0 11 rfl rfl)
theorem dX7_served_12 : decode cX7_served 12 = .ok (.getfield 31, 3) := dk_180 0 31 (dk_at dksX7_served_0 12 rfl rfl)
theorem dX7_served_15 : decode cX7_served 15 = .ok (.aload_n 0, 1) := dk_42 (dk_at dksX7_served_0 15 rfl rfl)
theorem dX7_served_16 : decode cX7_served 16 = .ok (.getfield 19, 3) := dk_180 0 19 (dk_at dksX7_served_0 16 rfl rfl)
theorem dX7_served_19 : decode cX7_served 19 = .ok (.if_icmp .ne 7, 3) := dk_160 0 7 (dk_at dksX7_served_0 19 rfl rfl)
theorem dX7_served_22 : decode cX7_served 22 = .ok (.iconst 3, 1) := dk_6 (dk_at dksX7_served_0 22 rfl rfl)
theorem dX7_served_23 : decode cX7_served 23 = .ok (.goto 4, 3) := dk_167 0 4 (dk_at dksX7_served_1 0 rfl rfl)
theorem dX7_served_26 : decode cX7_served 26 = .ok (.iconst 2, 1) := dk_5 (dk_at dksX7_served_1 3 rfl rfl)
theorem dX7_served_27 : decode cX7_served 27 = .ok (.putfield 28, 3) := dk_181 0 28 (dk_at dksX7_served_1 4 rfl rfl)
theorem dX7_served_30 : decode cX7_served 30 = .ok (.aload_n 0, 1) := dk_42 (dk_at dksX7_served_1 7 rfl rfl)
theorem dX7_served_31 : decode cX7_served 31 = .ok (.iload_n 1, 1) := dk_27 (dk_at dksX7_served_1 8 rfl rfl)
theorem dX7_served_32 : decode cX7_served 32 = .ok (.aload_n 0, 1) := dk_42 (dk_at dksX7_served_1 9 rfl rfl)
theorem dX7_served_33 : decode cX7_served 33 = .ok (.getfield 15, 3) := dk_180 0 15 (dk_at dksX7_served_1 10 rfl rfl)
theorem dX7_served_36 : decode cX7_served 36 = .ok (.invokevirtual 43, 3) := dk_182 0 43 (dk_at dksX7_served_1 13 rfl rfl)
theorem dX7_served_39 : decode cX7_served 39 = .ok (.iadd, 1) := dk_96 (dk_at dksX7_served_1 16 rfl rfl)
theorem dX7_served_40 : decode cX7_served 40 = .ok (.putfield 34, 3) := dk_181 0 34 (dk_at dksX7_served_1 17 rfl rfl)
theorem dX7_served_43 : decode cX7_served 43 = .ok (.return_, 1) := dk_177 (dk_at dksX7_served_1 20 rfl rfl)
abbrev cX8_init : ByteArray := prog_8_method_1_code
def yX8_init : MethodName := ⟨RX8, "<init>", "(ILSamovar$Fuel;I)V"⟩
def dkwX8_init_0 : List UInt8 := [42, 183, 0, 1, 42, 27, 181, 0, 7, 42, 44, 181, 0, 13, 42, 29, 181, 0, 17, 177]
abbrev dktX8_init_0 : List UInt8 := dkwX8_init_0 ++ []
theorem dksX8_init_0 : cX8_init.data.toList.drop 0 = dktX8_init_0 := by decide +kernel
theorem dX8_init_0 : decode cX8_init 0 = .ok (.aload_n 0, 1) := dk_42 (dk_at dksX8_init_0 0 rfl rfl)
theorem dX8_init_1 : decode cX8_init 1 = .ok (.invokespecial 1, 3) := dk_183 0 1 (dk_at dksX8_init_0 1 rfl rfl)
theorem dX8_init_4 : decode cX8_init 4 = .ok (.aload_n 0, 1) := dk_42 (dk_at dksX8_init_0 4 rfl rfl)
theorem dX8_init_5 : decode cX8_init 5 = .ok (.iload_n 1, 1) := dk_27 (dk_at dksX8_init_0 5 rfl rfl)
theorem dX8_init_6 : decode cX8_init 6 = .ok (.putfield 7, 3) := dk_181 0 7 (dk_at dksX8_init_0 6 rfl rfl)
theorem dX8_init_9 : decode cX8_init 9 = .ok (.aload_n 0, 1) := dk_42 (dk_at dksX8_init_0 9 rfl rfl)
theorem dX8_init_10 : decode cX8_init 10 = .ok (.aload_n 2, 1) := dk_44 (dk_at dksX8_init_0 10 rfl rfl)
theorem dX8_init_11 : decode cX8_init 11 = .ok (.putfield 13, 3) := dk_181 0 13 (dk_at dksX8_init_0 11 rfl rfl)
theorem dX8_init_14 : decode cX8_init 14 = .ok (.aload_n 0, 1) := dk_42 (dk_at dksX8_init_0 14 rfl rfl)
theorem dX8_init_15 : decode cX8_init 15 = .ok (.iload_n 3, 1) := dk_29 (dk_at dksX8_init_0 15 rfl rfl)
theorem dX8_init_16 : decode cX8_init 16 = .ok (.putfield 17, 3) := dk_181 0 17 (dk_at dksX8_init_0 16 rfl rfl)
theorem dX8_init_19 : decode cX8_init 19 = .ok (.return_, 1) := dk_177 (dk_at dksX8_init_0 19 rfl rfl)
abbrev cX8_by : ByteArray := prog_8_method_2_code
def yX8_by : MethodName := ⟨RX8, "by", "(I)I"⟩
def dkwX8_by_1 : List UInt8 := [167, 0, 7, 42, 180, 0, 17, 172]
abbrev dktX8_by_1 : List UInt8 := dkwX8_by_1 ++ []
def dkwX8_by_0 : List UInt8 := [27, 154, 0, 10, 42, 180, 0, 7, 167, 0, 22, 27, 4, 160, 0, 13, 42, 180, 0, 13, 182, 0, 20]
abbrev dktX8_by_0 : List UInt8 := dkwX8_by_0 ++ dktX8_by_1
theorem dksX8_by_0 : cX8_by.data.toList.drop 0 = dktX8_by_0 := by decide +kernel
theorem dksX8_by_1 : cX8_by.data.toList.drop 23 = dktX8_by_1 := dk_seg dksX8_by_0 23 rfl rfl
theorem dX8_by_0 : decode cX8_by 0 = .ok (.iload_n 1, 1) := dk_27 (dk_at dksX8_by_0 0 rfl rfl)
theorem dX8_by_1 : decode cX8_by 1 = .ok (.ifCond .ne 10, 3) := dk_154 0 10 (dk_at dksX8_by_0 1 rfl rfl)
theorem dX8_by_4 : decode cX8_by 4 = .ok (.aload_n 0, 1) := dk_42 (dk_at dksX8_by_0 4 rfl rfl)
theorem dX8_by_5 : decode cX8_by 5 = .ok (.getfield 7, 3) := dk_180 0 7 (dk_at dksX8_by_0 5 rfl rfl)
theorem dX8_by_8 : decode cX8_by 8 = .ok (.goto 22, 3) := dk_167 0 22 (dk_at dksX8_by_0 8 rfl rfl)
theorem dX8_by_11 : decode cX8_by 11 = .ok (.iload_n 1, 1) := dk_27 (dk_at dksX8_by_0 11 rfl rfl)
theorem dX8_by_12 : decode cX8_by 12 = .ok (.iconst 1, 1) := dk_4 (dk_at dksX8_by_0 12 rfl rfl)
theorem dX8_by_13 : decode cX8_by 13 = .ok (.if_icmp .ne 13, 3) := dk_160 0 13 (dk_at dksX8_by_0 13 rfl rfl)
theorem dX8_by_16 : decode cX8_by 16 = .ok (.aload_n 0, 1) := dk_42 (dk_at dksX8_by_0 16 rfl rfl)
theorem dX8_by_17 : decode cX8_by 17 = .ok (.getfield 13, 3) := dk_180 0 13 (dk_at dksX8_by_0 17 rfl rfl)
theorem dX8_by_20 : decode cX8_by 20 = .ok (.invokevirtual 20, 3) := dk_182 0 20 (dk_at dksX8_by_0 20 rfl rfl)
theorem dX8_by_23 : decode cX8_by 23 = .ok (.goto 7, 3) := dk_167 0 7 (dk_at dksX8_by_1 0 rfl rfl)
theorem dX8_by_26 : decode cX8_by 26 = .ok (.aload_n 0, 1) := dk_42 (dk_at dksX8_by_1 3 rfl rfl)
theorem dX8_by_27 : decode cX8_by 27 = .ok (.getfield 17, 3) := dk_180 0 17 (dk_at dksX8_by_1 4 rfl rfl)
theorem dX8_by_30 : decode cX8_by 30 = .ok (.ireturn, 1) := dk_172 (dk_at dksX8_by_1 7 rfl rfl)
abbrev cX8_fire : ByteArray := prog_8_method_3_code
def yX8_fire : MethodName := ⟨RX8, "fire", "(I)I"⟩
def dkwX8_fire_1 : List UInt8 := [42, 180, 0, 17, 42, 180, 0, 13, 182, 0, 35, 104, 167, 0, 4, 3, 172]
abbrev dktX8_fire_1 : List UInt8 := dkwX8_fire_1 ++ []
def dkwX8_fire_0 : List UInt8 := [27, 42, 180, 0, 7, 100, 133, 9, 42, 180, 0, 13, 182, 0, 26, 4, 100, 133, 184, 0, 29, 153, 0, 18]
abbrev dktX8_fire_0 : List UInt8 := dkwX8_fire_0 ++ dktX8_fire_1
theorem dksX8_fire_0 : cX8_fire.data.toList.drop 0 = dktX8_fire_0 := by decide +kernel
theorem dksX8_fire_1 : cX8_fire.data.toList.drop 24 = dktX8_fire_1 := dk_seg dksX8_fire_0 24 rfl rfl
theorem dX8_fire_0 : decode cX8_fire 0 = .ok (.iload_n 1, 1) := dk_27 (dk_at dksX8_fire_0 0 rfl rfl)
theorem dX8_fire_1 : decode cX8_fire 1 = .ok (.aload_n 0, 1) := dk_42 (dk_at dksX8_fire_0 1 rfl rfl)
theorem dX8_fire_2 : decode cX8_fire 2 = .ok (.getfield 7, 3) := dk_180 0 7 (dk_at dksX8_fire_0 2 rfl rfl)
theorem dX8_fire_5 : decode cX8_fire 5 = .ok (.isub, 1) := dk_100 (dk_at dksX8_fire_0 5 rfl rfl)
theorem dX8_fire_6 : decode cX8_fire 6 = .ok (.i2l, 1) := dk_133 (dk_at dksX8_fire_0 6 rfl rfl)
theorem dX8_fire_7 : decode cX8_fire 7 = .ok (.lconst 0, 1) := dk_9 (dk_at dksX8_fire_0 7 rfl rfl)
theorem dX8_fire_8 : decode cX8_fire 8 = .ok (.aload_n 0, 1) := dk_42 (dk_at dksX8_fire_0 8 rfl rfl)
theorem dX8_fire_9 : decode cX8_fire 9 = .ok (.getfield 13, 3) := dk_180 0 13 (dk_at dksX8_fire_0 9 rfl rfl)
theorem dX8_fire_12 : decode cX8_fire 12 = .ok (.invokevirtual 26, 3) := dk_182 0 26 (dk_at dksX8_fire_0 12 rfl rfl)
theorem dX8_fire_15 : decode cX8_fire 15 = .ok (.iconst 1, 1) := dk_4 (dk_at dksX8_fire_0 15 rfl rfl)
theorem dX8_fire_16 : decode cX8_fire 16 = .ok (.isub, 1) := dk_100 (dk_at dksX8_fire_0 16 rfl rfl)
theorem dX8_fire_17 : decode cX8_fire 17 = .ok (.i2l, 1) := dk_133 (dk_at dksX8_fire_0 17 rfl rfl)
theorem dX8_fire_18 : decode cX8_fire 18 = .ok (.invokestatic 29, 3) := dk_184 0 29 (dk_at dksX8_fire_0 18 rfl rfl)
theorem dX8_fire_21 : decode cX8_fire 21 = .ok (.ifCond .eq 18, 3) := dk_153 0 18 (dk_at dksX8_fire_0 21 rfl rfl)
theorem dX8_fire_24 : decode cX8_fire 24 = .ok (.aload_n 0, 1) := dk_42 (dk_at dksX8_fire_1 0 rfl rfl)
theorem dX8_fire_25 : decode cX8_fire 25 = .ok (.getfield 17, 3) := dk_180 0 17 (dk_at dksX8_fire_1 1 rfl rfl)
theorem dX8_fire_28 : decode cX8_fire 28 = .ok (.aload_n 0, 1) := dk_42 (dk_at dksX8_fire_1 4 rfl rfl)
theorem dX8_fire_29 : decode cX8_fire 29 = .ok (.getfield 13, 3) := dk_180 0 13 (dk_at dksX8_fire_1 5 rfl rfl)
theorem dX8_fire_32 : decode cX8_fire 32 = .ok (.invokevirtual 35, 3) := dk_182 0 35 (dk_at dksX8_fire_1 8 rfl rfl)
theorem dX8_fire_35 : decode cX8_fire 35 = .ok (.imul, 1) := dk_104 (dk_at dksX8_fire_1 11 rfl rfl)
theorem dX8_fire_36 : decode cX8_fire 36 = .ok (.goto 4, 3) := dk_167 0 4 (dk_at dksX8_fire_1 12 rfl rfl)
theorem dX8_fire_39 : decode cX8_fire 39 = .ok (.iconst 0, 1) := dk_3 (dk_at dksX8_fire_1 15 rfl rfl)
theorem dX8_fire_40 : decode cX8_fire 40 = .ok (.ireturn, 1) := dk_172 (dk_at dksX8_fire_1 16 rfl rfl)
abbrev cX9_number : ByteArray := prog_2_method_2_code
def yX9_number : MethodName := ⟨RX9, "number", "()I"⟩
def dkwX9_number_0 : List UInt8 := [42, 183, 0, 7, 4, 96, 172]
abbrev dktX9_number_0 : List UInt8 := dkwX9_number_0 ++ []
theorem dksX9_number_0 : cX9_number.data.toList.drop 0 = dktX9_number_0 := by decide +kernel
theorem dX9_number_0 : decode cX9_number 0 = .ok (.aload_n 0, 1) := dk_42 (dk_at dksX9_number_0 0 rfl rfl)
theorem dX9_number_1 : decode cX9_number 1 = .ok (.invokespecial 7, 3) := dk_183 0 7 (dk_at dksX9_number_0 1 rfl rfl)
theorem dX9_number_4 : decode cX9_number 4 = .ok (.iconst 1, 1) := dk_4 (dk_at dksX9_number_0 4 rfl rfl)
theorem dX9_number_5 : decode cX9_number 5 = .ok (.iadd, 1) := dk_96 (dk_at dksX9_number_0 5 rfl rfl)
theorem dX9_number_6 : decode cX9_number 6 = .ok (.ireturn, 1) := dk_172 (dk_at dksX9_number_0 6 rfl rfl)
abbrev cX9_lasts : ByteArray := prog_2_method_4_code
def yX9_lasts : MethodName := ⟨RX9, "lasts", "()I"⟩
def dkwX9_lasts_0 : List UInt8 := [42, 183, 0, 14, 5, 96, 172]
abbrev dktX9_lasts_0 : List UInt8 := dkwX9_lasts_0 ++ []
theorem dksX9_lasts_0 : cX9_lasts.data.toList.drop 0 = dktX9_lasts_0 := by decide +kernel
theorem dX9_lasts_0 : decode cX9_lasts 0 = .ok (.aload_n 0, 1) := dk_42 (dk_at dksX9_lasts_0 0 rfl rfl)
theorem dX9_lasts_1 : decode cX9_lasts 1 = .ok (.invokespecial 14, 3) := dk_183 0 14 (dk_at dksX9_lasts_0 1 rfl rfl)
theorem dX9_lasts_4 : decode cX9_lasts 4 = .ok (.iconst 2, 1) := dk_5 (dk_at dksX9_lasts_0 4 rfl rfl)
theorem dX9_lasts_5 : decode cX9_lasts 5 = .ok (.iadd, 1) := dk_96 (dk_at dksX9_lasts_0 5 rfl rfl)
theorem dX9_lasts_6 : decode cX9_lasts 6 = .ok (.ireturn, 1) := dk_172 (dk_at dksX9_lasts_0 6 rfl rfl)
abbrev cX9_gives : ByteArray := prog_2_method_3_code
def yX9_gives : MethodName := ⟨RX9, "gives", "()I"⟩
def dkwX9_gives_0 : List UInt8 := [42, 183, 0, 11, 4, 96, 172]
abbrev dktX9_gives_0 : List UInt8 := dkwX9_gives_0 ++ []
theorem dksX9_gives_0 : cX9_gives.data.toList.drop 0 = dktX9_gives_0 := by decide +kernel
theorem dX9_gives_0 : decode cX9_gives 0 = .ok (.aload_n 0, 1) := dk_42 (dk_at dksX9_gives_0 0 rfl rfl)
theorem dX9_gives_1 : decode cX9_gives 1 = .ok (.invokespecial 11, 3) := dk_183 0 11 (dk_at dksX9_gives_0 1 rfl rfl)
theorem dX9_gives_4 : decode cX9_gives 4 = .ok (.iconst 1, 1) := dk_4 (dk_at dksX9_gives_0 4 rfl rfl)
theorem dX9_gives_5 : decode cX9_gives 5 = .ok (.iadd, 1) := dk_96 (dk_at dksX9_gives_0 5 rfl rfl)
theorem dX9_gives_6 : decode cX9_gives 6 = .ok (.ireturn, 1) := dk_172 (dk_at dksX9_gives_0 6 rfl rfl)
