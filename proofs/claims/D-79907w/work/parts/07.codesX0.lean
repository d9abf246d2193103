set_option maxRecDepth 100000
abbrev cX0_init : ByteArray := prog_1_method_1_code
def yX0_init : MethodName := ⟨RX0, "<init>", "()V"⟩
def dkwX0_init_9 : List UInt8 := [89, 183, 0, 83, 83, 181, 0, 84, 177]
abbrev dktX0_init_9 : List UInt8 := dkwX0_init_9 ++ []
def dkwX0_init_8 : List UInt8 := [4, 187, 0, 81, 89, 183, 0, 83, 83, 89, 5, 187, 0, 81, 89, 183, 0, 83, 83, 89, 6, 187, 0, 81]
abbrev dktX0_init_8 : List UInt8 := dkwX0_init_8 ++ dktX0_init_9
def dkwX0_init_7 : List UInt8 := [16, 8, 189, 0, 75, 181, 0, 77, 42, 7, 189, 0, 81, 89, 3, 187, 0, 81, 89, 183, 0, 83, 83, 89]
abbrev dktX0_init_7 : List UInt8 := dkwX0_init_7 ++ dktX0_init_8
def dkwX0_init_6 : List UInt8 := [181, 0, 66, 42, 16, 31, 188, 10, 181, 0, 69, 42, 187, 0, 44, 89, 183, 0, 46, 181, 0, 72, 42]
abbrev dktX0_init_6 : List UInt8 := dkwX0_init_6 ++ dktX0_init_7
def dkwX0_init_5 : List UInt8 := [181, 0, 58, 42, 16, 24, 16, 8, 5, 197, 0, 61, 3, 181, 0, 63, 42, 187, 0, 44, 89, 183, 0, 46]
abbrev dktX0_init_5 : List UInt8 := dkwX0_init_5 ++ dktX0_init_6
def dkwX0_init_4 : List UInt8 := [183, 0, 46, 181, 0, 50, 42, 16, 24, 16, 6, 197, 0, 53, 2, 181, 0, 55, 42, 16, 24, 188, 10]
abbrev dktX0_init_4 : List UInt8 := dkwX0_init_4 ++ dktX0_init_5
def dkwX0_init_3 : List UInt8 := [4, 16, 16, 79, 181, 0, 40, 42, 187, 0, 44, 89, 183, 0, 46, 181, 0, 47, 42, 187, 0, 44, 89]
abbrev dktX0_init_3 : List UInt8 := dkwX0_init_3 ++ dktX0_init_4
def dkwX0_init_2 : List UInt8 := [181, 0, 29, 42, 42, 180, 0, 23, 180, 0, 33, 181, 0, 37, 42, 5, 188, 10, 89, 3, 16, 16, 79, 89]
abbrev dktX0_init_2 : List UInt8 := dkwX0_init_2 ++ dktX0_init_3
def dkwX0_init_1 : List UInt8 := [181, 0, 23, 42, 5, 189, 0, 27, 89, 3, 42, 180, 0, 14, 83, 89, 4, 42, 180, 0, 23, 83]
abbrev dktX0_init_1 : List UInt8 := dkwX0_init_1 ++ dktX0_init_2
def dkwX0_init_0 : List UInt8 := [42, 183, 0, 5, 42, 187, 0, 11, 89, 183, 0, 13, 181, 0, 14, 42, 187, 0, 20, 89, 183, 0, 22]
abbrev dktX0_init_0 : List UInt8 := dkwX0_init_0 ++ dktX0_init_1
theorem dksX0_init_0 : cX0_init.data.toList.drop 0 = dktX0_init_0 := by decide +kernel
theorem dksX0_init_1 : cX0_init.data.toList.drop 23 = dktX0_init_1 := dk_seg dksX0_init_0 23 rfl rfl
theorem dksX0_init_2 : cX0_init.data.toList.drop 45 = dktX0_init_2 := dk_seg dksX0_init_1 22 rfl rfl
theorem dksX0_init_3 : cX0_init.data.toList.drop 69 = dktX0_init_3 := dk_seg dksX0_init_2 24 rfl rfl
theorem dksX0_init_4 : cX0_init.data.toList.drop 92 = dktX0_init_4 := dk_seg dksX0_init_3 23 rfl rfl
theorem dksX0_init_5 : cX0_init.data.toList.drop 115 = dktX0_init_5 := dk_seg dksX0_init_4 23 rfl rfl
theorem dksX0_init_6 : cX0_init.data.toList.drop 139 = dktX0_init_6 := dk_seg dksX0_init_5 24 rfl rfl
theorem dksX0_init_7 : cX0_init.data.toList.drop 162 = dktX0_init_7 := dk_seg dksX0_init_6 23 rfl rfl
theorem dksX0_init_8 : cX0_init.data.toList.drop 186 = dktX0_init_8 := dk_seg dksX0_init_7 24 rfl rfl
theorem dksX0_init_9 : cX0_init.data.toList.drop 210 = dktX0_init_9 := dk_seg dksX0_init_8 24 rfl rfl
theorem dX0_init_0 : decode cX0_init 0 = .ok (.aload_n 0, 1) := dk_42 (dk_at dksX0_init_0 0 rfl rfl)
theorem dX0_init_1 : decode cX0_init 1 = .ok (.invokespecial 5, 3) := dk_183 0 5 (dk_at dksX0_init_0 1 rfl rfl)
theorem dX0_init_4 : decode cX0_init 4 = .ok (.aload_n 0, 1) := dk_42 (dk_at dksX0_init_0 4 rfl rfl)
theorem dX0_init_5 : decode cX0_init 5 = .ok (.new 11, 3) := dk_187 0 11 (dk_at dksX0_init_0 5 rfl rfl)
theorem dX0_init_8 : decode cX0_init 8 = .ok (.dup, 1) := dk_89 (dk_at dksX0_init_0 8 rfl rfl)
theorem dX0_init_9 : decode cX0_init 9 = .ok (.invokespecial 13, 3) := dk_183 0 13 (dk_at dksX0_init_0 9 rfl rfl)
theorem dX0_init_12 : decode cX0_init 12 = .ok (.putfield 14, 3) := dk_181 0 14 (dk_at dksX0_init_0 12 rfl rfl)
theorem dX0_init_15 : decode cX0_init 15 = .ok (.aload_n 0, 1) := dk_42 (dk_at dksX0_init_0 15 rfl rfl)
theorem dX0_init_16 : decode cX0_init 16 = .ok (.new 20, 3) := dk_187 0 20 (dk_at dksX0_init_0 16 rfl rfl)
theorem dX0_init_19 : decode cX0_init 19 = .ok (.dup, 1) := dk_89 (dk_at dksX0_init_0 19 rfl rfl)
theorem dX0_init_20 : decode cX0_init 20 = .ok (.invokespecial 22, 3) := dk_183 0 22 (dk_at dksX0_init_0 20 rfl rfl)
theorem dX0_init_23 : decode cX0_init 23 = .ok (.putfield 23, 3) := dk_181 0 23 (dk_at dksX0_init_1 0 rfl rfl)
theorem dX0_init_26 : decode cX0_init 26 = .ok (.aload_n 0, 1) := dk_42 (dk_at dksX0_init_1 3 rfl rfl)
theorem dX0_init_27 : decode cX0_init 27 = .ok (.iconst 2, 1) := dk_5 (dk_at dksX0_init_1 4 rfl rfl)
theorem dX0_init_28 : decode cX0_init 28 = .ok (.anewarray 27, 3) := dk_189 0 27 (dk_at dksX0_init_1 5 rfl rfl)
theorem dX0_init_31 : decode cX0_init 31 = .ok (.dup, 1) := dk_89 (dk_at dksX0_init_1 8 rfl rfl)
theorem dX0_init_32 : decode cX0_init 32 = .ok (.iconst 0, 1) := dk_3 (dk_at dksX0_init_1 9 rfl rfl)
theorem dX0_init_33 : decode cX0_init 33 = .ok (.aload_n 0, 1) := dk_42 (dk_at dksX0_init_1 10 rfl rfl)
theorem dX0_init_34 : decode cX0_init 34 = .ok (.getfield 14, 3) := dk_180 0 14 (dk_at dksX0_init_1 11 rfl rfl)
theorem dX0_init_37 : decode cX0_init 37 = .ok (.aastore, 1) := dk_83 (dk_at dksX0_init_1 14 rfl rfl)
theorem dX0_init_38 : decode cX0_init 38 = .ok (.dup, 1) := dk_89 (dk_at dksX0_init_1 15 rfl rfl)
theorem dX0_init_39 : decode cX0_init 39 = .ok (.iconst 1, 1) := dk_4 (dk_at dksX0_init_1 16 rfl rfl)
theorem dX0_init_40 : decode cX0_init 40 = .ok (.aload_n 0, 1) := dk_42 (dk_at dksX0_init_1 17 rfl rfl)
theorem dX0_init_41 : decode cX0_init 41 = .ok (.getfield 23, 3) := dk_180 0 23 (dk_at dksX0_init_1 18 rfl rfl)
theorem dX0_init_44 : decode cX0_init 44 = .ok (.aastore, 1) := dk_83 (dk_at dksX0_init_1 21 rfl rfl)
theorem dX0_init_45 : decode cX0_init 45 = .ok (.putfield 29, 3) := dk_181 0 29 (dk_at dksX0_init_2 0 rfl rfl)
theorem dX0_init_48 : decode cX0_init 48 = .ok (.aload_n 0, 1) := dk_42 (dk_at dksX0_init_2 3 rfl rfl)
theorem dX0_init_49 : decode cX0_init 49 = .ok (.aload_n 0, 1) := dk_42 (dk_at dksX0_init_2 4 rfl rfl)
theorem dX0_init_50 : decode cX0_init 50 = .ok (.getfield 23, 3) := dk_180 0 23 (dk_at dksX0_init_2 5 rfl rfl)
theorem dX0_init_53 : decode cX0_init 53 = .ok (.getfield 33, 3) := dk_180 0 33 (dk_at dksX0_init_2 8 rfl rfl)
theorem dX0_init_56 : decode cX0_init 56 = .ok (.putfield 37, 3) := dk_181 0 37 (dk_at dksX0_init_2 11 rfl rfl)
theorem dX0_init_59 : decode cX0_init 59 = .ok (.aload_n 0, 1) := dk_42 (dk_at dksX0_init_2 14 rfl rfl)
theorem dX0_init_60 : decode cX0_init 60 = .ok (.iconst 2, 1) := dk_5 (dk_at dksX0_init_2 15 rfl rfl)
theorem dX0_init_61 : decode cX0_init 61 = .ok (.newarray .int, 2) := dk_188_10 (dk_at dksX0_init_2 16 rfl rfl)
theorem dX0_init_63 : decode cX0_init 63 = .ok (.dup, 1) := dk_89 (dk_at dksX0_init_2 18 rfl rfl)
theorem dX0_init_64 : decode cX0_init 64 = .ok (.iconst 0, 1) := dk_3 (dk_at dksX0_init_2 19 rfl rfl)
theorem dX0_init_65 : decode cX0_init 65 = .ok (.bipush 16, 2) := dk_16 16 (dk_at dksX0_init_2 20 rfl rfl)
theorem dX0_init_67 : decode cX0_init 67 = .ok (.iastore, 1) := dk_79 (dk_at dksX0_init_2 22 rfl rfl)
theorem dX0_init_68 : decode cX0_init 68 = .ok (.dup, 1) := dk_89 (dk_at dksX0_init_2 23 rfl rfl)
theorem dX0_init_69 : decode cX0_init 69 = .ok (.iconst 1, 1) := dk_4 (dk_at dksX0_init_3 0 rfl rfl)
theorem dX0_init_70 : decode cX0_init 70 = .ok (.bipush 16, 2) := dk_16 16 (dk_at dksX0_init_3 1 rfl rfl)
theorem dX0_init_72 : decode cX0_init 72 = .ok (.iastore, 1) := dk_79 (dk_at dksX0_init_3 3 rfl rfl)
theorem dX0_init_73 : decode cX0_init 73 = .ok (.putfield 40, 3) := dk_181 0 40 (dk_at dksX0_init_3 4 rfl rfl)
theorem dX0_init_76 : decode cX0_init 76 = .ok (.aload_n 0, 1) := dk_42 (dk_at dksX0_init_3 7 rfl rfl)
theorem dX0_init_77 : decode cX0_init 77 = .ok (.new 44, 3) := dk_187 0 44 (dk_at dksX0_init_3 8 rfl rfl)
theorem dX0_init_80 : decode cX0_init 80 = .ok (.dup, 1) := dk_89 (dk_at dksX0_init_3 11 rfl rfl)
theorem dX0_init_81 : decode cX0_init 81 = .ok (.invokespecial 46, 3) := dk_183 0 46 (dk_at dksX0_init_3 12 rfl rfl)
theorem dX0_init_84 : decode cX0_init 84 = .ok (.putfield 47, 3) := dk_181 0 47 (dk_at dksX0_init_3 15 rfl rfl)
theorem dX0_init_87 : decode cX0_init 87 = .ok (.aload_n 0, 1) := dk_42 (dk_at dksX0_init_3 18 rfl rfl)
theorem dX0_init_88 : decode cX0_init 88 = .ok (.new 44, 3) := dk_187 0 44 (dk_at dksX0_init_3 19 rfl rfl)
theorem dX0_init_91 : decode cX0_init 91 = .ok (.dup, 1) := dk_89 (dk_at dksX0_init_3 22 rfl rfl)
theorem dX0_init_92 : decode cX0_init 92 = .ok (.invokespecial 46, 3) := dk_183 0 46 (dk_at dksX0_init_4 0 rfl rfl)
theorem dX0_init_95 : decode cX0_init 95 = .ok (.putfield 50, 3) := dk_181 0 50 (dk_at dksX0_init_4 3 rfl rfl)
theorem dX0_init_98 : decode cX0_init 98 = .ok (.aload_n 0, 1) := dk_42 (dk_at dksX0_init_4 6 rfl rfl)
theorem dX0_init_99 : decode cX0_init 99 = .ok (.bipush 24, 2) := dk_16 24 (dk_at dksX0_init_4 7 rfl rfl)
theorem dX0_init_101 : decode cX0_init 101 = .ok (.bipush 6, 2) := dk_16 6 (dk_at dksX0_init_4 9 rfl rfl)
theorem dX0_init_103 : decode cX0_init 103 = .ok (.multianewarray 53 2, 4) := by decide +kernel
theorem dX0_init_107 : decode cX0_init 107 = .ok (.putfield 55, 3) := dk_181 0 55 (dk_at dksX0_init_4 15 rfl rfl)
theorem dX0_init_110 : decode cX0_init 110 = .ok (.aload_n 0, 1) := dk_42 (dk_at dksX0_init_4 18 rfl rfl)
theorem dX0_init_111 : decode cX0_init 111 = .ok (.bipush 24, 2) := dk_16 24 (dk_at dksX0_init_4 19 rfl rfl)
theorem dX0_init_113 : decode cX0_init 113 = .ok (.newarray .int, 2) := dk_188_10 (dk_at dksX0_init_4 21 rfl rfl)
theorem dX0_init_115 : decode cX0_init 115 = .ok (.putfield 58, 3) := dk_181 0 58 (dk_at dksX0_init_5 0 rfl rfl)
theorem dX0_init_118 : decode cX0_init 118 = .ok (.aload_n 0, 1) := dk_42 (dk_at dksX0_init_5 3 rfl rfl)
theorem dX0_init_119 : decode cX0_init 119 = .ok (.bipush 24, 2) := dk_16 24 (dk_at dksX0_init_5 4 rfl rfl)
theorem dX0_init_121 : decode cX0_init 121 = .ok (.bipush 8, 2) := dk_16 8 (dk_at dksX0_init_5 6 rfl rfl)
theorem dX0_init_123 : decode cX0_init 123 = .ok (.iconst 2, 1) := dk_5 (dk_at dksX0_init_5 8 rfl rfl)
theorem dX0_init_124 : decode cX0_init 124 = .ok (.multianewarray 61 3, 4) := by decide +kernel
theorem dX0_init_128 : decode cX0_init 128 = .ok (.putfield 63, 3) := dk_181 0 63 (dk_at dksX0_init_5 13 rfl rfl)
theorem dX0_init_131 : decode cX0_init 131 = .ok (.aload_n 0, 1) := dk_42 (dk_at dksX0_init_5 16 rfl rfl)
theorem dX0_init_132 : decode cX0_init 132 = .ok (.new 44, 3) := dk_187 0 44 (dk_at dksX0_init_5 17 rfl rfl)
theorem dX0_init_135 : decode cX0_init 135 = .ok (.dup, 1) := dk_89 (dk_at dksX0_init_5 20 rfl rfl)
theorem dX0_init_136 : decode cX0_init 136 = .ok (.invokespecial 46, 3) := dk_183 0 46 (dk_at dksX0_init_5 21 rfl rfl)
theorem dX0_init_139 : decode cX0_init 139 = .ok (.putfield 66, 3) := dk_181 0 66 (dk_at dksX0_init_6 0 rfl rfl)
theorem dX0_init_142 : decode cX0_init 142 = .ok (.aload_n 0, 1) := dk_42 (dk_at dksX0_init_6 3 rfl rfl)
theorem dX0_init_143 : decode cX0_init 143 = .ok (.bipush 31, 2) := dk_16 31 (dk_at dksX0_init_6 4 rfl rfl)
theorem dX0_init_145 : decode cX0_init 145 = .ok (.newarray .int, 2) := dk_188_10 (dk_at dksX0_init_6 6 rfl rfl)
theorem dX0_init_147 : decode cX0_init 147 = .ok (.putfield 69, 3) := dk_181 0 69 (dk_at dksX0_init_6 8 rfl rfl)
theorem dX0_init_150 : decode cX0_init 150 = .ok (.aload_n 0, 1) := dk_42 (dk_at dksX0_init_6 11 rfl rfl)
theorem dX0_init_151 : decode cX0_init 151 = .ok (.new 44, 3) := dk_187 0 44 (dk_at dksX0_init_6 12 rfl rfl)
theorem dX0_init_154 : decode cX0_init 154 = .ok (.dup, 1) := dk_89 (dk_at dksX0_init_6 15 rfl rfl)
theorem dX0_init_155 : decode cX0_init 155 = .ok (.invokespecial 46, 3) := dk_183 0 46 (dk_at dksX0_init_6 16 rfl rfl)
theorem dX0_init_158 : decode cX0_init 158 = .ok (.putfield 72, 3) := dk_181 0 72 (dk_at dksX0_init_6 19 rfl rfl)
theorem dX0_init_161 : decode cX0_init 161 = .ok (.aload_n 0, 1) := dk_42 (dk_at dksX0_init_6 22 rfl rfl)
theorem dX0_init_162 : decode cX0_init 162 = .ok (.bipush 8, 2) := dk_16 8 (dk_at dksX0_init_7 0 rfl rfl)
theorem dX0_init_164 : decode cX0_init 164 = .ok (.anewarray 75, 3) := dk_189 0 75 (dk_at dksX0_init_7 2 rfl rfl)
theorem dX0_init_167 : decode cX0_init 167 = .ok (.putfield 77, 3) := dk_181 0 77 (dk_at dksX0_init_7 5 rfl rfl)
theorem dX0_init_170 : decode cX0_init 170 = .ok (.aload_n 0, 1) := dk_42 (dk_at dksX0_init_7 8 rfl rfl)
theorem dX0_init_171 : decode cX0_init 171 = .ok (.iconst 4, 1) := dk_7 (dk_at dksX0_init_7 9 rfl rfl)
theorem dX0_init_172 : decode cX0_init 172 = .ok (.anewarray 81, 3) := dk_189 0 81 (dk_at dksX0_init_7 10 rfl rfl)
theorem dX0_init_175 : decode cX0_init 175 = .ok (.dup, 1) := dk_89 (dk_at dksX0_init_7 13 rfl rfl)
theorem dX0_init_176 : decode cX0_init 176 = .ok (.iconst 0, 1) := dk_3 (dk_at dksX0_init_7 14 rfl rfl)
theorem dX0_init_177 : decode cX0_init 177 = .ok (.new 81, 3) := dk_187 0 81 (dk_at dksX0_init_7 15 rfl rfl)
theorem dX0_init_180 : decode cX0_init 180 = .ok (.dup, 1) := dk_89 (dk_at dksX0_init_7 18 rfl rfl)
theorem dX0_init_181 : decode cX0_init 181 = .ok (.invokespecial 83, 3) := dk_183 0 83 (dk_at dksX0_init_7 19 rfl rfl)
theorem dX0_init_184 : decode cX0_init 184 = .ok (.aastore, 1) := dk_83 (dk_at dksX0_init_7 22 rfl rfl)
theorem dX0_init_185 : decode cX0_init 185 = .ok (.dup, 1) := dk_89 (dk_at dksX0_init_7 23 rfl rfl)
theorem dX0_init_186 : decode cX0_init 186 = .ok (.iconst 1, 1) := dk_4 (dk_at dksX0_init_8 0 rfl rfl)
theorem dX0_init_187 : decode cX0_init 187 = .ok (.new 81, 3) := dk_187 0 81 (dk_at dksX0_init_8 1 rfl rfl)
theorem dX0_init_190 : decode cX0_init 190 = .ok (.dup, 1) := dk_89 (dk_at dksX0_init_8 4 rfl rfl)
theorem dX0_init_191 : decode cX0_init 191 = .ok (.invokespecial 83, 3) := dk_183 0 83 (dk_at dksX0_init_8 5 rfl rfl)
theorem dX0_init_194 : decode cX0_init 194 = .ok (.aastore, 1) := dk_83 (dk_at dksX0_init_8 8 rfl rfl)
theorem dX0_init_195 : decode cX0_init 195 = .ok (.dup, 1) := dk_89 (dk_at dksX0_init_8 9 rfl rfl)
theorem dX0_init_196 : decode cX0_init 196 = .ok (.iconst 2, 1) := dk_5 (dk_at dksX0_init_8 10 rfl rfl)
theorem dX0_init_197 : decode cX0_init 197 = .ok (.new 81, 3) := dk_187 0 81 (dk_at dksX0_init_8 11 rfl rfl)
theorem dX0_init_200 : decode cX0_init 200 = .ok (.dup, 1) := dk_89 (dk_at dksX0_init_8 14 rfl rfl)
theorem dX0_init_201 : decode cX0_init 201 = .ok (.invokespecial 83, 3) := dk_183 0 83 (dk_at dksX0_init_8 15 rfl rfl)
theorem dX0_init_204 : decode cX0_init 204 = .ok (.aastore, 1) := dk_83 (dk_at dksX0_init_8 18 rfl rfl)
theorem dX0_init_205 : decode cX0_init 205 = .ok (.dup, 1) := dk_89 (dk_at dksX0_init_8 19 rfl rfl)
theorem dX0_init_206 : decode cX0_init 206 = .ok (.iconst 3, 1) := dk_6 (dk_at dksX0_init_8 20 rfl rfl)
theorem dX0_init_207 : decode cX0_init 207 = .ok (.new 81, 3) := dk_187 0 81 (dk_at dksX0_init_8 21 rfl rfl)
theorem dX0_init_210 : decode cX0_init 210 = .ok (.dup, 1) := dk_89 (dk_at dksX0_init_9 0 rfl rfl)
theorem dX0_init_211 : decode cX0_init 211 = .ok (.invokespecial 83, 3) := dk_183 0 83 (dk_at dksX0_init_9 1 rfl rfl)
theorem dX0_init_214 : decode cX0_init 214 = .ok (.aastore, 1) := dk_83 (dk_at dksX0_init_9 4 rfl rfl)
theorem dX0_init_215 : decode cX0_init 215 = .ok (.putfield 84, 3) := dk_181 0 84 (dk_at dksX0_init_9 5 rfl rfl)
theorem dX0_init_218 : decode cX0_init 218 = .ok (.return_, 1) := dk_177 (dk_at dksX0_init_9 8 rfl rfl)
abbrev cX0_type : ByteArray := prog_1_method_9_code
def yX0_type : MethodName := ⟨RX0, "type", "(II)I"⟩
def dkwX0_type_1 : List UInt8 := [50, 28, 182, 0, 107, 167, 0, 5, 16, 254, 172]
abbrev dktX0_type_1 : List UInt8 := dkwX0_type_1 ++ []
def dkwX0_type_0 : List UInt8 := [27, 184, 0, 101, 153, 0, 28, 28, 133, 9, 20, 0, 105, 184, 0, 95, 153, 0, 16, 42, 180, 0, 29, 27]
abbrev dktX0_type_0 : List UInt8 := dkwX0_type_0 ++ dktX0_type_1
theorem dksX0_type_0 : cX0_type.data.toList.drop 0 = dktX0_type_0 := by decide +kernel
theorem dksX0_type_1 : cX0_type.data.toList.drop 24 = dktX0_type_1 := dk_seg dksX0_type_0 24 rfl rfl
theorem dX0_type_0 : decode cX0_type 0 = .ok (.iload_n 1, 1) := dk_27 (dk_at dksX0_type_0 0 rfl rfl)
theorem dX0_type_1 : decode cX0_type 1 = .ok (.invokestatic 101, 3) := dk_184 0 101 (dk_at dksX0_type_0 1 rfl rfl)
theorem dX0_type_4 : decode cX0_type 4 = .ok (.ifCond .eq 28, 3) := dk_153 0 28 (dk_at dksX0_type_0 4 rfl rfl)
theorem dX0_type_7 : decode cX0_type 7 = .ok (.iload_n 2, 1) := dk_28 (dk_at dksX0_type_0 7 rfl rfl)
theorem dX0_type_8 : decode cX0_type 8 = .ok (.i2l, 1) := dk_133 (dk_at dksX0_type_0 8 rfl rfl)
theorem dX0_type_9 : decode cX0_type 9 = .ok (.lconst 0, 1) := dk_9 (dk_at dksX0_type_0 9 rfl rfl)
theorem dX0_type_10 : decode cX0_type 10 = .ok (.ldc2_w 105, 3) := dk_20 0 105 (dk_at dksX0_type_0 10 rfl rfl)
theorem dX0_type_13 : decode cX0_type 13 = .ok (.invokestatic 95, 3) := dk_184 0 95 (dk_at dksX0_type_0 13 rfl rfl)
theorem dX0_type_16 : decode cX0_type 16 = .ok (.ifCond .eq 16, 3) := dk_153 0 16 (dk_at dksX0_type_0 16 rfl rfl)
theorem dX0_type_19 : decode cX0_type 19 = .ok (.aload_n 0, 1) := dk_42 (dk_at dksX0_type_0 19 rfl rfl)
theorem dX0_type_20 : decode cX0_type 20 = .ok (.getfield 29, 3) := dk_180 0 29 (dk_at dksX0_type_0 20 rfl rfl)
theorem dX0_type_23 : decode cX0_type 23 = .ok (.iload_n 1, 1) := dk_27 (dk_at dksX0_type_0 23 rfl rfl)
theorem dX0_type_24 : decode cX0_type 24 = .ok (.aaload, 1) := dk_50 (dk_at dksX0_type_1 0 rfl rfl)
theorem dX0_type_25 : decode cX0_type 25 = .ok (.iload_n 2, 1) := dk_28 (dk_at dksX0_type_1 1 rfl rfl)
theorem dX0_type_26 : decode cX0_type 26 = .ok (.invokevirtual 107, 3) := dk_182 0 107 (dk_at dksX0_type_1 2 rfl rfl)
theorem dX0_type_29 : decode cX0_type 29 = .ok (.goto 5, 3) := dk_167 0 5 (dk_at dksX0_type_1 5 rfl rfl)
theorem dX0_type_32 : decode cX0_type 32 = .ok (.bipush (-2), 2) := dk_16 254 (dk_at dksX0_type_1 8 rfl rfl)
theorem dX0_type_34 : decode cX0_type 34 = .ok (.ireturn, 1) := dk_172 (dk_at dksX0_type_1 10 rfl rfl)
abbrev cX0_isTwo : ByteArray := prog_1_method_6_code
def yX0_isTwo : MethodName := ⟨RX0, "isTwo", "(I)Z"⟩
def dkwX0_isTwo_0 : List UInt8 := [26, 133, 9, 10, 184, 0, 95, 172]
abbrev dktX0_isTwo_0 : List UInt8 := dkwX0_isTwo_0 ++ []
theorem dksX0_isTwo_0 : cX0_isTwo.data.toList.drop 0 = dktX0_isTwo_0 := by decide +kernel
theorem dX0_isTwo_0 : decode cX0_isTwo 0 = .ok (.iload_n 0, 1) := dk_26 (dk_at dksX0_isTwo_0 0 rfl rfl)
theorem dX0_isTwo_1 : decode cX0_isTwo 1 = .ok (.i2l, 1) := dk_133 (dk_at dksX0_isTwo_0 1 rfl rfl)
theorem dX0_isTwo_2 : decode cX0_isTwo 2 = .ok (.lconst 0, 1) := dk_9 (dk_at dksX0_isTwo_0 2 rfl rfl)
theorem dX0_isTwo_3 : decode cX0_isTwo 3 = .ok (.lconst 1, 1) := dk_10 (dk_at dksX0_isTwo_0 3 rfl rfl)
theorem dX0_isTwo_4 : decode cX0_isTwo 4 = .ok (.invokestatic 95, 3) := dk_184 0 95 (dk_at dksX0_isTwo_0 4 rfl rfl)
theorem dX0_isTwo_7 : decode cX0_isTwo 7 = .ok (.ireturn, 1) := dk_172 (dk_at dksX0_isTwo_0 7 rfl rfl)
abbrev cX0_in : ByteArray := prog_1_method_2_code
def yX0_in : MethodName := ⟨RX0, "in", "(JJJ)Z"⟩
def dkwX0_in_0 : List UInt8 := [30, 32, 148, 155, 0, 14, 30, 22, 4, 148, 157, 0, 7, 4, 167, 0, 4, 3, 172]
abbrev dktX0_in_0 : List UInt8 := dkwX0_in_0 ++ []
theorem dksX0_in_0 : cX0_in.data.toList.drop 0 = dktX0_in_0 := by decide +kernel
theorem dX0_in_0 : decode cX0_in 0 = .ok (.lload_n 0, 1) := dk_30 (dk_at dksX0_in_0 0 rfl rfl)
theorem dX0_in_1 : decode cX0_in 1 = .ok (.lload_n 2, 1) := dk_32 (dk_at dksX0_in_0 1 rfl rfl)
theorem dX0_in_2 : decode cX0_in 2 = .ok (.lcmp, 1) := dk_148 (dk_at dksX0_in_0 2 rfl rfl)
theorem dX0_in_3 : decode cX0_in 3 = .ok (.ifCond .lt 14, 3) := dk_155 0 14 (dk_at dksX0_in_0 3 rfl rfl)
theorem dX0_in_6 : decode cX0_in 6 = .ok (.lload_n 0, 1) := dk_30 (dk_at dksX0_in_0 6 rfl rfl)
theorem dX0_in_7 : decode cX0_in 7 = .ok (.lload 4, 2) := dk_22 4 (dk_at dksX0_in_0 7 rfl rfl)
theorem dX0_in_9 : decode cX0_in 9 = .ok (.lcmp, 1) := dk_148 (dk_at dksX0_in_0 9 rfl rfl)
theorem dX0_in_10 : decode cX0_in 10 = .ok (.ifCond .gt 7, 3) := dk_157 0 7 (dk_at dksX0_in_0 10 rfl rfl)
theorem dX0_in_13 : decode cX0_in 13 = .ok (.iconst 1, 1) := dk_4 (dk_at dksX0_in_0 13 rfl rfl)
theorem dX0_in_14 : decode cX0_in 14 = .ok (.goto 4, 3) := dk_167 0 4 (dk_at dksX0_in_0 14 rfl rfl)
theorem dX0_in_17 : decode cX0_in 17 = .ok (.iconst 0, 1) := dk_3 (dk_at dksX0_in_0 17 rfl rfl)
theorem dX0_in_18 : decode cX0_in 18 = .ok (.ireturn, 1) := dk_172 (dk_at dksX0_in_0 18 rfl rfl)
abbrev cX0_wipe : ByteArray := prog_1_method_10_code
def yX0_wipe : MethodName := ⟨RX0, "wipe", "(I)I"⟩
def dkwX0_wipe_0 : List UInt8 := [27, 184, 0, 101, 153, 0, 15, 42, 180, 0, 29, 27, 50, 182, 0, 111, 167, 0, 5, 16, 254, 172]
abbrev dktX0_wipe_0 : List UInt8 := dkwX0_wipe_0 ++ []
theorem dksX0_wipe_0 : cX0_wipe.data.toList.drop 0 = dktX0_wipe_0 := by decide +kernel
theorem dX0_wipe_0 : decode cX0_wipe 0 = .ok (.iload_n 1, 1) := dk_27 (dk_at dksX0_wipe_0 0 rfl rfl)
theorem dX0_wipe_1 : decode cX0_wipe 1 = .ok (.invokestatic 101, 3) := dk_184 0 101 (dk_at dksX0_wipe_0 1 rfl rfl)
theorem dX0_wipe_4 : decode cX0_wipe 4 = .ok (.ifCond .eq 15, 3) := dk_153 0 15 (dk_at dksX0_wipe_0 4 rfl rfl)
theorem dX0_wipe_7 : decode cX0_wipe 7 = .ok (.aload_n 0, 1) := dk_42 (dk_at dksX0_wipe_0 7 rfl rfl)
theorem dX0_wipe_8 : decode cX0_wipe 8 = .ok (.getfield 29, 3) := dk_180 0 29 (dk_at dksX0_wipe_0 8 rfl rfl)
theorem dX0_wipe_11 : decode cX0_wipe 11 = .ok (.iload_n 1, 1) := dk_27 (dk_at dksX0_wipe_0 11 rfl rfl)
theorem dX0_wipe_12 : decode cX0_wipe 12 = .ok (.aaload, 1) := dk_50 (dk_at dksX0_wipe_0 12 rfl rfl)
theorem dX0_wipe_13 : decode cX0_wipe 13 = .ok (.invokevirtual 111, 3) := dk_182 0 111 (dk_at dksX0_wipe_0 13 rfl rfl)
theorem dX0_wipe_16 : decode cX0_wipe 16 = .ok (.goto 5, 3) := dk_167 0 5 (dk_at dksX0_wipe_0 16 rfl rfl)
theorem dX0_wipe_19 : decode cX0_wipe 19 = .ok (.bipush (-2), 2) := dk_16 254 (dk_at dksX0_wipe_0 19 rfl rfl)
theorem dX0_wipe_21 : decode cX0_wipe 21 = .ok (.ireturn, 1) := dk_172 (dk_at dksX0_wipe_0 21 rfl rfl)
abbrev cX0_undo : ByteArray := prog_1_method_11_code
def yX0_undo : MethodName := ⟨RX0, "undo", "(I)I"⟩
def dkwX0_undo_0 : List UInt8 := [27, 184, 0, 101, 153, 0, 15, 42, 180, 0, 29, 27, 50, 182, 0, 115, 167, 0, 5, 16, 254, 172]
abbrev dktX0_undo_0 : List UInt8 := dkwX0_undo_0 ++ []
theorem dksX0_undo_0 : cX0_undo.data.toList.drop 0 = dktX0_undo_0 := by decide +kernel
theorem dX0_undo_0 : decode cX0_undo 0 = .ok (.iload_n 1, 1) := dk_27 (dk_at dksX0_undo_0 0 rfl rfl)
theorem dX0_undo_1 : decode cX0_undo 1 = .ok (.invokestatic 101, 3) := dk_184 0 101 (dk_at dksX0_undo_0 1 rfl rfl)
theorem dX0_undo_4 : decode cX0_undo 4 = .ok (.ifCond .eq 15, 3) := dk_153 0 15 (dk_at dksX0_undo_0 4 rfl rfl)
theorem dX0_undo_7 : decode cX0_undo 7 = .ok (.aload_n 0, 1) := dk_42 (dk_at dksX0_undo_0 7 rfl rfl)
theorem dX0_undo_8 : decode cX0_undo 8 = .ok (.getfield 29, 3) := dk_180 0 29 (dk_at dksX0_undo_0 8 rfl rfl)
theorem dX0_undo_11 : decode cX0_undo 11 = .ok (.iload_n 1, 1) := dk_27 (dk_at dksX0_undo_0 11 rfl rfl)
theorem dX0_undo_12 : decode cX0_undo 12 = .ok (.aaload, 1) := dk_50 (dk_at dksX0_undo_0 12 rfl rfl)
theorem dX0_undo_13 : decode cX0_undo 13 = .ok (.invokevirtual 115, 3) := dk_182 0 115 (dk_at dksX0_undo_0 13 rfl rfl)
theorem dX0_undo_16 : decode cX0_undo 16 = .ok (.goto 5, 3) := dk_167 0 5 (dk_at dksX0_undo_0 16 rfl rfl)
theorem dX0_undo_19 : decode cX0_undo 19 = .ok (.bipush (-2), 2) := dk_16 254 (dk_at dksX0_undo_0 19 rfl rfl)
theorem dX0_undo_21 : decode cX0_undo 21 = .ok (.ireturn, 1) := dk_172 (dk_at dksX0_undo_0 21 rfl rfl)
abbrev cX0_fault : ByteArray := prog_1_method_12_code
def yX0_fault : MethodName := ⟨RX0, "fault", "(I)I"⟩
def dkwX0_fault_0 : List UInt8 := [27, 184, 0, 101, 153, 0, 15, 42, 180, 0, 29, 27, 50, 182, 0, 118, 167, 0, 5, 16, 254, 172]
abbrev dktX0_fault_0 : List UInt8 := dkwX0_fault_0 ++ []
theorem dksX0_fault_0 : cX0_fault.data.toList.drop 0 = dktX0_fault_0 := by decide +kernel
theorem dX0_fault_0 : decode cX0_fault 0 = .ok (.iload_n 1, 1) := dk_27 (dk_at dksX0_fault_0 0 rfl rfl)
theorem dX0_fault_1 : decode cX0_fault 1 = .ok (.invokestatic 101, 3) := dk_184 0 101 (dk_at dksX0_fault_0 1 rfl rfl)
theorem dX0_fault_4 : decode cX0_fault 4 = .ok (.ifCond .eq 15, 3) := dk_153 0 15 (dk_at dksX0_fault_0 4 rfl rfl)
theorem dX0_fault_7 : decode cX0_fault 7 = .ok (.aload_n 0, 1) := dk_42 (dk_at dksX0_fault_0 7 rfl rfl)
theorem dX0_fault_8 : decode cX0_fault 8 = .ok (.getfield 29, 3) := dk_180 0 29 (dk_at dksX0_fault_0 8 rfl rfl)
theorem dX0_fault_11 : decode cX0_fault 11 = .ok (.iload_n 1, 1) := dk_27 (dk_at dksX0_fault_0 11 rfl rfl)
theorem dX0_fault_12 : decode cX0_fault 12 = .ok (.aaload, 1) := dk_50 (dk_at dksX0_fault_0 12 rfl rfl)
theorem dX0_fault_13 : decode cX0_fault 13 = .ok (.invokevirtual 118, 3) := dk_182 0 118 (dk_at dksX0_fault_0 13 rfl rfl)
theorem dX0_fault_16 : decode cX0_fault 16 = .ok (.goto 5, 3) := dk_167 0 5 (dk_at dksX0_fault_0 16 rfl rfl)
theorem dX0_fault_19 : decode cX0_fault 19 = .ok (.bipush (-2), 2) := dk_16 254 (dk_at dksX0_fault_0 19 rfl rfl)
theorem dX0_fault_21 : decode cX0_fault 21 = .ok (.ireturn, 1) := dk_172 (dk_at dksX0_fault_0 21 rfl rfl)
abbrev cX0_piece : ByteArray := prog_1_method_17_code
def yX0_piece : MethodName := ⟨RX0, "piece", "(II)I"⟩
def dkwX0_piece_1 : List UInt8 := [180, 0, 122, 27, 182, 0, 138, 192, 0, 142, 28, 182, 0, 144, 167, 0, 5, 16, 254, 172]
abbrev dktX0_piece_1 : List UInt8 := dkwX0_piece_1 ++ []
def dkwX0_piece_0 : List UInt8 := [42, 27, 182, 0, 133, 153, 0, 36, 28, 133, 9, 20, 0, 136, 184, 0, 95, 153, 0, 24, 42, 180, 0, 14]
abbrev dktX0_piece_0 : List UInt8 := dkwX0_piece_0 ++ dktX0_piece_1
theorem dksX0_piece_0 : cX0_piece.data.toList.drop 0 = dktX0_piece_0 := by decide +kernel
theorem dksX0_piece_1 : cX0_piece.data.toList.drop 24 = dktX0_piece_1 := dk_seg dksX0_piece_0 24 rfl rfl
theorem dX0_piece_0 : decode cX0_piece 0 = .ok (.aload_n 0, 1) := dk_42 (dk_at dksX0_piece_0 0 rfl rfl)
theorem dX0_piece_1 : decode cX0_piece 1 = .ok (.iload_n 1, 1) := dk_27 (dk_at dksX0_piece_0 1 rfl rfl)
theorem dX0_piece_2 : decode cX0_piece 2 = .ok (.invokevirtual 133, 3) := dk_182 0 133 (dk_at dksX0_piece_0 2 rfl rfl)
theorem dX0_piece_5 : decode cX0_piece 5 = .ok (.ifCond .eq 36, 3) := dk_153 0 36 (dk_at dksX0_piece_0 5 rfl rfl)
theorem dX0_piece_8 : decode cX0_piece 8 = .ok (.iload_n 2, 1) := dk_28 (dk_at dksX0_piece_0 8 rfl rfl)
theorem dX0_piece_9 : decode cX0_piece 9 = .ok (.i2l, 1) := dk_133 (dk_at dksX0_piece_0 9 rfl rfl)
theorem dX0_piece_10 : decode cX0_piece 10 = .ok (.lconst 0, 1) := dk_9 (dk_at dksX0_piece_0 10 rfl rfl)
theorem dX0_piece_11 : decode cX0_piece 11 = .ok (.ldc2_w 136, 3) := dk_20 0 136 (dk_at dksX0_piece_0 11 rfl rfl)
theorem dX0_piece_14 : decode cX0_piece 14 = .ok (.invokestatic 95, 3) := dk_184 0 95 (dk_at dksX0_piece_0 14 rfl rfl)
theorem dX0_piece_17 : decode cX0_piece 17 = .ok (.ifCond .eq 24, 3) := dk_153 0 24 (dk_at dksX0_piece_0 17 rfl rfl)
theorem dX0_piece_20 : decode cX0_piece 20 = .ok (.aload_n 0, 1) := dk_42 (dk_at dksX0_piece_0 20 rfl rfl)
theorem dX0_piece_21 : decode cX0_piece 21 = .ok (.getfield 14, 3) := dk_180 0 14 (dk_at dksX0_piece_0 21 rfl rfl)
theorem dX0_piece_24 : decode cX0_piece 24 = .ok (.getfield 122, 3) := dk_180 0 122 (dk_at dksX0_piece_1 0 rfl rfl)
theorem dX0_piece_27 : decode cX0_piece 27 = .ok (.iload_n 1, 1) := dk_27 (dk_at dksX0_piece_1 3 rfl rfl)
theorem dX0_piece_28 : decode cX0_piece 28 = .ok (.invokevirtual 138, 3) := dk_182 0 138 (dk_at dksX0_piece_1 4 rfl rfl)
theorem dX0_piece_31 : decode cX0_piece 31 = .ok (.checkcast 142, 3) := dk_192 0 142 (dk_at dksX0_piece_1 7 rfl rfl)
theorem dX0_piece_34 : decode cX0_piece 34 = .ok (.iload_n 2, 1) := dk_28 (dk_at dksX0_piece_1 10 rfl rfl)
theorem dX0_piece_35 : decode cX0_piece 35 = .ok (.invokevirtual 144, 3) := dk_182 0 144 (dk_at dksX0_piece_1 11 rfl rfl)
theorem dX0_piece_38 : decode cX0_piece 38 = .ok (.goto 5, 3) := dk_167 0 5 (dk_at dksX0_piece_1 14 rfl rfl)
theorem dX0_piece_41 : decode cX0_piece 41 = .ok (.bipush (-2), 2) := dk_16 254 (dk_at dksX0_piece_1 17 rfl rfl)
theorem dX0_piece_43 : decode cX0_piece 43 = .ok (.ireturn, 1) := dk_172 (dk_at dksX0_piece_1 19 rfl rfl)
abbrev cX0_isPiece : ByteArray := prog_1_method_15_code
def yX0_isPiece : MethodName := ⟨RX0, "isPiece", "(I)Z"⟩
def dkwX0_isPiece_0 : List UInt8 := [27, 133, 9, 42, 182, 0, 127, 4, 100, 133, 184, 0, 95, 172]
abbrev dktX0_isPiece_0 : List UInt8 := dkwX0_isPiece_0 ++ []
theorem dksX0_isPiece_0 : cX0_isPiece.data.toList.drop 0 = dktX0_isPiece_0 := by decide +kernel
theorem dX0_isPiece_0 : decode cX0_isPiece 0 = .ok (.iload_n 1, 1) := dk_27 (dk_at dksX0_isPiece_0 0 rfl rfl)
theorem dX0_isPiece_1 : decode cX0_isPiece 1 = .ok (.i2l, 1) := dk_133 (dk_at dksX0_isPiece_0 1 rfl rfl)
theorem dX0_isPiece_2 : decode cX0_isPiece 2 = .ok (.lconst 0, 1) := dk_9 (dk_at dksX0_isPiece_0 2 rfl rfl)
theorem dX0_isPiece_3 : decode cX0_isPiece 3 = .ok (.aload_n 0, 1) := dk_42 (dk_at dksX0_isPiece_0 3 rfl rfl)
theorem dX0_isPiece_4 : decode cX0_isPiece 4 = .ok (.invokevirtual 127, 3) := dk_182 0 127 (dk_at dksX0_isPiece_0 4 rfl rfl)
theorem dX0_isPiece_7 : decode cX0_isPiece 7 = .ok (.iconst 1, 1) := dk_4 (dk_at dksX0_isPiece_0 7 rfl rfl)
theorem dX0_isPiece_8 : decode cX0_isPiece 8 = .ok (.isub, 1) := dk_100 (dk_at dksX0_isPiece_0 8 rfl rfl)
theorem dX0_isPiece_9 : decode cX0_isPiece 9 = .ok (.i2l, 1) := dk_133 (dk_at dksX0_isPiece_0 9 rfl rfl)
theorem dX0_isPiece_10 : decode cX0_isPiece 10 = .ok (.invokestatic 95, 3) := dk_184 0 95 (dk_at dksX0_isPiece_0 10 rfl rfl)
theorem dX0_isPiece_13 : decode cX0_isPiece 13 = .ok (.ireturn, 1) := dk_172 (dk_at dksX0_isPiece_0 13 rfl rfl)
abbrev cX0_pieces : ByteArray := prog_1_method_13_code
def yX0_pieces : MethodName := ⟨RX0, "pieces", "()I"⟩
def dkwX0_pieces_0 : List UInt8 := [42, 180, 0, 14, 182, 0, 121, 87, 42, 180, 0, 14, 180, 0, 122, 182, 0, 123, 172]
abbrev dktX0_pieces_0 : List UInt8 := dkwX0_pieces_0 ++ []
theorem dksX0_pieces_0 : cX0_pieces.data.toList.drop 0 = dktX0_pieces_0 := by decide +kernel
theorem dX0_pieces_0 : decode cX0_pieces 0 = .ok (.aload_n 0, 1) := dk_42 (dk_at dksX0_pieces_0 0 rfl rfl)
theorem dX0_pieces_1 : decode cX0_pieces 1 = .ok (.getfield 14, 3) := dk_180 0 14 (dk_at dksX0_pieces_0 1 rfl rfl)
theorem dX0_pieces_4 : decode cX0_pieces 4 = .ok (.invokevirtual 121, 3) := dk_182 0 121 (dk_at dksX0_pieces_0 4 rfl rfl)
theorem dX0_pieces_7 : decode cX0_pieces 7 = .ok (.pop, 1) := dk_87 (dk_at dksX0_pieces_0 7 rfl rfl)
theorem dX0_pieces_8 : decode cX0_pieces 8 = .ok (.aload_n 0, 1) := dk_42 (dk_at dksX0_pieces_0 8 rfl rfl)
theorem dX0_pieces_9 : decode cX0_pieces 9 = .ok (.getfield 14, 3) := dk_180 0 14 (dk_at dksX0_pieces_0 9 rfl rfl)
theorem dX0_pieces_12 : decode cX0_pieces 12 = .ok (.getfield 122, 3) := dk_180 0 122 (dk_at dksX0_pieces_0 12 rfl rfl)
theorem dX0_pieces_15 : decode cX0_pieces 15 = .ok (.invokevirtual 123, 3) := dk_182 0 123 (dk_at dksX0_pieces_0 15 rfl rfl)
theorem dX0_pieces_18 : decode cX0_pieces 18 = .ok (.ireturn, 1) := dk_172 (dk_at dksX0_pieces_0 18 rfl rfl)
abbrev cX0_guest : ByteArray := prog_1_method_18_code
def yX0_guest : MethodName := ⟨RX0, "guest", "(II)I"⟩
def dkwX0_guest_1 : List UInt8 := [27, 182, 0, 138, 192, 0, 75, 28, 182, 0, 150, 167, 0, 5, 16, 254, 172]
abbrev dktX0_guest_1 : List UInt8 := dkwX0_guest_1 ++ []
def dkwX0_guest_0 : List UInt8 := [42, 27, 182, 0, 147, 153, 0, 33, 28, 133, 9, 20, 0, 136, 184, 0, 95, 153, 0, 21, 42, 180, 0, 37]
abbrev dktX0_guest_0 : List UInt8 := dkwX0_guest_0 ++ dktX0_guest_1
theorem dksX0_guest_0 : cX0_guest.data.toList.drop 0 = dktX0_guest_0 := by decide +kernel
theorem dksX0_guest_1 : cX0_guest.data.toList.drop 24 = dktX0_guest_1 := dk_seg dksX0_guest_0 24 rfl rfl
theorem dX0_guest_0 : decode cX0_guest 0 = .ok (.aload_n 0, 1) := dk_42 (dk_at dksX0_guest_0 0 rfl rfl)
theorem dX0_guest_1 : decode cX0_guest 1 = .ok (.iload_n 1, 1) := dk_27 (dk_at dksX0_guest_0 1 rfl rfl)
theorem dX0_guest_2 : decode cX0_guest 2 = .ok (.invokevirtual 147, 3) := dk_182 0 147 (dk_at dksX0_guest_0 2 rfl rfl)
theorem dX0_guest_5 : decode cX0_guest 5 = .ok (.ifCond .eq 33, 3) := dk_153 0 33 (dk_at dksX0_guest_0 5 rfl rfl)
theorem dX0_guest_8 : decode cX0_guest 8 = .ok (.iload_n 2, 1) := dk_28 (dk_at dksX0_guest_0 8 rfl rfl)
theorem dX0_guest_9 : decode cX0_guest 9 = .ok (.i2l, 1) := dk_133 (dk_at dksX0_guest_0 9 rfl rfl)
theorem dX0_guest_10 : decode cX0_guest 10 = .ok (.lconst 0, 1) := dk_9 (dk_at dksX0_guest_0 10 rfl rfl)
theorem dX0_guest_11 : decode cX0_guest 11 = .ok (.ldc2_w 136, 3) := dk_20 0 136 (dk_at dksX0_guest_0 11 rfl rfl)
theorem dX0_guest_14 : decode cX0_guest 14 = .ok (.invokestatic 95, 3) := dk_184 0 95 (dk_at dksX0_guest_0 14 rfl rfl)
theorem dX0_guest_17 : decode cX0_guest 17 = .ok (.ifCond .eq 21, 3) := dk_153 0 21 (dk_at dksX0_guest_0 17 rfl rfl)
theorem dX0_guest_20 : decode cX0_guest 20 = .ok (.aload_n 0, 1) := dk_42 (dk_at dksX0_guest_0 20 rfl rfl)
theorem dX0_guest_21 : decode cX0_guest 21 = .ok (.getfield 37, 3) := dk_180 0 37 (dk_at dksX0_guest_0 21 rfl rfl)
theorem dX0_guest_24 : decode cX0_guest 24 = .ok (.iload_n 1, 1) := dk_27 (dk_at dksX0_guest_1 0 rfl rfl)
theorem dX0_guest_25 : decode cX0_guest 25 = .ok (.invokevirtual 138, 3) := dk_182 0 138 (dk_at dksX0_guest_1 1 rfl rfl)
theorem dX0_guest_28 : decode cX0_guest 28 = .ok (.checkcast 75, 3) := dk_192 0 75 (dk_at dksX0_guest_1 4 rfl rfl)
theorem dX0_guest_31 : decode cX0_guest 31 = .ok (.iload_n 2, 1) := dk_28 (dk_at dksX0_guest_1 7 rfl rfl)
theorem dX0_guest_32 : decode cX0_guest 32 = .ok (.invokevirtual 150, 3) := dk_182 0 150 (dk_at dksX0_guest_1 8 rfl rfl)
theorem dX0_guest_35 : decode cX0_guest 35 = .ok (.goto 5, 3) := dk_167 0 5 (dk_at dksX0_guest_1 11 rfl rfl)
theorem dX0_guest_38 : decode cX0_guest 38 = .ok (.bipush (-2), 2) := dk_16 254 (dk_at dksX0_guest_1 14 rfl rfl)
theorem dX0_guest_40 : decode cX0_guest 40 = .ok (.ireturn, 1) := dk_172 (dk_at dksX0_guest_1 16 rfl rfl)
abbrev cX0_isGuest : ByteArray := prog_1_method_16_code
def yX0_isGuest : MethodName := ⟨RX0, "isGuest", "(I)Z"⟩
def dkwX0_isGuest_0 : List UInt8 := [27, 133, 9, 42, 182, 0, 130, 4, 100, 133, 184, 0, 95, 172]
abbrev dktX0_isGuest_0 : List UInt8 := dkwX0_isGuest_0 ++ []
theorem dksX0_isGuest_0 : cX0_isGuest.data.toList.drop 0 = dktX0_isGuest_0 := by decide +kernel
theorem dX0_isGuest_0 : decode cX0_isGuest 0 = .ok (.iload_n 1, 1) := dk_27 (dk_at dksX0_isGuest_0 0 rfl rfl)
theorem dX0_isGuest_1 : decode cX0_isGuest 1 = .ok (.i2l, 1) := dk_133 (dk_at dksX0_isGuest_0 1 rfl rfl)
theorem dX0_isGuest_2 : decode cX0_isGuest 2 = .ok (.lconst 0, 1) := dk_9 (dk_at dksX0_isGuest_0 2 rfl rfl)
theorem dX0_isGuest_3 : decode cX0_isGuest 3 = .ok (.aload_n 0, 1) := dk_42 (dk_at dksX0_isGuest_0 3 rfl rfl)
theorem dX0_isGuest_4 : decode cX0_isGuest 4 = .ok (.invokevirtual 130, 3) := dk_182 0 130 (dk_at dksX0_isGuest_0 4 rfl rfl)
theorem dX0_isGuest_7 : decode cX0_isGuest 7 = .ok (.iconst 1, 1) := dk_4 (dk_at dksX0_isGuest_0 7 rfl rfl)
theorem dX0_isGuest_8 : decode cX0_isGuest 8 = .ok (.isub, 1) := dk_100 (dk_at dksX0_isGuest_0 8 rfl rfl)
theorem dX0_isGuest_9 : decode cX0_isGuest 9 = .ok (.i2l, 1) := dk_133 (dk_at dksX0_isGuest_0 9 rfl rfl)
theorem dX0_isGuest_10 : decode cX0_isGuest 10 = .ok (.invokestatic 95, 3) := dk_184 0 95 (dk_at dksX0_isGuest_0 10 rfl rfl)
theorem dX0_isGuest_13 : decode cX0_isGuest 13 = .ok (.ireturn, 1) := dk_172 (dk_at dksX0_isGuest_0 13 rfl rfl)
abbrev cX0_people : ByteArray := prog_1_method_14_code
def yX0_people : MethodName := ⟨RX0, "people", "()I"⟩
def dkwX0_people_0 : List UInt8 := [42, 180, 0, 23, 182, 0, 126, 87, 42, 180, 0, 37, 182, 0, 123, 172]
abbrev dktX0_people_0 : List UInt8 := dkwX0_people_0 ++ []
theorem dksX0_people_0 : cX0_people.data.toList.drop 0 = dktX0_people_0 := by decide +kernel
theorem dX0_people_0 : decode cX0_people 0 = .ok (.aload_n 0, 1) := dk_42 (dk_at dksX0_people_0 0 rfl rfl)
theorem dX0_people_1 : decode cX0_people 1 = .ok (.getfield 23, 3) := dk_180 0 23 (dk_at dksX0_people_0 1 rfl rfl)
theorem dX0_people_4 : decode cX0_people 4 = .ok (.invokevirtual 126, 3) := dk_182 0 126 (dk_at dksX0_people_0 4 rfl rfl)
theorem dX0_people_7 : decode cX0_people 7 = .ok (.pop, 1) := dk_87 (dk_at dksX0_people_0 7 rfl rfl)
theorem dX0_people_8 : decode cX0_people 8 = .ok (.aload_n 0, 1) := dk_42 (dk_at dksX0_people_0 8 rfl rfl)
theorem dX0_people_9 : decode cX0_people 9 = .ok (.getfield 37, 3) := dk_180 0 37 (dk_at dksX0_people_0 9 rfl rfl)
theorem dX0_people_12 : decode cX0_people 12 = .ok (.invokevirtual 123, 3) := dk_182 0 123 (dk_at dksX0_people_0 12 rfl rfl)
theorem dX0_people_15 : decode cX0_people 15 = .ok (.ireturn, 1) := dk_172 (dk_at dksX0_people_0 15 rfl rfl)
abbrev cX0_set : ByteArray := prog_1_method_19_code
def yX0_set : MethodName := ⟨RX0, "set", "(II)I"⟩
def dkwX0_set_2 : List UInt8 := [172]
abbrev dktX0_set_2 : List UInt8 := dkwX0_set_2 ++ []
def dkwX0_set_1 : List UInt8 := [184, 0, 95, 154, 0, 6, 16, 254, 172, 42, 180, 0, 40, 27, 46, 62, 42, 180, 0, 40, 27, 28, 79, 29]
abbrev dktX0_set_1 : List UInt8 := dkwX0_set_1 ++ dktX0_set_2
def dkwX0_set_0 : List UInt8 := [27, 184, 0, 101, 153, 0, 25, 28, 133, 9, 27, 154, 0, 9, 20, 0, 151, 167, 0, 6, 20, 0, 153]
abbrev dktX0_set_0 : List UInt8 := dkwX0_set_0 ++ dktX0_set_1
theorem dksX0_set_0 : cX0_set.data.toList.drop 0 = dktX0_set_0 := by decide +kernel
theorem dksX0_set_1 : cX0_set.data.toList.drop 23 = dktX0_set_1 := dk_seg dksX0_set_0 23 rfl rfl
theorem dksX0_set_2 : cX0_set.data.toList.drop 47 = dktX0_set_2 := dk_seg dksX0_set_1 24 rfl rfl
theorem dX0_set_0 : decode cX0_set 0 = .ok (.iload_n 1, 1) := dk_27 (dk_at dksX0_set_0 0 rfl rfl)
theorem dX0_set_1 : decode cX0_set 1 = .ok (.invokestatic 101, 3) := dk_184 0 101 (dk_at dksX0_set_0 1 rfl rfl)
theorem dX0_set_4 : decode cX0_set 4 = .ok (.ifCond .eq 25, 3) := dk_153 0 25 (dk_at dksX0_set_0 4 rfl rfl)
theorem dX0_set_7 : decode cX0_set 7 = .ok (.iload_n 2, 1) := dk_28 (dk_at dksX0_set_0 7 rfl rfl)
theorem dX0_set_8 : decode cX0_set 8 = .ok (.i2l, 1) := dk_133 (dk_at dksX0_set_0 8 rfl rfl)
theorem dX0_set_9 : decode cX0_set 9 = .ok (.lconst 0, 1) := dk_9 (dk_at dksX0_set_0 9 rfl rfl)
theorem dX0_set_10 : decode cX0_set 10 = .ok (.iload_n 1, 1) := dk_27 (dk_at dksX0_set_0 10 rfl rfl)
theorem dX0_set_11 : decode cX0_set 11 = .ok (.ifCond .ne 9, 3) := dk_154 0 9 (dk_at dksX0_set_0 11 rfl rfl)
theorem dX0_set_14 : decode cX0_set 14 = .ok (.ldc2_w 151, 3) := dk_20 0 151 (dk_at dksX0_set_0 14 rfl rfl)
theorem dX0_set_17 : decode cX0_set 17 = .ok (.goto 6, 3) := dk_167 0 6 (dk_at dksX0_set_0 17 rfl rfl)
theorem dX0_set_20 : decode cX0_set 20 = .ok (.ldc2_w 153, 3) := dk_20 0 153 (dk_at dksX0_set_0 20 rfl rfl)
theorem dX0_set_23 : decode cX0_set 23 = .ok (.invokestatic 95, 3) := dk_184 0 95 (dk_at dksX0_set_1 0 rfl rfl)
theorem dX0_set_26 : decode cX0_set 26 = .ok (.ifCond .ne 6, 3) := dk_154 0 6 (dk_at dksX0_set_1 3 rfl rfl)
theorem dX0_set_29 : decode cX0_set 29 = .ok (.bipush (-2), 2) := dk_16 254 (dk_at dksX0_set_1 6 rfl rfl)
theorem dX0_set_31 : decode cX0_set 31 = .ok (.ireturn, 1) := dk_172 (dk_at dksX0_set_1 8 rfl rfl)
theorem dX0_set_32 : decode cX0_set 32 = .ok (.aload_n 0, 1) := dk_42 (dk_at dksX0_set_1 9 rfl rfl)
theorem dX0_set_33 : decode cX0_set 33 = .ok (.getfield 40, 3) := dk_180 0 40 (dk_at dksX0_set_1 10 rfl rfl)
theorem dX0_set_36 : decode cX0_set 36 = .ok (.iload_n 1, 1) := dk_27 (dk_at dksX0_set_1 13 rfl rfl)
theorem dX0_set_37 : decode cX0_set 37 = .ok (.iaload, 1) := dk_46 (dk_at dksX0_set_1 14 rfl rfl)
theorem dX0_set_38 : decode cX0_set 38 = .ok (.istore_n 3, 1) := dk_62 (dk_at dksX0_set_1 15 rfl rfl)
theorem dX0_set_39 : decode cX0_set 39 = .ok (.aload_n 0, 1) := dk_42 (dk_at dksX0_set_1 16 rfl rfl)
theorem dX0_set_40 : decode cX0_set 40 = .ok (.getfield 40, 3) := dk_180 0 40 (dk_at dksX0_set_1 17 rfl rfl)
theorem dX0_set_43 : decode cX0_set 43 = .ok (.iload_n 1, 1) := dk_27 (dk_at dksX0_set_1 20 rfl rfl)
theorem dX0_set_44 : decode cX0_set 44 = .ok (.iload_n 2, 1) := dk_28 (dk_at dksX0_set_1 21 rfl rfl)
theorem dX0_set_45 : decode cX0_set 45 = .ok (.iastore, 1) := dk_79 (dk_at dksX0_set_1 22 rfl rfl)
theorem dX0_set_46 : decode cX0_set 46 = .ok (.iload_n 3, 1) := dk_29 (dk_at dksX0_set_1 23 rfl rfl)
theorem dX0_set_47 : decode cX0_set 47 = .ok (.ireturn, 1) := dk_172 (dk_at dksX0_set_2 0 rfl rfl)
abbrev cX0_event : ByteArray := prog_1_method_20_code
def yX0_event : MethodName := ⟨RX0, "event", "(III)I"⟩
def dkwX0_event_3 : List UInt8 := [182, 0, 160, 87, 42, 180, 0, 47, 182, 0, 123, 172]
abbrev dktX0_event_3 : List UInt8 := dkwX0_event_3 ++ []
def dkwX0_event_2 : List UInt8 := [16, 252, 172, 42, 180, 0, 47, 6, 188, 10, 89, 3, 27, 79, 89, 4, 28, 79, 89, 5, 29, 79]
abbrev dktX0_event_2 : List UInt8 := dkwX0_event_2 ++ dktX0_event_3
def dkwX0_event_1 : List UInt8 := [20, 0, 158, 184, 0, 95, 154, 0, 6, 16, 254, 172, 42, 180, 0, 47, 182, 0, 123, 16, 8, 160, 0, 6]
abbrev dktX0_event_1 : List UInt8 := dkwX0_event_1 ++ dktX0_event_2
def dkwX0_event_0 : List UInt8 := [27, 133, 9, 20, 0, 136, 184, 0, 95, 153, 0, 22, 28, 184, 0, 155, 153, 0, 15, 29, 133, 9]
abbrev dktX0_event_0 : List UInt8 := dkwX0_event_0 ++ dktX0_event_1
theorem dksX0_event_0 : cX0_event.data.toList.drop 0 = dktX0_event_0 := by decide +kernel
theorem dksX0_event_1 : cX0_event.data.toList.drop 22 = dktX0_event_1 := dk_seg dksX0_event_0 22 rfl rfl
theorem dksX0_event_2 : cX0_event.data.toList.drop 46 = dktX0_event_2 := dk_seg dksX0_event_1 24 rfl rfl
theorem dksX0_event_3 : cX0_event.data.toList.drop 68 = dktX0_event_3 := dk_seg dksX0_event_2 22 rfl rfl
theorem dX0_event_0 : decode cX0_event 0 = .ok (.iload_n 1, 1) := dk_27 (dk_at dksX0_event_0 0 rfl rfl)
theorem dX0_event_1 : decode cX0_event 1 = .ok (.i2l, 1) := dk_133 (dk_at dksX0_event_0 1 rfl rfl)
theorem dX0_event_2 : decode cX0_event 2 = .ok (.lconst 0, 1) := dk_9 (dk_at dksX0_event_0 2 rfl rfl)
theorem dX0_event_3 : decode cX0_event 3 = .ok (.ldc2_w 136, 3) := dk_20 0 136 (dk_at dksX0_event_0 3 rfl rfl)
theorem dX0_event_6 : decode cX0_event 6 = .ok (.invokestatic 95, 3) := dk_184 0 95 (dk_at dksX0_event_0 6 rfl rfl)
theorem dX0_event_9 : decode cX0_event 9 = .ok (.ifCond .eq 22, 3) := dk_153 0 22 (dk_at dksX0_event_0 9 rfl rfl)
theorem dX0_event_12 : decode cX0_event 12 = .ok (.iload_n 2, 1) := dk_28 (dk_at dksX0_event_0 12 rfl rfl)
theorem dX0_event_13 : decode cX0_event 13 = .ok (.invokestatic 155, 3) := dk_184 0 155 (dk_at dksX0_event_0 13 rfl rfl)
theorem dX0_event_16 : decode cX0_event 16 = .ok (.ifCond .eq 15, 3) := dk_153 0 15 (dk_at dksX0_event_0 16 rfl rfl)
theorem dX0_event_19 : decode cX0_event 19 = .ok (.iload_n 3, 1) := dk_29 (dk_at dksX0_event_0 19 rfl rfl)
theorem dX0_event_20 : decode cX0_event 20 = .ok (.i2l, 1) := dk_133 (dk_at dksX0_event_0 20 rfl rfl)
theorem dX0_event_21 : decode cX0_event 21 = .ok (.lconst 0, 1) := dk_9 (dk_at dksX0_event_0 21 rfl rfl)
theorem dX0_event_22 : decode cX0_event 22 = .ok (.ldc2_w 158, 3) := dk_20 0 158 (dk_at dksX0_event_1 0 rfl rfl)
theorem dX0_event_25 : decode cX0_event 25 = .ok (.invokestatic 95, 3) := dk_184 0 95 (dk_at dksX0_event_1 3 rfl rfl)
theorem dX0_event_28 : decode cX0_event 28 = .ok (.ifCond .ne 6, 3) := dk_154 0 6 (dk_at dksX0_event_1 6 rfl rfl)
theorem dX0_event_31 : decode cX0_event 31 = .ok (.bipush (-2), 2) := dk_16 254 (dk_at dksX0_event_1 9 rfl rfl)
theorem dX0_event_33 : decode cX0_event 33 = .ok (.ireturn, 1) := dk_172 (dk_at dksX0_event_1 11 rfl rfl)
theorem dX0_event_34 : decode cX0_event 34 = .ok (.aload_n 0, 1) := dk_42 (dk_at dksX0_event_1 12 rfl rfl)
theorem dX0_event_35 : decode cX0_event 35 = .ok (.getfield 47, 3) := dk_180 0 47 (dk_at dksX0_event_1 13 rfl rfl)
theorem dX0_event_38 : decode cX0_event 38 = .ok (.invokevirtual 123, 3) := dk_182 0 123 (dk_at dksX0_event_1 16 rfl rfl)
theorem dX0_event_41 : decode cX0_event 41 = .ok (.bipush 8, 2) := dk_16 8 (dk_at dksX0_event_1 19 rfl rfl)
theorem dX0_event_43 : decode cX0_event 43 = .ok (.if_icmp .ne 6, 3) := dk_160 0 6 (dk_at dksX0_event_1 21 rfl rfl)
theorem dX0_event_46 : decode cX0_event 46 = .ok (.bipush (-4), 2) := dk_16 252 (dk_at dksX0_event_2 0 rfl rfl)
theorem dX0_event_48 : decode cX0_event 48 = .ok (.ireturn, 1) := dk_172 (dk_at dksX0_event_2 2 rfl rfl)
theorem dX0_event_49 : decode cX0_event 49 = .ok (.aload_n 0, 1) := dk_42 (dk_at dksX0_event_2 3 rfl rfl)
theorem dX0_event_50 : decode cX0_event 50 = .ok (.getfield 47, 3) := dk_180 0 47 (dk_at dksX0_event_2 4 rfl rfl)
theorem dX0_event_53 : decode cX0_event 53 = .ok (.iconst 3, 1) := dk_6 (dk_at dksX0_event_2 7 rfl rfl)
theorem dX0_event_54 : decode cX0_event 54 = .ok (.newarray .int, 2) := dk_188_10 (dk_at dksX0_event_2 8 rfl rfl)
theorem dX0_event_56 : decode cX0_event 56 = .ok (.dup, 1) := dk_89 (dk_at dksX0_event_2 10 rfl rfl)
theorem dX0_event_57 : decode cX0_event 57 = .ok (.iconst 0, 1) := dk_3 (dk_at dksX0_event_2 11 rfl rfl)
theorem dX0_event_58 : decode cX0_event 58 = .ok (.iload_n 1, 1) := dk_27 (dk_at dksX0_event_2 12 rfl rfl)
theorem dX0_event_59 : decode cX0_event 59 = .ok (.iastore, 1) := dk_79 (dk_at dksX0_event_2 13 rfl rfl)
theorem dX0_event_60 : decode cX0_event 60 = .ok (.dup, 1) := dk_89 (dk_at dksX0_event_2 14 rfl rfl)
theorem dX0_event_61 : decode cX0_event 61 = .ok (.iconst 1, 1) := dk_4 (dk_at dksX0_event_2 15 rfl rfl)
theorem dX0_event_62 : decode cX0_event 62 = .ok (.iload_n 2, 1) := dk_28 (dk_at dksX0_event_2 16 rfl rfl)
theorem dX0_event_63 : decode cX0_event 63 = .ok (.iastore, 1) := dk_79 (dk_at dksX0_event_2 17 rfl rfl)
theorem dX0_event_64 : decode cX0_event 64 = .ok (.dup, 1) := dk_89 (dk_at dksX0_event_2 18 rfl rfl)
theorem dX0_event_65 : decode cX0_event 65 = .ok (.iconst 2, 1) := dk_5 (dk_at dksX0_event_2 19 rfl rfl)
theorem dX0_event_66 : decode cX0_event 66 = .ok (.iload_n 3, 1) := dk_29 (dk_at dksX0_event_2 20 rfl rfl)
theorem dX0_event_67 : decode cX0_event 67 = .ok (.iastore, 1) := dk_79 (dk_at dksX0_event_2 21 rfl rfl)
theorem dX0_event_68 : decode cX0_event 68 = .ok (.invokevirtual 160, 3) := dk_182 0 160 (dk_at dksX0_event_3 0 rfl rfl)
theorem dX0_event_71 : decode cX0_event 71 = .ok (.pop, 1) := dk_87 (dk_at dksX0_event_3 3 rfl rfl)
theorem dX0_event_72 : decode cX0_event 72 = .ok (.aload_n 0, 1) := dk_42 (dk_at dksX0_event_3 4 rfl rfl)
theorem dX0_event_73 : decode cX0_event 73 = .ok (.getfield 47, 3) := dk_180 0 47 (dk_at dksX0_event_3 5 rfl rfl)
theorem dX0_event_76 : decode cX0_event 76 = .ok (.invokevirtual 123, 3) := dk_182 0 123 (dk_at dksX0_event_3 8 rfl rfl)
theorem dX0_event_79 : decode cX0_event 79 = .ok (.ireturn, 1) := dk_172 (dk_at dksX0_event_3 11 rfl rfl)
abbrev cX0_isMinute : ByteArray := prog_1_method_8_code
def yX0_isMinute : MethodName := ⟨RX0, "isMinute", "(I)Z"⟩
def dkwX0_isMinute_0 : List UInt8 := [26, 133, 9, 20, 0, 99, 184, 0, 95, 172]
abbrev dktX0_isMinute_0 : List UInt8 := dkwX0_isMinute_0 ++ []
theorem dksX0_isMinute_0 : cX0_isMinute.data.toList.drop 0 = dktX0_isMinute_0 := by decide +kernel
theorem dX0_isMinute_0 : decode cX0_isMinute 0 = .ok (.iload_n 0, 1) := dk_26 (dk_at dksX0_isMinute_0 0 rfl rfl)
theorem dX0_isMinute_1 : decode cX0_isMinute 1 = .ok (.i2l, 1) := dk_133 (dk_at dksX0_isMinute_0 1 rfl rfl)
theorem dX0_isMinute_2 : decode cX0_isMinute 2 = .ok (.lconst 0, 1) := dk_9 (dk_at dksX0_isMinute_0 2 rfl rfl)
theorem dX0_isMinute_3 : decode cX0_isMinute 3 = .ok (.ldc2_w 99, 3) := dk_20 0 99 (dk_at dksX0_isMinute_0 3 rfl rfl)
theorem dX0_isMinute_6 : decode cX0_isMinute 6 = .ok (.invokestatic 95, 3) := dk_184 0 95 (dk_at dksX0_isMinute_0 6 rfl rfl)
theorem dX0_isMinute_9 : decode cX0_isMinute 9 = .ok (.ireturn, 1) := dk_172 (dk_at dksX0_isMinute_0 9 rfl rfl)
abbrev cX0_back : ByteArray := prog_1_method_21_code
def yX0_back : MethodName := ⟨RX0, "back", "()I"⟩
def dkwX0_back_1 : List UInt8 := [4, 100, 182, 0, 168, 87, 42, 180, 0, 47, 182, 0, 123, 172]
abbrev dktX0_back_1 : List UInt8 := dkwX0_back_1 ++ []
def dkwX0_back_0 : List UInt8 := [42, 180, 0, 47, 182, 0, 164, 153, 0, 6, 16, 253, 172, 42, 180, 0, 47, 42, 180, 0, 47, 182, 0, 123]
abbrev dktX0_back_0 : List UInt8 := dkwX0_back_0 ++ dktX0_back_1
theorem dksX0_back_0 : cX0_back.data.toList.drop 0 = dktX0_back_0 := by decide +kernel
theorem dksX0_back_1 : cX0_back.data.toList.drop 24 = dktX0_back_1 := dk_seg dksX0_back_0 24 rfl rfl
theorem dX0_back_0 : decode cX0_back 0 = .ok (.aload_n 0, 1) := dk_42 (dk_at dksX0_back_0 0 rfl rfl)
theorem dX0_back_1 : decode cX0_back 1 = .ok (.getfield 47, 3) := dk_180 0 47 (dk_at dksX0_back_0 1 rfl rfl)
theorem dX0_back_4 : decode cX0_back 4 = .ok (.invokevirtual 164, 3) := dk_182 0 164 (dk_at dksX0_back_0 4 rfl rfl)
theorem dX0_back_7 : decode cX0_back 7 = .ok (.ifCond .eq 6, 3) := dk_153 0 6 (dk_at dksX0_back_0 7 rfl rfl)
theorem dX0_back_10 : decode cX0_back 10 = .ok (.bipush (-3), 2) := dk_16 253 (dk_at dksX0_back_0 10 rfl rfl)
theorem dX0_back_12 : decode cX0_back 12 = .ok (.ireturn, 1) := dk_172 (dk_at dksX0_back_0 12 rfl rfl)
theorem dX0_back_13 : decode cX0_back 13 = .ok (.aload_n 0, 1) := dk_42 (dk_at dksX0_back_0 13 rfl rfl)
theorem dX0_back_14 : decode cX0_back 14 = .ok (.getfield 47, 3) := dk_180 0 47 (dk_at dksX0_back_0 14 rfl rfl)
theorem dX0_back_17 : decode cX0_back 17 = .ok (.aload_n 0, 1) := dk_42 (dk_at dksX0_back_0 17 rfl rfl)
theorem dX0_back_18 : decode cX0_back 18 = .ok (.getfield 47, 3) := dk_180 0 47 (dk_at dksX0_back_0 18 rfl rfl)
theorem dX0_back_21 : decode cX0_back 21 = .ok (.invokevirtual 123, 3) := dk_182 0 123 (dk_at dksX0_back_0 21 rfl rfl)
theorem dX0_back_24 : decode cX0_back 24 = .ok (.iconst 1, 1) := dk_4 (dk_at dksX0_back_1 0 rfl rfl)
theorem dX0_back_25 : decode cX0_back 25 = .ok (.isub, 1) := dk_100 (dk_at dksX0_back_1 1 rfl rfl)
theorem dX0_back_26 : decode cX0_back 26 = .ok (.invokevirtual 168, 3) := dk_182 0 168 (dk_at dksX0_back_1 2 rfl rfl)
theorem dX0_back_29 : decode cX0_back 29 = .ok (.pop, 1) := dk_87 (dk_at dksX0_back_1 5 rfl rfl)
theorem dX0_back_30 : decode cX0_back 30 = .ok (.aload_n 0, 1) := dk_42 (dk_at dksX0_back_1 6 rfl rfl)
theorem dX0_back_31 : decode cX0_back 31 = .ok (.getfield 47, 3) := dk_180 0 47 (dk_at dksX0_back_1 7 rfl rfl)
theorem dX0_back_34 : decode cX0_back 34 = .ok (.invokevirtual 123, 3) := dk_182 0 123 (dk_at dksX0_back_1 10 rfl rfl)
theorem dX0_back_37 : decode cX0_back 37 = .ok (.ireturn, 1) := dk_172 (dk_at dksX0_back_1 13 rfl rfl)
abbrev cX0_read : ByteArray := prog_1_method_22_code
def yX0_read : MethodName := ⟨RX0, "read", "(I)I"⟩
def dkwX0_read_4 : List UInt8 := [172]
abbrev dktX0_read_4 : List UInt8 := dkwX0_read_4 ++ []
def dkwX0_read_3 : List UInt8 := [182, 0, 182, 6, 29, 104, 5, 96, 182, 0, 184, 182, 0, 188, 155, 0, 9, 132, 3, 1, 167, 255, 197, 29]
abbrev dktX0_read_3 : List UInt8 := dkwX0_read_3 ++ dktX0_read_4
def dkwX0_read_2 : List UInt8 := [182, 0, 182, 6, 29, 104, 182, 0, 184, 44, 44, 182, 0, 182, 6, 29, 104, 4, 96, 182, 0, 184, 44, 44]
abbrev dktX0_read_2 : List UInt8 := dkwX0_read_2 ++ dktX0_read_3
def dkwX0_read_1 : List UInt8 := [42, 4, 182, 0, 178, 172, 3, 62, 6, 29, 104, 6, 96, 44, 182, 0, 181, 163, 0, 53, 42, 44, 44]
abbrev dktX0_read_1 : List UInt8 := dkwX0_read_1 ++ dktX0_read_2
def dkwX0_read_0 : List UInt8 := [27, 184, 0, 171, 154, 0, 6, 16, 254, 172, 42, 180, 0, 84, 27, 50, 77, 44, 180, 0, 174, 199, 0, 9]
abbrev dktX0_read_0 : List UInt8 := dkwX0_read_0 ++ dktX0_read_1
theorem dksX0_read_0 : cX0_read.data.toList.drop 0 = dktX0_read_0 := by decide +kernel
theorem dksX0_read_1 : cX0_read.data.toList.drop 24 = dktX0_read_1 := dk_seg dksX0_read_0 24 rfl rfl
theorem dksX0_read_2 : cX0_read.data.toList.drop 47 = dktX0_read_2 := dk_seg dksX0_read_1 23 rfl rfl
theorem dksX0_read_3 : cX0_read.data.toList.drop 71 = dktX0_read_3 := dk_seg dksX0_read_2 24 rfl rfl
theorem dksX0_read_4 : cX0_read.data.toList.drop 95 = dktX0_read_4 := dk_seg dksX0_read_3 24 rfl rfl
theorem dX0_read_0 : decode cX0_read 0 = .ok (.iload_n 1, 1) := dk_27 (dk_at dksX0_read_0 0 rfl rfl)
theorem dX0_read_1 : decode cX0_read 1 = .ok (.invokestatic 171, 3) := dk_184 0 171 (dk_at dksX0_read_0 1 rfl rfl)
theorem dX0_read_4 : decode cX0_read 4 = .ok (.ifCond .ne 6, 3) := dk_154 0 6 (dk_at dksX0_read_0 4 rfl rfl)
theorem dX0_read_7 : decode cX0_read 7 = .ok (.bipush (-2), 2) := dk_16 254 (dk_at dksX0_read_0 7 rfl rfl)
theorem dX0_read_9 : decode cX0_read 9 = .ok (.ireturn, 1) := dk_172 (dk_at dksX0_read_0 9 rfl rfl)
theorem dX0_read_10 : decode cX0_read 10 = .ok (.aload_n 0, 1) := dk_42 (dk_at dksX0_read_0 10 rfl rfl)
theorem dX0_read_11 : decode cX0_read 11 = .ok (.getfield 84, 3) := dk_180 0 84 (dk_at dksX0_read_0 11 rfl rfl)
theorem dX0_read_14 : decode cX0_read 14 = .ok (.iload_n 1, 1) := dk_27 (dk_at dksX0_read_0 14 rfl rfl)
theorem dX0_read_15 : decode cX0_read 15 = .ok (.aaload, 1) := dk_50 (dk_at dksX0_read_0 15 rfl rfl)
theorem dX0_read_16 : decode cX0_read 16 = .ok (.astore_n 2, 1) := dk_77 (dk_at dksX0_read_0 16 rfl rfl)
theorem dX0_read_17 : decode cX0_read 17 = .ok (.aload_n 2, 1) := dk_44 (dk_at dksX0_read_0 17 rfl rfl)
theorem dX0_read_18 : decode cX0_read 18 = .ok (.getfield 174, 3) := dk_180 0 174 (dk_at dksX0_read_0 18 rfl rfl)
theorem dX0_read_21 : decode cX0_read 21 = .ok (.ifnonnull 9, 3) := dk_199 0 9 (dk_at dksX0_read_0 21 rfl rfl)
theorem dX0_read_24 : decode cX0_read 24 = .ok (.aload_n 0, 1) := dk_42 (dk_at dksX0_read_1 0 rfl rfl)
theorem dX0_read_25 : decode cX0_read 25 = .ok (.iconst 1, 1) := dk_4 (dk_at dksX0_read_1 1 rfl rfl)
theorem dX0_read_26 : decode cX0_read 26 = .ok (.invokevirtual 178, 3) := dk_182 0 178 (dk_at dksX0_read_1 2 rfl rfl)
theorem dX0_read_29 : decode cX0_read 29 = .ok (.ireturn, 1) := dk_172 (dk_at dksX0_read_1 5 rfl rfl)
theorem dX0_read_30 : decode cX0_read 30 = .ok (.iconst 0, 1) := dk_3 (dk_at dksX0_read_1 6 rfl rfl)
theorem dX0_read_31 : decode cX0_read 31 = .ok (.istore_n 3, 1) := dk_62 (dk_at dksX0_read_1 7 rfl rfl)
theorem dX0_read_32 : decode cX0_read 32 = .ok (.iconst 3, 1) := dk_6 (dk_at dksX0_read_1 8 rfl rfl)
theorem dX0_read_33 : decode cX0_read 33 = .ok (.iload_n 3, 1) := dk_29 (dk_at dksX0_read_1 9 rfl rfl)
theorem dX0_read_34 : decode cX0_read 34 = .ok (.imul, 1) := dk_104 (dk_at dksX0_read_1 10 rfl rfl)
theorem dX0_read_35 : decode cX0_read 35 = .ok (.iconst 3, 1) := dk_6 (dk_at dksX0_read_1 11 rfl rfl)
theorem dX0_read_36 : decode cX0_read 36 = .ok (.iadd, 1) := dk_96 (dk_at dksX0_read_1 12 rfl rfl)
theorem dX0_read_37 : decode cX0_read 37 = .ok (.aload_n 2, 1) := dk_44 (dk_at dksX0_read_1 13 rfl rfl)
theorem dX0_read_38 : decode cX0_read 38 = .ok (.invokevirtual 181, 3) := dk_182 0 181 (dk_at dksX0_read_1 14 rfl rfl)
theorem dX0_read_41 : decode cX0_read 41 = .ok (.if_icmp .gt 53, 3) := dk_163 0 53 (dk_at dksX0_read_1 17 rfl rfl)
theorem dX0_read_44 : decode cX0_read 44 = .ok (.aload_n 0, 1) := dk_42 (dk_at dksX0_read_1 20 rfl rfl)
theorem dX0_read_45 : decode cX0_read 45 = .ok (.aload_n 2, 1) := dk_44 (dk_at dksX0_read_1 21 rfl rfl)
theorem dX0_read_46 : decode cX0_read 46 = .ok (.aload_n 2, 1) := dk_44 (dk_at dksX0_read_1 22 rfl rfl)
theorem dX0_read_47 : decode cX0_read 47 = .ok (.invokevirtual 182, 3) := dk_182 0 182 (dk_at dksX0_read_2 0 rfl rfl)
theorem dX0_read_50 : decode cX0_read 50 = .ok (.iconst 3, 1) := dk_6 (dk_at dksX0_read_2 3 rfl rfl)
theorem dX0_read_51 : decode cX0_read 51 = .ok (.iload_n 3, 1) := dk_29 (dk_at dksX0_read_2 4 rfl rfl)
theorem dX0_read_52 : decode cX0_read 52 = .ok (.imul, 1) := dk_104 (dk_at dksX0_read_2 5 rfl rfl)
theorem dX0_read_53 : decode cX0_read 53 = .ok (.invokevirtual 184, 3) := dk_182 0 184 (dk_at dksX0_read_2 6 rfl rfl)
theorem dX0_read_56 : decode cX0_read 56 = .ok (.aload_n 2, 1) := dk_44 (dk_at dksX0_read_2 9 rfl rfl)
theorem dX0_read_57 : decode cX0_read 57 = .ok (.aload_n 2, 1) := dk_44 (dk_at dksX0_read_2 10 rfl rfl)
theorem dX0_read_58 : decode cX0_read 58 = .ok (.invokevirtual 182, 3) := dk_182 0 182 (dk_at dksX0_read_2 11 rfl rfl)
theorem dX0_read_61 : decode cX0_read 61 = .ok (.iconst 3, 1) := dk_6 (dk_at dksX0_read_2 14 rfl rfl)
theorem dX0_read_62 : decode cX0_read 62 = .ok (.iload_n 3, 1) := dk_29 (dk_at dksX0_read_2 15 rfl rfl)
theorem dX0_read_63 : decode cX0_read 63 = .ok (.imul, 1) := dk_104 (dk_at dksX0_read_2 16 rfl rfl)
theorem dX0_read_64 : decode cX0_read 64 = .ok (.iconst 1, 1) := dk_4 (dk_at dksX0_read_2 17 rfl rfl)
theorem dX0_read_65 : decode cX0_read 65 = .ok (.iadd, 1) := dk_96 (dk_at dksX0_read_2 18 rfl rfl)
theorem dX0_read_66 : decode cX0_read 66 = .ok (.invokevirtual 184, 3) := dk_182 0 184 (dk_at dksX0_read_2 19 rfl rfl)
theorem dX0_read_69 : decode cX0_read 69 = .ok (.aload_n 2, 1) := dk_44 (dk_at dksX0_read_2 22 rfl rfl)
theorem dX0_read_70 : decode cX0_read 70 = .ok (.aload_n 2, 1) := dk_44 (dk_at dksX0_read_2 23 rfl rfl)
theorem dX0_read_71 : decode cX0_read 71 = .ok (.invokevirtual 182, 3) := dk_182 0 182 (dk_at dksX0_read_3 0 rfl rfl)
theorem dX0_read_74 : decode cX0_read 74 = .ok (.iconst 3, 1) := dk_6 (dk_at dksX0_read_3 3 rfl rfl)
theorem dX0_read_75 : decode cX0_read 75 = .ok (.iload_n 3, 1) := dk_29 (dk_at dksX0_read_3 4 rfl rfl)
theorem dX0_read_76 : decode cX0_read 76 = .ok (.imul, 1) := dk_104 (dk_at dksX0_read_3 5 rfl rfl)
theorem dX0_read_77 : decode cX0_read 77 = .ok (.iconst 2, 1) := dk_5 (dk_at dksX0_read_3 6 rfl rfl)
theorem dX0_read_78 : decode cX0_read 78 = .ok (.iadd, 1) := dk_96 (dk_at dksX0_read_3 7 rfl rfl)
theorem dX0_read_79 : decode cX0_read 79 = .ok (.invokevirtual 184, 3) := dk_182 0 184 (dk_at dksX0_read_3 8 rfl rfl)
theorem dX0_read_82 : decode cX0_read 82 = .ok (.invokevirtual 188, 3) := dk_182 0 188 (dk_at dksX0_read_3 11 rfl rfl)
theorem dX0_read_85 : decode cX0_read 85 = .ok (.ifCond .lt 9, 3) := dk_155 0 9 (dk_at dksX0_read_3 14 rfl rfl)
theorem dX0_read_88 : decode cX0_read 88 = .ok (.iinc 3 1, 3) := dk_132 3 1 (dk_at dksX0_read_3 17 rfl rfl)
theorem dX0_read_91 : decode cX0_read 91 = .ok (.goto (-59), 3) := dk_167 255 197 (dk_at dksX0_read_3 20 rfl rfl)
theorem dX0_read_94 : decode cX0_read 94 = .ok (.iload_n 3, 1) := dk_29 (dk_at dksX0_read_3 23 rfl rfl)
theorem dX0_read_95 : decode cX0_read 95 = .ok (.ireturn, 1) := dk_172 (dk_at dksX0_read_4 0 rfl rfl)
abbrev cX0_isSheet : ByteArray := prog_1_method_73_code
def yX0_isSheet : MethodName := ⟨RX0, "isSheet", "(I)Z"⟩
def dkwX0_isSheet_0 : List UInt8 := [26, 133, 9, 20, 1, 147, 184, 0, 95, 172]
abbrev dktX0_isSheet_0 : List UInt8 := dkwX0_isSheet_0 ++ []
theorem dksX0_isSheet_0 : cX0_isSheet.data.toList.drop 0 = dktX0_isSheet_0 := by decide +kernel
theorem dX0_isSheet_0 : decode cX0_isSheet 0 = .ok (.iload_n 0, 1) := dk_26 (dk_at dksX0_isSheet_0 0 rfl rfl)
theorem dX0_isSheet_1 : decode cX0_isSheet 1 = .ok (.i2l, 1) := dk_133 (dk_at dksX0_isSheet_0 1 rfl rfl)
theorem dX0_isSheet_2 : decode cX0_isSheet 2 = .ok (.lconst 0, 1) := dk_9 (dk_at dksX0_isSheet_0 2 rfl rfl)
theorem dX0_isSheet_3 : decode cX0_isSheet 3 = .ok (.ldc2_w 403, 3) := dk_20 1 147 (dk_at dksX0_isSheet_0 3 rfl rfl)
theorem dX0_isSheet_6 : decode cX0_isSheet 6 = .ok (.invokestatic 95, 3) := dk_184 0 95 (dk_at dksX0_isSheet_0 6 rfl rfl)
theorem dX0_isSheet_9 : decode cX0_isSheet 9 = .ok (.ireturn, 1) := dk_172 (dk_at dksX0_isSheet_0 9 rfl rfl)
abbrev cX0_met : ByteArray := prog_1_method_4_code
def yX0_met : MethodName := ⟨RX0, "met", "(I)I"⟩
def dkwX0_met_0 : List UInt8 := [42, 27, 181, 0, 90, 16, 246, 27, 100, 172]
abbrev dktX0_met_0 : List UInt8 := dkwX0_met_0 ++ []
theorem dksX0_met_0 : cX0_met.data.toList.drop 0 = dktX0_met_0 := by decide +kernel
theorem dX0_met_0 : decode cX0_met 0 = .ok (.aload_n 0, 1) := dk_42 (dk_at dksX0_met_0 0 rfl rfl)
theorem dX0_met_1 : decode cX0_met 1 = .ok (.iload_n 1, 1) := dk_27 (dk_at dksX0_met_0 1 rfl rfl)
theorem dX0_met_2 : decode cX0_met 2 = .ok (.putfield 90, 3) := dk_181 0 90 (dk_at dksX0_met_0 2 rfl rfl)
theorem dX0_met_5 : decode cX0_met 5 = .ok (.bipush (-10), 2) := dk_16 246 (dk_at dksX0_met_0 5 rfl rfl)
theorem dX0_met_7 : decode cX0_met 7 = .ok (.iload_n 1, 1) := dk_27 (dk_at dksX0_met_0 7 rfl rfl)
theorem dX0_met_8 : decode cX0_met 8 = .ok (.isub, 1) := dk_100 (dk_at dksX0_met_0 8 rfl rfl)
theorem dX0_met_9 : decode cX0_met 9 = .ok (.ireturn, 1) := dk_172 (dk_at dksX0_met_0 9 rfl rfl)
abbrev cX0_at : ByteArray := prog_1_method_30_code
def yX0_at : MethodName := ⟨RX0, "at", "(II)I"⟩
def dkwX0_at_1 : List UInt8 := [180, 0, 55, 27, 50, 28, 46, 167, 0, 5, 16, 254, 172]
abbrev dktX0_at_1 : List UInt8 := dkwX0_at_1 ++ []
def dkwX0_at_0 : List UInt8 := [42, 182, 1, 29, 27, 184, 0, 155, 153, 0, 26, 28, 133, 9, 20, 1, 32, 184, 0, 95, 153, 0, 14, 42]
abbrev dktX0_at_0 : List UInt8 := dkwX0_at_0 ++ dktX0_at_1
theorem dksX0_at_0 : cX0_at.data.toList.drop 0 = dktX0_at_0 := by decide +kernel
theorem dksX0_at_1 : cX0_at.data.toList.drop 24 = dktX0_at_1 := dk_seg dksX0_at_0 24 rfl rfl
theorem dX0_at_0 : decode cX0_at 0 = .ok (.aload_n 0, 1) := dk_42 (dk_at dksX0_at_0 0 rfl rfl)
theorem dX0_at_1 : decode cX0_at 1 = .ok (.invokevirtual 285, 3) := dk_182 1 29 (dk_at dksX0_at_0 1 rfl rfl)
theorem dX0_at_4 : decode cX0_at 4 = .ok (.iload_n 1, 1) := dk_27 (dk_at dksX0_at_0 4 rfl rfl)
theorem dX0_at_5 : decode cX0_at 5 = .ok (.invokestatic 155, 3) := dk_184 0 155 (dk_at dksX0_at_0 5 rfl rfl)
theorem dX0_at_8 : decode cX0_at 8 = .ok (.ifCond .eq 26, 3) := dk_153 0 26 (dk_at dksX0_at_0 8 rfl rfl)
theorem dX0_at_11 : decode cX0_at 11 = .ok (.iload_n 2, 1) := dk_28 (dk_at dksX0_at_0 11 rfl rfl)
theorem dX0_at_12 : decode cX0_at 12 = .ok (.i2l, 1) := dk_133 (dk_at dksX0_at_0 12 rfl rfl)
theorem dX0_at_13 : decode cX0_at 13 = .ok (.lconst 0, 1) := dk_9 (dk_at dksX0_at_0 13 rfl rfl)
theorem dX0_at_14 : decode cX0_at 14 = .ok (.ldc2_w 288, 3) := dk_20 1 32 (dk_at dksX0_at_0 14 rfl rfl)
theorem dX0_at_17 : decode cX0_at 17 = .ok (.invokestatic 95, 3) := dk_184 0 95 (dk_at dksX0_at_0 17 rfl rfl)
theorem dX0_at_20 : decode cX0_at 20 = .ok (.ifCond .eq 14, 3) := dk_153 0 14 (dk_at dksX0_at_0 20 rfl rfl)
theorem dX0_at_23 : decode cX0_at 23 = .ok (.aload_n 0, 1) := dk_42 (dk_at dksX0_at_0 23 rfl rfl)
theorem dX0_at_24 : decode cX0_at 24 = .ok (.getfield 55, 3) := dk_180 0 55 (dk_at dksX0_at_1 0 rfl rfl)
theorem dX0_at_27 : decode cX0_at 27 = .ok (.iload_n 1, 1) := dk_27 (dk_at dksX0_at_1 3 rfl rfl)
theorem dX0_at_28 : decode cX0_at 28 = .ok (.aaload, 1) := dk_50 (dk_at dksX0_at_1 4 rfl rfl)
theorem dX0_at_29 : decode cX0_at 29 = .ok (.iload_n 2, 1) := dk_28 (dk_at dksX0_at_1 5 rfl rfl)
theorem dX0_at_30 : decode cX0_at 30 = .ok (.iaload, 1) := dk_46 (dk_at dksX0_at_1 6 rfl rfl)
theorem dX0_at_31 : decode cX0_at 31 = .ok (.goto 5, 3) := dk_167 0 5 (dk_at dksX0_at_1 7 rfl rfl)
theorem dX0_at_34 : decode cX0_at 34 = .ok (.bipush (-2), 2) := dk_16 254 (dk_at dksX0_at_1 10 rfl rfl)
theorem dX0_at_36 : decode cX0_at 36 = .ok (.ireturn, 1) := dk_172 (dk_at dksX0_at_1 12 rfl rfl)
abbrev cX0_find : ByteArray := prog_1_method_29_code
def yX0_find : MethodName := ⟨RX0, "find", "()V"⟩
def dkwX0_find_4 : List UInt8 := [182, 1, 26, 132, 1, 1, 167, 255, 242, 177]
abbrev dktX0_find_4 : List UInt8 := dkwX0_find_4 ++ []
def dkwX0_find_3 : List UInt8 := [46, 181, 0, 218, 42, 3, 181, 1, 1, 42, 3, 181, 0, 237, 3, 60, 27, 16, 24, 162, 0, 14, 42, 27]
abbrev dktX0_find_3 : List UInt8 := dkwX0_find_3 ++ dktX0_find_4
def dkwX0_find_2 : List UInt8 := [182, 1, 23, 42, 3, 181, 0, 212, 42, 42, 180, 0, 40, 3, 46, 181, 0, 204, 42, 42, 180, 0, 40, 4]
abbrev dktX0_find_2 : List UInt8 := dkwX0_find_2 ++ dktX0_find_3
def dkwX0_find_1 : List UInt8 := [180, 0, 37, 27, 182, 0, 138, 192, 0, 75, 182, 1, 20, 132, 1, 1, 167, 255, 228, 42, 180, 0, 50]
abbrev dktX0_find_1 : List UInt8 := dkwX0_find_1 ++ dktX0_find_2
def dkwX0_find_0 : List UInt8 := [42, 180, 0, 23, 182, 0, 126, 87, 3, 60, 27, 42, 180, 0, 37, 182, 0, 123, 162, 0, 23, 42]
abbrev dktX0_find_0 : List UInt8 := dkwX0_find_0 ++ dktX0_find_1
theorem dksX0_find_0 : cX0_find.data.toList.drop 0 = dktX0_find_0 := by decide +kernel
theorem dksX0_find_1 : cX0_find.data.toList.drop 22 = dktX0_find_1 := dk_seg dksX0_find_0 22 rfl rfl
theorem dksX0_find_2 : cX0_find.data.toList.drop 45 = dktX0_find_2 := dk_seg dksX0_find_1 23 rfl rfl
theorem dksX0_find_3 : cX0_find.data.toList.drop 69 = dktX0_find_3 := dk_seg dksX0_find_2 24 rfl rfl
theorem dksX0_find_4 : cX0_find.data.toList.drop 93 = dktX0_find_4 := dk_seg dksX0_find_3 24 rfl rfl
theorem dX0_find_0 : decode cX0_find 0 = .ok (.aload_n 0, 1) := dk_42 (dk_at dksX0_find_0 0 rfl rfl)
theorem dX0_find_1 : decode cX0_find 1 = .ok (.getfield 23, 3) := dk_180 0 23 (dk_at dksX0_find_0 1 rfl rfl)
theorem dX0_find_4 : decode cX0_find 4 = .ok (.invokevirtual 126, 3) := dk_182 0 126 (dk_at dksX0_find_0 4 rfl rfl)
theorem dX0_find_7 : decode cX0_find 7 = .ok (.pop, 1) := dk_87 (dk_at dksX0_find_0 7 rfl rfl)
theorem dX0_find_8 : decode cX0_find 8 = .ok (.iconst 0, 1) := dk_3 (dk_at dksX0_find_0 8 rfl rfl)
theorem dX0_find_9 : decode cX0_find 9 = .ok (.istore_n 1, 1) := dk_60 (dk_at dksX0_find_0 9 rfl rfl)
theorem dX0_find_10 : decode cX0_find 10 = .ok (.iload_n 1, 1) := dk_27 (dk_at dksX0_find_0 10 rfl rfl)
theorem dX0_find_11 : decode cX0_find 11 = .ok (.aload_n 0, 1) := dk_42 (dk_at dksX0_find_0 11 rfl rfl)
theorem dX0_find_12 : decode cX0_find 12 = .ok (.getfield 37, 3) := dk_180 0 37 (dk_at dksX0_find_0 12 rfl rfl)
theorem dX0_find_15 : decode cX0_find 15 = .ok (.invokevirtual 123, 3) := dk_182 0 123 (dk_at dksX0_find_0 15 rfl rfl)
theorem dX0_find_18 : decode cX0_find 18 = .ok (.if_icmp .ge 23, 3) := dk_162 0 23 (dk_at dksX0_find_0 18 rfl rfl)
theorem dX0_find_21 : decode cX0_find 21 = .ok (.aload_n 0, 1) := dk_42 (dk_at dksX0_find_0 21 rfl rfl)
theorem dX0_find_22 : decode cX0_find 22 = .ok (.getfield 37, 3) := dk_180 0 37 (dk_at dksX0_find_1 0 rfl rfl)
theorem dX0_find_25 : decode cX0_find 25 = .ok (.iload_n 1, 1) := dk_27 (dk_at dksX0_find_1 3 rfl rfl)
theorem dX0_find_26 : decode cX0_find 26 = .ok (.invokevirtual 138, 3) := dk_182 0 138 (dk_at dksX0_find_1 4 rfl rfl)
theorem dX0_find_29 : decode cX0_find 29 = .ok (.checkcast 75, 3) := dk_192 0 75 (dk_at dksX0_find_1 7 rfl rfl)
theorem dX0_find_32 : decode cX0_find 32 = .ok (.invokevirtual 276, 3) := dk_182 1 20 (dk_at dksX0_find_1 10 rfl rfl)
theorem dX0_find_35 : decode cX0_find 35 = .ok (.iinc 1 1, 3) := dk_132 1 1 (dk_at dksX0_find_1 13 rfl rfl)
theorem dX0_find_38 : decode cX0_find 38 = .ok (.goto (-28), 3) := dk_167 255 228 (dk_at dksX0_find_1 16 rfl rfl)
theorem dX0_find_41 : decode cX0_find 41 = .ok (.aload_n 0, 1) := dk_42 (dk_at dksX0_find_1 19 rfl rfl)
theorem dX0_find_42 : decode cX0_find 42 = .ok (.getfield 50, 3) := dk_180 0 50 (dk_at dksX0_find_1 20 rfl rfl)
theorem dX0_find_45 : decode cX0_find 45 = .ok (.invokevirtual 279, 3) := dk_182 1 23 (dk_at dksX0_find_2 0 rfl rfl)
theorem dX0_find_48 : decode cX0_find 48 = .ok (.aload_n 0, 1) := dk_42 (dk_at dksX0_find_2 3 rfl rfl)
theorem dX0_find_49 : decode cX0_find 49 = .ok (.iconst 0, 1) := dk_3 (dk_at dksX0_find_2 4 rfl rfl)
theorem dX0_find_50 : decode cX0_find 50 = .ok (.putfield 212, 3) := dk_181 0 212 (dk_at dksX0_find_2 5 rfl rfl)
theorem dX0_find_53 : decode cX0_find 53 = .ok (.aload_n 0, 1) := dk_42 (dk_at dksX0_find_2 8 rfl rfl)
theorem dX0_find_54 : decode cX0_find 54 = .ok (.aload_n 0, 1) := dk_42 (dk_at dksX0_find_2 9 rfl rfl)
theorem dX0_find_55 : decode cX0_find 55 = .ok (.getfield 40, 3) := dk_180 0 40 (dk_at dksX0_find_2 10 rfl rfl)
theorem dX0_find_58 : decode cX0_find 58 = .ok (.iconst 0, 1) := dk_3 (dk_at dksX0_find_2 13 rfl rfl)
theorem dX0_find_59 : decode cX0_find 59 = .ok (.iaload, 1) := dk_46 (dk_at dksX0_find_2 14 rfl rfl)
theorem dX0_find_60 : decode cX0_find 60 = .ok (.putfield 204, 3) := dk_181 0 204 (dk_at dksX0_find_2 15 rfl rfl)
theorem dX0_find_63 : decode cX0_find 63 = .ok (.aload_n 0, 1) := dk_42 (dk_at dksX0_find_2 18 rfl rfl)
theorem dX0_find_64 : decode cX0_find 64 = .ok (.aload_n 0, 1) := dk_42 (dk_at dksX0_find_2 19 rfl rfl)
theorem dX0_find_65 : decode cX0_find 65 = .ok (.getfield 40, 3) := dk_180 0 40 (dk_at dksX0_find_2 20 rfl rfl)
theorem dX0_find_68 : decode cX0_find 68 = .ok (.iconst 1, 1) := dk_4 (dk_at dksX0_find_2 23 rfl rfl)
theorem dX0_find_69 : decode cX0_find 69 = .ok (.iaload, 1) := dk_46 (dk_at dksX0_find_3 0 rfl rfl)
theorem dX0_find_70 : decode cX0_find 70 = .ok (.putfield 218, 3) := dk_181 0 218 (dk_at dksX0_find_3 1 rfl rfl)
theorem dX0_find_73 : decode cX0_find 73 = .ok (.aload_n 0, 1) := dk_42 (dk_at dksX0_find_3 4 rfl rfl)
theorem dX0_find_74 : decode cX0_find 74 = .ok (.iconst 0, 1) := dk_3 (dk_at dksX0_find_3 5 rfl rfl)
theorem dX0_find_75 : decode cX0_find 75 = .ok (.putfield 257, 3) := dk_181 1 1 (dk_at dksX0_find_3 6 rfl rfl)
theorem dX0_find_78 : decode cX0_find 78 = .ok (.aload_n 0, 1) := dk_42 (dk_at dksX0_find_3 9 rfl rfl)
theorem dX0_find_79 : decode cX0_find 79 = .ok (.iconst 0, 1) := dk_3 (dk_at dksX0_find_3 10 rfl rfl)
theorem dX0_find_80 : decode cX0_find 80 = .ok (.putfield 237, 3) := dk_181 0 237 (dk_at dksX0_find_3 11 rfl rfl)
theorem dX0_find_83 : decode cX0_find 83 = .ok (.iconst 0, 1) := dk_3 (dk_at dksX0_find_3 14 rfl rfl)
theorem dX0_find_84 : decode cX0_find 84 = .ok (.istore_n 1, 1) := dk_60 (dk_at dksX0_find_3 15 rfl rfl)
theorem dX0_find_85 : decode cX0_find 85 = .ok (.iload_n 1, 1) := dk_27 (dk_at dksX0_find_3 16 rfl rfl)
theorem dX0_find_86 : decode cX0_find 86 = .ok (.bipush 24, 2) := dk_16 24 (dk_at dksX0_find_3 17 rfl rfl)
theorem dX0_find_88 : decode cX0_find 88 = .ok (.if_icmp .ge 14, 3) := dk_162 0 14 (dk_at dksX0_find_3 19 rfl rfl)
theorem dX0_find_91 : decode cX0_find 91 = .ok (.aload_n 0, 1) := dk_42 (dk_at dksX0_find_3 22 rfl rfl)
theorem dX0_find_92 : decode cX0_find 92 = .ok (.iload_n 1, 1) := dk_27 (dk_at dksX0_find_3 23 rfl rfl)
theorem dX0_find_93 : decode cX0_find 93 = .ok (.invokevirtual 282, 3) := dk_182 1 26 (dk_at dksX0_find_4 0 rfl rfl)
theorem dX0_find_96 : decode cX0_find 96 = .ok (.iinc 1 1, 3) := dk_132 1 1 (dk_at dksX0_find_4 3 rfl rfl)
theorem dX0_find_99 : decode cX0_find 99 = .ok (.goto (-14), 3) := dk_167 255 242 (dk_at dksX0_find_4 6 rfl rfl)
theorem dX0_find_102 : decode cX0_find 102 = .ok (.return_, 1) := dk_177 (dk_at dksX0_find_4 9 rfl rfl)
abbrev cX0_passes : ByteArray := prog_1_method_28_code
def yX0_passes : MethodName := ⟨RX0, "passes", "(I)V"⟩
def dkwX0_passes_11 : List UInt8 := [180, 0, 250, 4, 160, 0, 7, 4, 167, 0, 4, 3, 96, 181, 1, 17, 132, 4, 1, 167, 255, 171, 177]
abbrev dktX0_passes_11 : List UInt8 := dkwX0_passes_11 ++ []
def dkwX0_passes_10 : List UInt8 := [180, 0, 63, 27, 50, 21, 4, 50, 4, 25, 5, 180, 1, 14, 79, 25, 5, 89, 180, 1, 17, 25, 5]
abbrev dktX0_passes_10 : List UInt8 := dkwX0_passes_10 ++ dktX0_passes_11
def dkwX0_passes_9 : List UInt8 := [192, 0, 75, 58, 5, 42, 180, 0, 63, 27, 50, 21, 4, 50, 3, 25, 5, 180, 0, 250, 79, 42]
abbrev dktX0_passes_9 : List UInt8 := dkwX0_passes_9 ++ dktX0_passes_10
def dkwX0_passes_8 : List UInt8 := [3, 54, 4, 21, 4, 42, 180, 0, 37, 182, 0, 123, 162, 0, 79, 42, 180, 0, 37, 21, 4, 182, 0, 138]
abbrev dktX0_passes_8 : List UInt8 := dkwX0_passes_8 ++ dktX0_passes_9
def dkwX0_passes_7 : List UInt8 := [180, 0, 204, 79, 44, 5, 42, 180, 0, 218, 79, 42, 180, 0, 58, 27, 42, 180, 0, 50, 182, 0, 123, 79]
abbrev dktX0_passes_7 : List UInt8 := dkwX0_passes_7 ++ dktX0_passes_8
def dkwX0_passes_6 : List UInt8 := [182, 1, 8, 167, 0, 4, 2, 79, 42, 182, 1, 11, 44, 3, 42, 180, 0, 212, 79, 44, 4, 42]
abbrev dktX0_passes_6 : List UInt8 := dkwX0_passes_6 ++ dktX0_passes_7
def dkwX0_passes_5 : List UInt8 := [4, 182, 1, 4, 44, 7, 29, 153, 0, 7, 4, 167, 0, 4, 3, 79, 44, 8, 29, 153, 0, 11, 42, 27]
abbrev dktX0_passes_5 : List UInt8 := dkwX0_passes_5 ++ dktX0_passes_6
def dkwX0_passes_4 : List UInt8 := [161, 0, 14, 42, 180, 0, 204, 158, 0, 7, 4, 167, 0, 4, 3, 62, 42, 27, 3, 182, 1, 4, 42, 27]
abbrev dktX0_passes_4 : List UInt8 := dkwX0_passes_4 ++ dktX0_passes_5
def dkwX0_passes_3 : List UInt8 := [180, 0, 204, 4, 100, 181, 0, 204, 42, 89, 180, 1, 1, 4, 96, 181, 1, 1, 42, 180, 0, 212, 16, 80]
abbrev dktX0_passes_3 : List UInt8 := dkwX0_passes_3 ++ dktX0_passes_4
def dkwX0_passes_2 : List UInt8 := [184, 0, 207, 181, 0, 212, 42, 180, 0, 212, 16, 100, 160, 0, 30, 42, 180, 0, 204, 158, 0, 23, 42, 89]
abbrev dktX0_passes_2 : List UInt8 := dkwX0_passes_2 ++ dktX0_passes_3
def dkwX0_passes_1 : List UInt8 := [180, 0, 212, 44, 6, 46, 96, 5, 100, 42, 180, 0, 204, 8, 108, 100, 3, 184, 0, 215, 16, 100]
abbrev dktX0_passes_1 : List UInt8 := dkwX0_passes_1 ++ dktX0_passes_2
def dkwX0_passes_0 : List UInt8 := [42, 27, 182, 0, 253, 42, 180, 0, 55, 27, 50, 77, 44, 6, 42, 27, 182, 1, 0, 79, 42, 42]
abbrev dktX0_passes_0 : List UInt8 := dkwX0_passes_0 ++ dktX0_passes_1
theorem dksX0_passes_0 : cX0_passes.data.toList.drop 0 = dktX0_passes_0 := by decide +kernel
theorem dksX0_passes_1 : cX0_passes.data.toList.drop 22 = dktX0_passes_1 := dk_seg dksX0_passes_0 22 rfl rfl
theorem dksX0_passes_2 : cX0_passes.data.toList.drop 44 = dktX0_passes_2 := dk_seg dksX0_passes_1 22 rfl rfl
theorem dksX0_passes_3 : cX0_passes.data.toList.drop 68 = dktX0_passes_3 := dk_seg dksX0_passes_2 24 rfl rfl
theorem dksX0_passes_4 : cX0_passes.data.toList.drop 92 = dktX0_passes_4 := dk_seg dksX0_passes_3 24 rfl rfl
theorem dksX0_passes_5 : cX0_passes.data.toList.drop 116 = dktX0_passes_5 := dk_seg dksX0_passes_4 24 rfl rfl
theorem dksX0_passes_6 : cX0_passes.data.toList.drop 140 = dktX0_passes_6 := dk_seg dksX0_passes_5 24 rfl rfl
theorem dksX0_passes_7 : cX0_passes.data.toList.drop 162 = dktX0_passes_7 := dk_seg dksX0_passes_6 22 rfl rfl
theorem dksX0_passes_8 : cX0_passes.data.toList.drop 186 = dktX0_passes_8 := dk_seg dksX0_passes_7 24 rfl rfl
theorem dksX0_passes_9 : cX0_passes.data.toList.drop 210 = dktX0_passes_9 := dk_seg dksX0_passes_8 24 rfl rfl
theorem dksX0_passes_10 : cX0_passes.data.toList.drop 232 = dktX0_passes_10 := dk_seg dksX0_passes_9 22 rfl rfl
theorem dksX0_passes_11 : cX0_passes.data.toList.drop 255 = dktX0_passes_11 := dk_seg dksX0_passes_10 23 rfl rfl
theorem dX0_passes_0 : decode cX0_passes 0 = .ok (.aload_n 0, 1) := dk_42 (dk_at dksX0_passes_0 0 rfl rfl)
theorem dX0_passes_1 : decode cX0_passes 1 = .ok (.iload_n 1, 1) := dk_27 (dk_at dksX0_passes_0 1 rfl rfl)
theorem dX0_passes_2 : decode cX0_passes 2 = .ok (.invokevirtual 253, 3) := dk_182 0 253 (dk_at dksX0_passes_0 2 rfl rfl)
theorem dX0_passes_5 : decode cX0_passes 5 = .ok (.aload_n 0, 1) := dk_42 (dk_at dksX0_passes_0 5 rfl rfl)
theorem dX0_passes_6 : decode cX0_passes 6 = .ok (.getfield 55, 3) := dk_180 0 55 (dk_at dksX0_passes_0 6 rfl rfl)
theorem dX0_passes_9 : decode cX0_passes 9 = .ok (.iload_n 1, 1) := dk_27 (dk_at dksX0_passes_0 9 rfl rfl)
theorem dX0_passes_10 : decode cX0_passes 10 = .ok (.aaload, 1) := dk_50 (dk_at dksX0_passes_0 10 rfl rfl)
theorem dX0_passes_11 : decode cX0_passes 11 = .ok (.astore_n 2, 1) := dk_77 (dk_at dksX0_passes_0 11 rfl rfl)
theorem dX0_passes_12 : decode cX0_passes 12 = .ok (.aload_n 2, 1) := dk_44 (dk_at dksX0_passes_0 12 rfl rfl)
theorem dX0_passes_13 : decode cX0_passes 13 = .ok (.iconst 3, 1) := dk_6 (dk_at dksX0_passes_0 13 rfl rfl)
theorem dX0_passes_14 : decode cX0_passes 14 = .ok (.aload_n 0, 1) := dk_42 (dk_at dksX0_passes_0 14 rfl rfl)
theorem dX0_passes_15 : decode cX0_passes 15 = .ok (.iload_n 1, 1) := dk_27 (dk_at dksX0_passes_0 15 rfl rfl)
theorem dX0_passes_16 : decode cX0_passes 16 = .ok (.invokevirtual 256, 3) := dk_182 1 0 (dk_at dksX0_passes_0 16 rfl rfl)
theorem dX0_passes_19 : decode cX0_passes 19 = .ok (.iastore, 1) := dk_79 (dk_at dksX0_passes_0 19 rfl rfl)
theorem dX0_passes_20 : decode cX0_passes 20 = .ok (.aload_n 0, 1) := dk_42 (dk_at dksX0_passes_0 20 rfl rfl)
theorem dX0_passes_21 : decode cX0_passes 21 = .ok (.aload_n 0, 1) := dk_42 (dk_at dksX0_passes_0 21 rfl rfl)
theorem dX0_passes_22 : decode cX0_passes 22 = .ok (.getfield 212, 3) := dk_180 0 212 (dk_at dksX0_passes_1 0 rfl rfl)
theorem dX0_passes_25 : decode cX0_passes 25 = .ok (.aload_n 2, 1) := dk_44 (dk_at dksX0_passes_1 3 rfl rfl)
theorem dX0_passes_26 : decode cX0_passes 26 = .ok (.iconst 3, 1) := dk_6 (dk_at dksX0_passes_1 4 rfl rfl)
theorem dX0_passes_27 : decode cX0_passes 27 = .ok (.iaload, 1) := dk_46 (dk_at dksX0_passes_1 5 rfl rfl)
theorem dX0_passes_28 : decode cX0_passes 28 = .ok (.iadd, 1) := dk_96 (dk_at dksX0_passes_1 6 rfl rfl)
theorem dX0_passes_29 : decode cX0_passes 29 = .ok (.iconst 2, 1) := dk_5 (dk_at dksX0_passes_1 7 rfl rfl)
theorem dX0_passes_30 : decode cX0_passes 30 = .ok (.isub, 1) := dk_100 (dk_at dksX0_passes_1 8 rfl rfl)
theorem dX0_passes_31 : decode cX0_passes 31 = .ok (.aload_n 0, 1) := dk_42 (dk_at dksX0_passes_1 9 rfl rfl)
theorem dX0_passes_32 : decode cX0_passes 32 = .ok (.getfield 204, 3) := dk_180 0 204 (dk_at dksX0_passes_1 10 rfl rfl)
theorem dX0_passes_35 : decode cX0_passes 35 = .ok (.iconst 5, 1) := dk_8 (dk_at dksX0_passes_1 13 rfl rfl)
theorem dX0_passes_36 : decode cX0_passes 36 = .ok (.idiv, 1) := dk_108 (dk_at dksX0_passes_1 14 rfl rfl)
theorem dX0_passes_37 : decode cX0_passes 37 = .ok (.isub, 1) := dk_100 (dk_at dksX0_passes_1 15 rfl rfl)
theorem dX0_passes_38 : decode cX0_passes 38 = .ok (.iconst 0, 1) := dk_3 (dk_at dksX0_passes_1 16 rfl rfl)
theorem dX0_passes_39 : decode cX0_passes 39 = .ok (.invokestatic 215, 3) := dk_184 0 215 (dk_at dksX0_passes_1 17 rfl rfl)
theorem dX0_passes_42 : decode cX0_passes 42 = .ok (.bipush 100, 2) := dk_16 100 (dk_at dksX0_passes_1 20 rfl rfl)
theorem dX0_passes_44 : decode cX0_passes 44 = .ok (.invokestatic 207, 3) := dk_184 0 207 (dk_at dksX0_passes_2 0 rfl rfl)
theorem dX0_passes_47 : decode cX0_passes 47 = .ok (.putfield 212, 3) := dk_181 0 212 (dk_at dksX0_passes_2 3 rfl rfl)
theorem dX0_passes_50 : decode cX0_passes 50 = .ok (.aload_n 0, 1) := dk_42 (dk_at dksX0_passes_2 6 rfl rfl)
theorem dX0_passes_51 : decode cX0_passes 51 = .ok (.getfield 212, 3) := dk_180 0 212 (dk_at dksX0_passes_2 7 rfl rfl)
theorem dX0_passes_54 : decode cX0_passes 54 = .ok (.bipush 100, 2) := dk_16 100 (dk_at dksX0_passes_2 10 rfl rfl)
theorem dX0_passes_56 : decode cX0_passes 56 = .ok (.if_icmp .ne 30, 3) := dk_160 0 30 (dk_at dksX0_passes_2 12 rfl rfl)
theorem dX0_passes_59 : decode cX0_passes 59 = .ok (.aload_n 0, 1) := dk_42 (dk_at dksX0_passes_2 15 rfl rfl)
theorem dX0_passes_60 : decode cX0_passes 60 = .ok (.getfield 204, 3) := dk_180 0 204 (dk_at dksX0_passes_2 16 rfl rfl)
theorem dX0_passes_63 : decode cX0_passes 63 = .ok (.ifCond .le 23, 3) := dk_158 0 23 (dk_at dksX0_passes_2 19 rfl rfl)
theorem dX0_passes_66 : decode cX0_passes 66 = .ok (.aload_n 0, 1) := dk_42 (dk_at dksX0_passes_2 22 rfl rfl)
theorem dX0_passes_67 : decode cX0_passes 67 = .ok (.dup, 1) := dk_89 (dk_at dksX0_passes_2 23 rfl rfl)
theorem dX0_passes_68 : decode cX0_passes 68 = .ok (.getfield 204, 3) := dk_180 0 204 (dk_at dksX0_passes_3 0 rfl rfl)
theorem dX0_passes_71 : decode cX0_passes 71 = .ok (.iconst 1, 1) := dk_4 (dk_at dksX0_passes_3 3 rfl rfl)
theorem dX0_passes_72 : decode cX0_passes 72 = .ok (.isub, 1) := dk_100 (dk_at dksX0_passes_3 4 rfl rfl)
theorem dX0_passes_73 : decode cX0_passes 73 = .ok (.putfield 204, 3) := dk_181 0 204 (dk_at dksX0_passes_3 5 rfl rfl)
theorem dX0_passes_76 : decode cX0_passes 76 = .ok (.aload_n 0, 1) := dk_42 (dk_at dksX0_passes_3 8 rfl rfl)
theorem dX0_passes_77 : decode cX0_passes 77 = .ok (.dup, 1) := dk_89 (dk_at dksX0_passes_3 9 rfl rfl)
theorem dX0_passes_78 : decode cX0_passes 78 = .ok (.getfield 257, 3) := dk_180 1 1 (dk_at dksX0_passes_3 10 rfl rfl)
theorem dX0_passes_81 : decode cX0_passes 81 = .ok (.iconst 1, 1) := dk_4 (dk_at dksX0_passes_3 13 rfl rfl)
theorem dX0_passes_82 : decode cX0_passes 82 = .ok (.iadd, 1) := dk_96 (dk_at dksX0_passes_3 14 rfl rfl)
theorem dX0_passes_83 : decode cX0_passes 83 = .ok (.putfield 257, 3) := dk_181 1 1 (dk_at dksX0_passes_3 15 rfl rfl)
theorem dX0_passes_86 : decode cX0_passes 86 = .ok (.aload_n 0, 1) := dk_42 (dk_at dksX0_passes_3 18 rfl rfl)
theorem dX0_passes_87 : decode cX0_passes 87 = .ok (.getfield 212, 3) := dk_180 0 212 (dk_at dksX0_passes_3 19 rfl rfl)
theorem dX0_passes_90 : decode cX0_passes 90 = .ok (.bipush 80, 2) := dk_16 80 (dk_at dksX0_passes_3 22 rfl rfl)
theorem dX0_passes_92 : decode cX0_passes 92 = .ok (.if_icmp .lt 14, 3) := dk_161 0 14 (dk_at dksX0_passes_4 0 rfl rfl)
theorem dX0_passes_95 : decode cX0_passes 95 = .ok (.aload_n 0, 1) := dk_42 (dk_at dksX0_passes_4 3 rfl rfl)
theorem dX0_passes_96 : decode cX0_passes 96 = .ok (.getfield 204, 3) := dk_180 0 204 (dk_at dksX0_passes_4 4 rfl rfl)
theorem dX0_passes_99 : decode cX0_passes 99 = .ok (.ifCond .le 7, 3) := dk_158 0 7 (dk_at dksX0_passes_4 7 rfl rfl)
theorem dX0_passes_102 : decode cX0_passes 102 = .ok (.iconst 1, 1) := dk_4 (dk_at dksX0_passes_4 10 rfl rfl)
theorem dX0_passes_103 : decode cX0_passes 103 = .ok (.goto 4, 3) := dk_167 0 4 (dk_at dksX0_passes_4 11 rfl rfl)
theorem dX0_passes_106 : decode cX0_passes 106 = .ok (.iconst 0, 1) := dk_3 (dk_at dksX0_passes_4 14 rfl rfl)
theorem dX0_passes_107 : decode cX0_passes 107 = .ok (.istore_n 3, 1) := dk_62 (dk_at dksX0_passes_4 15 rfl rfl)
theorem dX0_passes_108 : decode cX0_passes 108 = .ok (.aload_n 0, 1) := dk_42 (dk_at dksX0_passes_4 16 rfl rfl)
theorem dX0_passes_109 : decode cX0_passes 109 = .ok (.iload_n 1, 1) := dk_27 (dk_at dksX0_passes_4 17 rfl rfl)
theorem dX0_passes_110 : decode cX0_passes 110 = .ok (.iconst 0, 1) := dk_3 (dk_at dksX0_passes_4 18 rfl rfl)
theorem dX0_passes_111 : decode cX0_passes 111 = .ok (.invokevirtual 260, 3) := dk_182 1 4 (dk_at dksX0_passes_4 19 rfl rfl)
theorem dX0_passes_114 : decode cX0_passes 114 = .ok (.aload_n 0, 1) := dk_42 (dk_at dksX0_passes_4 22 rfl rfl)
theorem dX0_passes_115 : decode cX0_passes 115 = .ok (.iload_n 1, 1) := dk_27 (dk_at dksX0_passes_4 23 rfl rfl)
theorem dX0_passes_116 : decode cX0_passes 116 = .ok (.iconst 1, 1) := dk_4 (dk_at dksX0_passes_5 0 rfl rfl)
theorem dX0_passes_117 : decode cX0_passes 117 = .ok (.invokevirtual 260, 3) := dk_182 1 4 (dk_at dksX0_passes_5 1 rfl rfl)
theorem dX0_passes_120 : decode cX0_passes 120 = .ok (.aload_n 2, 1) := dk_44 (dk_at dksX0_passes_5 4 rfl rfl)
theorem dX0_passes_121 : decode cX0_passes 121 = .ok (.iconst 4, 1) := dk_7 (dk_at dksX0_passes_5 5 rfl rfl)
theorem dX0_passes_122 : decode cX0_passes 122 = .ok (.iload_n 3, 1) := dk_29 (dk_at dksX0_passes_5 6 rfl rfl)
theorem dX0_passes_123 : decode cX0_passes 123 = .ok (.ifCond .eq 7, 3) := dk_153 0 7 (dk_at dksX0_passes_5 7 rfl rfl)
theorem dX0_passes_126 : decode cX0_passes 126 = .ok (.iconst 1, 1) := dk_4 (dk_at dksX0_passes_5 10 rfl rfl)
theorem dX0_passes_127 : decode cX0_passes 127 = .ok (.goto 4, 3) := dk_167 0 4 (dk_at dksX0_passes_5 11 rfl rfl)
theorem dX0_passes_130 : decode cX0_passes 130 = .ok (.iconst 0, 1) := dk_3 (dk_at dksX0_passes_5 14 rfl rfl)
theorem dX0_passes_131 : decode cX0_passes 131 = .ok (.iastore, 1) := dk_79 (dk_at dksX0_passes_5 15 rfl rfl)
theorem dX0_passes_132 : decode cX0_passes 132 = .ok (.aload_n 2, 1) := dk_44 (dk_at dksX0_passes_5 16 rfl rfl)
theorem dX0_passes_133 : decode cX0_passes 133 = .ok (.iconst 5, 1) := dk_8 (dk_at dksX0_passes_5 17 rfl rfl)
theorem dX0_passes_134 : decode cX0_passes 134 = .ok (.iload_n 3, 1) := dk_29 (dk_at dksX0_passes_5 18 rfl rfl)
theorem dX0_passes_135 : decode cX0_passes 135 = .ok (.ifCond .eq 11, 3) := dk_153 0 11 (dk_at dksX0_passes_5 19 rfl rfl)
theorem dX0_passes_138 : decode cX0_passes 138 = .ok (.aload_n 0, 1) := dk_42 (dk_at dksX0_passes_5 22 rfl rfl)
theorem dX0_passes_139 : decode cX0_passes 139 = .ok (.iload_n 1, 1) := dk_27 (dk_at dksX0_passes_5 23 rfl rfl)
theorem dX0_passes_140 : decode cX0_passes 140 = .ok (.invokevirtual 264, 3) := dk_182 1 8 (dk_at dksX0_passes_6 0 rfl rfl)
theorem dX0_passes_143 : decode cX0_passes 143 = .ok (.goto 4, 3) := dk_167 0 4 (dk_at dksX0_passes_6 3 rfl rfl)
theorem dX0_passes_146 : decode cX0_passes 146 = .ok (.iconst (-1), 1) := dk_2 (dk_at dksX0_passes_6 6 rfl rfl)
theorem dX0_passes_147 : decode cX0_passes 147 = .ok (.iastore, 1) := dk_79 (dk_at dksX0_passes_6 7 rfl rfl)
theorem dX0_passes_148 : decode cX0_passes 148 = .ok (.aload_n 0, 1) := dk_42 (dk_at dksX0_passes_6 8 rfl rfl)
theorem dX0_passes_149 : decode cX0_passes 149 = .ok (.invokevirtual 267, 3) := dk_182 1 11 (dk_at dksX0_passes_6 9 rfl rfl)
theorem dX0_passes_152 : decode cX0_passes 152 = .ok (.aload_n 2, 1) := dk_44 (dk_at dksX0_passes_6 12 rfl rfl)
theorem dX0_passes_153 : decode cX0_passes 153 = .ok (.iconst 0, 1) := dk_3 (dk_at dksX0_passes_6 13 rfl rfl)
theorem dX0_passes_154 : decode cX0_passes 154 = .ok (.aload_n 0, 1) := dk_42 (dk_at dksX0_passes_6 14 rfl rfl)
theorem dX0_passes_155 : decode cX0_passes 155 = .ok (.getfield 212, 3) := dk_180 0 212 (dk_at dksX0_passes_6 15 rfl rfl)
theorem dX0_passes_158 : decode cX0_passes 158 = .ok (.iastore, 1) := dk_79 (dk_at dksX0_passes_6 18 rfl rfl)
theorem dX0_passes_159 : decode cX0_passes 159 = .ok (.aload_n 2, 1) := dk_44 (dk_at dksX0_passes_6 19 rfl rfl)
theorem dX0_passes_160 : decode cX0_passes 160 = .ok (.iconst 1, 1) := dk_4 (dk_at dksX0_passes_6 20 rfl rfl)
theorem dX0_passes_161 : decode cX0_passes 161 = .ok (.aload_n 0, 1) := dk_42 (dk_at dksX0_passes_6 21 rfl rfl)
theorem dX0_passes_162 : decode cX0_passes 162 = .ok (.getfield 204, 3) := dk_180 0 204 (dk_at dksX0_passes_7 0 rfl rfl)
theorem dX0_passes_165 : decode cX0_passes 165 = .ok (.iastore, 1) := dk_79 (dk_at dksX0_passes_7 3 rfl rfl)
theorem dX0_passes_166 : decode cX0_passes 166 = .ok (.aload_n 2, 1) := dk_44 (dk_at dksX0_passes_7 4 rfl rfl)
theorem dX0_passes_167 : decode cX0_passes 167 = .ok (.iconst 2, 1) := dk_5 (dk_at dksX0_passes_7 5 rfl rfl)
theorem dX0_passes_168 : decode cX0_passes 168 = .ok (.aload_n 0, 1) := dk_42 (dk_at dksX0_passes_7 6 rfl rfl)
theorem dX0_passes_169 : decode cX0_passes 169 = .ok (.getfield 218, 3) := dk_180 0 218 (dk_at dksX0_passes_7 7 rfl rfl)
theorem dX0_passes_172 : decode cX0_passes 172 = .ok (.iastore, 1) := dk_79 (dk_at dksX0_passes_7 10 rfl rfl)
theorem dX0_passes_173 : decode cX0_passes 173 = .ok (.aload_n 0, 1) := dk_42 (dk_at dksX0_passes_7 11 rfl rfl)
theorem dX0_passes_174 : decode cX0_passes 174 = .ok (.getfield 58, 3) := dk_180 0 58 (dk_at dksX0_passes_7 12 rfl rfl)
theorem dX0_passes_177 : decode cX0_passes 177 = .ok (.iload_n 1, 1) := dk_27 (dk_at dksX0_passes_7 15 rfl rfl)
theorem dX0_passes_178 : decode cX0_passes 178 = .ok (.aload_n 0, 1) := dk_42 (dk_at dksX0_passes_7 16 rfl rfl)
theorem dX0_passes_179 : decode cX0_passes 179 = .ok (.getfield 50, 3) := dk_180 0 50 (dk_at dksX0_passes_7 17 rfl rfl)
theorem dX0_passes_182 : decode cX0_passes 182 = .ok (.invokevirtual 123, 3) := dk_182 0 123 (dk_at dksX0_passes_7 20 rfl rfl)
theorem dX0_passes_185 : decode cX0_passes 185 = .ok (.iastore, 1) := dk_79 (dk_at dksX0_passes_7 23 rfl rfl)
theorem dX0_passes_186 : decode cX0_passes 186 = .ok (.iconst 0, 1) := dk_3 (dk_at dksX0_passes_8 0 rfl rfl)
theorem dX0_passes_187 : decode cX0_passes 187 = .ok (.istore 4, 2) := dk_54 4 (dk_at dksX0_passes_8 1 rfl rfl)
theorem dX0_passes_189 : decode cX0_passes 189 = .ok (.iload 4, 2) := dk_21 4 (dk_at dksX0_passes_8 3 rfl rfl)
theorem dX0_passes_191 : decode cX0_passes 191 = .ok (.aload_n 0, 1) := dk_42 (dk_at dksX0_passes_8 5 rfl rfl)
theorem dX0_passes_192 : decode cX0_passes 192 = .ok (.getfield 37, 3) := dk_180 0 37 (dk_at dksX0_passes_8 6 rfl rfl)
theorem dX0_passes_195 : decode cX0_passes 195 = .ok (.invokevirtual 123, 3) := dk_182 0 123 (dk_at dksX0_passes_8 9 rfl rfl)
theorem dX0_passes_198 : decode cX0_passes 198 = .ok (.if_icmp .ge 79, 3) := dk_162 0 79 (dk_at dksX0_passes_8 12 rfl rfl)
theorem dX0_passes_201 : decode cX0_passes 201 = .ok (.aload_n 0, 1) := dk_42 (dk_at dksX0_passes_8 15 rfl rfl)
theorem dX0_passes_202 : decode cX0_passes 202 = .ok (.getfield 37, 3) := dk_180 0 37 (dk_at dksX0_passes_8 16 rfl rfl)
theorem dX0_passes_205 : decode cX0_passes 205 = .ok (.iload 4, 2) := dk_21 4 (dk_at dksX0_passes_8 19 rfl rfl)
theorem dX0_passes_207 : decode cX0_passes 207 = .ok (.invokevirtual 138, 3) := dk_182 0 138 (dk_at dksX0_passes_8 21 rfl rfl)
theorem dX0_passes_210 : decode cX0_passes 210 = .ok (.checkcast 75, 3) := dk_192 0 75 (dk_at dksX0_passes_9 0 rfl rfl)
theorem dX0_passes_213 : decode cX0_passes 213 = .ok (.astore 5, 2) := dk_58 5 (dk_at dksX0_passes_9 3 rfl rfl)
theorem dX0_passes_215 : decode cX0_passes 215 = .ok (.aload_n 0, 1) := dk_42 (dk_at dksX0_passes_9 5 rfl rfl)
theorem dX0_passes_216 : decode cX0_passes 216 = .ok (.getfield 63, 3) := dk_180 0 63 (dk_at dksX0_passes_9 6 rfl rfl)
theorem dX0_passes_219 : decode cX0_passes 219 = .ok (.iload_n 1, 1) := dk_27 (dk_at dksX0_passes_9 9 rfl rfl)
theorem dX0_passes_220 : decode cX0_passes 220 = .ok (.aaload, 1) := dk_50 (dk_at dksX0_passes_9 10 rfl rfl)
theorem dX0_passes_221 : decode cX0_passes 221 = .ok (.iload 4, 2) := dk_21 4 (dk_at dksX0_passes_9 11 rfl rfl)
theorem dX0_passes_223 : decode cX0_passes 223 = .ok (.aaload, 1) := dk_50 (dk_at dksX0_passes_9 13 rfl rfl)
theorem dX0_passes_224 : decode cX0_passes 224 = .ok (.iconst 0, 1) := dk_3 (dk_at dksX0_passes_9 14 rfl rfl)
theorem dX0_passes_225 : decode cX0_passes 225 = .ok (.aload 5, 2) := dk_25 5 (dk_at dksX0_passes_9 15 rfl rfl)
theorem dX0_passes_227 : decode cX0_passes 227 = .ok (.getfield 250, 3) := dk_180 0 250 (dk_at dksX0_passes_9 17 rfl rfl)
theorem dX0_passes_230 : decode cX0_passes 230 = .ok (.iastore, 1) := dk_79 (dk_at dksX0_passes_9 20 rfl rfl)
theorem dX0_passes_231 : decode cX0_passes 231 = .ok (.aload_n 0, 1) := dk_42 (dk_at dksX0_passes_9 21 rfl rfl)
theorem dX0_passes_232 : decode cX0_passes 232 = .ok (.getfield 63, 3) := dk_180 0 63 (dk_at dksX0_passes_10 0 rfl rfl)
theorem dX0_passes_235 : decode cX0_passes 235 = .ok (.iload_n 1, 1) := dk_27 (dk_at dksX0_passes_10 3 rfl rfl)
theorem dX0_passes_236 : decode cX0_passes 236 = .ok (.aaload, 1) := dk_50 (dk_at dksX0_passes_10 4 rfl rfl)
theorem dX0_passes_237 : decode cX0_passes 237 = .ok (.iload 4, 2) := dk_21 4 (dk_at dksX0_passes_10 5 rfl rfl)
theorem dX0_passes_239 : decode cX0_passes 239 = .ok (.aaload, 1) := dk_50 (dk_at dksX0_passes_10 7 rfl rfl)
theorem dX0_passes_240 : decode cX0_passes 240 = .ok (.iconst 1, 1) := dk_4 (dk_at dksX0_passes_10 8 rfl rfl)
theorem dX0_passes_241 : decode cX0_passes 241 = .ok (.aload 5, 2) := dk_25 5 (dk_at dksX0_passes_10 9 rfl rfl)
theorem dX0_passes_243 : decode cX0_passes 243 = .ok (.getfield 270, 3) := dk_180 1 14 (dk_at dksX0_passes_10 11 rfl rfl)
theorem dX0_passes_246 : decode cX0_passes 246 = .ok (.iastore, 1) := dk_79 (dk_at dksX0_passes_10 14 rfl rfl)
theorem dX0_passes_247 : decode cX0_passes 247 = .ok (.aload 5, 2) := dk_25 5 (dk_at dksX0_passes_10 15 rfl rfl)
theorem dX0_passes_249 : decode cX0_passes 249 = .ok (.dup, 1) := dk_89 (dk_at dksX0_passes_10 17 rfl rfl)
theorem dX0_passes_250 : decode cX0_passes 250 = .ok (.getfield 273, 3) := dk_180 1 17 (dk_at dksX0_passes_10 18 rfl rfl)
theorem dX0_passes_253 : decode cX0_passes 253 = .ok (.aload 5, 2) := dk_25 5 (dk_at dksX0_passes_10 21 rfl rfl)
theorem dX0_passes_255 : decode cX0_passes 255 = .ok (.getfield 250, 3) := dk_180 0 250 (dk_at dksX0_passes_11 0 rfl rfl)
theorem dX0_passes_258 : decode cX0_passes 258 = .ok (.iconst 1, 1) := dk_4 (dk_at dksX0_passes_11 3 rfl rfl)
theorem dX0_passes_259 : decode cX0_passes 259 = .ok (.if_icmp .ne 7, 3) := dk_160 0 7 (dk_at dksX0_passes_11 4 rfl rfl)
theorem dX0_passes_262 : decode cX0_passes 262 = .ok (.iconst 1, 1) := dk_4 (dk_at dksX0_passes_11 7 rfl rfl)
theorem dX0_passes_263 : decode cX0_passes 263 = .ok (.goto 4, 3) := dk_167 0 4 (dk_at dksX0_passes_11 8 rfl rfl)
theorem dX0_passes_266 : decode cX0_passes 266 = .ok (.iconst 0, 1) := dk_3 (dk_at dksX0_passes_11 11 rfl rfl)
theorem dX0_passes_267 : decode cX0_passes 267 = .ok (.iadd, 1) := dk_96 (dk_at dksX0_passes_11 12 rfl rfl)
theorem dX0_passes_268 : decode cX0_passes 268 = .ok (.putfield 273, 3) := dk_181 1 17 (dk_at dksX0_passes_11 13 rfl rfl)
theorem dX0_passes_271 : decode cX0_passes 271 = .ok (.iinc 4 1, 3) := dk_132 4 1 (dk_at dksX0_passes_11 16 rfl rfl)
theorem dX0_passes_274 : decode cX0_passes 274 = .ok (.goto (-85), 3) := dk_167 255 171 (dk_at dksX0_passes_11 19 rfl rfl)
theorem dX0_passes_277 : decode cX0_passes 277 = .ok (.return_, 1) := dk_177 (dk_at dksX0_passes_11 22 rfl rfl)
abbrev cX0_happens : ByteArray := prog_1_method_23_code
def yX0_happens : MethodName := ⟨RX0, "happens", "(I)V"⟩
def dkwX0_happens_6 : List UInt8 := [167, 255, 125, 177]
abbrev dktX0_happens_6 : List UInt8 := dkwX0_happens_6 ++ []
def dkwX0_happens_5 : List UInt8 := [45, 5, 46, 96, 16, 40, 184, 0, 207, 181, 0, 218, 167, 0, 8, 42, 4, 181, 0, 192, 132, 2, 1]
abbrev dktX0_happens_5 : List UInt8 := dkwX0_happens_5 ++ dktX0_happens_6
def dkwX0_happens_4 : List UInt8 := [104, 100, 3, 184, 0, 215, 181, 0, 212, 167, 0, 35, 45, 3, 46, 4, 160, 0, 23, 42, 42, 180, 0, 218]
abbrev dktX0_happens_4 : List UInt8 := dkwX0_happens_4 ++ dktX0_happens_5
def dkwX0_happens_3 : List UInt8 := [184, 0, 207, 54, 4, 42, 89, 180, 0, 204, 21, 4, 96, 181, 0, 204, 42, 42, 180, 0, 212, 7, 21, 4]
abbrev dktX0_happens_3 : List UInt8 := dkwX0_happens_3 ++ dktX0_happens_4
def dkwX0_happens_2 : List UInt8 := [153, 0, 6, 167, 0, 87, 45, 3, 46, 154, 0, 49, 45, 5, 46, 16, 30, 42, 180, 0, 204, 100]
abbrev dktX0_happens_2 : List UInt8 := dkwX0_happens_2 ++ dktX0_happens_3
def dkwX0_happens_1 : List UInt8 := [182, 0, 138, 192, 0, 196, 78, 45, 4, 46, 27, 160, 0, 101, 42, 180, 0, 197, 28, 184, 0, 200]
abbrev dktX0_happens_1 : List UInt8 := dkwX0_happens_1 ++ dktX0_happens_2
def dkwX0_happens_0 : List UInt8 := [42, 3, 181, 0, 192, 3, 61, 28, 42, 180, 0, 47, 182, 0, 123, 162, 0, 126, 42, 180, 0, 47, 28]
abbrev dktX0_happens_0 : List UInt8 := dkwX0_happens_0 ++ dktX0_happens_1
theorem dksX0_happens_0 : cX0_happens.data.toList.drop 0 = dktX0_happens_0 := by decide +kernel
theorem dksX0_happens_1 : cX0_happens.data.toList.drop 23 = dktX0_happens_1 := dk_seg dksX0_happens_0 23 rfl rfl
theorem dksX0_happens_2 : cX0_happens.data.toList.drop 45 = dktX0_happens_2 := dk_seg dksX0_happens_1 22 rfl rfl
theorem dksX0_happens_3 : cX0_happens.data.toList.drop 67 = dktX0_happens_3 := dk_seg dksX0_happens_2 22 rfl rfl
theorem dksX0_happens_4 : cX0_happens.data.toList.drop 91 = dktX0_happens_4 := dk_seg dksX0_happens_3 24 rfl rfl
theorem dksX0_happens_5 : cX0_happens.data.toList.drop 115 = dktX0_happens_5 := dk_seg dksX0_happens_4 24 rfl rfl
theorem dksX0_happens_6 : cX0_happens.data.toList.drop 138 = dktX0_happens_6 := dk_seg dksX0_happens_5 23 rfl rfl
theorem dX0_happens_0 : decode cX0_happens 0 = .ok (.aload_n 0, 1) := dk_42 (dk_at dksX0_happens_0 0 rfl rfl)
theorem dX0_happens_1 : decode cX0_happens 1 = .ok (.iconst 0, 1) := dk_3 (dk_at dksX0_happens_0 1 rfl rfl)
theorem dX0_happens_2 : decode cX0_happens 2 = .ok (.putfield 192, 3) := dk_181 0 192 (dk_at dksX0_happens_0 2 rfl rfl)
theorem dX0_happens_5 : decode cX0_happens 5 = .ok (.iconst 0, 1) := dk_3 (dk_at dksX0_happens_0 5 rfl rfl)
theorem dX0_happens_6 : decode cX0_happens 6 = .ok (.istore_n 2, 1) := dk_61 (dk_at dksX0_happens_0 6 rfl rfl)
theorem dX0_happens_7 : decode cX0_happens 7 = .ok (.iload_n 2, 1) := dk_28 (dk_at dksX0_happens_0 7 rfl rfl)
theorem dX0_happens_8 : decode cX0_happens 8 = .ok (.aload_n 0, 1) := dk_42 (dk_at dksX0_happens_0 8 rfl rfl)
theorem dX0_happens_9 : decode cX0_happens 9 = .ok (.getfield 47, 3) := dk_180 0 47 (dk_at dksX0_happens_0 9 rfl rfl)
theorem dX0_happens_12 : decode cX0_happens 12 = .ok (.invokevirtual 123, 3) := dk_182 0 123 (dk_at dksX0_happens_0 12 rfl rfl)
theorem dX0_happens_15 : decode cX0_happens 15 = .ok (.if_icmp .ge 126, 3) := dk_162 0 126 (dk_at dksX0_happens_0 15 rfl rfl)
theorem dX0_happens_18 : decode cX0_happens 18 = .ok (.aload_n 0, 1) := dk_42 (dk_at dksX0_happens_0 18 rfl rfl)
theorem dX0_happens_19 : decode cX0_happens 19 = .ok (.getfield 47, 3) := dk_180 0 47 (dk_at dksX0_happens_0 19 rfl rfl)
theorem dX0_happens_22 : decode cX0_happens 22 = .ok (.iload_n 2, 1) := dk_28 (dk_at dksX0_happens_0 22 rfl rfl)
theorem dX0_happens_23 : decode cX0_happens 23 = .ok (.invokevirtual 138, 3) := dk_182 0 138 (dk_at dksX0_happens_1 0 rfl rfl)
theorem dX0_happens_26 : decode cX0_happens 26 = .ok (.checkcast 196, 3) := dk_192 0 196 (dk_at dksX0_happens_1 3 rfl rfl)
theorem dX0_happens_29 : decode cX0_happens 29 = .ok (.astore_n 3, 1) := dk_78 (dk_at dksX0_happens_1 6 rfl rfl)
theorem dX0_happens_30 : decode cX0_happens 30 = .ok (.aload_n 3, 1) := dk_45 (dk_at dksX0_happens_1 7 rfl rfl)
theorem dX0_happens_31 : decode cX0_happens 31 = .ok (.iconst 1, 1) := dk_4 (dk_at dksX0_happens_1 8 rfl rfl)
theorem dX0_happens_32 : decode cX0_happens 32 = .ok (.iaload, 1) := dk_46 (dk_at dksX0_happens_1 9 rfl rfl)
theorem dX0_happens_33 : decode cX0_happens 33 = .ok (.iload_n 1, 1) := dk_27 (dk_at dksX0_happens_1 10 rfl rfl)
theorem dX0_happens_34 : decode cX0_happens 34 = .ok (.if_icmp .ne 101, 3) := dk_160 0 101 (dk_at dksX0_happens_1 11 rfl rfl)
theorem dX0_happens_37 : decode cX0_happens 37 = .ok (.aload_n 0, 1) := dk_42 (dk_at dksX0_happens_1 14 rfl rfl)
theorem dX0_happens_38 : decode cX0_happens 38 = .ok (.getfield 197, 3) := dk_180 0 197 (dk_at dksX0_happens_1 15 rfl rfl)
theorem dX0_happens_41 : decode cX0_happens 41 = .ok (.iload_n 2, 1) := dk_28 (dk_at dksX0_happens_1 18 rfl rfl)
theorem dX0_happens_42 : decode cX0_happens 42 = .ok (.invokestatic 200, 3) := dk_184 0 200 (dk_at dksX0_happens_1 19 rfl rfl)
theorem dX0_happens_45 : decode cX0_happens 45 = .ok (.ifCond .eq 6, 3) := dk_153 0 6 (dk_at dksX0_happens_2 0 rfl rfl)
theorem dX0_happens_48 : decode cX0_happens 48 = .ok (.goto 87, 3) := dk_167 0 87 (dk_at dksX0_happens_2 3 rfl rfl)
theorem dX0_happens_51 : decode cX0_happens 51 = .ok (.aload_n 3, 1) := dk_45 (dk_at dksX0_happens_2 6 rfl rfl)
theorem dX0_happens_52 : decode cX0_happens 52 = .ok (.iconst 0, 1) := dk_3 (dk_at dksX0_happens_2 7 rfl rfl)
theorem dX0_happens_53 : decode cX0_happens 53 = .ok (.iaload, 1) := dk_46 (dk_at dksX0_happens_2 8 rfl rfl)
theorem dX0_happens_54 : decode cX0_happens 54 = .ok (.ifCond .ne 49, 3) := dk_154 0 49 (dk_at dksX0_happens_2 9 rfl rfl)
theorem dX0_happens_57 : decode cX0_happens 57 = .ok (.aload_n 3, 1) := dk_45 (dk_at dksX0_happens_2 12 rfl rfl)
theorem dX0_happens_58 : decode cX0_happens 58 = .ok (.iconst 2, 1) := dk_5 (dk_at dksX0_happens_2 13 rfl rfl)
theorem dX0_happens_59 : decode cX0_happens 59 = .ok (.iaload, 1) := dk_46 (dk_at dksX0_happens_2 14 rfl rfl)
theorem dX0_happens_60 : decode cX0_happens 60 = .ok (.bipush 30, 2) := dk_16 30 (dk_at dksX0_happens_2 15 rfl rfl)
theorem dX0_happens_62 : decode cX0_happens 62 = .ok (.aload_n 0, 1) := dk_42 (dk_at dksX0_happens_2 17 rfl rfl)
theorem dX0_happens_63 : decode cX0_happens 63 = .ok (.getfield 204, 3) := dk_180 0 204 (dk_at dksX0_happens_2 18 rfl rfl)
theorem dX0_happens_66 : decode cX0_happens 66 = .ok (.isub, 1) := dk_100 (dk_at dksX0_happens_2 21 rfl rfl)
theorem dX0_happens_67 : decode cX0_happens 67 = .ok (.invokestatic 207, 3) := dk_184 0 207 (dk_at dksX0_happens_3 0 rfl rfl)
theorem dX0_happens_70 : decode cX0_happens 70 = .ok (.istore 4, 2) := dk_54 4 (dk_at dksX0_happens_3 3 rfl rfl)
theorem dX0_happens_72 : decode cX0_happens 72 = .ok (.aload_n 0, 1) := dk_42 (dk_at dksX0_happens_3 5 rfl rfl)
theorem dX0_happens_73 : decode cX0_happens 73 = .ok (.dup, 1) := dk_89 (dk_at dksX0_happens_3 6 rfl rfl)
theorem dX0_happens_74 : decode cX0_happens 74 = .ok (.getfield 204, 3) := dk_180 0 204 (dk_at dksX0_happens_3 7 rfl rfl)
theorem dX0_happens_77 : decode cX0_happens 77 = .ok (.iload 4, 2) := dk_21 4 (dk_at dksX0_happens_3 10 rfl rfl)
theorem dX0_happens_79 : decode cX0_happens 79 = .ok (.iadd, 1) := dk_96 (dk_at dksX0_happens_3 12 rfl rfl)
theorem dX0_happens_80 : decode cX0_happens 80 = .ok (.putfield 204, 3) := dk_181 0 204 (dk_at dksX0_happens_3 13 rfl rfl)
theorem dX0_happens_83 : decode cX0_happens 83 = .ok (.aload_n 0, 1) := dk_42 (dk_at dksX0_happens_3 16 rfl rfl)
theorem dX0_happens_84 : decode cX0_happens 84 = .ok (.aload_n 0, 1) := dk_42 (dk_at dksX0_happens_3 17 rfl rfl)
theorem dX0_happens_85 : decode cX0_happens 85 = .ok (.getfield 212, 3) := dk_180 0 212 (dk_at dksX0_happens_3 18 rfl rfl)
theorem dX0_happens_88 : decode cX0_happens 88 = .ok (.iconst 4, 1) := dk_7 (dk_at dksX0_happens_3 21 rfl rfl)
theorem dX0_happens_89 : decode cX0_happens 89 = .ok (.iload 4, 2) := dk_21 4 (dk_at dksX0_happens_3 22 rfl rfl)
theorem dX0_happens_91 : decode cX0_happens 91 = .ok (.imul, 1) := dk_104 (dk_at dksX0_happens_4 0 rfl rfl)
theorem dX0_happens_92 : decode cX0_happens 92 = .ok (.isub, 1) := dk_100 (dk_at dksX0_happens_4 1 rfl rfl)
theorem dX0_happens_93 : decode cX0_happens 93 = .ok (.iconst 0, 1) := dk_3 (dk_at dksX0_happens_4 2 rfl rfl)
theorem dX0_happens_94 : decode cX0_happens 94 = .ok (.invokestatic 215, 3) := dk_184 0 215 (dk_at dksX0_happens_4 3 rfl rfl)
theorem dX0_happens_97 : decode cX0_happens 97 = .ok (.putfield 212, 3) := dk_181 0 212 (dk_at dksX0_happens_4 6 rfl rfl)
theorem dX0_happens_100 : decode cX0_happens 100 = .ok (.goto 35, 3) := dk_167 0 35 (dk_at dksX0_happens_4 9 rfl rfl)
theorem dX0_happens_103 : decode cX0_happens 103 = .ok (.aload_n 3, 1) := dk_45 (dk_at dksX0_happens_4 12 rfl rfl)
theorem dX0_happens_104 : decode cX0_happens 104 = .ok (.iconst 0, 1) := dk_3 (dk_at dksX0_happens_4 13 rfl rfl)
theorem dX0_happens_105 : decode cX0_happens 105 = .ok (.iaload, 1) := dk_46 (dk_at dksX0_happens_4 14 rfl rfl)
theorem dX0_happens_106 : decode cX0_happens 106 = .ok (.iconst 1, 1) := dk_4 (dk_at dksX0_happens_4 15 rfl rfl)
theorem dX0_happens_107 : decode cX0_happens 107 = .ok (.if_icmp .ne 23, 3) := dk_160 0 23 (dk_at dksX0_happens_4 16 rfl rfl)
theorem dX0_happens_110 : decode cX0_happens 110 = .ok (.aload_n 0, 1) := dk_42 (dk_at dksX0_happens_4 19 rfl rfl)
theorem dX0_happens_111 : decode cX0_happens 111 = .ok (.aload_n 0, 1) := dk_42 (dk_at dksX0_happens_4 20 rfl rfl)
theorem dX0_happens_112 : decode cX0_happens 112 = .ok (.getfield 218, 3) := dk_180 0 218 (dk_at dksX0_happens_4 21 rfl rfl)
theorem dX0_happens_115 : decode cX0_happens 115 = .ok (.aload_n 3, 1) := dk_45 (dk_at dksX0_happens_5 0 rfl rfl)
theorem dX0_happens_116 : decode cX0_happens 116 = .ok (.iconst 2, 1) := dk_5 (dk_at dksX0_happens_5 1 rfl rfl)
theorem dX0_happens_117 : decode cX0_happens 117 = .ok (.iaload, 1) := dk_46 (dk_at dksX0_happens_5 2 rfl rfl)
theorem dX0_happens_118 : decode cX0_happens 118 = .ok (.iadd, 1) := dk_96 (dk_at dksX0_happens_5 3 rfl rfl)
theorem dX0_happens_119 : decode cX0_happens 119 = .ok (.bipush 40, 2) := dk_16 40 (dk_at dksX0_happens_5 4 rfl rfl)
theorem dX0_happens_121 : decode cX0_happens 121 = .ok (.invokestatic 207, 3) := dk_184 0 207 (dk_at dksX0_happens_5 6 rfl rfl)
theorem dX0_happens_124 : decode cX0_happens 124 = .ok (.putfield 218, 3) := dk_181 0 218 (dk_at dksX0_happens_5 9 rfl rfl)
theorem dX0_happens_127 : decode cX0_happens 127 = .ok (.goto 8, 3) := dk_167 0 8 (dk_at dksX0_happens_5 12 rfl rfl)
theorem dX0_happens_130 : decode cX0_happens 130 = .ok (.aload_n 0, 1) := dk_42 (dk_at dksX0_happens_5 15 rfl rfl)
theorem dX0_happens_131 : decode cX0_happens 131 = .ok (.iconst 1, 1) := dk_4 (dk_at dksX0_happens_5 16 rfl rfl)
theorem dX0_happens_132 : decode cX0_happens 132 = .ok (.putfield 192, 3) := dk_181 0 192 (dk_at dksX0_happens_5 17 rfl rfl)
theorem dX0_happens_135 : decode cX0_happens 135 = .ok (.iinc 2 1, 3) := dk_132 2 1 (dk_at dksX0_happens_5 20 rfl rfl)
theorem dX0_happens_138 : decode cX0_happens 138 = .ok (.goto (-131), 3) := dk_167 255 125 (dk_at dksX0_happens_6 0 rfl rfl)
theorem dX0_happens_141 : decode cX0_happens 141 = .ok (.return_, 1) := dk_177 (dk_at dksX0_happens_6 3 rfl rfl)
abbrev cX0_isIn : ByteArray := prog_1_method_7_code
def yX0_isIn : MethodName := ⟨RX0, "isIn", "(II)Z"⟩
def dkwX0_isIn_0 : List UInt8 := [26, 27, 122, 4, 126, 4, 160, 0, 7, 4, 167, 0, 4, 3, 172]
abbrev dktX0_isIn_0 : List UInt8 := dkwX0_isIn_0 ++ []
theorem dksX0_isIn_0 : cX0_isIn.data.toList.drop 0 = dktX0_isIn_0 := by decide +kernel
theorem dX0_isIn_0 : decode cX0_isIn 0 = .ok (.iload_n 0, 1) := dk_26 (dk_at dksX0_isIn_0 0 rfl rfl)
theorem dX0_isIn_1 : decode cX0_isIn 1 = .ok (.iload_n 1, 1) := dk_27 (dk_at dksX0_isIn_0 1 rfl rfl)
theorem dX0_isIn_2 : decode cX0_isIn 2 = .ok (.ishr, 1) := dk_122 (dk_at dksX0_isIn_0 2 rfl rfl)
theorem dX0_isIn_3 : decode cX0_isIn 3 = .ok (.iconst 1, 1) := dk_4 (dk_at dksX0_isIn_0 3 rfl rfl)
theorem dX0_isIn_4 : decode cX0_isIn 4 = .ok (.iand, 1) := dk_126 (dk_at dksX0_isIn_0 4 rfl rfl)
theorem dX0_isIn_5 : decode cX0_isIn 5 = .ok (.iconst 1, 1) := dk_4 (dk_at dksX0_isIn_0 5 rfl rfl)
theorem dX0_isIn_6 : decode cX0_isIn 6 = .ok (.if_icmp .ne 7, 3) := dk_160 0 7 (dk_at dksX0_isIn_0 6 rfl rfl)
theorem dX0_isIn_9 : decode cX0_isIn 9 = .ok (.iconst 1, 1) := dk_4 (dk_at dksX0_isIn_0 9 rfl rfl)
theorem dX0_isIn_10 : decode cX0_isIn 10 = .ok (.goto 4, 3) := dk_167 0 4 (dk_at dksX0_isIn_0 10 rfl rfl)
theorem dX0_isIn_13 : decode cX0_isIn 13 = .ok (.iconst 0, 1) := dk_3 (dk_at dksX0_isIn_0 13 rfl rfl)
theorem dX0_isIn_14 : decode cX0_isIn 14 = .ok (.ireturn, 1) := dk_172 (dk_at dksX0_isIn_0 14 rfl rfl)
abbrev cX0_fire : ByteArray := prog_1_method_24_code
def yX0_fire : MethodName := ⟨RX0, "fire", "(I)I"⟩
def dkwX0_fire_2 : List UInt8 := [104, 167, 0, 4, 28, 172]
abbrev dktX0_fire_2 : List UInt8 := dkwX0_fire_2 ++ []
def dkwX0_fire_1 : List UInt8 := [192, 0, 142, 27, 182, 0, 221, 96, 61, 132, 3, 1, 167, 255, 224, 42, 180, 0, 192, 153, 0, 9, 5, 28]
abbrev dktX0_fire_1 : List UInt8 := dkwX0_fire_1 ++ dktX0_fire_2
def dkwX0_fire_0 : List UInt8 := [3, 61, 3, 62, 29, 42, 182, 0, 127, 162, 0, 30, 28, 42, 180, 0, 14, 180, 0, 122, 29, 182, 0, 138]
abbrev dktX0_fire_0 : List UInt8 := dkwX0_fire_0 ++ dktX0_fire_1
theorem dksX0_fire_0 : cX0_fire.data.toList.drop 0 = dktX0_fire_0 := by decide +kernel
theorem dksX0_fire_1 : cX0_fire.data.toList.drop 24 = dktX0_fire_1 := dk_seg dksX0_fire_0 24 rfl rfl
theorem dksX0_fire_2 : cX0_fire.data.toList.drop 48 = dktX0_fire_2 := dk_seg dksX0_fire_1 24 rfl rfl
theorem dX0_fire_0 : decode cX0_fire 0 = .ok (.iconst 0, 1) := dk_3 (dk_at dksX0_fire_0 0 rfl rfl)
theorem dX0_fire_1 : decode cX0_fire 1 = .ok (.istore_n 2, 1) := dk_61 (dk_at dksX0_fire_0 1 rfl rfl)
theorem dX0_fire_2 : decode cX0_fire 2 = .ok (.iconst 0, 1) := dk_3 (dk_at dksX0_fire_0 2 rfl rfl)
theorem dX0_fire_3 : decode cX0_fire 3 = .ok (.istore_n 3, 1) := dk_62 (dk_at dksX0_fire_0 3 rfl rfl)
theorem dX0_fire_4 : decode cX0_fire 4 = .ok (.iload_n 3, 1) := dk_29 (dk_at dksX0_fire_0 4 rfl rfl)
theorem dX0_fire_5 : decode cX0_fire 5 = .ok (.aload_n 0, 1) := dk_42 (dk_at dksX0_fire_0 5 rfl rfl)
theorem dX0_fire_6 : decode cX0_fire 6 = .ok (.invokevirtual 127, 3) := dk_182 0 127 (dk_at dksX0_fire_0 6 rfl rfl)
theorem dX0_fire_9 : decode cX0_fire 9 = .ok (.if_icmp .ge 30, 3) := dk_162 0 30 (dk_at dksX0_fire_0 9 rfl rfl)
theorem dX0_fire_12 : decode cX0_fire 12 = .ok (.iload_n 2, 1) := dk_28 (dk_at dksX0_fire_0 12 rfl rfl)
theorem dX0_fire_13 : decode cX0_fire 13 = .ok (.aload_n 0, 1) := dk_42 (dk_at dksX0_fire_0 13 rfl rfl)
theorem dX0_fire_14 : decode cX0_fire 14 = .ok (.getfield 14, 3) := dk_180 0 14 (dk_at dksX0_fire_0 14 rfl rfl)
theorem dX0_fire_17 : decode cX0_fire 17 = .ok (.getfield 122, 3) := dk_180 0 122 (dk_at dksX0_fire_0 17 rfl rfl)
theorem dX0_fire_20 : decode cX0_fire 20 = .ok (.iload_n 3, 1) := dk_29 (dk_at dksX0_fire_0 20 rfl rfl)
theorem dX0_fire_21 : decode cX0_fire 21 = .ok (.invokevirtual 138, 3) := dk_182 0 138 (dk_at dksX0_fire_0 21 rfl rfl)
theorem dX0_fire_24 : decode cX0_fire 24 = .ok (.checkcast 142, 3) := dk_192 0 142 (dk_at dksX0_fire_1 0 rfl rfl)
theorem dX0_fire_27 : decode cX0_fire 27 = .ok (.iload_n 1, 1) := dk_27 (dk_at dksX0_fire_1 3 rfl rfl)
theorem dX0_fire_28 : decode cX0_fire 28 = .ok (.invokevirtual 221, 3) := dk_182 0 221 (dk_at dksX0_fire_1 4 rfl rfl)
theorem dX0_fire_31 : decode cX0_fire 31 = .ok (.iadd, 1) := dk_96 (dk_at dksX0_fire_1 7 rfl rfl)
theorem dX0_fire_32 : decode cX0_fire 32 = .ok (.istore_n 2, 1) := dk_61 (dk_at dksX0_fire_1 8 rfl rfl)
theorem dX0_fire_33 : decode cX0_fire 33 = .ok (.iinc 3 1, 3) := dk_132 3 1 (dk_at dksX0_fire_1 9 rfl rfl)
theorem dX0_fire_36 : decode cX0_fire 36 = .ok (.goto (-32), 3) := dk_167 255 224 (dk_at dksX0_fire_1 12 rfl rfl)
theorem dX0_fire_39 : decode cX0_fire 39 = .ok (.aload_n 0, 1) := dk_42 (dk_at dksX0_fire_1 15 rfl rfl)
theorem dX0_fire_40 : decode cX0_fire 40 = .ok (.getfield 192, 3) := dk_180 0 192 (dk_at dksX0_fire_1 16 rfl rfl)
theorem dX0_fire_43 : decode cX0_fire 43 = .ok (.ifCond .eq 9, 3) := dk_153 0 9 (dk_at dksX0_fire_1 19 rfl rfl)
theorem dX0_fire_46 : decode cX0_fire 46 = .ok (.iconst 2, 1) := dk_5 (dk_at dksX0_fire_1 22 rfl rfl)
theorem dX0_fire_47 : decode cX0_fire 47 = .ok (.iload_n 2, 1) := dk_28 (dk_at dksX0_fire_1 23 rfl rfl)
theorem dX0_fire_48 : decode cX0_fire 48 = .ok (.imul, 1) := dk_104 (dk_at dksX0_fire_2 0 rfl rfl)
theorem dX0_fire_49 : decode cX0_fire 49 = .ok (.goto 4, 3) := dk_167 0 4 (dk_at dksX0_fire_2 1 rfl rfl)
theorem dX0_fire_52 : decode cX0_fire 52 = .ok (.iload_n 2, 1) := dk_28 (dk_at dksX0_fire_2 4 rfl rfl)
theorem dX0_fire_53 : decode cX0_fire 53 = .ok (.ireturn, 1) := dk_172 (dk_at dksX0_fire_2 5 rfl rfl)
abbrev cX0_queues : ByteArray := prog_1_method_25_code
def yX0_queues : MethodName := ⟨RX0, "queues", "(IZ)V"⟩
def dkwX0_queues_2 : List UInt8 := [182, 0, 160, 87, 132, 3, 1, 167, 255, 204, 177]
abbrev dktX0_queues_2 : List UInt8 := dkwX0_queues_2 ++ []
def dkwX0_queues_1 : List UInt8 := [27, 28, 182, 0, 224, 153, 0, 22, 42, 180, 0, 50, 42, 180, 0, 37, 29, 182, 0, 138, 192, 0, 75]
abbrev dktX0_queues_1 : List UInt8 := dkwX0_queues_1 ++ dktX0_queues_2
def dkwX0_queues_0 : List UInt8 := [3, 62, 29, 42, 180, 0, 37, 182, 0, 123, 162, 0, 47, 42, 180, 0, 37, 29, 182, 0, 138, 192, 0, 75]
abbrev dktX0_queues_0 : List UInt8 := dkwX0_queues_0 ++ dktX0_queues_1
theorem dksX0_queues_0 : cX0_queues.data.toList.drop 0 = dktX0_queues_0 := by decide +kernel
theorem dksX0_queues_1 : cX0_queues.data.toList.drop 24 = dktX0_queues_1 := dk_seg dksX0_queues_0 24 rfl rfl
theorem dksX0_queues_2 : cX0_queues.data.toList.drop 47 = dktX0_queues_2 := dk_seg dksX0_queues_1 23 rfl rfl
theorem dX0_queues_0 : decode cX0_queues 0 = .ok (.iconst 0, 1) := dk_3 (dk_at dksX0_queues_0 0 rfl rfl)
theorem dX0_queues_1 : decode cX0_queues 1 = .ok (.istore_n 3, 1) := dk_62 (dk_at dksX0_queues_0 1 rfl rfl)
theorem dX0_queues_2 : decode cX0_queues 2 = .ok (.iload_n 3, 1) := dk_29 (dk_at dksX0_queues_0 2 rfl rfl)
theorem dX0_queues_3 : decode cX0_queues 3 = .ok (.aload_n 0, 1) := dk_42 (dk_at dksX0_queues_0 3 rfl rfl)
theorem dX0_queues_4 : decode cX0_queues 4 = .ok (.getfield 37, 3) := dk_180 0 37 (dk_at dksX0_queues_0 4 rfl rfl)
theorem dX0_queues_7 : decode cX0_queues 7 = .ok (.invokevirtual 123, 3) := dk_182 0 123 (dk_at dksX0_queues_0 7 rfl rfl)
theorem dX0_queues_10 : decode cX0_queues 10 = .ok (.if_icmp .ge 47, 3) := dk_162 0 47 (dk_at dksX0_queues_0 10 rfl rfl)
theorem dX0_queues_13 : decode cX0_queues 13 = .ok (.aload_n 0, 1) := dk_42 (dk_at dksX0_queues_0 13 rfl rfl)
theorem dX0_queues_14 : decode cX0_queues 14 = .ok (.getfield 37, 3) := dk_180 0 37 (dk_at dksX0_queues_0 14 rfl rfl)
theorem dX0_queues_17 : decode cX0_queues 17 = .ok (.iload_n 3, 1) := dk_29 (dk_at dksX0_queues_0 17 rfl rfl)
theorem dX0_queues_18 : decode cX0_queues 18 = .ok (.invokevirtual 138, 3) := dk_182 0 138 (dk_at dksX0_queues_0 18 rfl rfl)
theorem dX0_queues_21 : decode cX0_queues 21 = .ok (.checkcast 75, 3) := dk_192 0 75 (dk_at dksX0_queues_0 21 rfl rfl)
theorem dX0_queues_24 : decode cX0_queues 24 = .ok (.iload_n 1, 1) := dk_27 (dk_at dksX0_queues_1 0 rfl rfl)
theorem dX0_queues_25 : decode cX0_queues 25 = .ok (.iload_n 2, 1) := dk_28 (dk_at dksX0_queues_1 1 rfl rfl)
theorem dX0_queues_26 : decode cX0_queues 26 = .ok (.invokevirtual 224, 3) := dk_182 0 224 (dk_at dksX0_queues_1 2 rfl rfl)
theorem dX0_queues_29 : decode cX0_queues 29 = .ok (.ifCond .eq 22, 3) := dk_153 0 22 (dk_at dksX0_queues_1 5 rfl rfl)
theorem dX0_queues_32 : decode cX0_queues 32 = .ok (.aload_n 0, 1) := dk_42 (dk_at dksX0_queues_1 8 rfl rfl)
theorem dX0_queues_33 : decode cX0_queues 33 = .ok (.getfield 50, 3) := dk_180 0 50 (dk_at dksX0_queues_1 9 rfl rfl)
theorem dX0_queues_36 : decode cX0_queues 36 = .ok (.aload_n 0, 1) := dk_42 (dk_at dksX0_queues_1 12 rfl rfl)
theorem dX0_queues_37 : decode cX0_queues 37 = .ok (.getfield 37, 3) := dk_180 0 37 (dk_at dksX0_queues_1 13 rfl rfl)
theorem dX0_queues_40 : decode cX0_queues 40 = .ok (.iload_n 3, 1) := dk_29 (dk_at dksX0_queues_1 16 rfl rfl)
theorem dX0_queues_41 : decode cX0_queues 41 = .ok (.invokevirtual 138, 3) := dk_182 0 138 (dk_at dksX0_queues_1 17 rfl rfl)
theorem dX0_queues_44 : decode cX0_queues 44 = .ok (.checkcast 75, 3) := dk_192 0 75 (dk_at dksX0_queues_1 20 rfl rfl)
theorem dX0_queues_47 : decode cX0_queues 47 = .ok (.invokevirtual 160, 3) := dk_182 0 160 (dk_at dksX0_queues_2 0 rfl rfl)
theorem dX0_queues_50 : decode cX0_queues 50 = .ok (.pop, 1) := dk_87 (dk_at dksX0_queues_2 3 rfl rfl)
theorem dX0_queues_51 : decode cX0_queues 51 = .ok (.iinc 3 1, 3) := dk_132 3 1 (dk_at dksX0_queues_2 4 rfl rfl)
theorem dX0_queues_54 : decode cX0_queues 54 = .ok (.goto (-52), 3) := dk_167 255 204 (dk_at dksX0_queues_2 7 rfl rfl)
theorem dX0_queues_57 : decode cX0_queues 57 = .ok (.return_, 1) := dk_177 (dk_at dksX0_queues_2 10 rfl rfl)
abbrev cX0_serves : ByteArray := prog_1_method_26_code
def yX0_serves : MethodName := ⟨RX0, "serves", "(I)I"⟩
def dkwX0_serves_4 : List UInt8 := [180, 0, 37, 45, 182, 0, 243, 172, 132, 2, 1, 167, 255, 154, 2, 172]
abbrev dktX0_serves_4 : List UInt8 := dkwX0_serves_4 ++ []
def dkwX0_serves_3 : List UInt8 := [180, 0, 237, 4, 96, 181, 0, 237, 42, 180, 0, 50, 28, 182, 0, 168, 87, 45, 27, 182, 0, 240, 42]
abbrev dktX0_serves_3 : List UInt8 := dkwX0_serves_3 ++ dktX0_serves_4
def dkwX0_serves_2 : List UInt8 := [180, 0, 228, 182, 0, 232, 100, 181, 0, 218, 42, 89, 180, 0, 204, 4, 100, 181, 0, 204, 42, 89]
abbrev dktX0_serves_2 : List UInt8 := dkwX0_serves_2 ++ dktX0_serves_3
def dkwX0_serves_1 : List UInt8 := [78, 45, 180, 0, 228, 182, 0, 232, 42, 180, 0, 218, 164, 0, 6, 167, 0, 62, 42, 89, 180, 0, 218, 45]
abbrev dktX0_serves_1 : List UInt8 := dkwX0_serves_1 ++ dktX0_serves_2
def dkwX0_serves_0 : List UInt8 := [3, 61, 28, 42, 180, 0, 50, 182, 0, 123, 162, 0, 97, 42, 180, 0, 50, 28, 182, 0, 138, 192, 0, 75]
abbrev dktX0_serves_0 : List UInt8 := dkwX0_serves_0 ++ dktX0_serves_1
theorem dksX0_serves_0 : cX0_serves.data.toList.drop 0 = dktX0_serves_0 := by decide +kernel
theorem dksX0_serves_1 : cX0_serves.data.toList.drop 24 = dktX0_serves_1 := dk_seg dksX0_serves_0 24 rfl rfl
theorem dksX0_serves_2 : cX0_serves.data.toList.drop 48 = dktX0_serves_2 := dk_seg dksX0_serves_1 24 rfl rfl
theorem dksX0_serves_3 : cX0_serves.data.toList.drop 70 = dktX0_serves_3 := dk_seg dksX0_serves_2 22 rfl rfl
theorem dksX0_serves_4 : cX0_serves.data.toList.drop 93 = dktX0_serves_4 := dk_seg dksX0_serves_3 23 rfl rfl
theorem dX0_serves_0 : decode cX0_serves 0 = .ok (.iconst 0, 1) := dk_3 (dk_at dksX0_serves_0 0 rfl rfl)
theorem dX0_serves_1 : decode cX0_serves 1 = .ok (.istore_n 2, 1) := dk_61 (dk_at dksX0_serves_0 1 rfl rfl)
theorem dX0_serves_2 : decode cX0_serves 2 = .ok (.iload_n 2, 1) := dk_28 (dk_at dksX0_serves_0 2 rfl rfl)
theorem dX0_serves_3 : decode cX0_serves 3 = .ok (.aload_n 0, 1) := dk_42 (dk_at dksX0_serves_0 3 rfl rfl)
theorem dX0_serves_4 : decode cX0_serves 4 = .ok (.getfield 50, 3) := dk_180 0 50 (dk_at dksX0_serves_0 4 rfl rfl)
theorem dX0_serves_7 : decode cX0_serves 7 = .ok (.invokevirtual 123, 3) := dk_182 0 123 (dk_at dksX0_serves_0 7 rfl rfl)
theorem dX0_serves_10 : decode cX0_serves 10 = .ok (.if_icmp .ge 97, 3) := dk_162 0 97 (dk_at dksX0_serves_0 10 rfl rfl)
theorem dX0_serves_13 : decode cX0_serves 13 = .ok (.aload_n 0, 1) := dk_42 (dk_at dksX0_serves_0 13 rfl rfl)
theorem dX0_serves_14 : decode cX0_serves 14 = .ok (.getfield 50, 3) := dk_180 0 50 (dk_at dksX0_serves_0 14 rfl rfl)
theorem dX0_serves_17 : decode cX0_serves 17 = .ok (.iload_n 2, 1) := dk_28 (dk_at dksX0_serves_0 17 rfl rfl)
theorem dX0_serves_18 : decode cX0_serves 18 = .ok (.invokevirtual 138, 3) := dk_182 0 138 (dk_at dksX0_serves_0 18 rfl rfl)
theorem dX0_serves_21 : decode cX0_serves 21 = .ok (.checkcast 75, 3) := dk_192 0 75 (dk_at dksX0_serves_0 21 rfl rfl)
theorem dX0_serves_24 : decode cX0_serves 24 = .ok (.astore_n 3, 1) := dk_78 (dk_at dksX0_serves_1 0 rfl rfl)
theorem dX0_serves_25 : decode cX0_serves 25 = .ok (.aload_n 3, 1) := dk_45 (dk_at dksX0_serves_1 1 rfl rfl)
theorem dX0_serves_26 : decode cX0_serves 26 = .ok (.getfield 228, 3) := dk_180 0 228 (dk_at dksX0_serves_1 2 rfl rfl)
theorem dX0_serves_29 : decode cX0_serves 29 = .ok (.invokevirtual 232, 3) := dk_182 0 232 (dk_at dksX0_serves_1 5 rfl rfl)
theorem dX0_serves_32 : decode cX0_serves 32 = .ok (.aload_n 0, 1) := dk_42 (dk_at dksX0_serves_1 8 rfl rfl)
theorem dX0_serves_33 : decode cX0_serves 33 = .ok (.getfield 218, 3) := dk_180 0 218 (dk_at dksX0_serves_1 9 rfl rfl)
theorem dX0_serves_36 : decode cX0_serves 36 = .ok (.if_icmp .le 6, 3) := dk_164 0 6 (dk_at dksX0_serves_1 12 rfl rfl)
theorem dX0_serves_39 : decode cX0_serves 39 = .ok (.goto 62, 3) := dk_167 0 62 (dk_at dksX0_serves_1 15 rfl rfl)
theorem dX0_serves_42 : decode cX0_serves 42 = .ok (.aload_n 0, 1) := dk_42 (dk_at dksX0_serves_1 18 rfl rfl)
theorem dX0_serves_43 : decode cX0_serves 43 = .ok (.dup, 1) := dk_89 (dk_at dksX0_serves_1 19 rfl rfl)
theorem dX0_serves_44 : decode cX0_serves 44 = .ok (.getfield 218, 3) := dk_180 0 218 (dk_at dksX0_serves_1 20 rfl rfl)
theorem dX0_serves_47 : decode cX0_serves 47 = .ok (.aload_n 3, 1) := dk_45 (dk_at dksX0_serves_1 23 rfl rfl)
theorem dX0_serves_48 : decode cX0_serves 48 = .ok (.getfield 228, 3) := dk_180 0 228 (dk_at dksX0_serves_2 0 rfl rfl)
theorem dX0_serves_51 : decode cX0_serves 51 = .ok (.invokevirtual 232, 3) := dk_182 0 232 (dk_at dksX0_serves_2 3 rfl rfl)
theorem dX0_serves_54 : decode cX0_serves 54 = .ok (.isub, 1) := dk_100 (dk_at dksX0_serves_2 6 rfl rfl)
theorem dX0_serves_55 : decode cX0_serves 55 = .ok (.putfield 218, 3) := dk_181 0 218 (dk_at dksX0_serves_2 7 rfl rfl)
theorem dX0_serves_58 : decode cX0_serves 58 = .ok (.aload_n 0, 1) := dk_42 (dk_at dksX0_serves_2 10 rfl rfl)
theorem dX0_serves_59 : decode cX0_serves 59 = .ok (.dup, 1) := dk_89 (dk_at dksX0_serves_2 11 rfl rfl)
theorem dX0_serves_60 : decode cX0_serves 60 = .ok (.getfield 204, 3) := dk_180 0 204 (dk_at dksX0_serves_2 12 rfl rfl)
theorem dX0_serves_63 : decode cX0_serves 63 = .ok (.iconst 1, 1) := dk_4 (dk_at dksX0_serves_2 15 rfl rfl)
theorem dX0_serves_64 : decode cX0_serves 64 = .ok (.isub, 1) := dk_100 (dk_at dksX0_serves_2 16 rfl rfl)
theorem dX0_serves_65 : decode cX0_serves 65 = .ok (.putfield 204, 3) := dk_181 0 204 (dk_at dksX0_serves_2 17 rfl rfl)
theorem dX0_serves_68 : decode cX0_serves 68 = .ok (.aload_n 0, 1) := dk_42 (dk_at dksX0_serves_2 20 rfl rfl)
theorem dX0_serves_69 : decode cX0_serves 69 = .ok (.dup, 1) := dk_89 (dk_at dksX0_serves_2 21 rfl rfl)
theorem dX0_serves_70 : decode cX0_serves 70 = .ok (.getfield 237, 3) := dk_180 0 237 (dk_at dksX0_serves_3 0 rfl rfl)
theorem dX0_serves_73 : decode cX0_serves 73 = .ok (.iconst 1, 1) := dk_4 (dk_at dksX0_serves_3 3 rfl rfl)
theorem dX0_serves_74 : decode cX0_serves 74 = .ok (.iadd, 1) := dk_96 (dk_at dksX0_serves_3 4 rfl rfl)
theorem dX0_serves_75 : decode cX0_serves 75 = .ok (.putfield 237, 3) := dk_181 0 237 (dk_at dksX0_serves_3 5 rfl rfl)
theorem dX0_serves_78 : decode cX0_serves 78 = .ok (.aload_n 0, 1) := dk_42 (dk_at dksX0_serves_3 8 rfl rfl)
theorem dX0_serves_79 : decode cX0_serves 79 = .ok (.getfield 50, 3) := dk_180 0 50 (dk_at dksX0_serves_3 9 rfl rfl)
theorem dX0_serves_82 : decode cX0_serves 82 = .ok (.iload_n 2, 1) := dk_28 (dk_at dksX0_serves_3 12 rfl rfl)
theorem dX0_serves_83 : decode cX0_serves 83 = .ok (.invokevirtual 168, 3) := dk_182 0 168 (dk_at dksX0_serves_3 13 rfl rfl)
theorem dX0_serves_86 : decode cX0_serves 86 = .ok (.pop, 1) := dk_87 (dk_at dksX0_serves_3 16 rfl rfl)
theorem dX0_serves_87 : decode cX0_serves 87 = .ok (.aload_n 3, 1) := dk_45 (dk_at dksX0_serves_3 17 rfl rfl)
theorem dX0_serves_88 : decode cX0_serves 88 = .ok (.iload_n 1, 1) := dk_27 (dk_at dksX0_serves_3 18 rfl rfl)
theorem dX0_serves_89 : decode cX0_serves 89 = .ok (.invokevirtual 240, 3) := dk_182 0 240 (dk_at dksX0_serves_3 19 rfl rfl)
theorem dX0_serves_92 : decode cX0_serves 92 = .ok (.aload_n 0, 1) := dk_42 (dk_at dksX0_serves_3 22 rfl rfl)
theorem dX0_serves_93 : decode cX0_serves 93 = .ok (.getfield 37, 3) := dk_180 0 37 (dk_at dksX0_serves_4 0 rfl rfl)
theorem dX0_serves_96 : decode cX0_serves 96 = .ok (.aload_n 3, 1) := dk_45 (dk_at dksX0_serves_4 3 rfl rfl)
theorem dX0_serves_97 : decode cX0_serves 97 = .ok (.invokevirtual 243, 3) := dk_182 0 243 (dk_at dksX0_serves_4 4 rfl rfl)
theorem dX0_serves_100 : decode cX0_serves 100 = .ok (.ireturn, 1) := dk_172 (dk_at dksX0_serves_4 7 rfl rfl)
theorem dX0_serves_101 : decode cX0_serves 101 = .ok (.iinc 2 1, 3) := dk_132 2 1 (dk_at dksX0_serves_4 8 rfl rfl)
theorem dX0_serves_104 : decode cX0_serves 104 = .ok (.goto (-102), 3) := dk_167 255 154 (dk_at dksX0_serves_4 11 rfl rfl)
theorem dX0_serves_107 : decode cX0_serves 107 = .ok (.iconst (-1), 1) := dk_2 (dk_at dksX0_serves_4 14 rfl rfl)
theorem dX0_serves_108 : decode cX0_serves 108 = .ok (.ireturn, 1) := dk_172 (dk_at dksX0_serves_4 15 rfl rfl)
abbrev cX0_tire : ByteArray := prog_1_method_27_code
def yX0_tire : MethodName := ⟨RX0, "tire", "()V"⟩
def dkwX0_tire_2 : List UInt8 := [167, 0, 17, 44, 7, 181, 0, 250, 42, 180, 0, 50, 27, 182, 0, 168, 87, 132, 1, 255, 167, 255, 201, 177]
abbrev dktX0_tire_2 : List UInt8 := dkwX0_tire_2 ++ []
def dkwX0_tire_1 : List UInt8 := [192, 0, 75, 77, 44, 89, 180, 0, 247, 4, 96, 181, 0, 247, 44, 180, 0, 247, 16, 6, 162, 0, 6]
abbrev dktX0_tire_1 : List UInt8 := dkwX0_tire_1 ++ dktX0_tire_2
def dkwX0_tire_0 : List UInt8 := [42, 180, 0, 50, 182, 0, 123, 4, 100, 60, 27, 155, 0, 57, 42, 180, 0, 50, 27, 182, 0, 138]
abbrev dktX0_tire_0 : List UInt8 := dkwX0_tire_0 ++ dktX0_tire_1
theorem dksX0_tire_0 : cX0_tire.data.toList.drop 0 = dktX0_tire_0 := by decide +kernel
theorem dksX0_tire_1 : cX0_tire.data.toList.drop 22 = dktX0_tire_1 := dk_seg dksX0_tire_0 22 rfl rfl
theorem dksX0_tire_2 : cX0_tire.data.toList.drop 45 = dktX0_tire_2 := dk_seg dksX0_tire_1 23 rfl rfl
theorem dX0_tire_0 : decode cX0_tire 0 = .ok (.aload_n 0, 1) := dk_42 (dk_at dksX0_tire_0 0 rfl rfl)
theorem dX0_tire_1 : decode cX0_tire 1 = .ok (.getfield 50, 3) := dk_180 0 50 (dk_at dksX0_tire_0 1 rfl rfl)
theorem dX0_tire_4 : decode cX0_tire 4 = .ok (.invokevirtual 123, 3) := dk_182 0 123 (dk_at dksX0_tire_0 4 rfl rfl)
theorem dX0_tire_7 : decode cX0_tire 7 = .ok (.iconst 1, 1) := dk_4 (dk_at dksX0_tire_0 7 rfl rfl)
theorem dX0_tire_8 : decode cX0_tire 8 = .ok (.isub, 1) := dk_100 (dk_at dksX0_tire_0 8 rfl rfl)
theorem dX0_tire_9 : decode cX0_tire 9 = .ok (.istore_n 1, 1) := dk_60 (dk_at dksX0_tire_0 9 rfl rfl)
theorem dX0_tire_10 : decode cX0_tire 10 = .ok (.iload_n 1, 1) := dk_27 (dk_at dksX0_tire_0 10 rfl rfl)
theorem dX0_tire_11 : decode cX0_tire 11 = .ok (.ifCond .lt 57, 3) := dk_155 0 57 (dk_at dksX0_tire_0 11 rfl rfl)
theorem dX0_tire_14 : decode cX0_tire 14 = .ok (.aload_n 0, 1) := dk_42 (dk_at dksX0_tire_0 14 rfl rfl)
theorem dX0_tire_15 : decode cX0_tire 15 = .ok (.getfield 50, 3) := dk_180 0 50 (dk_at dksX0_tire_0 15 rfl rfl)
theorem dX0_tire_18 : decode cX0_tire 18 = .ok (.iload_n 1, 1) := dk_27 (dk_at dksX0_tire_0 18 rfl rfl)
theorem dX0_tire_19 : decode cX0_tire 19 = .ok (.invokevirtual 138, 3) := dk_182 0 138 (dk_at dksX0_tire_0 19 rfl rfl)
theorem dX0_tire_22 : decode cX0_tire 22 = .ok (.checkcast 75, 3) := dk_192 0 75 (dk_at dksX0_tire_1 0 rfl rfl)
theorem dX0_tire_25 : decode cX0_tire 25 = .ok (.astore_n 2, 1) := dk_77 (dk_at dksX0_tire_1 3 rfl rfl)
theorem dX0_tire_26 : decode cX0_tire 26 = .ok (.aload_n 2, 1) := dk_44 (dk_at dksX0_tire_1 4 rfl rfl)
theorem dX0_tire_27 : decode cX0_tire 27 = .ok (.dup, 1) := dk_89 (dk_at dksX0_tire_1 5 rfl rfl)
theorem dX0_tire_28 : decode cX0_tire 28 = .ok (.getfield 247, 3) := dk_180 0 247 (dk_at dksX0_tire_1 6 rfl rfl)
theorem dX0_tire_31 : decode cX0_tire 31 = .ok (.iconst 1, 1) := dk_4 (dk_at dksX0_tire_1 9 rfl rfl)
theorem dX0_tire_32 : decode cX0_tire 32 = .ok (.iadd, 1) := dk_96 (dk_at dksX0_tire_1 10 rfl rfl)
theorem dX0_tire_33 : decode cX0_tire 33 = .ok (.putfield 247, 3) := dk_181 0 247 (dk_at dksX0_tire_1 11 rfl rfl)
theorem dX0_tire_36 : decode cX0_tire 36 = .ok (.aload_n 2, 1) := dk_44 (dk_at dksX0_tire_1 14 rfl rfl)
theorem dX0_tire_37 : decode cX0_tire 37 = .ok (.getfield 247, 3) := dk_180 0 247 (dk_at dksX0_tire_1 15 rfl rfl)
theorem dX0_tire_40 : decode cX0_tire 40 = .ok (.bipush 6, 2) := dk_16 6 (dk_at dksX0_tire_1 18 rfl rfl)
theorem dX0_tire_42 : decode cX0_tire 42 = .ok (.if_icmp .ge 6, 3) := dk_162 0 6 (dk_at dksX0_tire_1 20 rfl rfl)
theorem dX0_tire_45 : decode cX0_tire 45 = .ok (.goto 17, 3) := dk_167 0 17 (dk_at dksX0_tire_2 0 rfl rfl)
theorem dX0_tire_48 : decode cX0_tire 48 = .ok (.aload_n 2, 1) := dk_44 (dk_at dksX0_tire_2 3 rfl rfl)
theorem dX0_tire_49 : decode cX0_tire 49 = .ok (.iconst 4, 1) := dk_7 (dk_at dksX0_tire_2 4 rfl rfl)
theorem dX0_tire_50 : decode cX0_tire 50 = .ok (.putfield 250, 3) := dk_181 0 250 (dk_at dksX0_tire_2 5 rfl rfl)
theorem dX0_tire_53 : decode cX0_tire 53 = .ok (.aload_n 0, 1) := dk_42 (dk_at dksX0_tire_2 8 rfl rfl)
theorem dX0_tire_54 : decode cX0_tire 54 = .ok (.getfield 50, 3) := dk_180 0 50 (dk_at dksX0_tire_2 9 rfl rfl)
theorem dX0_tire_57 : decode cX0_tire 57 = .ok (.iload_n 1, 1) := dk_27 (dk_at dksX0_tire_2 12 rfl rfl)
theorem dX0_tire_58 : decode cX0_tire 58 = .ok (.invokevirtual 168, 3) := dk_182 0 168 (dk_at dksX0_tire_2 13 rfl rfl)
theorem dX0_tire_61 : decode cX0_tire 61 = .ok (.pop, 1) := dk_87 (dk_at dksX0_tire_2 16 rfl rfl)
theorem dX0_tire_62 : decode cX0_tire 62 = .ok (.iinc 1 (-1), 3) := dk_132 1 255 (dk_at dksX0_tire_2 17 rfl rfl)
theorem dX0_tire_65 : decode cX0_tire 65 = .ok (.goto (-55), 3) := dk_167 255 201 (dk_at dksX0_tire_2 20 rfl rfl)
theorem dX0_tire_68 : decode cX0_tire 68 = .ok (.return_, 1) := dk_177 (dk_at dksX0_tire_2 23 rfl rfl)
abbrev cX0_is : ByteArray := prog_1_method_31_code
def yX0_is : MethodName := ⟨RX0, "is", "(III)I"⟩
def dkwX0_is_1 : List UInt8 := [153, 0, 16, 42, 180, 0, 63, 27, 50, 28, 50, 29, 46, 167, 0, 5, 16, 254, 172]
abbrev dktX0_is_1 : List UInt8 := dkwX0_is_1 ++ []
def dkwX0_is_0 : List UInt8 := [42, 182, 1, 29, 27, 184, 0, 155, 153, 0, 31, 42, 28, 182, 0, 147, 153, 0, 23, 29, 184, 0, 101]
abbrev dktX0_is_0 : List UInt8 := dkwX0_is_0 ++ dktX0_is_1
theorem dksX0_is_0 : cX0_is.data.toList.drop 0 = dktX0_is_0 := by decide +kernel
theorem dksX0_is_1 : cX0_is.data.toList.drop 23 = dktX0_is_1 := dk_seg dksX0_is_0 23 rfl rfl
theorem dX0_is_0 : decode cX0_is 0 = .ok (.aload_n 0, 1) := dk_42 (dk_at dksX0_is_0 0 rfl rfl)
theorem dX0_is_1 : decode cX0_is 1 = .ok (.invokevirtual 285, 3) := dk_182 1 29 (dk_at dksX0_is_0 1 rfl rfl)
theorem dX0_is_4 : decode cX0_is 4 = .ok (.iload_n 1, 1) := dk_27 (dk_at dksX0_is_0 4 rfl rfl)
theorem dX0_is_5 : decode cX0_is 5 = .ok (.invokestatic 155, 3) := dk_184 0 155 (dk_at dksX0_is_0 5 rfl rfl)
theorem dX0_is_8 : decode cX0_is 8 = .ok (.ifCond .eq 31, 3) := dk_153 0 31 (dk_at dksX0_is_0 8 rfl rfl)
theorem dX0_is_11 : decode cX0_is 11 = .ok (.aload_n 0, 1) := dk_42 (dk_at dksX0_is_0 11 rfl rfl)
theorem dX0_is_12 : decode cX0_is 12 = .ok (.iload_n 2, 1) := dk_28 (dk_at dksX0_is_0 12 rfl rfl)
theorem dX0_is_13 : decode cX0_is 13 = .ok (.invokevirtual 147, 3) := dk_182 0 147 (dk_at dksX0_is_0 13 rfl rfl)
theorem dX0_is_16 : decode cX0_is 16 = .ok (.ifCond .eq 23, 3) := dk_153 0 23 (dk_at dksX0_is_0 16 rfl rfl)
theorem dX0_is_19 : decode cX0_is 19 = .ok (.iload_n 3, 1) := dk_29 (dk_at dksX0_is_0 19 rfl rfl)
theorem dX0_is_20 : decode cX0_is 20 = .ok (.invokestatic 101, 3) := dk_184 0 101 (dk_at dksX0_is_0 20 rfl rfl)
theorem dX0_is_23 : decode cX0_is 23 = .ok (.ifCond .eq 16, 3) := dk_153 0 16 (dk_at dksX0_is_1 0 rfl rfl)
theorem dX0_is_26 : decode cX0_is 26 = .ok (.aload_n 0, 1) := dk_42 (dk_at dksX0_is_1 3 rfl rfl)
theorem dX0_is_27 : decode cX0_is 27 = .ok (.getfield 63, 3) := dk_180 0 63 (dk_at dksX0_is_1 4 rfl rfl)
theorem dX0_is_30 : decode cX0_is 30 = .ok (.iload_n 1, 1) := dk_27 (dk_at dksX0_is_1 7 rfl rfl)
theorem dX0_is_31 : decode cX0_is 31 = .ok (.aaload, 1) := dk_50 (dk_at dksX0_is_1 8 rfl rfl)
theorem dX0_is_32 : decode cX0_is 32 = .ok (.iload_n 2, 1) := dk_28 (dk_at dksX0_is_1 9 rfl rfl)
theorem dX0_is_33 : decode cX0_is 33 = .ok (.aaload, 1) := dk_50 (dk_at dksX0_is_1 10 rfl rfl)
theorem dX0_is_34 : decode cX0_is 34 = .ok (.iload_n 3, 1) := dk_29 (dk_at dksX0_is_1 11 rfl rfl)
theorem dX0_is_35 : decode cX0_is 35 = .ok (.iaload, 1) := dk_46 (dk_at dksX0_is_1 12 rfl rfl)
theorem dX0_is_36 : decode cX0_is 36 = .ok (.goto 5, 3) := dk_167 0 5 (dk_at dksX0_is_1 13 rfl rfl)
theorem dX0_is_39 : decode cX0_is 39 = .ok (.bipush (-2), 2) := dk_16 254 (dk_at dksX0_is_1 16 rfl rfl)
theorem dX0_is_41 : decode cX0_is 41 = .ok (.ireturn, 1) := dk_172 (dk_at dksX0_is_1 18 rfl rfl)
abbrev cX0_line : ByteArray := prog_1_method_32_code
def yX0_line : MethodName := ⟨RX0, "line", "(I)I"⟩
def dkwX0_line_0 : List UInt8 := [42, 182, 1, 29, 27, 184, 0, 155, 153, 0, 12, 42, 180, 0, 58, 27, 46, 167, 0, 5, 16, 254, 172]
abbrev dktX0_line_0 : List UInt8 := dkwX0_line_0 ++ []
theorem dksX0_line_0 : cX0_line.data.toList.drop 0 = dktX0_line_0 := by decide +kernel
theorem dX0_line_0 : decode cX0_line 0 = .ok (.aload_n 0, 1) := dk_42 (dk_at dksX0_line_0 0 rfl rfl)
theorem dX0_line_1 : decode cX0_line 1 = .ok (.invokevirtual 285, 3) := dk_182 1 29 (dk_at dksX0_line_0 1 rfl rfl)
theorem dX0_line_4 : decode cX0_line 4 = .ok (.iload_n 1, 1) := dk_27 (dk_at dksX0_line_0 4 rfl rfl)
theorem dX0_line_5 : decode cX0_line 5 = .ok (.invokestatic 155, 3) := dk_184 0 155 (dk_at dksX0_line_0 5 rfl rfl)
theorem dX0_line_8 : decode cX0_line 8 = .ok (.ifCond .eq 12, 3) := dk_153 0 12 (dk_at dksX0_line_0 8 rfl rfl)
theorem dX0_line_11 : decode cX0_line 11 = .ok (.aload_n 0, 1) := dk_42 (dk_at dksX0_line_0 11 rfl rfl)
theorem dX0_line_12 : decode cX0_line 12 = .ok (.getfield 58, 3) := dk_180 0 58 (dk_at dksX0_line_0 12 rfl rfl)
theorem dX0_line_15 : decode cX0_line 15 = .ok (.iload_n 1, 1) := dk_27 (dk_at dksX0_line_0 15 rfl rfl)
theorem dX0_line_16 : decode cX0_line 16 = .ok (.iaload, 1) := dk_46 (dk_at dksX0_line_0 16 rfl rfl)
theorem dX0_line_17 : decode cX0_line 17 = .ok (.goto 5, 3) := dk_167 0 5 (dk_at dksX0_line_0 17 rfl rfl)
theorem dX0_line_20 : decode cX0_line 20 = .ok (.bipush (-2), 2) := dk_16 254 (dk_at dksX0_line_0 20 rfl rfl)
theorem dX0_line_22 : decode cX0_line 22 = .ok (.ireturn, 1) := dk_172 (dk_at dksX0_line_0 22 rfl rfl)
abbrev cX0_sum : ByteArray := prog_1_method_36_code
def yX0_sum : MethodName := ⟨RX0, "sum", "(I)I"⟩
def dkwX0_sum_1 : List UInt8 := [16, 254, 172]
abbrev dktX0_sum_1 : List UInt8 := dkwX0_sum_1 ++ []
def dkwX0_sum_0 : List UInt8 := [42, 182, 1, 29, 27, 133, 9, 20, 1, 40, 184, 0, 95, 153, 0, 11, 42, 27, 182, 1, 42, 167, 0, 5]
abbrev dktX0_sum_0 : List UInt8 := dkwX0_sum_0 ++ dktX0_sum_1
theorem dksX0_sum_0 : cX0_sum.data.toList.drop 0 = dktX0_sum_0 := by decide +kernel
theorem dksX0_sum_1 : cX0_sum.data.toList.drop 24 = dktX0_sum_1 := dk_seg dksX0_sum_0 24 rfl rfl
theorem dX0_sum_0 : decode cX0_sum 0 = .ok (.aload_n 0, 1) := dk_42 (dk_at dksX0_sum_0 0 rfl rfl)
theorem dX0_sum_1 : decode cX0_sum 1 = .ok (.invokevirtual 285, 3) := dk_182 1 29 (dk_at dksX0_sum_0 1 rfl rfl)
theorem dX0_sum_4 : decode cX0_sum 4 = .ok (.iload_n 1, 1) := dk_27 (dk_at dksX0_sum_0 4 rfl rfl)
theorem dX0_sum_5 : decode cX0_sum 5 = .ok (.i2l, 1) := dk_133 (dk_at dksX0_sum_0 5 rfl rfl)
theorem dX0_sum_6 : decode cX0_sum 6 = .ok (.lconst 0, 1) := dk_9 (dk_at dksX0_sum_0 6 rfl rfl)
theorem dX0_sum_7 : decode cX0_sum 7 = .ok (.ldc2_w 296, 3) := dk_20 1 40 (dk_at dksX0_sum_0 7 rfl rfl)
theorem dX0_sum_10 : decode cX0_sum 10 = .ok (.invokestatic 95, 3) := dk_184 0 95 (dk_at dksX0_sum_0 10 rfl rfl)
theorem dX0_sum_13 : decode cX0_sum 13 = .ok (.ifCond .eq 11, 3) := dk_153 0 11 (dk_at dksX0_sum_0 13 rfl rfl)
theorem dX0_sum_16 : decode cX0_sum 16 = .ok (.aload_n 0, 1) := dk_42 (dk_at dksX0_sum_0 16 rfl rfl)
theorem dX0_sum_17 : decode cX0_sum 17 = .ok (.iload_n 1, 1) := dk_27 (dk_at dksX0_sum_0 17 rfl rfl)
theorem dX0_sum_18 : decode cX0_sum 18 = .ok (.invokevirtual 298, 3) := dk_182 1 42 (dk_at dksX0_sum_0 18 rfl rfl)
theorem dX0_sum_21 : decode cX0_sum 21 = .ok (.goto 5, 3) := dk_167 0 5 (dk_at dksX0_sum_0 21 rfl rfl)
theorem dX0_sum_24 : decode cX0_sum 24 = .ok (.bipush (-2), 2) := dk_16 254 (dk_at dksX0_sum_1 0 rfl rfl)
theorem dX0_sum_26 : decode cX0_sum 26 = .ok (.ireturn, 1) := dk_172 (dk_at dksX0_sum_1 2 rfl rfl)
abbrev cX0_sumBy : ByteArray := prog_1_method_35_code
def yX0_sumBy : MethodName := ⟨RX0, "sumBy", "(I)I"⟩
def dkwX0_sumBy_3 : List UInt8 := [182, 1, 37, 172]
abbrev dktX0_sumBy_3 : List UInt8 := dkwX0_sumBy_3 ++ []
def dkwX0_sumBy_2 : List UInt8 := [42, 180, 0, 237, 172, 42, 6, 182, 1, 34, 172, 42, 7, 182, 1, 34, 172, 42, 180, 1, 1, 172, 42]
abbrev dktX0_sumBy_2 : List UInt8 := dkwX0_sumBy_2 ++ dktX0_sumBy_3
def dkwX0_sumBy_1 : List UInt8 := [170, 0, 0, 0, 0, 0, 53, 0, 0, 0, 0, 0, 0, 0, 3, 0, 0, 0, 31, 0, 0, 0, 36, 0, 0, 0, 42, 0, 0, 0, 48]
abbrev dktX0_sumBy_1 : List UInt8 := dkwX0_sumBy_1 ++ dktX0_sumBy_2
def dkwX0_sumBy_0 : List UInt8 := [27]
abbrev dktX0_sumBy_0 : List UInt8 := dkwX0_sumBy_0 ++ dktX0_sumBy_1
theorem dksX0_sumBy_0 : cX0_sumBy.data.toList.drop 0 = dktX0_sumBy_0 := by decide +kernel
theorem dksX0_sumBy_1 : cX0_sumBy.data.toList.drop 1 = dktX0_sumBy_1 := dk_seg dksX0_sumBy_0 1 rfl rfl
theorem dksX0_sumBy_2 : cX0_sumBy.data.toList.drop 32 = dktX0_sumBy_2 := dk_seg dksX0_sumBy_1 31 rfl rfl
theorem dksX0_sumBy_3 : cX0_sumBy.data.toList.drop 55 = dktX0_sumBy_3 := dk_seg dksX0_sumBy_2 23 rfl rfl
theorem dX0_sumBy_0 : decode cX0_sumBy 0 = .ok (.iload_n 1, 1) := dk_27 (dk_at dksX0_sumBy_0 0 rfl rfl)
theorem dX0_sumBy_1 : decode cX0_sumBy 1 = .ok (.tableswitch 53 0 3 #[31, 36, 42, 48], 31) := by decide +kernel
theorem dX0_sumBy_32 : decode cX0_sumBy 32 = .ok (.aload_n 0, 1) := dk_42 (dk_at dksX0_sumBy_2 0 rfl rfl)
theorem dX0_sumBy_33 : decode cX0_sumBy 33 = .ok (.getfield 237, 3) := dk_180 0 237 (dk_at dksX0_sumBy_2 1 rfl rfl)
theorem dX0_sumBy_36 : decode cX0_sumBy 36 = .ok (.ireturn, 1) := dk_172 (dk_at dksX0_sumBy_2 4 rfl rfl)
theorem dX0_sumBy_37 : decode cX0_sumBy 37 = .ok (.aload_n 0, 1) := dk_42 (dk_at dksX0_sumBy_2 5 rfl rfl)
theorem dX0_sumBy_38 : decode cX0_sumBy 38 = .ok (.iconst 3, 1) := dk_6 (dk_at dksX0_sumBy_2 6 rfl rfl)
theorem dX0_sumBy_39 : decode cX0_sumBy 39 = .ok (.invokevirtual 290, 3) := dk_182 1 34 (dk_at dksX0_sumBy_2 7 rfl rfl)
theorem dX0_sumBy_42 : decode cX0_sumBy 42 = .ok (.ireturn, 1) := dk_172 (dk_at dksX0_sumBy_2 10 rfl rfl)
theorem dX0_sumBy_43 : decode cX0_sumBy 43 = .ok (.aload_n 0, 1) := dk_42 (dk_at dksX0_sumBy_2 11 rfl rfl)
theorem dX0_sumBy_44 : decode cX0_sumBy 44 = .ok (.iconst 4, 1) := dk_7 (dk_at dksX0_sumBy_2 12 rfl rfl)
theorem dX0_sumBy_45 : decode cX0_sumBy 45 = .ok (.invokevirtual 290, 3) := dk_182 1 34 (dk_at dksX0_sumBy_2 13 rfl rfl)
theorem dX0_sumBy_48 : decode cX0_sumBy 48 = .ok (.ireturn, 1) := dk_172 (dk_at dksX0_sumBy_2 16 rfl rfl)
theorem dX0_sumBy_49 : decode cX0_sumBy 49 = .ok (.aload_n 0, 1) := dk_42 (dk_at dksX0_sumBy_2 17 rfl rfl)
theorem dX0_sumBy_50 : decode cX0_sumBy 50 = .ok (.getfield 257, 3) := dk_180 1 1 (dk_at dksX0_sumBy_2 18 rfl rfl)
theorem dX0_sumBy_53 : decode cX0_sumBy 53 = .ok (.ireturn, 1) := dk_172 (dk_at dksX0_sumBy_2 21 rfl rfl)
theorem dX0_sumBy_54 : decode cX0_sumBy 54 = .ok (.aload_n 0, 1) := dk_42 (dk_at dksX0_sumBy_2 22 rfl rfl)
theorem dX0_sumBy_55 : decode cX0_sumBy 55 = .ok (.invokevirtual 293, 3) := dk_182 1 37 (dk_at dksX0_sumBy_3 0 rfl rfl)
theorem dX0_sumBy_58 : decode cX0_sumBy 58 = .ok (.ireturn, 1) := dk_172 (dk_at dksX0_sumBy_3 3 rfl rfl)
abbrev cX0_manyNow : ByteArray := prog_1_method_33_code
def yX0_manyNow : MethodName := ⟨RX0, "manyNow", "(I)I"⟩
def dkwX0_manyNow_2 : List UInt8 := [172]
abbrev dktX0_manyNow_2 : List UInt8 := dkwX0_manyNow_2 ++ []
def dkwX0_manyNow_1 : List UInt8 := [192, 0, 75, 180, 0, 250, 27, 160, 0, 7, 4, 167, 0, 4, 3, 96, 61, 132, 3, 1, 167, 255, 216, 28]
abbrev dktX0_manyNow_1 : List UInt8 := dkwX0_manyNow_1 ++ dktX0_manyNow_2
def dkwX0_manyNow_0 : List UInt8 := [3, 61, 3, 62, 29, 42, 180, 0, 37, 182, 0, 123, 162, 0, 35, 28, 42, 180, 0, 37, 29, 182, 0, 138]
abbrev dktX0_manyNow_0 : List UInt8 := dkwX0_manyNow_0 ++ dktX0_manyNow_1
theorem dksX0_manyNow_0 : cX0_manyNow.data.toList.drop 0 = dktX0_manyNow_0 := by decide +kernel
theorem dksX0_manyNow_1 : cX0_manyNow.data.toList.drop 24 = dktX0_manyNow_1 := dk_seg dksX0_manyNow_0 24 rfl rfl
theorem dksX0_manyNow_2 : cX0_manyNow.data.toList.drop 48 = dktX0_manyNow_2 := dk_seg dksX0_manyNow_1 24 rfl rfl
theorem dX0_manyNow_0 : decode cX0_manyNow 0 = .ok (.iconst 0, 1) := dk_3 (dk_at dksX0_manyNow_0 0 rfl rfl)
theorem dX0_manyNow_1 : decode cX0_manyNow 1 = .ok (.istore_n 2, 1) := dk_61 (dk_at dksX0_manyNow_0 1 rfl rfl)
theorem dX0_manyNow_2 : decode cX0_manyNow 2 = .ok (.iconst 0, 1) := dk_3 (dk_at dksX0_manyNow_0 2 rfl rfl)
theorem dX0_manyNow_3 : decode cX0_manyNow 3 = .ok (.istore_n 3, 1) := dk_62 (dk_at dksX0_manyNow_0 3 rfl rfl)
theorem dX0_manyNow_4 : decode cX0_manyNow 4 = .ok (.iload_n 3, 1) := dk_29 (dk_at dksX0_manyNow_0 4 rfl rfl)
theorem dX0_manyNow_5 : decode cX0_manyNow 5 = .ok (.aload_n 0, 1) := dk_42 (dk_at dksX0_manyNow_0 5 rfl rfl)
theorem dX0_manyNow_6 : decode cX0_manyNow 6 = .ok (.getfield 37, 3) := dk_180 0 37 (dk_at dksX0_manyNow_0 6 rfl rfl)
theorem dX0_manyNow_9 : decode cX0_manyNow 9 = .ok (.invokevirtual 123, 3) := dk_182 0 123 (dk_at dksX0_manyNow_0 9 rfl rfl)
theorem dX0_manyNow_12 : decode cX0_manyNow 12 = .ok (.if_icmp .ge 35, 3) := dk_162 0 35 (dk_at dksX0_manyNow_0 12 rfl rfl)
theorem dX0_manyNow_15 : decode cX0_manyNow 15 = .ok (.iload_n 2, 1) := dk_28 (dk_at dksX0_manyNow_0 15 rfl rfl)
theorem dX0_manyNow_16 : decode cX0_manyNow 16 = .ok (.aload_n 0, 1) := dk_42 (dk_at dksX0_manyNow_0 16 rfl rfl)
theorem dX0_manyNow_17 : decode cX0_manyNow 17 = .ok (.getfield 37, 3) := dk_180 0 37 (dk_at dksX0_manyNow_0 17 rfl rfl)
theorem dX0_manyNow_20 : decode cX0_manyNow 20 = .ok (.iload_n 3, 1) := dk_29 (dk_at dksX0_manyNow_0 20 rfl rfl)
theorem dX0_manyNow_21 : decode cX0_manyNow 21 = .ok (.invokevirtual 138, 3) := dk_182 0 138 (dk_at dksX0_manyNow_0 21 rfl rfl)
theorem dX0_manyNow_24 : decode cX0_manyNow 24 = .ok (.checkcast 75, 3) := dk_192 0 75 (dk_at dksX0_manyNow_1 0 rfl rfl)
theorem dX0_manyNow_27 : decode cX0_manyNow 27 = .ok (.getfield 250, 3) := dk_180 0 250 (dk_at dksX0_manyNow_1 3 rfl rfl)
theorem dX0_manyNow_30 : decode cX0_manyNow 30 = .ok (.iload_n 1, 1) := dk_27 (dk_at dksX0_manyNow_1 6 rfl rfl)
theorem dX0_manyNow_31 : decode cX0_manyNow 31 = .ok (.if_icmp .ne 7, 3) := dk_160 0 7 (dk_at dksX0_manyNow_1 7 rfl rfl)
theorem dX0_manyNow_34 : decode cX0_manyNow 34 = .ok (.iconst 1, 1) := dk_4 (dk_at dksX0_manyNow_1 10 rfl rfl)
theorem dX0_manyNow_35 : decode cX0_manyNow 35 = .ok (.goto 4, 3) := dk_167 0 4 (dk_at dksX0_manyNow_1 11 rfl rfl)
theorem dX0_manyNow_38 : decode cX0_manyNow 38 = .ok (.iconst 0, 1) := dk_3 (dk_at dksX0_manyNow_1 14 rfl rfl)
theorem dX0_manyNow_39 : decode cX0_manyNow 39 = .ok (.iadd, 1) := dk_96 (dk_at dksX0_manyNow_1 15 rfl rfl)
theorem dX0_manyNow_40 : decode cX0_manyNow 40 = .ok (.istore_n 2, 1) := dk_61 (dk_at dksX0_manyNow_1 16 rfl rfl)
theorem dX0_manyNow_41 : decode cX0_manyNow 41 = .ok (.iinc 3 1, 3) := dk_132 3 1 (dk_at dksX0_manyNow_1 17 rfl rfl)
theorem dX0_manyNow_44 : decode cX0_manyNow 44 = .ok (.goto (-40), 3) := dk_167 255 216 (dk_at dksX0_manyNow_1 20 rfl rfl)
theorem dX0_manyNow_47 : decode cX0_manyNow 47 = .ok (.iload_n 2, 1) := dk_28 (dk_at dksX0_manyNow_1 23 rfl rfl)
theorem dX0_manyNow_48 : decode cX0_manyNow 48 = .ok (.ireturn, 1) := dk_172 (dk_at dksX0_manyNow_2 0 rfl rfl)
abbrev cX0_boiled : ByteArray := prog_1_method_34_code
def yX0_boiled : MethodName := ⟨RX0, "boiled", "()I"⟩
def dkwX0_boiled_1 : List UInt8 := [167, 255, 236, 27, 172]
abbrev dktX0_boiled_1 : List UInt8 := dkwX0_boiled_1 ++ []
def dkwX0_boiled_0 : List UInt8 := [3, 60, 3, 61, 28, 16, 24, 162, 0, 20, 27, 42, 180, 0, 55, 28, 50, 7, 46, 96, 60, 132, 2, 1]
abbrev dktX0_boiled_0 : List UInt8 := dkwX0_boiled_0 ++ dktX0_boiled_1
theorem dksX0_boiled_0 : cX0_boiled.data.toList.drop 0 = dktX0_boiled_0 := by decide +kernel
theorem dksX0_boiled_1 : cX0_boiled.data.toList.drop 24 = dktX0_boiled_1 := dk_seg dksX0_boiled_0 24 rfl rfl
theorem dX0_boiled_0 : decode cX0_boiled 0 = .ok (.iconst 0, 1) := dk_3 (dk_at dksX0_boiled_0 0 rfl rfl)
theorem dX0_boiled_1 : decode cX0_boiled 1 = .ok (.istore_n 1, 1) := dk_60 (dk_at dksX0_boiled_0 1 rfl rfl)
theorem dX0_boiled_2 : decode cX0_boiled 2 = .ok (.iconst 0, 1) := dk_3 (dk_at dksX0_boiled_0 2 rfl rfl)
theorem dX0_boiled_3 : decode cX0_boiled 3 = .ok (.istore_n 2, 1) := dk_61 (dk_at dksX0_boiled_0 3 rfl rfl)
theorem dX0_boiled_4 : decode cX0_boiled 4 = .ok (.iload_n 2, 1) := dk_28 (dk_at dksX0_boiled_0 4 rfl rfl)
theorem dX0_boiled_5 : decode cX0_boiled 5 = .ok (.bipush 24, 2) := dk_16 24 (dk_at dksX0_boiled_0 5 rfl rfl)
theorem dX0_boiled_7 : decode cX0_boiled 7 = .ok (.if_icmp .ge 20, 3) := dk_162 0 20 (dk_at dksX0_boiled_0 7 rfl rfl)
theorem dX0_boiled_10 : decode cX0_boiled 10 = .ok (.iload_n 1, 1) := dk_27 (dk_at dksX0_boiled_0 10 rfl rfl)
theorem dX0_boiled_11 : decode cX0_boiled 11 = .ok (.aload_n 0, 1) := dk_42 (dk_at dksX0_boiled_0 11 rfl rfl)
theorem dX0_boiled_12 : decode cX0_boiled 12 = .ok (.getfield 55, 3) := dk_180 0 55 (dk_at dksX0_boiled_0 12 rfl rfl)
theorem dX0_boiled_15 : decode cX0_boiled 15 = .ok (.iload_n 2, 1) := dk_28 (dk_at dksX0_boiled_0 15 rfl rfl)
theorem dX0_boiled_16 : decode cX0_boiled 16 = .ok (.aaload, 1) := dk_50 (dk_at dksX0_boiled_0 16 rfl rfl)
theorem dX0_boiled_17 : decode cX0_boiled 17 = .ok (.iconst 4, 1) := dk_7 (dk_at dksX0_boiled_0 17 rfl rfl)
theorem dX0_boiled_18 : decode cX0_boiled 18 = .ok (.iaload, 1) := dk_46 (dk_at dksX0_boiled_0 18 rfl rfl)
theorem dX0_boiled_19 : decode cX0_boiled 19 = .ok (.iadd, 1) := dk_96 (dk_at dksX0_boiled_0 19 rfl rfl)
theorem dX0_boiled_20 : decode cX0_boiled 20 = .ok (.istore_n 1, 1) := dk_60 (dk_at dksX0_boiled_0 20 rfl rfl)
theorem dX0_boiled_21 : decode cX0_boiled 21 = .ok (.iinc 2 1, 3) := dk_132 2 1 (dk_at dksX0_boiled_0 21 rfl rfl)
theorem dX0_boiled_24 : decode cX0_boiled 24 = .ok (.goto (-20), 3) := dk_167 255 236 (dk_at dksX0_boiled_1 0 rfl rfl)
theorem dX0_boiled_27 : decode cX0_boiled 27 = .ok (.iload_n 1, 1) := dk_27 (dk_at dksX0_boiled_1 3 rfl rfl)
theorem dX0_boiled_28 : decode cX0_boiled 28 = .ok (.ireturn, 1) := dk_172 (dk_at dksX0_boiled_1 4 rfl rfl)
abbrev cX0_first : ByteArray := prog_1_method_38_code
def yX0_first : MethodName := ⟨RX0, "first", "()I"⟩
def dkwX0_first_0 : List UInt8 := [42, 182, 1, 29, 42, 182, 1, 45, 172]
abbrev dktX0_first_0 : List UInt8 := dkwX0_first_0 ++ []
theorem dksX0_first_0 : cX0_first.data.toList.drop 0 = dktX0_first_0 := by decide +kernel
theorem dX0_first_0 : decode cX0_first 0 = .ok (.aload_n 0, 1) := dk_42 (dk_at dksX0_first_0 0 rfl rfl)
theorem dX0_first_1 : decode cX0_first 1 = .ok (.invokevirtual 285, 3) := dk_182 1 29 (dk_at dksX0_first_0 1 rfl rfl)
theorem dX0_first_4 : decode cX0_first 4 = .ok (.aload_n 0, 1) := dk_42 (dk_at dksX0_first_0 4 rfl rfl)
theorem dX0_first_5 : decode cX0_first 5 = .ok (.invokevirtual 301, 3) := dk_182 1 45 (dk_at dksX0_first_0 5 rfl rfl)
theorem dX0_first_8 : decode cX0_first 8 = .ok (.ireturn, 1) := dk_172 (dk_at dksX0_first_0 8 rfl rfl)
abbrev cX0_firstNow : ByteArray := prog_1_method_37_code
def yX0_firstNow : MethodName := ⟨RX0, "firstNow", "()I"⟩
def dkwX0_firstNow_1 : List UInt8 := [167, 0, 4, 27, 60, 132, 2, 255, 167, 255, 231, 27, 172]
abbrev dktX0_firstNow_1 : List UInt8 := dkwX0_firstNow_1 ++ []
def dkwX0_firstNow_0 : List UInt8 := [2, 60, 16, 23, 61, 28, 155, 0, 27, 42, 180, 0, 55, 28, 50, 7, 46, 4, 160, 0, 7, 28]
abbrev dktX0_firstNow_0 : List UInt8 := dkwX0_firstNow_0 ++ dktX0_firstNow_1
theorem dksX0_firstNow_0 : cX0_firstNow.data.toList.drop 0 = dktX0_firstNow_0 := by decide +kernel
theorem dksX0_firstNow_1 : cX0_firstNow.data.toList.drop 22 = dktX0_firstNow_1 := dk_seg dksX0_firstNow_0 22 rfl rfl
theorem dX0_firstNow_0 : decode cX0_firstNow 0 = .ok (.iconst (-1), 1) := dk_2 (dk_at dksX0_firstNow_0 0 rfl rfl)
theorem dX0_firstNow_1 : decode cX0_firstNow 1 = .ok (.istore_n 1, 1) := dk_60 (dk_at dksX0_firstNow_0 1 rfl rfl)
theorem dX0_firstNow_2 : decode cX0_firstNow 2 = .ok (.bipush 23, 2) := dk_16 23 (dk_at dksX0_firstNow_0 2 rfl rfl)
theorem dX0_firstNow_4 : decode cX0_firstNow 4 = .ok (.istore_n 2, 1) := dk_61 (dk_at dksX0_firstNow_0 4 rfl rfl)
theorem dX0_firstNow_5 : decode cX0_firstNow 5 = .ok (.iload_n 2, 1) := dk_28 (dk_at dksX0_firstNow_0 5 rfl rfl)
theorem dX0_firstNow_6 : decode cX0_firstNow 6 = .ok (.ifCond .lt 27, 3) := dk_155 0 27 (dk_at dksX0_firstNow_0 6 rfl rfl)
theorem dX0_firstNow_9 : decode cX0_firstNow 9 = .ok (.aload_n 0, 1) := dk_42 (dk_at dksX0_firstNow_0 9 rfl rfl)
theorem dX0_firstNow_10 : decode cX0_firstNow 10 = .ok (.getfield 55, 3) := dk_180 0 55 (dk_at dksX0_firstNow_0 10 rfl rfl)
theorem dX0_firstNow_13 : decode cX0_firstNow 13 = .ok (.iload_n 2, 1) := dk_28 (dk_at dksX0_firstNow_0 13 rfl rfl)
theorem dX0_firstNow_14 : decode cX0_firstNow 14 = .ok (.aaload, 1) := dk_50 (dk_at dksX0_firstNow_0 14 rfl rfl)
theorem dX0_firstNow_15 : decode cX0_firstNow 15 = .ok (.iconst 4, 1) := dk_7 (dk_at dksX0_firstNow_0 15 rfl rfl)
theorem dX0_firstNow_16 : decode cX0_firstNow 16 = .ok (.iaload, 1) := dk_46 (dk_at dksX0_firstNow_0 16 rfl rfl)
theorem dX0_firstNow_17 : decode cX0_firstNow 17 = .ok (.iconst 1, 1) := dk_4 (dk_at dksX0_firstNow_0 17 rfl rfl)
theorem dX0_firstNow_18 : decode cX0_firstNow 18 = .ok (.if_icmp .ne 7, 3) := dk_160 0 7 (dk_at dksX0_firstNow_0 18 rfl rfl)
theorem dX0_firstNow_21 : decode cX0_firstNow 21 = .ok (.iload_n 2, 1) := dk_28 (dk_at dksX0_firstNow_0 21 rfl rfl)
theorem dX0_firstNow_22 : decode cX0_firstNow 22 = .ok (.goto 4, 3) := dk_167 0 4 (dk_at dksX0_firstNow_1 0 rfl rfl)
theorem dX0_firstNow_25 : decode cX0_firstNow 25 = .ok (.iload_n 1, 1) := dk_27 (dk_at dksX0_firstNow_1 3 rfl rfl)
theorem dX0_firstNow_26 : decode cX0_firstNow 26 = .ok (.istore_n 1, 1) := dk_60 (dk_at dksX0_firstNow_1 4 rfl rfl)
theorem dX0_firstNow_27 : decode cX0_firstNow 27 = .ok (.iinc 2 (-1), 3) := dk_132 2 255 (dk_at dksX0_firstNow_1 5 rfl rfl)
theorem dX0_firstNow_30 : decode cX0_firstNow 30 = .ok (.goto (-25), 3) := dk_167 255 231 (dk_at dksX0_firstNow_1 8 rfl rfl)
theorem dX0_firstNow_33 : decode cX0_firstNow 33 = .ok (.iload_n 1, 1) := dk_27 (dk_at dksX0_firstNow_1 11 rfl rfl)
theorem dX0_firstNow_34 : decode cX0_firstNow 34 = .ok (.ireturn, 1) := dk_172 (dk_at dksX0_firstNow_1 12 rfl rfl)
abbrev cX0_hottest : ByteArray := prog_1_method_40_code
def yX0_hottest : MethodName := ⟨RX0, "hottest", "(I)I"⟩
def dkwX0_hottest_0 : List UInt8 := [42, 182, 1, 29, 27, 184, 0, 101, 153, 0, 11, 42, 27, 182, 1, 48, 167, 0, 5, 16, 254, 172]
abbrev dktX0_hottest_0 : List UInt8 := dkwX0_hottest_0 ++ []
theorem dksX0_hottest_0 : cX0_hottest.data.toList.drop 0 = dktX0_hottest_0 := by decide +kernel
theorem dX0_hottest_0 : decode cX0_hottest 0 = .ok (.aload_n 0, 1) := dk_42 (dk_at dksX0_hottest_0 0 rfl rfl)
theorem dX0_hottest_1 : decode cX0_hottest 1 = .ok (.invokevirtual 285, 3) := dk_182 1 29 (dk_at dksX0_hottest_0 1 rfl rfl)
theorem dX0_hottest_4 : decode cX0_hottest 4 = .ok (.iload_n 1, 1) := dk_27 (dk_at dksX0_hottest_0 4 rfl rfl)
theorem dX0_hottest_5 : decode cX0_hottest 5 = .ok (.invokestatic 101, 3) := dk_184 0 101 (dk_at dksX0_hottest_0 5 rfl rfl)
theorem dX0_hottest_8 : decode cX0_hottest 8 = .ok (.ifCond .eq 11, 3) := dk_153 0 11 (dk_at dksX0_hottest_0 8 rfl rfl)
theorem dX0_hottest_11 : decode cX0_hottest 11 = .ok (.aload_n 0, 1) := dk_42 (dk_at dksX0_hottest_0 11 rfl rfl)
theorem dX0_hottest_12 : decode cX0_hottest 12 = .ok (.iload_n 1, 1) := dk_27 (dk_at dksX0_hottest_0 12 rfl rfl)
theorem dX0_hottest_13 : decode cX0_hottest 13 = .ok (.invokevirtual 304, 3) := dk_182 1 48 (dk_at dksX0_hottest_0 13 rfl rfl)
theorem dX0_hottest_16 : decode cX0_hottest 16 = .ok (.goto 5, 3) := dk_167 0 5 (dk_at dksX0_hottest_0 16 rfl rfl)
theorem dX0_hottest_19 : decode cX0_hottest 19 = .ok (.bipush (-2), 2) := dk_16 254 (dk_at dksX0_hottest_0 19 rfl rfl)
theorem dX0_hottest_21 : decode cX0_hottest 21 = .ok (.ireturn, 1) := dk_172 (dk_at dksX0_hottest_0 21 rfl rfl)
abbrev cX0_hottestBy : ByteArray := prog_1_method_39_code
def yX0_hottestBy : MethodName := ⟨RX0, "hottestBy", "(I)I"⟩
def dkwX0_hottestBy_2 : List UInt8 := [167, 0, 11, 42, 180, 0, 55, 28, 50, 3, 46, 172]
abbrev dktX0_hottestBy_2 : List UInt8 := dkwX0_hottestBy_2 ++ []
def dkwX0_hottestBy_1 : List UInt8 := [3, 46, 164, 0, 7, 29, 167, 0, 4, 28, 61, 132, 3, 1, 167, 255, 222, 27, 154, 0, 7, 28]
abbrev dktX0_hottestBy_1 : List UInt8 := dkwX0_hottestBy_1 ++ dktX0_hottestBy_2
def dkwX0_hottestBy_0 : List UInt8 := [3, 61, 4, 62, 29, 16, 24, 162, 0, 34, 42, 180, 0, 55, 29, 50, 3, 46, 42, 180, 0, 55, 28, 50]
abbrev dktX0_hottestBy_0 : List UInt8 := dkwX0_hottestBy_0 ++ dktX0_hottestBy_1
theorem dksX0_hottestBy_0 : cX0_hottestBy.data.toList.drop 0 = dktX0_hottestBy_0 := by decide +kernel
theorem dksX0_hottestBy_1 : cX0_hottestBy.data.toList.drop 24 = dktX0_hottestBy_1 := dk_seg dksX0_hottestBy_0 24 rfl rfl
theorem dksX0_hottestBy_2 : cX0_hottestBy.data.toList.drop 46 = dktX0_hottestBy_2 := dk_seg dksX0_hottestBy_1 22 rfl rfl
theorem dX0_hottestBy_0 : decode cX0_hottestBy 0 = .ok (.iconst 0, 1) := dk_3 (dk_at dksX0_hottestBy_0 0 rfl rfl)
theorem dX0_hottestBy_1 : decode cX0_hottestBy 1 = .ok (.istore_n 2, 1) := dk_61 (dk_at dksX0_hottestBy_0 1 rfl rfl)
theorem dX0_hottestBy_2 : decode cX0_hottestBy 2 = .ok (.iconst 1, 1) := dk_4 (dk_at dksX0_hottestBy_0 2 rfl rfl)
theorem dX0_hottestBy_3 : decode cX0_hottestBy 3 = .ok (.istore_n 3, 1) := dk_62 (dk_at dksX0_hottestBy_0 3 rfl rfl)
theorem dX0_hottestBy_4 : decode cX0_hottestBy 4 = .ok (.iload_n 3, 1) := dk_29 (dk_at dksX0_hottestBy_0 4 rfl rfl)
theorem dX0_hottestBy_5 : decode cX0_hottestBy 5 = .ok (.bipush 24, 2) := dk_16 24 (dk_at dksX0_hottestBy_0 5 rfl rfl)
theorem dX0_hottestBy_7 : decode cX0_hottestBy 7 = .ok (.if_icmp .ge 34, 3) := dk_162 0 34 (dk_at dksX0_hottestBy_0 7 rfl rfl)
theorem dX0_hottestBy_10 : decode cX0_hottestBy 10 = .ok (.aload_n 0, 1) := dk_42 (dk_at dksX0_hottestBy_0 10 rfl rfl)
theorem dX0_hottestBy_11 : decode cX0_hottestBy 11 = .ok (.getfield 55, 3) := dk_180 0 55 (dk_at dksX0_hottestBy_0 11 rfl rfl)
theorem dX0_hottestBy_14 : decode cX0_hottestBy 14 = .ok (.iload_n 3, 1) := dk_29 (dk_at dksX0_hottestBy_0 14 rfl rfl)
theorem dX0_hottestBy_15 : decode cX0_hottestBy 15 = .ok (.aaload, 1) := dk_50 (dk_at dksX0_hottestBy_0 15 rfl rfl)
theorem dX0_hottestBy_16 : decode cX0_hottestBy 16 = .ok (.iconst 0, 1) := dk_3 (dk_at dksX0_hottestBy_0 16 rfl rfl)
theorem dX0_hottestBy_17 : decode cX0_hottestBy 17 = .ok (.iaload, 1) := dk_46 (dk_at dksX0_hottestBy_0 17 rfl rfl)
theorem dX0_hottestBy_18 : decode cX0_hottestBy 18 = .ok (.aload_n 0, 1) := dk_42 (dk_at dksX0_hottestBy_0 18 rfl rfl)
theorem dX0_hottestBy_19 : decode cX0_hottestBy 19 = .ok (.getfield 55, 3) := dk_180 0 55 (dk_at dksX0_hottestBy_0 19 rfl rfl)
theorem dX0_hottestBy_22 : decode cX0_hottestBy 22 = .ok (.iload_n 2, 1) := dk_28 (dk_at dksX0_hottestBy_0 22 rfl rfl)
theorem dX0_hottestBy_23 : decode cX0_hottestBy 23 = .ok (.aaload, 1) := dk_50 (dk_at dksX0_hottestBy_0 23 rfl rfl)
theorem dX0_hottestBy_24 : decode cX0_hottestBy 24 = .ok (.iconst 0, 1) := dk_3 (dk_at dksX0_hottestBy_1 0 rfl rfl)
theorem dX0_hottestBy_25 : decode cX0_hottestBy 25 = .ok (.iaload, 1) := dk_46 (dk_at dksX0_hottestBy_1 1 rfl rfl)
theorem dX0_hottestBy_26 : decode cX0_hottestBy 26 = .ok (.if_icmp .le 7, 3) := dk_164 0 7 (dk_at dksX0_hottestBy_1 2 rfl rfl)
theorem dX0_hottestBy_29 : decode cX0_hottestBy 29 = .ok (.iload_n 3, 1) := dk_29 (dk_at dksX0_hottestBy_1 5 rfl rfl)
theorem dX0_hottestBy_30 : decode cX0_hottestBy 30 = .ok (.goto 4, 3) := dk_167 0 4 (dk_at dksX0_hottestBy_1 6 rfl rfl)
theorem dX0_hottestBy_33 : decode cX0_hottestBy 33 = .ok (.iload_n 2, 1) := dk_28 (dk_at dksX0_hottestBy_1 9 rfl rfl)
theorem dX0_hottestBy_34 : decode cX0_hottestBy 34 = .ok (.istore_n 2, 1) := dk_61 (dk_at dksX0_hottestBy_1 10 rfl rfl)
theorem dX0_hottestBy_35 : decode cX0_hottestBy 35 = .ok (.iinc 3 1, 3) := dk_132 3 1 (dk_at dksX0_hottestBy_1 11 rfl rfl)
theorem dX0_hottestBy_38 : decode cX0_hottestBy 38 = .ok (.goto (-34), 3) := dk_167 255 222 (dk_at dksX0_hottestBy_1 14 rfl rfl)
theorem dX0_hottestBy_41 : decode cX0_hottestBy 41 = .ok (.iload_n 1, 1) := dk_27 (dk_at dksX0_hottestBy_1 17 rfl rfl)
theorem dX0_hottestBy_42 : decode cX0_hottestBy 42 = .ok (.ifCond .ne 7, 3) := dk_154 0 7 (dk_at dksX0_hottestBy_1 18 rfl rfl)
theorem dX0_hottestBy_45 : decode cX0_hottestBy 45 = .ok (.iload_n 2, 1) := dk_28 (dk_at dksX0_hottestBy_1 21 rfl rfl)
theorem dX0_hottestBy_46 : decode cX0_hottestBy 46 = .ok (.goto 11, 3) := dk_167 0 11 (dk_at dksX0_hottestBy_2 0 rfl rfl)
theorem dX0_hottestBy_49 : decode cX0_hottestBy 49 = .ok (.aload_n 0, 1) := dk_42 (dk_at dksX0_hottestBy_2 3 rfl rfl)
theorem dX0_hottestBy_50 : decode cX0_hottestBy 50 = .ok (.getfield 55, 3) := dk_180 0 55 (dk_at dksX0_hottestBy_2 4 rfl rfl)
theorem dX0_hottestBy_53 : decode cX0_hottestBy 53 = .ok (.iload_n 2, 1) := dk_28 (dk_at dksX0_hottestBy_2 7 rfl rfl)
theorem dX0_hottestBy_54 : decode cX0_hottestBy 54 = .ok (.aaload, 1) := dk_50 (dk_at dksX0_hottestBy_2 8 rfl rfl)
theorem dX0_hottestBy_55 : decode cX0_hottestBy 55 = .ok (.iconst 0, 1) := dk_3 (dk_at dksX0_hottestBy_2 9 rfl rfl)
theorem dX0_hottestBy_56 : decode cX0_hottestBy 56 = .ok (.iaload, 1) := dk_46 (dk_at dksX0_hottestBy_2 10 rfl rfl)
theorem dX0_hottestBy_57 : decode cX0_hottestBy 57 = .ok (.ireturn, 1) := dk_172 (dk_at dksX0_hottestBy_2 11 rfl rfl)
abbrev cX0_waited : ByteArray := prog_1_method_41_code
def yX0_waited : MethodName := ⟨RX0, "waited", "(I)I"⟩
def dkwX0_waited_1 : List UInt8 := [180, 1, 17, 167, 0, 5, 16, 254, 172]
abbrev dktX0_waited_1 : List UInt8 := dkwX0_waited_1 ++ []
def dkwX0_waited_0 : List UInt8 := [42, 182, 1, 29, 42, 27, 182, 0, 147, 153, 0, 20, 42, 180, 0, 37, 27, 182, 0, 138, 192, 0, 75]
abbrev dktX0_waited_0 : List UInt8 := dkwX0_waited_0 ++ dktX0_waited_1
theorem dksX0_waited_0 : cX0_waited.data.toList.drop 0 = dktX0_waited_0 := by decide +kernel
theorem dksX0_waited_1 : cX0_waited.data.toList.drop 23 = dktX0_waited_1 := dk_seg dksX0_waited_0 23 rfl rfl
theorem dX0_waited_0 : decode cX0_waited 0 = .ok (.aload_n 0, 1) := dk_42 (dk_at dksX0_waited_0 0 rfl rfl)
theorem dX0_waited_1 : decode cX0_waited 1 = .ok (.invokevirtual 285, 3) := dk_182 1 29 (dk_at dksX0_waited_0 1 rfl rfl)
theorem dX0_waited_4 : decode cX0_waited 4 = .ok (.aload_n 0, 1) := dk_42 (dk_at dksX0_waited_0 4 rfl rfl)
theorem dX0_waited_5 : decode cX0_waited 5 = .ok (.iload_n 1, 1) := dk_27 (dk_at dksX0_waited_0 5 rfl rfl)
theorem dX0_waited_6 : decode cX0_waited 6 = .ok (.invokevirtual 147, 3) := dk_182 0 147 (dk_at dksX0_waited_0 6 rfl rfl)
theorem dX0_waited_9 : decode cX0_waited 9 = .ok (.ifCond .eq 20, 3) := dk_153 0 20 (dk_at dksX0_waited_0 9 rfl rfl)
theorem dX0_waited_12 : decode cX0_waited 12 = .ok (.aload_n 0, 1) := dk_42 (dk_at dksX0_waited_0 12 rfl rfl)
theorem dX0_waited_13 : decode cX0_waited 13 = .ok (.getfield 37, 3) := dk_180 0 37 (dk_at dksX0_waited_0 13 rfl rfl)
theorem dX0_waited_16 : decode cX0_waited 16 = .ok (.iload_n 1, 1) := dk_27 (dk_at dksX0_waited_0 16 rfl rfl)
theorem dX0_waited_17 : decode cX0_waited 17 = .ok (.invokevirtual 138, 3) := dk_182 0 138 (dk_at dksX0_waited_0 17 rfl rfl)
theorem dX0_waited_20 : decode cX0_waited 20 = .ok (.checkcast 75, 3) := dk_192 0 75 (dk_at dksX0_waited_0 20 rfl rfl)
theorem dX0_waited_23 : decode cX0_waited 23 = .ok (.getfield 273, 3) := dk_180 1 17 (dk_at dksX0_waited_1 0 rfl rfl)
theorem dX0_waited_26 : decode cX0_waited 26 = .ok (.goto 5, 3) := dk_167 0 5 (dk_at dksX0_waited_1 3 rfl rfl)
theorem dX0_waited_29 : decode cX0_waited 29 = .ok (.bipush (-2), 2) := dk_16 254 (dk_at dksX0_waited_1 6 rfl rfl)
theorem dX0_waited_31 : decode cX0_waited 31 = .ok (.ireturn, 1) := dk_172 (dk_at dksX0_waited_1 8 rfl rfl)
abbrev cX0_thirst : ByteArray := prog_1_method_43_code
def yX0_thirst : MethodName := ⟨RX0, "thirst", "()I"⟩
def dkwX0_thirst_0 : List UInt8 := [42, 182, 1, 29, 42, 182, 1, 54, 172]
abbrev dktX0_thirst_0 : List UInt8 := dkwX0_thirst_0 ++ []
theorem dksX0_thirst_0 : cX0_thirst.data.toList.drop 0 = dktX0_thirst_0 := by decide +kernel
theorem dX0_thirst_0 : decode cX0_thirst 0 = .ok (.aload_n 0, 1) := dk_42 (dk_at dksX0_thirst_0 0 rfl rfl)
theorem dX0_thirst_1 : decode cX0_thirst 1 = .ok (.invokevirtual 285, 3) := dk_182 1 29 (dk_at dksX0_thirst_0 1 rfl rfl)
theorem dX0_thirst_4 : decode cX0_thirst 4 = .ok (.aload_n 0, 1) := dk_42 (dk_at dksX0_thirst_0 4 rfl rfl)
theorem dX0_thirst_5 : decode cX0_thirst 5 = .ok (.invokevirtual 310, 3) := dk_182 1 54 (dk_at dksX0_thirst_0 5 rfl rfl)
theorem dX0_thirst_8 : decode cX0_thirst 8 = .ok (.ireturn, 1) := dk_172 (dk_at dksX0_thirst_0 8 rfl rfl)
abbrev cX0_thirstNow : ByteArray := prog_1_method_42_code
def yX0_thirstNow : MethodName := ⟨RX0, "thirstNow", "()I"⟩
def dkwX0_thirstNow_2 : List UInt8 := [28, 120, 167, 0, 4, 3, 128, 60, 132, 2, 1, 167, 255, 201, 27, 172]
abbrev dktX0_thirstNow_2 : List UInt8 := dkwX0_thirstNow_2 ++ []
def dkwX0_thirstNow_1 : List UInt8 := [192, 0, 75, 180, 1, 14, 42, 180, 0, 37, 28, 182, 0, 138, 192, 0, 75, 180, 1, 51, 162, 0, 9, 4]
abbrev dktX0_thirstNow_1 : List UInt8 := dkwX0_thirstNow_1 ++ dktX0_thirstNow_2
def dkwX0_thirstNow_0 : List UInt8 := [3, 60, 3, 61, 28, 42, 180, 0, 37, 182, 0, 123, 162, 0, 50, 27, 42, 180, 0, 37, 28, 182, 0, 138]
abbrev dktX0_thirstNow_0 : List UInt8 := dkwX0_thirstNow_0 ++ dktX0_thirstNow_1
theorem dksX0_thirstNow_0 : cX0_thirstNow.data.toList.drop 0 = dktX0_thirstNow_0 := by decide +kernel
theorem dksX0_thirstNow_1 : cX0_thirstNow.data.toList.drop 24 = dktX0_thirstNow_1 := dk_seg dksX0_thirstNow_0 24 rfl rfl
theorem dksX0_thirstNow_2 : cX0_thirstNow.data.toList.drop 48 = dktX0_thirstNow_2 := dk_seg dksX0_thirstNow_1 24 rfl rfl
theorem dX0_thirstNow_0 : decode cX0_thirstNow 0 = .ok (.iconst 0, 1) := dk_3 (dk_at dksX0_thirstNow_0 0 rfl rfl)
theorem dX0_thirstNow_1 : decode cX0_thirstNow 1 = .ok (.istore_n 1, 1) := dk_60 (dk_at dksX0_thirstNow_0 1 rfl rfl)
theorem dX0_thirstNow_2 : decode cX0_thirstNow 2 = .ok (.iconst 0, 1) := dk_3 (dk_at dksX0_thirstNow_0 2 rfl rfl)
theorem dX0_thirstNow_3 : decode cX0_thirstNow 3 = .ok (.istore_n 2, 1) := dk_61 (dk_at dksX0_thirstNow_0 3 rfl rfl)
theorem dX0_thirstNow_4 : decode cX0_thirstNow 4 = .ok (.iload_n 2, 1) := dk_28 (dk_at dksX0_thirstNow_0 4 rfl rfl)
theorem dX0_thirstNow_5 : decode cX0_thirstNow 5 = .ok (.aload_n 0, 1) := dk_42 (dk_at dksX0_thirstNow_0 5 rfl rfl)
theorem dX0_thirstNow_6 : decode cX0_thirstNow 6 = .ok (.getfield 37, 3) := dk_180 0 37 (dk_at dksX0_thirstNow_0 6 rfl rfl)
theorem dX0_thirstNow_9 : decode cX0_thirstNow 9 = .ok (.invokevirtual 123, 3) := dk_182 0 123 (dk_at dksX0_thirstNow_0 9 rfl rfl)
theorem dX0_thirstNow_12 : decode cX0_thirstNow 12 = .ok (.if_icmp .ge 50, 3) := dk_162 0 50 (dk_at dksX0_thirstNow_0 12 rfl rfl)
theorem dX0_thirstNow_15 : decode cX0_thirstNow 15 = .ok (.iload_n 1, 1) := dk_27 (dk_at dksX0_thirstNow_0 15 rfl rfl)
theorem dX0_thirstNow_16 : decode cX0_thirstNow 16 = .ok (.aload_n 0, 1) := dk_42 (dk_at dksX0_thirstNow_0 16 rfl rfl)
theorem dX0_thirstNow_17 : decode cX0_thirstNow 17 = .ok (.getfield 37, 3) := dk_180 0 37 (dk_at dksX0_thirstNow_0 17 rfl rfl)
theorem dX0_thirstNow_20 : decode cX0_thirstNow 20 = .ok (.iload_n 2, 1) := dk_28 (dk_at dksX0_thirstNow_0 20 rfl rfl)
theorem dX0_thirstNow_21 : decode cX0_thirstNow 21 = .ok (.invokevirtual 138, 3) := dk_182 0 138 (dk_at dksX0_thirstNow_0 21 rfl rfl)
theorem dX0_thirstNow_24 : decode cX0_thirstNow 24 = .ok (.checkcast 75, 3) := dk_192 0 75 (dk_at dksX0_thirstNow_1 0 rfl rfl)
theorem dX0_thirstNow_27 : decode cX0_thirstNow 27 = .ok (.getfield 270, 3) := dk_180 1 14 (dk_at dksX0_thirstNow_1 3 rfl rfl)
theorem dX0_thirstNow_30 : decode cX0_thirstNow 30 = .ok (.aload_n 0, 1) := dk_42 (dk_at dksX0_thirstNow_1 6 rfl rfl)
theorem dX0_thirstNow_31 : decode cX0_thirstNow 31 = .ok (.getfield 37, 3) := dk_180 0 37 (dk_at dksX0_thirstNow_1 7 rfl rfl)
theorem dX0_thirstNow_34 : decode cX0_thirstNow 34 = .ok (.iload_n 2, 1) := dk_28 (dk_at dksX0_thirstNow_1 10 rfl rfl)
theorem dX0_thirstNow_35 : decode cX0_thirstNow 35 = .ok (.invokevirtual 138, 3) := dk_182 0 138 (dk_at dksX0_thirstNow_1 11 rfl rfl)
theorem dX0_thirstNow_38 : decode cX0_thirstNow 38 = .ok (.checkcast 75, 3) := dk_192 0 75 (dk_at dksX0_thirstNow_1 14 rfl rfl)
theorem dX0_thirstNow_41 : decode cX0_thirstNow 41 = .ok (.getfield 307, 3) := dk_180 1 51 (dk_at dksX0_thirstNow_1 17 rfl rfl)
theorem dX0_thirstNow_44 : decode cX0_thirstNow 44 = .ok (.if_icmp .ge 9, 3) := dk_162 0 9 (dk_at dksX0_thirstNow_1 20 rfl rfl)
theorem dX0_thirstNow_47 : decode cX0_thirstNow 47 = .ok (.iconst 1, 1) := dk_4 (dk_at dksX0_thirstNow_1 23 rfl rfl)
theorem dX0_thirstNow_48 : decode cX0_thirstNow 48 = .ok (.iload_n 2, 1) := dk_28 (dk_at dksX0_thirstNow_2 0 rfl rfl)
theorem dX0_thirstNow_49 : decode cX0_thirstNow 49 = .ok (.ishl, 1) := dk_120 (dk_at dksX0_thirstNow_2 1 rfl rfl)
theorem dX0_thirstNow_50 : decode cX0_thirstNow 50 = .ok (.goto 4, 3) := dk_167 0 4 (dk_at dksX0_thirstNow_2 2 rfl rfl)
theorem dX0_thirstNow_53 : decode cX0_thirstNow 53 = .ok (.iconst 0, 1) := dk_3 (dk_at dksX0_thirstNow_2 5 rfl rfl)
theorem dX0_thirstNow_54 : decode cX0_thirstNow 54 = .ok (.ior, 1) := dk_128 (dk_at dksX0_thirstNow_2 6 rfl rfl)
theorem dX0_thirstNow_55 : decode cX0_thirstNow 55 = .ok (.istore_n 1, 1) := dk_60 (dk_at dksX0_thirstNow_2 7 rfl rfl)
theorem dX0_thirstNow_56 : decode cX0_thirstNow 56 = .ok (.iinc 2 1, 3) := dk_132 2 1 (dk_at dksX0_thirstNow_2 8 rfl rfl)
theorem dX0_thirstNow_59 : decode cX0_thirstNow 59 = .ok (.goto (-55), 3) := dk_167 255 201 (dk_at dksX0_thirstNow_2 11 rfl rfl)
theorem dX0_thirstNow_62 : decode cX0_thirstNow 62 = .ok (.iload_n 1, 1) := dk_27 (dk_at dksX0_thirstNow_2 14 rfl rfl)
theorem dX0_thirstNow_63 : decode cX0_thirstNow 63 = .ok (.ireturn, 1) := dk_172 (dk_at dksX0_thirstNow_2 15 rfl rfl)
abbrev cX0_better : ByteArray := prog_1_method_45_code
def yX0_better : MethodName := ⟨RX0, "better", "(II)I"⟩
def dkwX0_better_1 : List UInt8 := [182, 0, 138, 192, 0, 142, 28, 182, 1, 65, 167, 0, 5, 16, 254, 172]
abbrev dktX0_better_1 : List UInt8 := dkwX0_better_1 ++ []
def dkwX0_better_0 : List UInt8 := [42, 27, 182, 0, 133, 153, 0, 32, 28, 184, 0, 101, 153, 0, 25, 42, 42, 180, 0, 14, 180, 0, 122, 27]
abbrev dktX0_better_0 : List UInt8 := dkwX0_better_0 ++ dktX0_better_1
theorem dksX0_better_0 : cX0_better.data.toList.drop 0 = dktX0_better_0 := by decide +kernel
theorem dksX0_better_1 : cX0_better.data.toList.drop 24 = dktX0_better_1 := dk_seg dksX0_better_0 24 rfl rfl
theorem dX0_better_0 : decode cX0_better 0 = .ok (.aload_n 0, 1) := dk_42 (dk_at dksX0_better_0 0 rfl rfl)
theorem dX0_better_1 : decode cX0_better 1 = .ok (.iload_n 1, 1) := dk_27 (dk_at dksX0_better_0 1 rfl rfl)
theorem dX0_better_2 : decode cX0_better 2 = .ok (.invokevirtual 133, 3) := dk_182 0 133 (dk_at dksX0_better_0 2 rfl rfl)
theorem dX0_better_5 : decode cX0_better 5 = .ok (.ifCond .eq 32, 3) := dk_153 0 32 (dk_at dksX0_better_0 5 rfl rfl)
theorem dX0_better_8 : decode cX0_better 8 = .ok (.iload_n 2, 1) := dk_28 (dk_at dksX0_better_0 8 rfl rfl)
theorem dX0_better_9 : decode cX0_better 9 = .ok (.invokestatic 101, 3) := dk_184 0 101 (dk_at dksX0_better_0 9 rfl rfl)
theorem dX0_better_12 : decode cX0_better 12 = .ok (.ifCond .eq 25, 3) := dk_153 0 25 (dk_at dksX0_better_0 12 rfl rfl)
theorem dX0_better_15 : decode cX0_better 15 = .ok (.aload_n 0, 1) := dk_42 (dk_at dksX0_better_0 15 rfl rfl)
theorem dX0_better_16 : decode cX0_better 16 = .ok (.aload_n 0, 1) := dk_42 (dk_at dksX0_better_0 16 rfl rfl)
theorem dX0_better_17 : decode cX0_better 17 = .ok (.getfield 14, 3) := dk_180 0 14 (dk_at dksX0_better_0 17 rfl rfl)
theorem dX0_better_20 : decode cX0_better 20 = .ok (.getfield 122, 3) := dk_180 0 122 (dk_at dksX0_better_0 20 rfl rfl)
theorem dX0_better_23 : decode cX0_better 23 = .ok (.iload_n 1, 1) := dk_27 (dk_at dksX0_better_0 23 rfl rfl)
theorem dX0_better_24 : decode cX0_better 24 = .ok (.invokevirtual 138, 3) := dk_182 0 138 (dk_at dksX0_better_1 0 rfl rfl)
theorem dX0_better_27 : decode cX0_better 27 = .ok (.checkcast 142, 3) := dk_192 0 142 (dk_at dksX0_better_1 3 rfl rfl)
theorem dX0_better_30 : decode cX0_better 30 = .ok (.iload_n 2, 1) := dk_28 (dk_at dksX0_better_1 6 rfl rfl)
theorem dX0_better_31 : decode cX0_better 31 = .ok (.invokevirtual 321, 3) := dk_182 1 65 (dk_at dksX0_better_1 7 rfl rfl)
theorem dX0_better_34 : decode cX0_better 34 = .ok (.goto 5, 3) := dk_167 0 5 (dk_at dksX0_better_1 10 rfl rfl)
theorem dX0_better_37 : decode cX0_better 37 = .ok (.bipush (-2), 2) := dk_16 254 (dk_at dksX0_better_1 13 rfl rfl)
theorem dX0_better_39 : decode cX0_better 39 = .ok (.ireturn, 1) := dk_172 (dk_at dksX0_better_1 15 rfl rfl)
abbrev cX0_betterOf : ByteArray := prog_1_method_44_code
def yX0_betterOf : MethodName := ⟨RX0, "betterOf", "(LSamovar$Piece;I)I"⟩
def dkwX0_betterOf_3 : List UInt8 := [43, 45, 181, 1, 57, 25, 7, 191, 28, 154, 0, 8, 21, 4, 167, 0, 5, 21, 5, 172]
abbrev dktX0_betterOf_3 : List UInt8 := dkwX0_betterOf_3 ++ []
def dkwX0_betterOf_2 : List UInt8 := [54, 4, 42, 180, 0, 237, 54, 5, 132, 6, 1, 167, 255, 211, 43, 45, 181, 1, 57, 167, 0, 13, 58, 7]
abbrev dktX0_betterOf_2 : List UInt8 := dkwX0_betterOf_2 ++ dktX0_betterOf_3
def dkwX0_betterOf_1 : List UInt8 := [21, 6, 50, 181, 1, 57, 42, 182, 1, 29, 42, 180, 0, 237, 21, 5, 163, 0, 6, 167, 0, 13, 21, 6]
abbrev dktX0_betterOf_1 : List UInt8 := dkwX0_betterOf_1 ++ dktX0_betterOf_2
def dkwX0_betterOf_0 : List UInt8 := [43, 180, 1, 57, 78, 2, 54, 4, 2, 54, 5, 3, 54, 6, 21, 6, 6, 162, 0, 45, 43, 178, 1, 61]
abbrev dktX0_betterOf_0 : List UInt8 := dkwX0_betterOf_0 ++ dktX0_betterOf_1
theorem dksX0_betterOf_0 : cX0_betterOf.data.toList.drop 0 = dktX0_betterOf_0 := by decide +kernel
theorem dksX0_betterOf_1 : cX0_betterOf.data.toList.drop 24 = dktX0_betterOf_1 := dk_seg dksX0_betterOf_0 24 rfl rfl
theorem dksX0_betterOf_2 : cX0_betterOf.data.toList.drop 48 = dktX0_betterOf_2 := dk_seg dksX0_betterOf_1 24 rfl rfl
theorem dksX0_betterOf_3 : cX0_betterOf.data.toList.drop 72 = dktX0_betterOf_3 := dk_seg dksX0_betterOf_2 24 rfl rfl
theorem dX0_betterOf_0 : decode cX0_betterOf 0 = .ok (.aload_n 1, 1) := dk_43 (dk_at dksX0_betterOf_0 0 rfl rfl)
theorem dX0_betterOf_1 : decode cX0_betterOf 1 = .ok (.getfield 313, 3) := dk_180 1 57 (dk_at dksX0_betterOf_0 1 rfl rfl)
theorem dX0_betterOf_4 : decode cX0_betterOf 4 = .ok (.astore_n 3, 1) := dk_78 (dk_at dksX0_betterOf_0 4 rfl rfl)
theorem dX0_betterOf_5 : decode cX0_betterOf 5 = .ok (.iconst (-1), 1) := dk_2 (dk_at dksX0_betterOf_0 5 rfl rfl)
theorem dX0_betterOf_6 : decode cX0_betterOf 6 = .ok (.istore 4, 2) := dk_54 4 (dk_at dksX0_betterOf_0 6 rfl rfl)
theorem dX0_betterOf_8 : decode cX0_betterOf 8 = .ok (.iconst (-1), 1) := dk_2 (dk_at dksX0_betterOf_0 8 rfl rfl)
theorem dX0_betterOf_9 : decode cX0_betterOf 9 = .ok (.istore 5, 2) := dk_54 5 (dk_at dksX0_betterOf_0 9 rfl rfl)
theorem dX0_betterOf_11 : decode cX0_betterOf 11 = .ok (.iconst 0, 1) := dk_3 (dk_at dksX0_betterOf_0 11 rfl rfl)
theorem dX0_betterOf_12 : decode cX0_betterOf 12 = .ok (.istore 6, 2) := dk_54 6 (dk_at dksX0_betterOf_0 12 rfl rfl)
theorem dX0_betterOf_14 : decode cX0_betterOf 14 = .ok (.iload 6, 2) := dk_21 6 (dk_at dksX0_betterOf_0 14 rfl rfl)
theorem dX0_betterOf_16 : decode cX0_betterOf 16 = .ok (.iconst 3, 1) := dk_6 (dk_at dksX0_betterOf_0 16 rfl rfl)
theorem dX0_betterOf_17 : decode cX0_betterOf 17 = .ok (.if_icmp .ge 45, 3) := dk_162 0 45 (dk_at dksX0_betterOf_0 17 rfl rfl)
theorem dX0_betterOf_20 : decode cX0_betterOf 20 = .ok (.aload_n 1, 1) := dk_43 (dk_at dksX0_betterOf_0 20 rfl rfl)
theorem dX0_betterOf_21 : decode cX0_betterOf 21 = .ok (.getstatic 317, 3) := dk_178 1 61 (dk_at dksX0_betterOf_0 21 rfl rfl)
theorem dX0_betterOf_24 : decode cX0_betterOf 24 = .ok (.iload 6, 2) := dk_21 6 (dk_at dksX0_betterOf_1 0 rfl rfl)
theorem dX0_betterOf_26 : decode cX0_betterOf 26 = .ok (.aaload, 1) := dk_50 (dk_at dksX0_betterOf_1 2 rfl rfl)
theorem dX0_betterOf_27 : decode cX0_betterOf 27 = .ok (.putfield 313, 3) := dk_181 1 57 (dk_at dksX0_betterOf_1 3 rfl rfl)
theorem dX0_betterOf_30 : decode cX0_betterOf 30 = .ok (.aload_n 0, 1) := dk_42 (dk_at dksX0_betterOf_1 6 rfl rfl)
theorem dX0_betterOf_31 : decode cX0_betterOf 31 = .ok (.invokevirtual 285, 3) := dk_182 1 29 (dk_at dksX0_betterOf_1 7 rfl rfl)
theorem dX0_betterOf_34 : decode cX0_betterOf 34 = .ok (.aload_n 0, 1) := dk_42 (dk_at dksX0_betterOf_1 10 rfl rfl)
theorem dX0_betterOf_35 : decode cX0_betterOf 35 = .ok (.getfield 237, 3) := dk_180 0 237 (dk_at dksX0_betterOf_1 11 rfl rfl)
theorem dX0_betterOf_38 : decode cX0_betterOf 38 = .ok (.iload 5, 2) := dk_21 5 (dk_at dksX0_betterOf_1 14 rfl rfl)
theorem dX0_betterOf_40 : decode cX0_betterOf 40 = .ok (.if_icmp .gt 6, 3) := dk_163 0 6 (dk_at dksX0_betterOf_1 16 rfl rfl)
theorem dX0_betterOf_43 : decode cX0_betterOf 43 = .ok (.goto 13, 3) := dk_167 0 13 (dk_at dksX0_betterOf_1 19 rfl rfl)
theorem dX0_betterOf_46 : decode cX0_betterOf 46 = .ok (.iload 6, 2) := dk_21 6 (dk_at dksX0_betterOf_1 22 rfl rfl)
theorem dX0_betterOf_48 : decode cX0_betterOf 48 = .ok (.istore 4, 2) := dk_54 4 (dk_at dksX0_betterOf_2 0 rfl rfl)
theorem dX0_betterOf_50 : decode cX0_betterOf 50 = .ok (.aload_n 0, 1) := dk_42 (dk_at dksX0_betterOf_2 2 rfl rfl)
theorem dX0_betterOf_51 : decode cX0_betterOf 51 = .ok (.getfield 237, 3) := dk_180 0 237 (dk_at dksX0_betterOf_2 3 rfl rfl)
theorem dX0_betterOf_54 : decode cX0_betterOf 54 = .ok (.istore 5, 2) := dk_54 5 (dk_at dksX0_betterOf_2 6 rfl rfl)
theorem dX0_betterOf_56 : decode cX0_betterOf 56 = .ok (.iinc 6 1, 3) := dk_132 6 1 (dk_at dksX0_betterOf_2 8 rfl rfl)
theorem dX0_betterOf_59 : decode cX0_betterOf 59 = .ok (.goto (-45), 3) := dk_167 255 211 (dk_at dksX0_betterOf_2 11 rfl rfl)
theorem dX0_betterOf_62 : decode cX0_betterOf 62 = .ok (.aload_n 1, 1) := dk_43 (dk_at dksX0_betterOf_2 14 rfl rfl)
theorem dX0_betterOf_63 : decode cX0_betterOf 63 = .ok (.aload_n 3, 1) := dk_45 (dk_at dksX0_betterOf_2 15 rfl rfl)
theorem dX0_betterOf_64 : decode cX0_betterOf 64 = .ok (.putfield 313, 3) := dk_181 1 57 (dk_at dksX0_betterOf_2 16 rfl rfl)
theorem dX0_betterOf_67 : decode cX0_betterOf 67 = .ok (.goto 13, 3) := dk_167 0 13 (dk_at dksX0_betterOf_2 19 rfl rfl)
theorem dX0_betterOf_70 : decode cX0_betterOf 70 = .ok (.astore 7, 2) := dk_58 7 (dk_at dksX0_betterOf_2 22 rfl rfl)
theorem dX0_betterOf_72 : decode cX0_betterOf 72 = .ok (.aload_n 1, 1) := dk_43 (dk_at dksX0_betterOf_3 0 rfl rfl)
theorem dX0_betterOf_73 : decode cX0_betterOf 73 = .ok (.aload_n 3, 1) := dk_45 (dk_at dksX0_betterOf_3 1 rfl rfl)
theorem dX0_betterOf_74 : decode cX0_betterOf 74 = .ok (.putfield 313, 3) := dk_181 1 57 (dk_at dksX0_betterOf_3 2 rfl rfl)
theorem dX0_betterOf_77 : decode cX0_betterOf 77 = .ok (.aload 7, 2) := dk_25 7 (dk_at dksX0_betterOf_3 5 rfl rfl)
theorem dX0_betterOf_79 : decode cX0_betterOf 79 = .ok (.athrow, 1) := dk_191 (dk_at dksX0_betterOf_3 7 rfl rfl)
theorem dX0_betterOf_80 : decode cX0_betterOf 80 = .ok (.iload_n 2, 1) := dk_28 (dk_at dksX0_betterOf_3 8 rfl rfl)
theorem dX0_betterOf_81 : decode cX0_betterOf 81 = .ok (.ifCond .ne 8, 3) := dk_154 0 8 (dk_at dksX0_betterOf_3 9 rfl rfl)
theorem dX0_betterOf_84 : decode cX0_betterOf 84 = .ok (.iload 4, 2) := dk_21 4 (dk_at dksX0_betterOf_3 12 rfl rfl)
theorem dX0_betterOf_86 : decode cX0_betterOf 86 = .ok (.goto 5, 3) := dk_167 0 5 (dk_at dksX0_betterOf_3 14 rfl rfl)
theorem dX0_betterOf_89 : decode cX0_betterOf 89 = .ok (.iload 5, 2) := dk_21 5 (dk_at dksX0_betterOf_3 17 rfl rfl)
theorem dX0_betterOf_91 : decode cX0_betterOf 91 = .ok (.ireturn, 1) := dk_172 (dk_at dksX0_betterOf_3 19 rfl rfl)
abbrev cX0_fill : ByteArray := prog_1_method_47_code
def yX0_fill : MethodName := ⟨RX0, "fill", "(I)I"⟩
def dkwX0_fill_0 : List UInt8 := [27, 184, 0, 101, 153, 0, 11, 42, 27, 182, 1, 69, 167, 0, 5, 16, 254, 172]
abbrev dktX0_fill_0 : List UInt8 := dkwX0_fill_0 ++ []
theorem dksX0_fill_0 : cX0_fill.data.toList.drop 0 = dktX0_fill_0 := by decide +kernel
theorem dX0_fill_0 : decode cX0_fill 0 = .ok (.iload_n 1, 1) := dk_27 (dk_at dksX0_fill_0 0 rfl rfl)
theorem dX0_fill_1 : decode cX0_fill 1 = .ok (.invokestatic 101, 3) := dk_184 0 101 (dk_at dksX0_fill_0 1 rfl rfl)
theorem dX0_fill_4 : decode cX0_fill 4 = .ok (.ifCond .eq 11, 3) := dk_153 0 11 (dk_at dksX0_fill_0 4 rfl rfl)
theorem dX0_fill_7 : decode cX0_fill 7 = .ok (.aload_n 0, 1) := dk_42 (dk_at dksX0_fill_0 7 rfl rfl)
theorem dX0_fill_8 : decode cX0_fill 8 = .ok (.iload_n 1, 1) := dk_27 (dk_at dksX0_fill_0 8 rfl rfl)
theorem dX0_fill_9 : decode cX0_fill 9 = .ok (.invokevirtual 325, 3) := dk_182 1 69 (dk_at dksX0_fill_0 9 rfl rfl)
theorem dX0_fill_12 : decode cX0_fill 12 = .ok (.goto 5, 3) := dk_167 0 5 (dk_at dksX0_fill_0 12 rfl rfl)
theorem dX0_fill_15 : decode cX0_fill 15 = .ok (.bipush (-2), 2) := dk_16 254 (dk_at dksX0_fill_0 15 rfl rfl)
theorem dX0_fill_17 : decode cX0_fill 17 = .ok (.ireturn, 1) := dk_172 (dk_at dksX0_fill_0 17 rfl rfl)
abbrev cX0_fillBy : ByteArray := prog_1_method_46_code
def yX0_fillBy : MethodName := ⟨RX0, "fillBy", "(I)I"⟩
def dkwX0_fillBy_4 : List UInt8 := [21, 4, 172]
abbrev dktX0_fillBy_4 : List UInt8 := dkwX0_fillBy_4 ++ []
def dkwX0_fillBy_3 : List UInt8 := [167, 0, 15, 58, 6, 42, 180, 0, 40, 3, 28, 79, 25, 6, 191, 27, 154, 0, 7, 29, 167, 0, 5]
abbrev dktX0_fillBy_3 : List UInt8 := dkwX0_fillBy_3 ++ dktX0_fillBy_4
def dkwX0_fillBy_2 : List UInt8 := [21, 5, 62, 42, 180, 0, 237, 54, 4, 132, 5, 1, 167, 255, 213, 42, 180, 0, 40, 3, 28, 79]
abbrev dktX0_fillBy_2 : List UInt8 := dkwX0_fillBy_2 ++ dktX0_fillBy_3
def dkwX0_fillBy_1 : List UInt8 := [180, 0, 40, 3, 21, 5, 79, 42, 182, 1, 29, 42, 180, 0, 237, 21, 4, 163, 0, 6, 167, 0, 12]
abbrev dktX0_fillBy_1 : List UInt8 := dkwX0_fillBy_1 ++ dktX0_fillBy_2
def dkwX0_fillBy_0 : List UInt8 := [42, 180, 0, 40, 3, 46, 61, 2, 62, 2, 54, 4, 3, 54, 5, 21, 5, 16, 30, 163, 0, 42, 42]
abbrev dktX0_fillBy_0 : List UInt8 := dkwX0_fillBy_0 ++ dktX0_fillBy_1
theorem dksX0_fillBy_0 : cX0_fillBy.data.toList.drop 0 = dktX0_fillBy_0 := by decide +kernel
theorem dksX0_fillBy_1 : cX0_fillBy.data.toList.drop 23 = dktX0_fillBy_1 := dk_seg dksX0_fillBy_0 23 rfl rfl
theorem dksX0_fillBy_2 : cX0_fillBy.data.toList.drop 46 = dktX0_fillBy_2 := dk_seg dksX0_fillBy_1 23 rfl rfl
theorem dksX0_fillBy_3 : cX0_fillBy.data.toList.drop 68 = dktX0_fillBy_3 := dk_seg dksX0_fillBy_2 22 rfl rfl
theorem dksX0_fillBy_4 : cX0_fillBy.data.toList.drop 91 = dktX0_fillBy_4 := dk_seg dksX0_fillBy_3 23 rfl rfl
theorem dX0_fillBy_0 : decode cX0_fillBy 0 = .ok (.aload_n 0, 1) := dk_42 (dk_at dksX0_fillBy_0 0 rfl rfl)
theorem dX0_fillBy_1 : decode cX0_fillBy 1 = .ok (.getfield 40, 3) := dk_180 0 40 (dk_at dksX0_fillBy_0 1 rfl rfl)
theorem dX0_fillBy_4 : decode cX0_fillBy 4 = .ok (.iconst 0, 1) := dk_3 (dk_at dksX0_fillBy_0 4 rfl rfl)
theorem dX0_fillBy_5 : decode cX0_fillBy 5 = .ok (.iaload, 1) := dk_46 (dk_at dksX0_fillBy_0 5 rfl rfl)
theorem dX0_fillBy_6 : decode cX0_fillBy 6 = .ok (.istore_n 2, 1) := dk_61 (dk_at dksX0_fillBy_0 6 rfl rfl)
theorem dX0_fillBy_7 : decode cX0_fillBy 7 = .ok (.iconst (-1), 1) := dk_2 (dk_at dksX0_fillBy_0 7 rfl rfl)
theorem dX0_fillBy_8 : decode cX0_fillBy 8 = .ok (.istore_n 3, 1) := dk_62 (dk_at dksX0_fillBy_0 8 rfl rfl)
theorem dX0_fillBy_9 : decode cX0_fillBy 9 = .ok (.iconst (-1), 1) := dk_2 (dk_at dksX0_fillBy_0 9 rfl rfl)
theorem dX0_fillBy_10 : decode cX0_fillBy 10 = .ok (.istore 4, 2) := dk_54 4 (dk_at dksX0_fillBy_0 10 rfl rfl)
theorem dX0_fillBy_12 : decode cX0_fillBy 12 = .ok (.iconst 0, 1) := dk_3 (dk_at dksX0_fillBy_0 12 rfl rfl)
theorem dX0_fillBy_13 : decode cX0_fillBy 13 = .ok (.istore 5, 2) := dk_54 5 (dk_at dksX0_fillBy_0 13 rfl rfl)
theorem dX0_fillBy_15 : decode cX0_fillBy 15 = .ok (.iload 5, 2) := dk_21 5 (dk_at dksX0_fillBy_0 15 rfl rfl)
theorem dX0_fillBy_17 : decode cX0_fillBy 17 = .ok (.bipush 30, 2) := dk_16 30 (dk_at dksX0_fillBy_0 17 rfl rfl)
theorem dX0_fillBy_19 : decode cX0_fillBy 19 = .ok (.if_icmp .gt 42, 3) := dk_163 0 42 (dk_at dksX0_fillBy_0 19 rfl rfl)
theorem dX0_fillBy_22 : decode cX0_fillBy 22 = .ok (.aload_n 0, 1) := dk_42 (dk_at dksX0_fillBy_0 22 rfl rfl)
theorem dX0_fillBy_23 : decode cX0_fillBy 23 = .ok (.getfield 40, 3) := dk_180 0 40 (dk_at dksX0_fillBy_1 0 rfl rfl)
theorem dX0_fillBy_26 : decode cX0_fillBy 26 = .ok (.iconst 0, 1) := dk_3 (dk_at dksX0_fillBy_1 3 rfl rfl)
theorem dX0_fillBy_27 : decode cX0_fillBy 27 = .ok (.iload 5, 2) := dk_21 5 (dk_at dksX0_fillBy_1 4 rfl rfl)
theorem dX0_fillBy_29 : decode cX0_fillBy 29 = .ok (.iastore, 1) := dk_79 (dk_at dksX0_fillBy_1 6 rfl rfl)
theorem dX0_fillBy_30 : decode cX0_fillBy 30 = .ok (.aload_n 0, 1) := dk_42 (dk_at dksX0_fillBy_1 7 rfl rfl)
theorem dX0_fillBy_31 : decode cX0_fillBy 31 = .ok (.invokevirtual 285, 3) := dk_182 1 29 (dk_at dksX0_fillBy_1 8 rfl rfl)
theorem dX0_fillBy_34 : decode cX0_fillBy 34 = .ok (.aload_n 0, 1) := dk_42 (dk_at dksX0_fillBy_1 11 rfl rfl)
theorem dX0_fillBy_35 : decode cX0_fillBy 35 = .ok (.getfield 237, 3) := dk_180 0 237 (dk_at dksX0_fillBy_1 12 rfl rfl)
theorem dX0_fillBy_38 : decode cX0_fillBy 38 = .ok (.iload 4, 2) := dk_21 4 (dk_at dksX0_fillBy_1 15 rfl rfl)
theorem dX0_fillBy_40 : decode cX0_fillBy 40 = .ok (.if_icmp .gt 6, 3) := dk_163 0 6 (dk_at dksX0_fillBy_1 17 rfl rfl)
theorem dX0_fillBy_43 : decode cX0_fillBy 43 = .ok (.goto 12, 3) := dk_167 0 12 (dk_at dksX0_fillBy_1 20 rfl rfl)
theorem dX0_fillBy_46 : decode cX0_fillBy 46 = .ok (.iload 5, 2) := dk_21 5 (dk_at dksX0_fillBy_2 0 rfl rfl)
theorem dX0_fillBy_48 : decode cX0_fillBy 48 = .ok (.istore_n 3, 1) := dk_62 (dk_at dksX0_fillBy_2 2 rfl rfl)
theorem dX0_fillBy_49 : decode cX0_fillBy 49 = .ok (.aload_n 0, 1) := dk_42 (dk_at dksX0_fillBy_2 3 rfl rfl)
theorem dX0_fillBy_50 : decode cX0_fillBy 50 = .ok (.getfield 237, 3) := dk_180 0 237 (dk_at dksX0_fillBy_2 4 rfl rfl)
theorem dX0_fillBy_53 : decode cX0_fillBy 53 = .ok (.istore 4, 2) := dk_54 4 (dk_at dksX0_fillBy_2 7 rfl rfl)
theorem dX0_fillBy_55 : decode cX0_fillBy 55 = .ok (.iinc 5 1, 3) := dk_132 5 1 (dk_at dksX0_fillBy_2 9 rfl rfl)
theorem dX0_fillBy_58 : decode cX0_fillBy 58 = .ok (.goto (-43), 3) := dk_167 255 213 (dk_at dksX0_fillBy_2 12 rfl rfl)
theorem dX0_fillBy_61 : decode cX0_fillBy 61 = .ok (.aload_n 0, 1) := dk_42 (dk_at dksX0_fillBy_2 15 rfl rfl)
theorem dX0_fillBy_62 : decode cX0_fillBy 62 = .ok (.getfield 40, 3) := dk_180 0 40 (dk_at dksX0_fillBy_2 16 rfl rfl)
theorem dX0_fillBy_65 : decode cX0_fillBy 65 = .ok (.iconst 0, 1) := dk_3 (dk_at dksX0_fillBy_2 19 rfl rfl)
theorem dX0_fillBy_66 : decode cX0_fillBy 66 = .ok (.iload_n 2, 1) := dk_28 (dk_at dksX0_fillBy_2 20 rfl rfl)
theorem dX0_fillBy_67 : decode cX0_fillBy 67 = .ok (.iastore, 1) := dk_79 (dk_at dksX0_fillBy_2 21 rfl rfl)
theorem dX0_fillBy_68 : decode cX0_fillBy 68 = .ok (.goto 15, 3) := dk_167 0 15 (dk_at dksX0_fillBy_3 0 rfl rfl)
theorem dX0_fillBy_71 : decode cX0_fillBy 71 = .ok (.astore 6, 2) := dk_58 6 (dk_at dksX0_fillBy_3 3 rfl rfl)
theorem dX0_fillBy_73 : decode cX0_fillBy 73 = .ok (.aload_n 0, 1) := dk_42 (dk_at dksX0_fillBy_3 5 rfl rfl)
theorem dX0_fillBy_74 : decode cX0_fillBy 74 = .ok (.getfield 40, 3) := dk_180 0 40 (dk_at dksX0_fillBy_3 6 rfl rfl)
theorem dX0_fillBy_77 : decode cX0_fillBy 77 = .ok (.iconst 0, 1) := dk_3 (dk_at dksX0_fillBy_3 9 rfl rfl)
theorem dX0_fillBy_78 : decode cX0_fillBy 78 = .ok (.iload_n 2, 1) := dk_28 (dk_at dksX0_fillBy_3 10 rfl rfl)
theorem dX0_fillBy_79 : decode cX0_fillBy 79 = .ok (.iastore, 1) := dk_79 (dk_at dksX0_fillBy_3 11 rfl rfl)
theorem dX0_fillBy_80 : decode cX0_fillBy 80 = .ok (.aload 6, 2) := dk_25 6 (dk_at dksX0_fillBy_3 12 rfl rfl)
theorem dX0_fillBy_82 : decode cX0_fillBy 82 = .ok (.athrow, 1) := dk_191 (dk_at dksX0_fillBy_3 14 rfl rfl)
theorem dX0_fillBy_83 : decode cX0_fillBy 83 = .ok (.iload_n 1, 1) := dk_27 (dk_at dksX0_fillBy_3 15 rfl rfl)
theorem dX0_fillBy_84 : decode cX0_fillBy 84 = .ok (.ifCond .ne 7, 3) := dk_154 0 7 (dk_at dksX0_fillBy_3 16 rfl rfl)
theorem dX0_fillBy_87 : decode cX0_fillBy 87 = .ok (.iload_n 3, 1) := dk_29 (dk_at dksX0_fillBy_3 19 rfl rfl)
theorem dX0_fillBy_88 : decode cX0_fillBy 88 = .ok (.goto 5, 3) := dk_167 0 5 (dk_at dksX0_fillBy_3 20 rfl rfl)
theorem dX0_fillBy_91 : decode cX0_fillBy 91 = .ok (.iload 4, 2) := dk_21 4 (dk_at dksX0_fillBy_4 0 rfl rfl)
theorem dX0_fillBy_93 : decode cX0_fillBy 93 = .ok (.ireturn, 1) := dk_172 (dk_at dksX0_fillBy_4 2 rfl rfl)
abbrev cX0_come : ByteArray := prog_1_method_49_code
def yX0_come : MethodName := ⟨RX0, "come", "(II)I"⟩
def dkwX0_come_1 : List UInt8 := [192, 0, 75, 28, 182, 1, 75, 167, 0, 5, 16, 254, 172]
abbrev dktX0_come_1 : List UInt8 := dkwX0_come_1 ++ []
def dkwX0_come_0 : List UInt8 := [42, 27, 182, 0, 147, 153, 0, 29, 28, 184, 0, 101, 153, 0, 22, 42, 42, 180, 0, 37, 27, 182, 0, 138]
abbrev dktX0_come_0 : List UInt8 := dkwX0_come_0 ++ dktX0_come_1
theorem dksX0_come_0 : cX0_come.data.toList.drop 0 = dktX0_come_0 := by decide +kernel
theorem dksX0_come_1 : cX0_come.data.toList.drop 24 = dktX0_come_1 := dk_seg dksX0_come_0 24 rfl rfl
theorem dX0_come_0 : decode cX0_come 0 = .ok (.aload_n 0, 1) := dk_42 (dk_at dksX0_come_0 0 rfl rfl)
theorem dX0_come_1 : decode cX0_come 1 = .ok (.iload_n 1, 1) := dk_27 (dk_at dksX0_come_0 1 rfl rfl)
theorem dX0_come_2 : decode cX0_come 2 = .ok (.invokevirtual 147, 3) := dk_182 0 147 (dk_at dksX0_come_0 2 rfl rfl)
theorem dX0_come_5 : decode cX0_come 5 = .ok (.ifCond .eq 29, 3) := dk_153 0 29 (dk_at dksX0_come_0 5 rfl rfl)
theorem dX0_come_8 : decode cX0_come 8 = .ok (.iload_n 2, 1) := dk_28 (dk_at dksX0_come_0 8 rfl rfl)
theorem dX0_come_9 : decode cX0_come 9 = .ok (.invokestatic 101, 3) := dk_184 0 101 (dk_at dksX0_come_0 9 rfl rfl)
theorem dX0_come_12 : decode cX0_come 12 = .ok (.ifCond .eq 22, 3) := dk_153 0 22 (dk_at dksX0_come_0 12 rfl rfl)
theorem dX0_come_15 : decode cX0_come 15 = .ok (.aload_n 0, 1) := dk_42 (dk_at dksX0_come_0 15 rfl rfl)
theorem dX0_come_16 : decode cX0_come 16 = .ok (.aload_n 0, 1) := dk_42 (dk_at dksX0_come_0 16 rfl rfl)
theorem dX0_come_17 : decode cX0_come 17 = .ok (.getfield 37, 3) := dk_180 0 37 (dk_at dksX0_come_0 17 rfl rfl)
theorem dX0_come_20 : decode cX0_come 20 = .ok (.iload_n 1, 1) := dk_27 (dk_at dksX0_come_0 20 rfl rfl)
theorem dX0_come_21 : decode cX0_come 21 = .ok (.invokevirtual 138, 3) := dk_182 0 138 (dk_at dksX0_come_0 21 rfl rfl)
theorem dX0_come_24 : decode cX0_come 24 = .ok (.checkcast 75, 3) := dk_192 0 75 (dk_at dksX0_come_1 0 rfl rfl)
theorem dX0_come_27 : decode cX0_come 27 = .ok (.iload_n 2, 1) := dk_28 (dk_at dksX0_come_1 3 rfl rfl)
theorem dX0_come_28 : decode cX0_come 28 = .ok (.invokevirtual 331, 3) := dk_182 1 75 (dk_at dksX0_come_1 4 rfl rfl)
theorem dX0_come_31 : decode cX0_come 31 = .ok (.goto 5, 3) := dk_167 0 5 (dk_at dksX0_come_1 7 rfl rfl)
theorem dX0_come_34 : decode cX0_come 34 = .ok (.bipush (-2), 2) := dk_16 254 (dk_at dksX0_come_1 10 rfl rfl)
theorem dX0_come_36 : decode cX0_come 36 = .ok (.ireturn, 1) := dk_172 (dk_at dksX0_come_1 12 rfl rfl)
abbrev cX0_comeOf : ByteArray := prog_1_method_48_code
def yX0_comeOf : MethodName := ⟨RX0, "comeOf", "(LSamovar$Guest;I)I"⟩
def dkwX0_comeOf_4 : List UInt8 := [167, 0, 5, 21, 5, 172]
abbrev dktX0_comeOf_4 : List UInt8 := dkwX0_comeOf_4 ++ []
def dkwX0_comeOf_3 : List UInt8 := [181, 1, 72, 167, 0, 13, 58, 6, 43, 29, 181, 1, 72, 25, 6, 191, 28, 154, 0, 8, 21, 4]
abbrev dktX0_comeOf_3 : List UInt8 := dkwX0_comeOf_3 ++ dktX0_comeOf_4
def dkwX0_comeOf_2 : List UInt8 := [54, 4, 42, 180, 0, 237, 54, 5, 43, 89, 180, 1, 72, 4, 96, 181, 1, 72, 167, 255, 209, 43, 29]
abbrev dktX0_comeOf_2 : List UInt8 := dkwX0_comeOf_2 ++ dktX0_comeOf_3
def dkwX0_comeOf_1 : List UInt8 := [162, 0, 44, 42, 182, 1, 29, 42, 180, 0, 237, 21, 5, 163, 0, 6, 167, 0, 15, 43, 180, 1, 72]
abbrev dktX0_comeOf_1 : List UInt8 := dkwX0_comeOf_1 ++ dktX0_comeOf_2
def dkwX0_comeOf_0 : List UInt8 := [43, 180, 1, 72, 62, 2, 54, 4, 2, 54, 5, 43, 3, 181, 1, 72, 43, 180, 1, 72, 16, 24]
abbrev dktX0_comeOf_0 : List UInt8 := dkwX0_comeOf_0 ++ dktX0_comeOf_1
theorem dksX0_comeOf_0 : cX0_comeOf.data.toList.drop 0 = dktX0_comeOf_0 := by decide +kernel
theorem dksX0_comeOf_1 : cX0_comeOf.data.toList.drop 22 = dktX0_comeOf_1 := dk_seg dksX0_comeOf_0 22 rfl rfl
theorem dksX0_comeOf_2 : cX0_comeOf.data.toList.drop 45 = dktX0_comeOf_2 := dk_seg dksX0_comeOf_1 23 rfl rfl
theorem dksX0_comeOf_3 : cX0_comeOf.data.toList.drop 68 = dktX0_comeOf_3 := dk_seg dksX0_comeOf_2 23 rfl rfl
theorem dksX0_comeOf_4 : cX0_comeOf.data.toList.drop 90 = dktX0_comeOf_4 := dk_seg dksX0_comeOf_3 22 rfl rfl
theorem dX0_comeOf_0 : decode cX0_comeOf 0 = .ok (.aload_n 1, 1) := dk_43 (dk_at dksX0_comeOf_0 0 rfl rfl)
theorem dX0_comeOf_1 : decode cX0_comeOf 1 = .ok (.getfield 328, 3) := dk_180 1 72 (dk_at dksX0_comeOf_0 1 rfl rfl)
theorem dX0_comeOf_4 : decode cX0_comeOf 4 = .ok (.istore_n 3, 1) := dk_62 (dk_at dksX0_comeOf_0 4 rfl rfl)
theorem dX0_comeOf_5 : decode cX0_comeOf 5 = .ok (.iconst (-1), 1) := dk_2 (dk_at dksX0_comeOf_0 5 rfl rfl)
theorem dX0_comeOf_6 : decode cX0_comeOf 6 = .ok (.istore 4, 2) := dk_54 4 (dk_at dksX0_comeOf_0 6 rfl rfl)
theorem dX0_comeOf_8 : decode cX0_comeOf 8 = .ok (.iconst (-1), 1) := dk_2 (dk_at dksX0_comeOf_0 8 rfl rfl)
theorem dX0_comeOf_9 : decode cX0_comeOf 9 = .ok (.istore 5, 2) := dk_54 5 (dk_at dksX0_comeOf_0 9 rfl rfl)
theorem dX0_comeOf_11 : decode cX0_comeOf 11 = .ok (.aload_n 1, 1) := dk_43 (dk_at dksX0_comeOf_0 11 rfl rfl)
theorem dX0_comeOf_12 : decode cX0_comeOf 12 = .ok (.iconst 0, 1) := dk_3 (dk_at dksX0_comeOf_0 12 rfl rfl)
theorem dX0_comeOf_13 : decode cX0_comeOf 13 = .ok (.putfield 328, 3) := dk_181 1 72 (dk_at dksX0_comeOf_0 13 rfl rfl)
theorem dX0_comeOf_16 : decode cX0_comeOf 16 = .ok (.aload_n 1, 1) := dk_43 (dk_at dksX0_comeOf_0 16 rfl rfl)
theorem dX0_comeOf_17 : decode cX0_comeOf 17 = .ok (.getfield 328, 3) := dk_180 1 72 (dk_at dksX0_comeOf_0 17 rfl rfl)
theorem dX0_comeOf_20 : decode cX0_comeOf 20 = .ok (.bipush 24, 2) := dk_16 24 (dk_at dksX0_comeOf_0 20 rfl rfl)
theorem dX0_comeOf_22 : decode cX0_comeOf 22 = .ok (.if_icmp .ge 44, 3) := dk_162 0 44 (dk_at dksX0_comeOf_1 0 rfl rfl)
theorem dX0_comeOf_25 : decode cX0_comeOf 25 = .ok (.aload_n 0, 1) := dk_42 (dk_at dksX0_comeOf_1 3 rfl rfl)
theorem dX0_comeOf_26 : decode cX0_comeOf 26 = .ok (.invokevirtual 285, 3) := dk_182 1 29 (dk_at dksX0_comeOf_1 4 rfl rfl)
theorem dX0_comeOf_29 : decode cX0_comeOf 29 = .ok (.aload_n 0, 1) := dk_42 (dk_at dksX0_comeOf_1 7 rfl rfl)
theorem dX0_comeOf_30 : decode cX0_comeOf 30 = .ok (.getfield 237, 3) := dk_180 0 237 (dk_at dksX0_comeOf_1 8 rfl rfl)
theorem dX0_comeOf_33 : decode cX0_comeOf 33 = .ok (.iload 5, 2) := dk_21 5 (dk_at dksX0_comeOf_1 11 rfl rfl)
theorem dX0_comeOf_35 : decode cX0_comeOf 35 = .ok (.if_icmp .gt 6, 3) := dk_163 0 6 (dk_at dksX0_comeOf_1 13 rfl rfl)
theorem dX0_comeOf_38 : decode cX0_comeOf 38 = .ok (.goto 15, 3) := dk_167 0 15 (dk_at dksX0_comeOf_1 16 rfl rfl)
theorem dX0_comeOf_41 : decode cX0_comeOf 41 = .ok (.aload_n 1, 1) := dk_43 (dk_at dksX0_comeOf_1 19 rfl rfl)
theorem dX0_comeOf_42 : decode cX0_comeOf 42 = .ok (.getfield 328, 3) := dk_180 1 72 (dk_at dksX0_comeOf_1 20 rfl rfl)
theorem dX0_comeOf_45 : decode cX0_comeOf 45 = .ok (.istore 4, 2) := dk_54 4 (dk_at dksX0_comeOf_2 0 rfl rfl)
theorem dX0_comeOf_47 : decode cX0_comeOf 47 = .ok (.aload_n 0, 1) := dk_42 (dk_at dksX0_comeOf_2 2 rfl rfl)
theorem dX0_comeOf_48 : decode cX0_comeOf 48 = .ok (.getfield 237, 3) := dk_180 0 237 (dk_at dksX0_comeOf_2 3 rfl rfl)
theorem dX0_comeOf_51 : decode cX0_comeOf 51 = .ok (.istore 5, 2) := dk_54 5 (dk_at dksX0_comeOf_2 6 rfl rfl)
theorem dX0_comeOf_53 : decode cX0_comeOf 53 = .ok (.aload_n 1, 1) := dk_43 (dk_at dksX0_comeOf_2 8 rfl rfl)
theorem dX0_comeOf_54 : decode cX0_comeOf 54 = .ok (.dup, 1) := dk_89 (dk_at dksX0_comeOf_2 9 rfl rfl)
theorem dX0_comeOf_55 : decode cX0_comeOf 55 = .ok (.getfield 328, 3) := dk_180 1 72 (dk_at dksX0_comeOf_2 10 rfl rfl)
theorem dX0_comeOf_58 : decode cX0_comeOf 58 = .ok (.iconst 1, 1) := dk_4 (dk_at dksX0_comeOf_2 13 rfl rfl)
theorem dX0_comeOf_59 : decode cX0_comeOf 59 = .ok (.iadd, 1) := dk_96 (dk_at dksX0_comeOf_2 14 rfl rfl)
theorem dX0_comeOf_60 : decode cX0_comeOf 60 = .ok (.putfield 328, 3) := dk_181 1 72 (dk_at dksX0_comeOf_2 15 rfl rfl)
theorem dX0_comeOf_63 : decode cX0_comeOf 63 = .ok (.goto (-47), 3) := dk_167 255 209 (dk_at dksX0_comeOf_2 18 rfl rfl)
theorem dX0_comeOf_66 : decode cX0_comeOf 66 = .ok (.aload_n 1, 1) := dk_43 (dk_at dksX0_comeOf_2 21 rfl rfl)
theorem dX0_comeOf_67 : decode cX0_comeOf 67 = .ok (.iload_n 3, 1) := dk_29 (dk_at dksX0_comeOf_2 22 rfl rfl)
theorem dX0_comeOf_68 : decode cX0_comeOf 68 = .ok (.putfield 328, 3) := dk_181 1 72 (dk_at dksX0_comeOf_3 0 rfl rfl)
theorem dX0_comeOf_71 : decode cX0_comeOf 71 = .ok (.goto 13, 3) := dk_167 0 13 (dk_at dksX0_comeOf_3 3 rfl rfl)
theorem dX0_comeOf_74 : decode cX0_comeOf 74 = .ok (.astore 6, 2) := dk_58 6 (dk_at dksX0_comeOf_3 6 rfl rfl)
theorem dX0_comeOf_76 : decode cX0_comeOf 76 = .ok (.aload_n 1, 1) := dk_43 (dk_at dksX0_comeOf_3 8 rfl rfl)
theorem dX0_comeOf_77 : decode cX0_comeOf 77 = .ok (.iload_n 3, 1) := dk_29 (dk_at dksX0_comeOf_3 9 rfl rfl)
theorem dX0_comeOf_78 : decode cX0_comeOf 78 = .ok (.putfield 328, 3) := dk_181 1 72 (dk_at dksX0_comeOf_3 10 rfl rfl)
theorem dX0_comeOf_81 : decode cX0_comeOf 81 = .ok (.aload 6, 2) := dk_25 6 (dk_at dksX0_comeOf_3 13 rfl rfl)
theorem dX0_comeOf_83 : decode cX0_comeOf 83 = .ok (.athrow, 1) := dk_191 (dk_at dksX0_comeOf_3 15 rfl rfl)
theorem dX0_comeOf_84 : decode cX0_comeOf 84 = .ok (.iload_n 2, 1) := dk_28 (dk_at dksX0_comeOf_3 16 rfl rfl)
theorem dX0_comeOf_85 : decode cX0_comeOf 85 = .ok (.ifCond .ne 8, 3) := dk_154 0 8 (dk_at dksX0_comeOf_3 17 rfl rfl)
theorem dX0_comeOf_88 : decode cX0_comeOf 88 = .ok (.iload 4, 2) := dk_21 4 (dk_at dksX0_comeOf_3 20 rfl rfl)
theorem dX0_comeOf_90 : decode cX0_comeOf 90 = .ok (.goto 5, 3) := dk_167 0 5 (dk_at dksX0_comeOf_4 0 rfl rfl)
theorem dX0_comeOf_93 : decode cX0_comeOf 93 = .ok (.iload 5, 2) := dk_21 5 (dk_at dksX0_comeOf_4 3 rfl rfl)
theorem dX0_comeOf_95 : decode cX0_comeOf 95 = .ok (.ireturn, 1) := dk_172 (dk_at dksX0_comeOf_4 5 rfl rfl)
abbrev cX0_spare : ByteArray := prog_1_method_52_code
def yX0_spare : MethodName := ⟨RX0, "spare", "(I)I"⟩
def dkwX0_spare_0 : List UInt8 := [27, 133, 20, 1, 82, 10, 184, 0, 95, 153, 0, 11, 42, 27, 182, 1, 84, 167, 0, 5, 16, 254, 172]
abbrev dktX0_spare_0 : List UInt8 := dkwX0_spare_0 ++ []
theorem dksX0_spare_0 : cX0_spare.data.toList.drop 0 = dktX0_spare_0 := by decide +kernel
theorem dX0_spare_0 : decode cX0_spare 0 = .ok (.iload_n 1, 1) := dk_27 (dk_at dksX0_spare_0 0 rfl rfl)
theorem dX0_spare_1 : decode cX0_spare 1 = .ok (.i2l, 1) := dk_133 (dk_at dksX0_spare_0 1 rfl rfl)
theorem dX0_spare_2 : decode cX0_spare 2 = .ok (.ldc2_w 338, 3) := dk_20 1 82 (dk_at dksX0_spare_0 2 rfl rfl)
theorem dX0_spare_5 : decode cX0_spare 5 = .ok (.lconst 1, 1) := dk_10 (dk_at dksX0_spare_0 5 rfl rfl)
theorem dX0_spare_6 : decode cX0_spare 6 = .ok (.invokestatic 95, 3) := dk_184 0 95 (dk_at dksX0_spare_0 6 rfl rfl)
theorem dX0_spare_9 : decode cX0_spare 9 = .ok (.ifCond .eq 11, 3) := dk_153 0 11 (dk_at dksX0_spare_0 9 rfl rfl)
theorem dX0_spare_12 : decode cX0_spare 12 = .ok (.aload_n 0, 1) := dk_42 (dk_at dksX0_spare_0 12 rfl rfl)
theorem dX0_spare_13 : decode cX0_spare 13 = .ok (.iload_n 1, 1) := dk_27 (dk_at dksX0_spare_0 13 rfl rfl)
theorem dX0_spare_14 : decode cX0_spare 14 = .ok (.invokevirtual 340, 3) := dk_182 1 84 (dk_at dksX0_spare_0 14 rfl rfl)
theorem dX0_spare_17 : decode cX0_spare 17 = .ok (.goto 5, 3) := dk_167 0 5 (dk_at dksX0_spare_0 17 rfl rfl)
theorem dX0_spare_20 : decode cX0_spare 20 = .ok (.bipush (-2), 2) := dk_16 254 (dk_at dksX0_spare_0 20 rfl rfl)
theorem dX0_spare_22 : decode cX0_spare 22 = .ok (.ireturn, 1) := dk_172 (dk_at dksX0_spare_0 22 rfl rfl)
abbrev cX0_spareBy : ByteArray := prog_1_method_51_code
def yX0_spareBy : MethodName := ⟨RX0, "spareBy", "(I)I"⟩
def dkwX0_spareBy_5 : List UInt8 := [167, 0, 5, 21, 4, 172, 132, 4, 1, 167, 255, 212, 132, 3, 1, 167, 255, 196, 2, 172]
abbrev dktX0_spareBy_5 : List UInt8 := dkwX0_spareBy_5 ++ []
def dkwX0_spareBy_4 : List UInt8 := [120, 128, 182, 1, 79, 153, 0, 23, 27, 2, 160, 0, 7, 5, 167, 0, 13, 27, 154, 0, 7, 29]
abbrev dktX0_spareBy_4 : List UInt8 := dkwX0_spareBy_4 ++ dktX0_spareBy_5
def dkwX0_spareBy_3 : List UInt8 := [62, 29, 28, 162, 0, 61, 29, 4, 96, 54, 4, 21, 4, 28, 162, 0, 44, 42, 4, 29, 120, 4, 21, 4]
abbrev dktX0_spareBy_3 : List UInt8 := dkwX0_spareBy_3 ++ dktX0_spareBy_4
def dkwX0_spareBy_2 : List UInt8 := [160, 0, 7, 4, 167, 0, 12, 27, 154, 0, 7, 29, 167, 0, 4, 2, 172, 132, 3, 1, 167, 255, 219, 3]
abbrev dktX0_spareBy_2 : List UInt8 := dkwX0_spareBy_2 ++ dktX0_spareBy_3
def dkwX0_spareBy_1 : List UInt8 := [182, 0, 123, 61, 3, 62, 29, 28, 162, 0, 38, 42, 4, 29, 120, 182, 1, 79, 153, 0, 22, 27, 2]
abbrev dktX0_spareBy_1 : List UInt8 := dkwX0_spareBy_1 ++ dktX0_spareBy_2
def dkwX0_spareBy_0 : List UInt8 := [42, 3, 182, 1, 79, 153, 0, 14, 27, 2, 160, 0, 7, 3, 167, 0, 4, 2, 172, 42, 180, 0, 47]
abbrev dktX0_spareBy_0 : List UInt8 := dkwX0_spareBy_0 ++ dktX0_spareBy_1
theorem dksX0_spareBy_0 : cX0_spareBy.data.toList.drop 0 = dktX0_spareBy_0 := by decide +kernel
theorem dksX0_spareBy_1 : cX0_spareBy.data.toList.drop 23 = dktX0_spareBy_1 := dk_seg dksX0_spareBy_0 23 rfl rfl
theorem dksX0_spareBy_2 : cX0_spareBy.data.toList.drop 46 = dktX0_spareBy_2 := dk_seg dksX0_spareBy_1 23 rfl rfl
theorem dksX0_spareBy_3 : cX0_spareBy.data.toList.drop 70 = dktX0_spareBy_3 := dk_seg dksX0_spareBy_2 24 rfl rfl
theorem dksX0_spareBy_4 : cX0_spareBy.data.toList.drop 94 = dktX0_spareBy_4 := dk_seg dksX0_spareBy_3 24 rfl rfl
theorem dksX0_spareBy_5 : cX0_spareBy.data.toList.drop 116 = dktX0_spareBy_5 := dk_seg dksX0_spareBy_4 22 rfl rfl
theorem dX0_spareBy_0 : decode cX0_spareBy 0 = .ok (.aload_n 0, 1) := dk_42 (dk_at dksX0_spareBy_0 0 rfl rfl)
theorem dX0_spareBy_1 : decode cX0_spareBy 1 = .ok (.iconst 0, 1) := dk_3 (dk_at dksX0_spareBy_0 1 rfl rfl)
theorem dX0_spareBy_2 : decode cX0_spareBy 2 = .ok (.invokevirtual 335, 3) := dk_182 1 79 (dk_at dksX0_spareBy_0 2 rfl rfl)
theorem dX0_spareBy_5 : decode cX0_spareBy 5 = .ok (.ifCond .eq 14, 3) := dk_153 0 14 (dk_at dksX0_spareBy_0 5 rfl rfl)
theorem dX0_spareBy_8 : decode cX0_spareBy 8 = .ok (.iload_n 1, 1) := dk_27 (dk_at dksX0_spareBy_0 8 rfl rfl)
theorem dX0_spareBy_9 : decode cX0_spareBy 9 = .ok (.iconst (-1), 1) := dk_2 (dk_at dksX0_spareBy_0 9 rfl rfl)
theorem dX0_spareBy_10 : decode cX0_spareBy 10 = .ok (.if_icmp .ne 7, 3) := dk_160 0 7 (dk_at dksX0_spareBy_0 10 rfl rfl)
theorem dX0_spareBy_13 : decode cX0_spareBy 13 = .ok (.iconst 0, 1) := dk_3 (dk_at dksX0_spareBy_0 13 rfl rfl)
theorem dX0_spareBy_14 : decode cX0_spareBy 14 = .ok (.goto 4, 3) := dk_167 0 4 (dk_at dksX0_spareBy_0 14 rfl rfl)
theorem dX0_spareBy_17 : decode cX0_spareBy 17 = .ok (.iconst (-1), 1) := dk_2 (dk_at dksX0_spareBy_0 17 rfl rfl)
theorem dX0_spareBy_18 : decode cX0_spareBy 18 = .ok (.ireturn, 1) := dk_172 (dk_at dksX0_spareBy_0 18 rfl rfl)
theorem dX0_spareBy_19 : decode cX0_spareBy 19 = .ok (.aload_n 0, 1) := dk_42 (dk_at dksX0_spareBy_0 19 rfl rfl)
theorem dX0_spareBy_20 : decode cX0_spareBy 20 = .ok (.getfield 47, 3) := dk_180 0 47 (dk_at dksX0_spareBy_0 20 rfl rfl)
theorem dX0_spareBy_23 : decode cX0_spareBy 23 = .ok (.invokevirtual 123, 3) := dk_182 0 123 (dk_at dksX0_spareBy_1 0 rfl rfl)
theorem dX0_spareBy_26 : decode cX0_spareBy 26 = .ok (.istore_n 2, 1) := dk_61 (dk_at dksX0_spareBy_1 3 rfl rfl)
theorem dX0_spareBy_27 : decode cX0_spareBy 27 = .ok (.iconst 0, 1) := dk_3 (dk_at dksX0_spareBy_1 4 rfl rfl)
theorem dX0_spareBy_28 : decode cX0_spareBy 28 = .ok (.istore_n 3, 1) := dk_62 (dk_at dksX0_spareBy_1 5 rfl rfl)
theorem dX0_spareBy_29 : decode cX0_spareBy 29 = .ok (.iload_n 3, 1) := dk_29 (dk_at dksX0_spareBy_1 6 rfl rfl)
theorem dX0_spareBy_30 : decode cX0_spareBy 30 = .ok (.iload_n 2, 1) := dk_28 (dk_at dksX0_spareBy_1 7 rfl rfl)
theorem dX0_spareBy_31 : decode cX0_spareBy 31 = .ok (.if_icmp .ge 38, 3) := dk_162 0 38 (dk_at dksX0_spareBy_1 8 rfl rfl)
theorem dX0_spareBy_34 : decode cX0_spareBy 34 = .ok (.aload_n 0, 1) := dk_42 (dk_at dksX0_spareBy_1 11 rfl rfl)
theorem dX0_spareBy_35 : decode cX0_spareBy 35 = .ok (.iconst 1, 1) := dk_4 (dk_at dksX0_spareBy_1 12 rfl rfl)
theorem dX0_spareBy_36 : decode cX0_spareBy 36 = .ok (.iload_n 3, 1) := dk_29 (dk_at dksX0_spareBy_1 13 rfl rfl)
theorem dX0_spareBy_37 : decode cX0_spareBy 37 = .ok (.ishl, 1) := dk_120 (dk_at dksX0_spareBy_1 14 rfl rfl)
theorem dX0_spareBy_38 : decode cX0_spareBy 38 = .ok (.invokevirtual 335, 3) := dk_182 1 79 (dk_at dksX0_spareBy_1 15 rfl rfl)
theorem dX0_spareBy_41 : decode cX0_spareBy 41 = .ok (.ifCond .eq 22, 3) := dk_153 0 22 (dk_at dksX0_spareBy_1 18 rfl rfl)
theorem dX0_spareBy_44 : decode cX0_spareBy 44 = .ok (.iload_n 1, 1) := dk_27 (dk_at dksX0_spareBy_1 21 rfl rfl)
theorem dX0_spareBy_45 : decode cX0_spareBy 45 = .ok (.iconst (-1), 1) := dk_2 (dk_at dksX0_spareBy_1 22 rfl rfl)
theorem dX0_spareBy_46 : decode cX0_spareBy 46 = .ok (.if_icmp .ne 7, 3) := dk_160 0 7 (dk_at dksX0_spareBy_2 0 rfl rfl)
theorem dX0_spareBy_49 : decode cX0_spareBy 49 = .ok (.iconst 1, 1) := dk_4 (dk_at dksX0_spareBy_2 3 rfl rfl)
theorem dX0_spareBy_50 : decode cX0_spareBy 50 = .ok (.goto 12, 3) := dk_167 0 12 (dk_at dksX0_spareBy_2 4 rfl rfl)
theorem dX0_spareBy_53 : decode cX0_spareBy 53 = .ok (.iload_n 1, 1) := dk_27 (dk_at dksX0_spareBy_2 7 rfl rfl)
theorem dX0_spareBy_54 : decode cX0_spareBy 54 = .ok (.ifCond .ne 7, 3) := dk_154 0 7 (dk_at dksX0_spareBy_2 8 rfl rfl)
theorem dX0_spareBy_57 : decode cX0_spareBy 57 = .ok (.iload_n 3, 1) := dk_29 (dk_at dksX0_spareBy_2 11 rfl rfl)
theorem dX0_spareBy_58 : decode cX0_spareBy 58 = .ok (.goto 4, 3) := dk_167 0 4 (dk_at dksX0_spareBy_2 12 rfl rfl)
theorem dX0_spareBy_61 : decode cX0_spareBy 61 = .ok (.iconst (-1), 1) := dk_2 (dk_at dksX0_spareBy_2 15 rfl rfl)
theorem dX0_spareBy_62 : decode cX0_spareBy 62 = .ok (.ireturn, 1) := dk_172 (dk_at dksX0_spareBy_2 16 rfl rfl)
theorem dX0_spareBy_63 : decode cX0_spareBy 63 = .ok (.iinc 3 1, 3) := dk_132 3 1 (dk_at dksX0_spareBy_2 17 rfl rfl)
theorem dX0_spareBy_66 : decode cX0_spareBy 66 = .ok (.goto (-37), 3) := dk_167 255 219 (dk_at dksX0_spareBy_2 20 rfl rfl)
theorem dX0_spareBy_69 : decode cX0_spareBy 69 = .ok (.iconst 0, 1) := dk_3 (dk_at dksX0_spareBy_2 23 rfl rfl)
theorem dX0_spareBy_70 : decode cX0_spareBy 70 = .ok (.istore_n 3, 1) := dk_62 (dk_at dksX0_spareBy_3 0 rfl rfl)
theorem dX0_spareBy_71 : decode cX0_spareBy 71 = .ok (.iload_n 3, 1) := dk_29 (dk_at dksX0_spareBy_3 1 rfl rfl)
theorem dX0_spareBy_72 : decode cX0_spareBy 72 = .ok (.iload_n 2, 1) := dk_28 (dk_at dksX0_spareBy_3 2 rfl rfl)
theorem dX0_spareBy_73 : decode cX0_spareBy 73 = .ok (.if_icmp .ge 61, 3) := dk_162 0 61 (dk_at dksX0_spareBy_3 3 rfl rfl)
theorem dX0_spareBy_76 : decode cX0_spareBy 76 = .ok (.iload_n 3, 1) := dk_29 (dk_at dksX0_spareBy_3 6 rfl rfl)
theorem dX0_spareBy_77 : decode cX0_spareBy 77 = .ok (.iconst 1, 1) := dk_4 (dk_at dksX0_spareBy_3 7 rfl rfl)
theorem dX0_spareBy_78 : decode cX0_spareBy 78 = .ok (.iadd, 1) := dk_96 (dk_at dksX0_spareBy_3 8 rfl rfl)
theorem dX0_spareBy_79 : decode cX0_spareBy 79 = .ok (.istore 4, 2) := dk_54 4 (dk_at dksX0_spareBy_3 9 rfl rfl)
theorem dX0_spareBy_81 : decode cX0_spareBy 81 = .ok (.iload 4, 2) := dk_21 4 (dk_at dksX0_spareBy_3 11 rfl rfl)
theorem dX0_spareBy_83 : decode cX0_spareBy 83 = .ok (.iload_n 2, 1) := dk_28 (dk_at dksX0_spareBy_3 13 rfl rfl)
theorem dX0_spareBy_84 : decode cX0_spareBy 84 = .ok (.if_icmp .ge 44, 3) := dk_162 0 44 (dk_at dksX0_spareBy_3 14 rfl rfl)
theorem dX0_spareBy_87 : decode cX0_spareBy 87 = .ok (.aload_n 0, 1) := dk_42 (dk_at dksX0_spareBy_3 17 rfl rfl)
theorem dX0_spareBy_88 : decode cX0_spareBy 88 = .ok (.iconst 1, 1) := dk_4 (dk_at dksX0_spareBy_3 18 rfl rfl)
theorem dX0_spareBy_89 : decode cX0_spareBy 89 = .ok (.iload_n 3, 1) := dk_29 (dk_at dksX0_spareBy_3 19 rfl rfl)
theorem dX0_spareBy_90 : decode cX0_spareBy 90 = .ok (.ishl, 1) := dk_120 (dk_at dksX0_spareBy_3 20 rfl rfl)
theorem dX0_spareBy_91 : decode cX0_spareBy 91 = .ok (.iconst 1, 1) := dk_4 (dk_at dksX0_spareBy_3 21 rfl rfl)
theorem dX0_spareBy_92 : decode cX0_spareBy 92 = .ok (.iload 4, 2) := dk_21 4 (dk_at dksX0_spareBy_3 22 rfl rfl)
theorem dX0_spareBy_94 : decode cX0_spareBy 94 = .ok (.ishl, 1) := dk_120 (dk_at dksX0_spareBy_4 0 rfl rfl)
theorem dX0_spareBy_95 : decode cX0_spareBy 95 = .ok (.ior, 1) := dk_128 (dk_at dksX0_spareBy_4 1 rfl rfl)
theorem dX0_spareBy_96 : decode cX0_spareBy 96 = .ok (.invokevirtual 335, 3) := dk_182 1 79 (dk_at dksX0_spareBy_4 2 rfl rfl)
theorem dX0_spareBy_99 : decode cX0_spareBy 99 = .ok (.ifCond .eq 23, 3) := dk_153 0 23 (dk_at dksX0_spareBy_4 5 rfl rfl)
theorem dX0_spareBy_102 : decode cX0_spareBy 102 = .ok (.iload_n 1, 1) := dk_27 (dk_at dksX0_spareBy_4 8 rfl rfl)
theorem dX0_spareBy_103 : decode cX0_spareBy 103 = .ok (.iconst (-1), 1) := dk_2 (dk_at dksX0_spareBy_4 9 rfl rfl)
theorem dX0_spareBy_104 : decode cX0_spareBy 104 = .ok (.if_icmp .ne 7, 3) := dk_160 0 7 (dk_at dksX0_spareBy_4 10 rfl rfl)
theorem dX0_spareBy_107 : decode cX0_spareBy 107 = .ok (.iconst 2, 1) := dk_5 (dk_at dksX0_spareBy_4 13 rfl rfl)
theorem dX0_spareBy_108 : decode cX0_spareBy 108 = .ok (.goto 13, 3) := dk_167 0 13 (dk_at dksX0_spareBy_4 14 rfl rfl)
theorem dX0_spareBy_111 : decode cX0_spareBy 111 = .ok (.iload_n 1, 1) := dk_27 (dk_at dksX0_spareBy_4 17 rfl rfl)
theorem dX0_spareBy_112 : decode cX0_spareBy 112 = .ok (.ifCond .ne 7, 3) := dk_154 0 7 (dk_at dksX0_spareBy_4 18 rfl rfl)
theorem dX0_spareBy_115 : decode cX0_spareBy 115 = .ok (.iload_n 3, 1) := dk_29 (dk_at dksX0_spareBy_4 21 rfl rfl)
theorem dX0_spareBy_116 : decode cX0_spareBy 116 = .ok (.goto 5, 3) := dk_167 0 5 (dk_at dksX0_spareBy_5 0 rfl rfl)
theorem dX0_spareBy_119 : decode cX0_spareBy 119 = .ok (.iload 4, 2) := dk_21 4 (dk_at dksX0_spareBy_5 3 rfl rfl)
theorem dX0_spareBy_121 : decode cX0_spareBy 121 = .ok (.ireturn, 1) := dk_172 (dk_at dksX0_spareBy_5 5 rfl rfl)
theorem dX0_spareBy_122 : decode cX0_spareBy 122 = .ok (.iinc 4 1, 3) := dk_132 4 1 (dk_at dksX0_spareBy_5 6 rfl rfl)
theorem dX0_spareBy_125 : decode cX0_spareBy 125 = .ok (.goto (-44), 3) := dk_167 255 212 (dk_at dksX0_spareBy_5 9 rfl rfl)
theorem dX0_spareBy_128 : decode cX0_spareBy 128 = .ok (.iinc 3 1, 3) := dk_132 3 1 (dk_at dksX0_spareBy_5 12 rfl rfl)
theorem dX0_spareBy_131 : decode cX0_spareBy 131 = .ok (.goto (-60), 3) := dk_167 255 196 (dk_at dksX0_spareBy_5 15 rfl rfl)
theorem dX0_spareBy_134 : decode cX0_spareBy 134 = .ok (.iconst (-1), 1) := dk_2 (dk_at dksX0_spareBy_5 18 rfl rfl)
theorem dX0_spareBy_135 : decode cX0_spareBy 135 = .ok (.ireturn, 1) := dk_172 (dk_at dksX0_spareBy_5 19 rfl rfl)
abbrev cX0_isSpared : ByteArray := prog_1_method_50_code
def yX0_isSpared : MethodName := ⟨RX0, "isSpared", "(I)Z"⟩
def dkwX0_isSpared_1 : List UInt8 := [3, 181, 0, 197, 28, 172, 78, 42, 3, 181, 0, 197, 45, 191]
abbrev dktX0_isSpared_1 : List UInt8 := dkwX0_isSpared_1 ++ []
def dkwX0_isSpared_0 : List UInt8 := [42, 27, 181, 0, 197, 42, 182, 1, 29, 42, 7, 182, 1, 34, 154, 0, 7, 4, 167, 0, 4, 3, 61, 42]
abbrev dktX0_isSpared_0 : List UInt8 := dkwX0_isSpared_0 ++ dktX0_isSpared_1
theorem dksX0_isSpared_0 : cX0_isSpared.data.toList.drop 0 = dktX0_isSpared_0 := by decide +kernel
theorem dksX0_isSpared_1 : cX0_isSpared.data.toList.drop 24 = dktX0_isSpared_1 := dk_seg dksX0_isSpared_0 24 rfl rfl
theorem dX0_isSpared_0 : decode cX0_isSpared 0 = .ok (.aload_n 0, 1) := dk_42 (dk_at dksX0_isSpared_0 0 rfl rfl)
theorem dX0_isSpared_1 : decode cX0_isSpared 1 = .ok (.iload_n 1, 1) := dk_27 (dk_at dksX0_isSpared_0 1 rfl rfl)
theorem dX0_isSpared_2 : decode cX0_isSpared 2 = .ok (.putfield 197, 3) := dk_181 0 197 (dk_at dksX0_isSpared_0 2 rfl rfl)
theorem dX0_isSpared_5 : decode cX0_isSpared 5 = .ok (.aload_n 0, 1) := dk_42 (dk_at dksX0_isSpared_0 5 rfl rfl)
theorem dX0_isSpared_6 : decode cX0_isSpared 6 = .ok (.invokevirtual 285, 3) := dk_182 1 29 (dk_at dksX0_isSpared_0 6 rfl rfl)
theorem dX0_isSpared_9 : decode cX0_isSpared 9 = .ok (.aload_n 0, 1) := dk_42 (dk_at dksX0_isSpared_0 9 rfl rfl)
theorem dX0_isSpared_10 : decode cX0_isSpared 10 = .ok (.iconst 4, 1) := dk_7 (dk_at dksX0_isSpared_0 10 rfl rfl)
theorem dX0_isSpared_11 : decode cX0_isSpared 11 = .ok (.invokevirtual 290, 3) := dk_182 1 34 (dk_at dksX0_isSpared_0 11 rfl rfl)
theorem dX0_isSpared_14 : decode cX0_isSpared 14 = .ok (.ifCond .ne 7, 3) := dk_154 0 7 (dk_at dksX0_isSpared_0 14 rfl rfl)
theorem dX0_isSpared_17 : decode cX0_isSpared 17 = .ok (.iconst 1, 1) := dk_4 (dk_at dksX0_isSpared_0 17 rfl rfl)
theorem dX0_isSpared_18 : decode cX0_isSpared 18 = .ok (.goto 4, 3) := dk_167 0 4 (dk_at dksX0_isSpared_0 18 rfl rfl)
theorem dX0_isSpared_21 : decode cX0_isSpared 21 = .ok (.iconst 0, 1) := dk_3 (dk_at dksX0_isSpared_0 21 rfl rfl)
theorem dX0_isSpared_22 : decode cX0_isSpared 22 = .ok (.istore_n 2, 1) := dk_61 (dk_at dksX0_isSpared_0 22 rfl rfl)
theorem dX0_isSpared_23 : decode cX0_isSpared 23 = .ok (.aload_n 0, 1) := dk_42 (dk_at dksX0_isSpared_0 23 rfl rfl)
theorem dX0_isSpared_24 : decode cX0_isSpared 24 = .ok (.iconst 0, 1) := dk_3 (dk_at dksX0_isSpared_1 0 rfl rfl)
theorem dX0_isSpared_25 : decode cX0_isSpared 25 = .ok (.putfield 197, 3) := dk_181 0 197 (dk_at dksX0_isSpared_1 1 rfl rfl)
theorem dX0_isSpared_28 : decode cX0_isSpared 28 = .ok (.iload_n 2, 1) := dk_28 (dk_at dksX0_isSpared_1 4 rfl rfl)
theorem dX0_isSpared_29 : decode cX0_isSpared 29 = .ok (.ireturn, 1) := dk_172 (dk_at dksX0_isSpared_1 5 rfl rfl)
theorem dX0_isSpared_30 : decode cX0_isSpared 30 = .ok (.astore_n 3, 1) := dk_78 (dk_at dksX0_isSpared_1 6 rfl rfl)
theorem dX0_isSpared_31 : decode cX0_isSpared 31 = .ok (.aload_n 0, 1) := dk_42 (dk_at dksX0_isSpared_1 7 rfl rfl)
theorem dX0_isSpared_32 : decode cX0_isSpared 32 = .ok (.iconst 0, 1) := dk_3 (dk_at dksX0_isSpared_1 8 rfl rfl)
theorem dX0_isSpared_33 : decode cX0_isSpared 33 = .ok (.putfield 197, 3) := dk_181 0 197 (dk_at dksX0_isSpared_1 9 rfl rfl)
theorem dX0_isSpared_36 : decode cX0_isSpared 36 = .ok (.aload_n 3, 1) := dk_45 (dk_at dksX0_isSpared_1 12 rfl rfl)
theorem dX0_isSpared_37 : decode cX0_isSpared 37 = .ok (.athrow, 1) := dk_191 (dk_at dksX0_isSpared_1 13 rfl rfl)
abbrev cX0_seen : ByteArray := prog_1_method_53_code
def yX0_seen : MethodName := ⟨RX0, "seen", "(II)I"⟩
def dkwX0_seen_2 : List UInt8 := [182, 0, 160, 87, 42, 180, 0, 66, 182, 0, 123, 172]
abbrev dktX0_seen_2 : List UInt8 := dkwX0_seen_2 ++ []
def dkwX0_seen_1 : List UInt8 := [16, 8, 160, 0, 6, 16, 252, 172, 42, 180, 0, 66, 5, 188, 10, 89, 3, 27, 79, 89, 4, 28, 79]
abbrev dktX0_seen_1 : List UInt8 := dkwX0_seen_1 ++ dktX0_seen_2
def dkwX0_seen_0 : List UInt8 := [27, 184, 0, 155, 153, 0, 10, 28, 184, 0, 101, 154, 0, 6, 16, 254, 172, 42, 180, 0, 66, 182, 0, 123]
abbrev dktX0_seen_0 : List UInt8 := dkwX0_seen_0 ++ dktX0_seen_1
theorem dksX0_seen_0 : cX0_seen.data.toList.drop 0 = dktX0_seen_0 := by decide +kernel
theorem dksX0_seen_1 : cX0_seen.data.toList.drop 24 = dktX0_seen_1 := dk_seg dksX0_seen_0 24 rfl rfl
theorem dksX0_seen_2 : cX0_seen.data.toList.drop 47 = dktX0_seen_2 := dk_seg dksX0_seen_1 23 rfl rfl
theorem dX0_seen_0 : decode cX0_seen 0 = .ok (.iload_n 1, 1) := dk_27 (dk_at dksX0_seen_0 0 rfl rfl)
theorem dX0_seen_1 : decode cX0_seen 1 = .ok (.invokestatic 155, 3) := dk_184 0 155 (dk_at dksX0_seen_0 1 rfl rfl)
theorem dX0_seen_4 : decode cX0_seen 4 = .ok (.ifCond .eq 10, 3) := dk_153 0 10 (dk_at dksX0_seen_0 4 rfl rfl)
theorem dX0_seen_7 : decode cX0_seen 7 = .ok (.iload_n 2, 1) := dk_28 (dk_at dksX0_seen_0 7 rfl rfl)
theorem dX0_seen_8 : decode cX0_seen 8 = .ok (.invokestatic 101, 3) := dk_184 0 101 (dk_at dksX0_seen_0 8 rfl rfl)
theorem dX0_seen_11 : decode cX0_seen 11 = .ok (.ifCond .ne 6, 3) := dk_154 0 6 (dk_at dksX0_seen_0 11 rfl rfl)
theorem dX0_seen_14 : decode cX0_seen 14 = .ok (.bipush (-2), 2) := dk_16 254 (dk_at dksX0_seen_0 14 rfl rfl)
theorem dX0_seen_16 : decode cX0_seen 16 = .ok (.ireturn, 1) := dk_172 (dk_at dksX0_seen_0 16 rfl rfl)
theorem dX0_seen_17 : decode cX0_seen 17 = .ok (.aload_n 0, 1) := dk_42 (dk_at dksX0_seen_0 17 rfl rfl)
theorem dX0_seen_18 : decode cX0_seen 18 = .ok (.getfield 66, 3) := dk_180 0 66 (dk_at dksX0_seen_0 18 rfl rfl)
theorem dX0_seen_21 : decode cX0_seen 21 = .ok (.invokevirtual 123, 3) := dk_182 0 123 (dk_at dksX0_seen_0 21 rfl rfl)
theorem dX0_seen_24 : decode cX0_seen 24 = .ok (.bipush 8, 2) := dk_16 8 (dk_at dksX0_seen_1 0 rfl rfl)
theorem dX0_seen_26 : decode cX0_seen 26 = .ok (.if_icmp .ne 6, 3) := dk_160 0 6 (dk_at dksX0_seen_1 2 rfl rfl)
theorem dX0_seen_29 : decode cX0_seen 29 = .ok (.bipush (-4), 2) := dk_16 252 (dk_at dksX0_seen_1 5 rfl rfl)
theorem dX0_seen_31 : decode cX0_seen 31 = .ok (.ireturn, 1) := dk_172 (dk_at dksX0_seen_1 7 rfl rfl)
theorem dX0_seen_32 : decode cX0_seen 32 = .ok (.aload_n 0, 1) := dk_42 (dk_at dksX0_seen_1 8 rfl rfl)
theorem dX0_seen_33 : decode cX0_seen 33 = .ok (.getfield 66, 3) := dk_180 0 66 (dk_at dksX0_seen_1 9 rfl rfl)
theorem dX0_seen_36 : decode cX0_seen 36 = .ok (.iconst 2, 1) := dk_5 (dk_at dksX0_seen_1 12 rfl rfl)
theorem dX0_seen_37 : decode cX0_seen 37 = .ok (.newarray .int, 2) := dk_188_10 (dk_at dksX0_seen_1 13 rfl rfl)
theorem dX0_seen_39 : decode cX0_seen 39 = .ok (.dup, 1) := dk_89 (dk_at dksX0_seen_1 15 rfl rfl)
theorem dX0_seen_40 : decode cX0_seen 40 = .ok (.iconst 0, 1) := dk_3 (dk_at dksX0_seen_1 16 rfl rfl)
theorem dX0_seen_41 : decode cX0_seen 41 = .ok (.iload_n 1, 1) := dk_27 (dk_at dksX0_seen_1 17 rfl rfl)
theorem dX0_seen_42 : decode cX0_seen 42 = .ok (.iastore, 1) := dk_79 (dk_at dksX0_seen_1 18 rfl rfl)
theorem dX0_seen_43 : decode cX0_seen 43 = .ok (.dup, 1) := dk_89 (dk_at dksX0_seen_1 19 rfl rfl)
theorem dX0_seen_44 : decode cX0_seen 44 = .ok (.iconst 1, 1) := dk_4 (dk_at dksX0_seen_1 20 rfl rfl)
theorem dX0_seen_45 : decode cX0_seen 45 = .ok (.iload_n 2, 1) := dk_28 (dk_at dksX0_seen_1 21 rfl rfl)
theorem dX0_seen_46 : decode cX0_seen 46 = .ok (.iastore, 1) := dk_79 (dk_at dksX0_seen_1 22 rfl rfl)
theorem dX0_seen_47 : decode cX0_seen 47 = .ok (.invokevirtual 160, 3) := dk_182 0 160 (dk_at dksX0_seen_2 0 rfl rfl)
theorem dX0_seen_50 : decode cX0_seen 50 = .ok (.pop, 1) := dk_87 (dk_at dksX0_seen_2 3 rfl rfl)
theorem dX0_seen_51 : decode cX0_seen 51 = .ok (.aload_n 0, 1) := dk_42 (dk_at dksX0_seen_2 4 rfl rfl)
theorem dX0_seen_52 : decode cX0_seen 52 = .ok (.getfield 66, 3) := dk_180 0 66 (dk_at dksX0_seen_2 5 rfl rfl)
theorem dX0_seen_55 : decode cX0_seen 55 = .ok (.invokevirtual 123, 3) := dk_182 0 123 (dk_at dksX0_seen_2 8 rfl rfl)
theorem dX0_seen_58 : decode cX0_seen 58 = .ok (.ireturn, 1) := dk_172 (dk_at dksX0_seen_2 11 rfl rfl)
abbrev cX0_forget : ByteArray := prog_1_method_54_code
def yX0_forget : MethodName := ⟨RX0, "forget", "()I"⟩
def dkwX0_forget_0 : List UInt8 := [42, 180, 0, 66, 182, 0, 123, 60, 42, 180, 0, 66, 182, 1, 23, 27, 172]
abbrev dktX0_forget_0 : List UInt8 := dkwX0_forget_0 ++ []
theorem dksX0_forget_0 : cX0_forget.data.toList.drop 0 = dktX0_forget_0 := by decide +kernel
theorem dX0_forget_0 : decode cX0_forget 0 = .ok (.aload_n 0, 1) := dk_42 (dk_at dksX0_forget_0 0 rfl rfl)
theorem dX0_forget_1 : decode cX0_forget 1 = .ok (.getfield 66, 3) := dk_180 0 66 (dk_at dksX0_forget_0 1 rfl rfl)
theorem dX0_forget_4 : decode cX0_forget 4 = .ok (.invokevirtual 123, 3) := dk_182 0 123 (dk_at dksX0_forget_0 4 rfl rfl)
theorem dX0_forget_7 : decode cX0_forget 7 = .ok (.istore_n 1, 1) := dk_60 (dk_at dksX0_forget_0 7 rfl rfl)
theorem dX0_forget_8 : decode cX0_forget 8 = .ok (.aload_n 0, 1) := dk_42 (dk_at dksX0_forget_0 8 rfl rfl)
theorem dX0_forget_9 : decode cX0_forget 9 = .ok (.getfield 66, 3) := dk_180 0 66 (dk_at dksX0_forget_0 9 rfl rfl)
theorem dX0_forget_12 : decode cX0_forget 12 = .ok (.invokevirtual 279, 3) := dk_182 1 23 (dk_at dksX0_forget_0 12 rfl rfl)
theorem dX0_forget_15 : decode cX0_forget 15 = .ok (.iload_n 1, 1) := dk_27 (dk_at dksX0_forget_0 15 rfl rfl)
theorem dX0_forget_16 : decode cX0_forget 16 = .ok (.ireturn, 1) := dk_172 (dk_at dksX0_forget_0 16 rfl rfl)
abbrev cX0_never : ByteArray := prog_1_method_57_code
def yX0_never : MethodName := ⟨RX0, "never", "()I"⟩
theorem dX0_never_0 : decode cX0_never 0 = .ok (.aload_n 0, 1) := by decide +kernel
theorem dX0_never_1 : decode cX0_never 1 = .ok (.invokevirtual 346, 3) := by decide +kernel
theorem dX0_never_4 : decode cX0_never 4 = .ok (.ireturn, 1) := by decide +kernel
abbrev cX0_neverNow : ByteArray := prog_1_method_56_code
def yX0_neverNow : MethodName := ⟨RX0, "neverNow", "()I"⟩
def dkwX0_neverNow_2 : List UInt8 := [181, 0, 197, 167, 0, 11, 78, 42, 3, 181, 0, 197, 45, 191, 27, 172]
abbrev dktX0_neverNow_2 : List UInt8 := dkwX0_neverNow_2 ++ []
def dkwX0_neverNow_1 : List UInt8 := [182, 1, 87, 153, 0, 9, 4, 28, 120, 167, 0, 4, 3, 128, 60, 132, 2, 1, 167, 255, 218, 42, 3]
abbrev dktX0_neverNow_1 : List UInt8 := dkwX0_neverNow_1 ++ dktX0_neverNow_2
def dkwX0_neverNow_0 : List UInt8 := [3, 60, 3, 61, 28, 42, 180, 0, 47, 182, 0, 123, 162, 0, 33, 42, 4, 28, 120, 181, 0, 197, 27, 42]
abbrev dktX0_neverNow_0 : List UInt8 := dkwX0_neverNow_0 ++ dktX0_neverNow_1
theorem dksX0_neverNow_0 : cX0_neverNow.data.toList.drop 0 = dktX0_neverNow_0 := by decide +kernel
theorem dksX0_neverNow_1 : cX0_neverNow.data.toList.drop 24 = dktX0_neverNow_1 := dk_seg dksX0_neverNow_0 24 rfl rfl
theorem dksX0_neverNow_2 : cX0_neverNow.data.toList.drop 47 = dktX0_neverNow_2 := dk_seg dksX0_neverNow_1 23 rfl rfl
theorem dX0_neverNow_0 : decode cX0_neverNow 0 = .ok (.iconst 0, 1) := dk_3 (dk_at dksX0_neverNow_0 0 rfl rfl)
theorem dX0_neverNow_1 : decode cX0_neverNow 1 = .ok (.istore_n 1, 1) := dk_60 (dk_at dksX0_neverNow_0 1 rfl rfl)
theorem dX0_neverNow_2 : decode cX0_neverNow 2 = .ok (.iconst 0, 1) := dk_3 (dk_at dksX0_neverNow_0 2 rfl rfl)
theorem dX0_neverNow_3 : decode cX0_neverNow 3 = .ok (.istore_n 2, 1) := dk_61 (dk_at dksX0_neverNow_0 3 rfl rfl)
theorem dX0_neverNow_4 : decode cX0_neverNow 4 = .ok (.iload_n 2, 1) := dk_28 (dk_at dksX0_neverNow_0 4 rfl rfl)
theorem dX0_neverNow_5 : decode cX0_neverNow 5 = .ok (.aload_n 0, 1) := dk_42 (dk_at dksX0_neverNow_0 5 rfl rfl)
theorem dX0_neverNow_6 : decode cX0_neverNow 6 = .ok (.getfield 47, 3) := dk_180 0 47 (dk_at dksX0_neverNow_0 6 rfl rfl)
theorem dX0_neverNow_9 : decode cX0_neverNow 9 = .ok (.invokevirtual 123, 3) := dk_182 0 123 (dk_at dksX0_neverNow_0 9 rfl rfl)
theorem dX0_neverNow_12 : decode cX0_neverNow 12 = .ok (.if_icmp .ge 33, 3) := dk_162 0 33 (dk_at dksX0_neverNow_0 12 rfl rfl)
theorem dX0_neverNow_15 : decode cX0_neverNow 15 = .ok (.aload_n 0, 1) := dk_42 (dk_at dksX0_neverNow_0 15 rfl rfl)
theorem dX0_neverNow_16 : decode cX0_neverNow 16 = .ok (.iconst 1, 1) := dk_4 (dk_at dksX0_neverNow_0 16 rfl rfl)
theorem dX0_neverNow_17 : decode cX0_neverNow 17 = .ok (.iload_n 2, 1) := dk_28 (dk_at dksX0_neverNow_0 17 rfl rfl)
theorem dX0_neverNow_18 : decode cX0_neverNow 18 = .ok (.ishl, 1) := dk_120 (dk_at dksX0_neverNow_0 18 rfl rfl)
theorem dX0_neverNow_19 : decode cX0_neverNow 19 = .ok (.putfield 197, 3) := dk_181 0 197 (dk_at dksX0_neverNow_0 19 rfl rfl)
theorem dX0_neverNow_22 : decode cX0_neverNow 22 = .ok (.iload_n 1, 1) := dk_27 (dk_at dksX0_neverNow_0 22 rfl rfl)
theorem dX0_neverNow_23 : decode cX0_neverNow 23 = .ok (.aload_n 0, 1) := dk_42 (dk_at dksX0_neverNow_0 23 rfl rfl)
theorem dX0_neverNow_24 : decode cX0_neverNow 24 = .ok (.invokevirtual 343, 3) := dk_182 1 87 (dk_at dksX0_neverNow_1 0 rfl rfl)
theorem dX0_neverNow_27 : decode cX0_neverNow 27 = .ok (.ifCond .eq 9, 3) := dk_153 0 9 (dk_at dksX0_neverNow_1 3 rfl rfl)
theorem dX0_neverNow_30 : decode cX0_neverNow 30 = .ok (.iconst 1, 1) := dk_4 (dk_at dksX0_neverNow_1 6 rfl rfl)
theorem dX0_neverNow_31 : decode cX0_neverNow 31 = .ok (.iload_n 2, 1) := dk_28 (dk_at dksX0_neverNow_1 7 rfl rfl)
theorem dX0_neverNow_32 : decode cX0_neverNow 32 = .ok (.ishl, 1) := dk_120 (dk_at dksX0_neverNow_1 8 rfl rfl)
theorem dX0_neverNow_33 : decode cX0_neverNow 33 = .ok (.goto 4, 3) := dk_167 0 4 (dk_at dksX0_neverNow_1 9 rfl rfl)
theorem dX0_neverNow_36 : decode cX0_neverNow 36 = .ok (.iconst 0, 1) := dk_3 (dk_at dksX0_neverNow_1 12 rfl rfl)
theorem dX0_neverNow_37 : decode cX0_neverNow 37 = .ok (.ior, 1) := dk_128 (dk_at dksX0_neverNow_1 13 rfl rfl)
theorem dX0_neverNow_38 : decode cX0_neverNow 38 = .ok (.istore_n 1, 1) := dk_60 (dk_at dksX0_neverNow_1 14 rfl rfl)
theorem dX0_neverNow_39 : decode cX0_neverNow 39 = .ok (.iinc 2 1, 3) := dk_132 2 1 (dk_at dksX0_neverNow_1 15 rfl rfl)
theorem dX0_neverNow_42 : decode cX0_neverNow 42 = .ok (.goto (-38), 3) := dk_167 255 218 (dk_at dksX0_neverNow_1 18 rfl rfl)
theorem dX0_neverNow_45 : decode cX0_neverNow 45 = .ok (.aload_n 0, 1) := dk_42 (dk_at dksX0_neverNow_1 21 rfl rfl)
theorem dX0_neverNow_46 : decode cX0_neverNow 46 = .ok (.iconst 0, 1) := dk_3 (dk_at dksX0_neverNow_1 22 rfl rfl)
theorem dX0_neverNow_47 : decode cX0_neverNow 47 = .ok (.putfield 197, 3) := dk_181 0 197 (dk_at dksX0_neverNow_2 0 rfl rfl)
theorem dX0_neverNow_50 : decode cX0_neverNow 50 = .ok (.goto 11, 3) := dk_167 0 11 (dk_at dksX0_neverNow_2 3 rfl rfl)
theorem dX0_neverNow_53 : decode cX0_neverNow 53 = .ok (.astore_n 3, 1) := dk_78 (dk_at dksX0_neverNow_2 6 rfl rfl)
theorem dX0_neverNow_54 : decode cX0_neverNow 54 = .ok (.aload_n 0, 1) := dk_42 (dk_at dksX0_neverNow_2 7 rfl rfl)
theorem dX0_neverNow_55 : decode cX0_neverNow 55 = .ok (.iconst 0, 1) := dk_3 (dk_at dksX0_neverNow_2 8 rfl rfl)
theorem dX0_neverNow_56 : decode cX0_neverNow 56 = .ok (.putfield 197, 3) := dk_181 0 197 (dk_at dksX0_neverNow_2 9 rfl rfl)
theorem dX0_neverNow_59 : decode cX0_neverNow 59 = .ok (.aload_n 3, 1) := dk_45 (dk_at dksX0_neverNow_2 12 rfl rfl)
theorem dX0_neverNow_60 : decode cX0_neverNow 60 = .ok (.athrow, 1) := dk_191 (dk_at dksX0_neverNow_2 13 rfl rfl)
theorem dX0_neverNow_61 : decode cX0_neverNow 61 = .ok (.iload_n 1, 1) := dk_27 (dk_at dksX0_neverNow_2 14 rfl rfl)
theorem dX0_neverNow_62 : decode cX0_neverNow 62 = .ok (.ireturn, 1) := dk_172 (dk_at dksX0_neverNow_2 15 rfl rfl)
abbrev cX0_isSeen : ByteArray := prog_1_method_55_code
def yX0_isSeen : MethodName := ⟨RX0, "isSeen", "()Z"⟩
def dkwX0_isSeen_3 : List UInt8 := [172]
abbrev dktX0_isSeen_3 : List UInt8 := dkwX0_isSeen_3 ++ []
def dkwX0_isSeen_2 : List UInt8 := [182, 0, 138, 192, 0, 196, 4, 46, 160, 0, 7, 4, 167, 0, 4, 3, 60, 132, 2, 1, 167, 255, 196, 27]
abbrev dktX0_isSeen_2 : List UInt8 := dkwX0_isSeen_2 ++ dktX0_isSeen_3
def dkwX0_isSeen_1 : List UInt8 := [180, 0, 55, 42, 180, 0, 66, 28, 182, 0, 138, 192, 0, 196, 3, 46, 50, 7, 46, 42, 180, 0, 66, 28]
abbrev dktX0_isSeen_1 : List UInt8 := dkwX0_isSeen_1 ++ dktX0_isSeen_2
def dkwX0_isSeen_0 : List UInt8 := [42, 182, 1, 29, 4, 60, 3, 61, 28, 42, 180, 0, 66, 182, 0, 123, 162, 0, 55, 27, 153, 0, 51, 42]
abbrev dktX0_isSeen_0 : List UInt8 := dkwX0_isSeen_0 ++ dktX0_isSeen_1
theorem dksX0_isSeen_0 : cX0_isSeen.data.toList.drop 0 = dktX0_isSeen_0 := by decide +kernel
theorem dksX0_isSeen_1 : cX0_isSeen.data.toList.drop 24 = dktX0_isSeen_1 := dk_seg dksX0_isSeen_0 24 rfl rfl
theorem dksX0_isSeen_2 : cX0_isSeen.data.toList.drop 48 = dktX0_isSeen_2 := dk_seg dksX0_isSeen_1 24 rfl rfl
theorem dksX0_isSeen_3 : cX0_isSeen.data.toList.drop 72 = dktX0_isSeen_3 := dk_seg dksX0_isSeen_2 24 rfl rfl
theorem dX0_isSeen_0 : decode cX0_isSeen 0 = .ok (.aload_n 0, 1) := dk_42 (dk_at dksX0_isSeen_0 0 rfl rfl)
theorem dX0_isSeen_1 : decode cX0_isSeen 1 = .ok (.invokevirtual 285, 3) := dk_182 1 29 (dk_at dksX0_isSeen_0 1 rfl rfl)
theorem dX0_isSeen_4 : decode cX0_isSeen 4 = .ok (.iconst 1, 1) := dk_4 (dk_at dksX0_isSeen_0 4 rfl rfl)
theorem dX0_isSeen_5 : decode cX0_isSeen 5 = .ok (.istore_n 1, 1) := dk_60 (dk_at dksX0_isSeen_0 5 rfl rfl)
theorem dX0_isSeen_6 : decode cX0_isSeen 6 = .ok (.iconst 0, 1) := dk_3 (dk_at dksX0_isSeen_0 6 rfl rfl)
theorem dX0_isSeen_7 : decode cX0_isSeen 7 = .ok (.istore_n 2, 1) := dk_61 (dk_at dksX0_isSeen_0 7 rfl rfl)
theorem dX0_isSeen_8 : decode cX0_isSeen 8 = .ok (.iload_n 2, 1) := dk_28 (dk_at dksX0_isSeen_0 8 rfl rfl)
theorem dX0_isSeen_9 : decode cX0_isSeen 9 = .ok (.aload_n 0, 1) := dk_42 (dk_at dksX0_isSeen_0 9 rfl rfl)
theorem dX0_isSeen_10 : decode cX0_isSeen 10 = .ok (.getfield 66, 3) := dk_180 0 66 (dk_at dksX0_isSeen_0 10 rfl rfl)
theorem dX0_isSeen_13 : decode cX0_isSeen 13 = .ok (.invokevirtual 123, 3) := dk_182 0 123 (dk_at dksX0_isSeen_0 13 rfl rfl)
theorem dX0_isSeen_16 : decode cX0_isSeen 16 = .ok (.if_icmp .ge 55, 3) := dk_162 0 55 (dk_at dksX0_isSeen_0 16 rfl rfl)
theorem dX0_isSeen_19 : decode cX0_isSeen 19 = .ok (.iload_n 1, 1) := dk_27 (dk_at dksX0_isSeen_0 19 rfl rfl)
theorem dX0_isSeen_20 : decode cX0_isSeen 20 = .ok (.ifCond .eq 51, 3) := dk_153 0 51 (dk_at dksX0_isSeen_0 20 rfl rfl)
theorem dX0_isSeen_23 : decode cX0_isSeen 23 = .ok (.aload_n 0, 1) := dk_42 (dk_at dksX0_isSeen_0 23 rfl rfl)
theorem dX0_isSeen_24 : decode cX0_isSeen 24 = .ok (.getfield 55, 3) := dk_180 0 55 (dk_at dksX0_isSeen_1 0 rfl rfl)
theorem dX0_isSeen_27 : decode cX0_isSeen 27 = .ok (.aload_n 0, 1) := dk_42 (dk_at dksX0_isSeen_1 3 rfl rfl)
theorem dX0_isSeen_28 : decode cX0_isSeen 28 = .ok (.getfield 66, 3) := dk_180 0 66 (dk_at dksX0_isSeen_1 4 rfl rfl)
theorem dX0_isSeen_31 : decode cX0_isSeen 31 = .ok (.iload_n 2, 1) := dk_28 (dk_at dksX0_isSeen_1 7 rfl rfl)
theorem dX0_isSeen_32 : decode cX0_isSeen 32 = .ok (.invokevirtual 138, 3) := dk_182 0 138 (dk_at dksX0_isSeen_1 8 rfl rfl)
theorem dX0_isSeen_35 : decode cX0_isSeen 35 = .ok (.checkcast 196, 3) := dk_192 0 196 (dk_at dksX0_isSeen_1 11 rfl rfl)
theorem dX0_isSeen_38 : decode cX0_isSeen 38 = .ok (.iconst 0, 1) := dk_3 (dk_at dksX0_isSeen_1 14 rfl rfl)
theorem dX0_isSeen_39 : decode cX0_isSeen 39 = .ok (.iaload, 1) := dk_46 (dk_at dksX0_isSeen_1 15 rfl rfl)
theorem dX0_isSeen_40 : decode cX0_isSeen 40 = .ok (.aaload, 1) := dk_50 (dk_at dksX0_isSeen_1 16 rfl rfl)
theorem dX0_isSeen_41 : decode cX0_isSeen 41 = .ok (.iconst 4, 1) := dk_7 (dk_at dksX0_isSeen_1 17 rfl rfl)
theorem dX0_isSeen_42 : decode cX0_isSeen 42 = .ok (.iaload, 1) := dk_46 (dk_at dksX0_isSeen_1 18 rfl rfl)
theorem dX0_isSeen_43 : decode cX0_isSeen 43 = .ok (.aload_n 0, 1) := dk_42 (dk_at dksX0_isSeen_1 19 rfl rfl)
theorem dX0_isSeen_44 : decode cX0_isSeen 44 = .ok (.getfield 66, 3) := dk_180 0 66 (dk_at dksX0_isSeen_1 20 rfl rfl)
theorem dX0_isSeen_47 : decode cX0_isSeen 47 = .ok (.iload_n 2, 1) := dk_28 (dk_at dksX0_isSeen_1 23 rfl rfl)
theorem dX0_isSeen_48 : decode cX0_isSeen 48 = .ok (.invokevirtual 138, 3) := dk_182 0 138 (dk_at dksX0_isSeen_2 0 rfl rfl)
theorem dX0_isSeen_51 : decode cX0_isSeen 51 = .ok (.checkcast 196, 3) := dk_192 0 196 (dk_at dksX0_isSeen_2 3 rfl rfl)
theorem dX0_isSeen_54 : decode cX0_isSeen 54 = .ok (.iconst 1, 1) := dk_4 (dk_at dksX0_isSeen_2 6 rfl rfl)
theorem dX0_isSeen_55 : decode cX0_isSeen 55 = .ok (.iaload, 1) := dk_46 (dk_at dksX0_isSeen_2 7 rfl rfl)
theorem dX0_isSeen_56 : decode cX0_isSeen 56 = .ok (.if_icmp .ne 7, 3) := dk_160 0 7 (dk_at dksX0_isSeen_2 8 rfl rfl)
theorem dX0_isSeen_59 : decode cX0_isSeen 59 = .ok (.iconst 1, 1) := dk_4 (dk_at dksX0_isSeen_2 11 rfl rfl)
theorem dX0_isSeen_60 : decode cX0_isSeen 60 = .ok (.goto 4, 3) := dk_167 0 4 (dk_at dksX0_isSeen_2 12 rfl rfl)
theorem dX0_isSeen_63 : decode cX0_isSeen 63 = .ok (.iconst 0, 1) := dk_3 (dk_at dksX0_isSeen_2 15 rfl rfl)
theorem dX0_isSeen_64 : decode cX0_isSeen 64 = .ok (.istore_n 1, 1) := dk_60 (dk_at dksX0_isSeen_2 16 rfl rfl)
theorem dX0_isSeen_65 : decode cX0_isSeen 65 = .ok (.iinc 2 1, 3) := dk_132 2 1 (dk_at dksX0_isSeen_2 17 rfl rfl)
theorem dX0_isSeen_68 : decode cX0_isSeen 68 = .ok (.goto (-60), 3) := dk_167 255 196 (dk_at dksX0_isSeen_2 20 rfl rfl)
theorem dX0_isSeen_71 : decode cX0_isSeen 71 = .ok (.iload_n 1, 1) := dk_27 (dk_at dksX0_isSeen_2 23 rfl rfl)
theorem dX0_isSeen_72 : decode cX0_isSeen 72 = .ok (.ireturn, 1) := dk_172 (dk_at dksX0_isSeen_3 0 rfl rfl)
abbrev cX0_waters : ByteArray := prog_1_method_59_code
def yX0_waters : MethodName := ⟨RX0, "waters", "()I"⟩
theorem dX0_waters_0 : decode cX0_waters 0 = .ok (.aload_n 0, 1) := by decide +kernel
theorem dX0_waters_1 : decode cX0_waters 1 = .ok (.invokevirtual 349, 3) := by decide +kernel
theorem dX0_waters_4 : decode cX0_waters 4 = .ok (.ireturn, 1) := by decide +kernel
abbrev cX0_watersNow : ByteArray := prog_1_method_58_code
def yX0_watersNow : MethodName := ⟨RX0, "watersNow", "()I"⟩
def dkwX0_watersNow_4 : List UInt8 := [27, 79, 167, 0, 15, 58, 5, 42, 180, 0, 40, 3, 27, 79, 25, 5, 191, 28, 172]
abbrev dktX0_watersNow_4 : List UInt8 := dkwX0_watersNow_4 ++ []
def dkwX0_watersNow_3 : List UInt8 := [7, 46, 21, 4, 120, 128, 79, 132, 4, 1, 167, 255, 225, 132, 3, 1, 167, 255, 179, 42, 180, 0, 40, 3]
abbrev dktX0_watersNow_3 : List UInt8 := dkwX0_watersNow_3 ++ dktX0_watersNow_4
def dkwX0_watersNow_2 : List UInt8 := [3, 54, 4, 21, 4, 16, 24, 162, 0, 30, 42, 180, 0, 69, 29, 92, 46, 42, 180, 0, 55, 21, 4, 50]
abbrev dktX0_watersNow_2 : List UInt8 := dkwX0_watersNow_2 ++ dktX0_watersNow_3
def dkwX0_watersNow_1 : List UInt8 := [28, 42, 182, 1, 87, 153, 0, 9, 4, 29, 120, 167, 0, 4, 3, 128, 61, 42, 180, 0, 69, 29, 3, 79]
abbrev dktX0_watersNow_1 : List UInt8 := dkwX0_watersNow_1 ++ dktX0_watersNow_2
def dkwX0_watersNow_0 : List UInt8 := [42, 180, 0, 40, 3, 46, 60, 3, 61, 3, 62, 29, 16, 30, 163, 0, 77, 42, 180, 0, 40, 3, 29, 79]
abbrev dktX0_watersNow_0 : List UInt8 := dkwX0_watersNow_0 ++ dktX0_watersNow_1
theorem dksX0_watersNow_0 : cX0_watersNow.data.toList.drop 0 = dktX0_watersNow_0 := by decide +kernel
theorem dksX0_watersNow_1 : cX0_watersNow.data.toList.drop 24 = dktX0_watersNow_1 := dk_seg dksX0_watersNow_0 24 rfl rfl
theorem dksX0_watersNow_2 : cX0_watersNow.data.toList.drop 48 = dktX0_watersNow_2 := dk_seg dksX0_watersNow_1 24 rfl rfl
theorem dksX0_watersNow_3 : cX0_watersNow.data.toList.drop 72 = dktX0_watersNow_3 := dk_seg dksX0_watersNow_2 24 rfl rfl
theorem dksX0_watersNow_4 : cX0_watersNow.data.toList.drop 96 = dktX0_watersNow_4 := dk_seg dksX0_watersNow_3 24 rfl rfl
theorem dX0_watersNow_0 : decode cX0_watersNow 0 = .ok (.aload_n 0, 1) := dk_42 (dk_at dksX0_watersNow_0 0 rfl rfl)
theorem dX0_watersNow_1 : decode cX0_watersNow 1 = .ok (.getfield 40, 3) := dk_180 0 40 (dk_at dksX0_watersNow_0 1 rfl rfl)
theorem dX0_watersNow_4 : decode cX0_watersNow 4 = .ok (.iconst 0, 1) := dk_3 (dk_at dksX0_watersNow_0 4 rfl rfl)
theorem dX0_watersNow_5 : decode cX0_watersNow 5 = .ok (.iaload, 1) := dk_46 (dk_at dksX0_watersNow_0 5 rfl rfl)
theorem dX0_watersNow_6 : decode cX0_watersNow 6 = .ok (.istore_n 1, 1) := dk_60 (dk_at dksX0_watersNow_0 6 rfl rfl)
theorem dX0_watersNow_7 : decode cX0_watersNow 7 = .ok (.iconst 0, 1) := dk_3 (dk_at dksX0_watersNow_0 7 rfl rfl)
theorem dX0_watersNow_8 : decode cX0_watersNow 8 = .ok (.istore_n 2, 1) := dk_61 (dk_at dksX0_watersNow_0 8 rfl rfl)
theorem dX0_watersNow_9 : decode cX0_watersNow 9 = .ok (.iconst 0, 1) := dk_3 (dk_at dksX0_watersNow_0 9 rfl rfl)
theorem dX0_watersNow_10 : decode cX0_watersNow 10 = .ok (.istore_n 3, 1) := dk_62 (dk_at dksX0_watersNow_0 10 rfl rfl)
theorem dX0_watersNow_11 : decode cX0_watersNow 11 = .ok (.iload_n 3, 1) := dk_29 (dk_at dksX0_watersNow_0 11 rfl rfl)
theorem dX0_watersNow_12 : decode cX0_watersNow 12 = .ok (.bipush 30, 2) := dk_16 30 (dk_at dksX0_watersNow_0 12 rfl rfl)
theorem dX0_watersNow_14 : decode cX0_watersNow 14 = .ok (.if_icmp .gt 77, 3) := dk_163 0 77 (dk_at dksX0_watersNow_0 14 rfl rfl)
theorem dX0_watersNow_17 : decode cX0_watersNow 17 = .ok (.aload_n 0, 1) := dk_42 (dk_at dksX0_watersNow_0 17 rfl rfl)
theorem dX0_watersNow_18 : decode cX0_watersNow 18 = .ok (.getfield 40, 3) := dk_180 0 40 (dk_at dksX0_watersNow_0 18 rfl rfl)
theorem dX0_watersNow_21 : decode cX0_watersNow 21 = .ok (.iconst 0, 1) := dk_3 (dk_at dksX0_watersNow_0 21 rfl rfl)
theorem dX0_watersNow_22 : decode cX0_watersNow 22 = .ok (.iload_n 3, 1) := dk_29 (dk_at dksX0_watersNow_0 22 rfl rfl)
theorem dX0_watersNow_23 : decode cX0_watersNow 23 = .ok (.iastore, 1) := dk_79 (dk_at dksX0_watersNow_0 23 rfl rfl)
theorem dX0_watersNow_24 : decode cX0_watersNow 24 = .ok (.iload_n 2, 1) := dk_28 (dk_at dksX0_watersNow_1 0 rfl rfl)
theorem dX0_watersNow_25 : decode cX0_watersNow 25 = .ok (.aload_n 0, 1) := dk_42 (dk_at dksX0_watersNow_1 1 rfl rfl)
theorem dX0_watersNow_26 : decode cX0_watersNow 26 = .ok (.invokevirtual 343, 3) := dk_182 1 87 (dk_at dksX0_watersNow_1 2 rfl rfl)
theorem dX0_watersNow_29 : decode cX0_watersNow 29 = .ok (.ifCond .eq 9, 3) := dk_153 0 9 (dk_at dksX0_watersNow_1 5 rfl rfl)
theorem dX0_watersNow_32 : decode cX0_watersNow 32 = .ok (.iconst 1, 1) := dk_4 (dk_at dksX0_watersNow_1 8 rfl rfl)
theorem dX0_watersNow_33 : decode cX0_watersNow 33 = .ok (.iload_n 3, 1) := dk_29 (dk_at dksX0_watersNow_1 9 rfl rfl)
theorem dX0_watersNow_34 : decode cX0_watersNow 34 = .ok (.ishl, 1) := dk_120 (dk_at dksX0_watersNow_1 10 rfl rfl)
theorem dX0_watersNow_35 : decode cX0_watersNow 35 = .ok (.goto 4, 3) := dk_167 0 4 (dk_at dksX0_watersNow_1 11 rfl rfl)
theorem dX0_watersNow_38 : decode cX0_watersNow 38 = .ok (.iconst 0, 1) := dk_3 (dk_at dksX0_watersNow_1 14 rfl rfl)
theorem dX0_watersNow_39 : decode cX0_watersNow 39 = .ok (.ior, 1) := dk_128 (dk_at dksX0_watersNow_1 15 rfl rfl)
theorem dX0_watersNow_40 : decode cX0_watersNow 40 = .ok (.istore_n 2, 1) := dk_61 (dk_at dksX0_watersNow_1 16 rfl rfl)
theorem dX0_watersNow_41 : decode cX0_watersNow 41 = .ok (.aload_n 0, 1) := dk_42 (dk_at dksX0_watersNow_1 17 rfl rfl)
theorem dX0_watersNow_42 : decode cX0_watersNow 42 = .ok (.getfield 69, 3) := dk_180 0 69 (dk_at dksX0_watersNow_1 18 rfl rfl)
theorem dX0_watersNow_45 : decode cX0_watersNow 45 = .ok (.iload_n 3, 1) := dk_29 (dk_at dksX0_watersNow_1 21 rfl rfl)
theorem dX0_watersNow_46 : decode cX0_watersNow 46 = .ok (.iconst 0, 1) := dk_3 (dk_at dksX0_watersNow_1 22 rfl rfl)
theorem dX0_watersNow_47 : decode cX0_watersNow 47 = .ok (.iastore, 1) := dk_79 (dk_at dksX0_watersNow_1 23 rfl rfl)
theorem dX0_watersNow_48 : decode cX0_watersNow 48 = .ok (.iconst 0, 1) := dk_3 (dk_at dksX0_watersNow_2 0 rfl rfl)
theorem dX0_watersNow_49 : decode cX0_watersNow 49 = .ok (.istore 4, 2) := dk_54 4 (dk_at dksX0_watersNow_2 1 rfl rfl)
theorem dX0_watersNow_51 : decode cX0_watersNow 51 = .ok (.iload 4, 2) := dk_21 4 (dk_at dksX0_watersNow_2 3 rfl rfl)
theorem dX0_watersNow_53 : decode cX0_watersNow 53 = .ok (.bipush 24, 2) := dk_16 24 (dk_at dksX0_watersNow_2 5 rfl rfl)
theorem dX0_watersNow_55 : decode cX0_watersNow 55 = .ok (.if_icmp .ge 30, 3) := dk_162 0 30 (dk_at dksX0_watersNow_2 7 rfl rfl)
theorem dX0_watersNow_58 : decode cX0_watersNow 58 = .ok (.aload_n 0, 1) := dk_42 (dk_at dksX0_watersNow_2 10 rfl rfl)
theorem dX0_watersNow_59 : decode cX0_watersNow 59 = .ok (.getfield 69, 3) := dk_180 0 69 (dk_at dksX0_watersNow_2 11 rfl rfl)
theorem dX0_watersNow_62 : decode cX0_watersNow 62 = .ok (.iload_n 3, 1) := dk_29 (dk_at dksX0_watersNow_2 14 rfl rfl)
theorem dX0_watersNow_63 : decode cX0_watersNow 63 = .ok (.dup2, 1) := dk_92 (dk_at dksX0_watersNow_2 15 rfl rfl)
theorem dX0_watersNow_64 : decode cX0_watersNow 64 = .ok (.iaload, 1) := dk_46 (dk_at dksX0_watersNow_2 16 rfl rfl)
theorem dX0_watersNow_65 : decode cX0_watersNow 65 = .ok (.aload_n 0, 1) := dk_42 (dk_at dksX0_watersNow_2 17 rfl rfl)
theorem dX0_watersNow_66 : decode cX0_watersNow 66 = .ok (.getfield 55, 3) := dk_180 0 55 (dk_at dksX0_watersNow_2 18 rfl rfl)
theorem dX0_watersNow_69 : decode cX0_watersNow 69 = .ok (.iload 4, 2) := dk_21 4 (dk_at dksX0_watersNow_2 21 rfl rfl)
theorem dX0_watersNow_71 : decode cX0_watersNow 71 = .ok (.aaload, 1) := dk_50 (dk_at dksX0_watersNow_2 23 rfl rfl)
theorem dX0_watersNow_72 : decode cX0_watersNow 72 = .ok (.iconst 4, 1) := dk_7 (dk_at dksX0_watersNow_3 0 rfl rfl)
theorem dX0_watersNow_73 : decode cX0_watersNow 73 = .ok (.iaload, 1) := dk_46 (dk_at dksX0_watersNow_3 1 rfl rfl)
theorem dX0_watersNow_74 : decode cX0_watersNow 74 = .ok (.iload 4, 2) := dk_21 4 (dk_at dksX0_watersNow_3 2 rfl rfl)
theorem dX0_watersNow_76 : decode cX0_watersNow 76 = .ok (.ishl, 1) := dk_120 (dk_at dksX0_watersNow_3 4 rfl rfl)
theorem dX0_watersNow_77 : decode cX0_watersNow 77 = .ok (.ior, 1) := dk_128 (dk_at dksX0_watersNow_3 5 rfl rfl)
theorem dX0_watersNow_78 : decode cX0_watersNow 78 = .ok (.iastore, 1) := dk_79 (dk_at dksX0_watersNow_3 6 rfl rfl)
theorem dX0_watersNow_79 : decode cX0_watersNow 79 = .ok (.iinc 4 1, 3) := dk_132 4 1 (dk_at dksX0_watersNow_3 7 rfl rfl)
theorem dX0_watersNow_82 : decode cX0_watersNow 82 = .ok (.goto (-31), 3) := dk_167 255 225 (dk_at dksX0_watersNow_3 10 rfl rfl)
theorem dX0_watersNow_85 : decode cX0_watersNow 85 = .ok (.iinc 3 1, 3) := dk_132 3 1 (dk_at dksX0_watersNow_3 13 rfl rfl)
theorem dX0_watersNow_88 : decode cX0_watersNow 88 = .ok (.goto (-77), 3) := dk_167 255 179 (dk_at dksX0_watersNow_3 16 rfl rfl)
theorem dX0_watersNow_91 : decode cX0_watersNow 91 = .ok (.aload_n 0, 1) := dk_42 (dk_at dksX0_watersNow_3 19 rfl rfl)
theorem dX0_watersNow_92 : decode cX0_watersNow 92 = .ok (.getfield 40, 3) := dk_180 0 40 (dk_at dksX0_watersNow_3 20 rfl rfl)
theorem dX0_watersNow_95 : decode cX0_watersNow 95 = .ok (.iconst 0, 1) := dk_3 (dk_at dksX0_watersNow_3 23 rfl rfl)
theorem dX0_watersNow_96 : decode cX0_watersNow 96 = .ok (.iload_n 1, 1) := dk_27 (dk_at dksX0_watersNow_4 0 rfl rfl)
theorem dX0_watersNow_97 : decode cX0_watersNow 97 = .ok (.iastore, 1) := dk_79 (dk_at dksX0_watersNow_4 1 rfl rfl)
theorem dX0_watersNow_98 : decode cX0_watersNow 98 = .ok (.goto 15, 3) := dk_167 0 15 (dk_at dksX0_watersNow_4 2 rfl rfl)
theorem dX0_watersNow_101 : decode cX0_watersNow 101 = .ok (.astore 5, 2) := dk_58 5 (dk_at dksX0_watersNow_4 5 rfl rfl)
theorem dX0_watersNow_103 : decode cX0_watersNow 103 = .ok (.aload_n 0, 1) := dk_42 (dk_at dksX0_watersNow_4 7 rfl rfl)
theorem dX0_watersNow_104 : decode cX0_watersNow 104 = .ok (.getfield 40, 3) := dk_180 0 40 (dk_at dksX0_watersNow_4 8 rfl rfl)
theorem dX0_watersNow_107 : decode cX0_watersNow 107 = .ok (.iconst 0, 1) := dk_3 (dk_at dksX0_watersNow_4 11 rfl rfl)
theorem dX0_watersNow_108 : decode cX0_watersNow 108 = .ok (.iload_n 1, 1) := dk_27 (dk_at dksX0_watersNow_4 12 rfl rfl)
theorem dX0_watersNow_109 : decode cX0_watersNow 109 = .ok (.iastore, 1) := dk_79 (dk_at dksX0_watersNow_4 13 rfl rfl)
theorem dX0_watersNow_110 : decode cX0_watersNow 110 = .ok (.aload 5, 2) := dk_25 5 (dk_at dksX0_watersNow_4 14 rfl rfl)
theorem dX0_watersNow_112 : decode cX0_watersNow 112 = .ok (.athrow, 1) := dk_191 (dk_at dksX0_watersNow_4 16 rfl rfl)
theorem dX0_watersNow_113 : decode cX0_watersNow 113 = .ok (.iload_n 2, 1) := dk_28 (dk_at dksX0_watersNow_4 17 rfl rfl)
theorem dX0_watersNow_114 : decode cX0_watersNow 114 = .ok (.ireturn, 1) := dk_172 (dk_at dksX0_watersNow_4 18 rfl rfl)
abbrev cX0_kind : ByteArray := prog_1_method_61_code
def yX0_kind : MethodName := ⟨RX0, "kind", "(I)I"⟩
def dkwX0_kind_1 : List UInt8 := [182, 1, 96, 167, 0, 5, 16, 254, 172]
abbrev dktX0_kind_1 : List UInt8 := dkwX0_kind_1 ++ []
def dkwX0_kind_0 : List UInt8 := [42, 27, 182, 0, 133, 153, 0, 24, 42, 42, 180, 0, 14, 180, 0, 122, 27, 182, 0, 138, 192, 0, 142]
abbrev dktX0_kind_0 : List UInt8 := dkwX0_kind_0 ++ dktX0_kind_1
theorem dksX0_kind_0 : cX0_kind.data.toList.drop 0 = dktX0_kind_0 := by decide +kernel
theorem dksX0_kind_1 : cX0_kind.data.toList.drop 23 = dktX0_kind_1 := dk_seg dksX0_kind_0 23 rfl rfl
theorem dX0_kind_0 : decode cX0_kind 0 = .ok (.aload_n 0, 1) := dk_42 (dk_at dksX0_kind_0 0 rfl rfl)
theorem dX0_kind_1 : decode cX0_kind 1 = .ok (.iload_n 1, 1) := dk_27 (dk_at dksX0_kind_0 1 rfl rfl)
theorem dX0_kind_2 : decode cX0_kind 2 = .ok (.invokevirtual 133, 3) := dk_182 0 133 (dk_at dksX0_kind_0 2 rfl rfl)
theorem dX0_kind_5 : decode cX0_kind 5 = .ok (.ifCond .eq 24, 3) := dk_153 0 24 (dk_at dksX0_kind_0 5 rfl rfl)
theorem dX0_kind_8 : decode cX0_kind 8 = .ok (.aload_n 0, 1) := dk_42 (dk_at dksX0_kind_0 8 rfl rfl)
theorem dX0_kind_9 : decode cX0_kind 9 = .ok (.aload_n 0, 1) := dk_42 (dk_at dksX0_kind_0 9 rfl rfl)
theorem dX0_kind_10 : decode cX0_kind 10 = .ok (.getfield 14, 3) := dk_180 0 14 (dk_at dksX0_kind_0 10 rfl rfl)
theorem dX0_kind_13 : decode cX0_kind 13 = .ok (.getfield 122, 3) := dk_180 0 122 (dk_at dksX0_kind_0 13 rfl rfl)
theorem dX0_kind_16 : decode cX0_kind 16 = .ok (.iload_n 1, 1) := dk_27 (dk_at dksX0_kind_0 16 rfl rfl)
theorem dX0_kind_17 : decode cX0_kind 17 = .ok (.invokevirtual 138, 3) := dk_182 0 138 (dk_at dksX0_kind_0 17 rfl rfl)
theorem dX0_kind_20 : decode cX0_kind 20 = .ok (.checkcast 142, 3) := dk_192 0 142 (dk_at dksX0_kind_0 20 rfl rfl)
theorem dX0_kind_23 : decode cX0_kind 23 = .ok (.invokevirtual 352, 3) := dk_182 1 96 (dk_at dksX0_kind_1 0 rfl rfl)
theorem dX0_kind_26 : decode cX0_kind 26 = .ok (.goto 5, 3) := dk_167 0 5 (dk_at dksX0_kind_1 3 rfl rfl)
theorem dX0_kind_29 : decode cX0_kind 29 = .ok (.bipush (-2), 2) := dk_16 254 (dk_at dksX0_kind_1 6 rfl rfl)
theorem dX0_kind_31 : decode cX0_kind 31 = .ok (.ireturn, 1) := dk_172 (dk_at dksX0_kind_1 8 rfl rfl)
abbrev cX0_kindOf : ByteArray := prog_1_method_60_code
def yX0_kindOf : MethodName := ⟨RX0, "kindOf", "(LSamovar$Piece;)I"⟩
def dkwX0_kindOf_2 : List UInt8 := [167, 255, 219, 43, 44, 181, 1, 57, 167, 0, 13, 58, 5, 43, 44, 181, 1, 57, 25, 5, 191, 29, 172]
abbrev dktX0_kindOf_2 : List UInt8 := dkwX0_kindOf_2 ++ []
def dkwX0_kindOf_1 : List UInt8 := [181, 1, 57, 29, 42, 182, 1, 87, 153, 0, 10, 4, 21, 4, 120, 167, 0, 4, 3, 128, 62, 132, 4, 1]
abbrev dktX0_kindOf_1 : List UInt8 := dkwX0_kindOf_1 ++ dktX0_kindOf_2
def dkwX0_kindOf_0 : List UInt8 := [43, 180, 1, 57, 77, 3, 62, 3, 54, 4, 21, 4, 6, 162, 0, 37, 43, 178, 1, 61, 21, 4, 50]
abbrev dktX0_kindOf_0 : List UInt8 := dkwX0_kindOf_0 ++ dktX0_kindOf_1
theorem dksX0_kindOf_0 : cX0_kindOf.data.toList.drop 0 = dktX0_kindOf_0 := by decide +kernel
theorem dksX0_kindOf_1 : cX0_kindOf.data.toList.drop 23 = dktX0_kindOf_1 := dk_seg dksX0_kindOf_0 23 rfl rfl
theorem dksX0_kindOf_2 : cX0_kindOf.data.toList.drop 47 = dktX0_kindOf_2 := dk_seg dksX0_kindOf_1 24 rfl rfl
theorem dX0_kindOf_0 : decode cX0_kindOf 0 = .ok (.aload_n 1, 1) := dk_43 (dk_at dksX0_kindOf_0 0 rfl rfl)
theorem dX0_kindOf_1 : decode cX0_kindOf 1 = .ok (.getfield 313, 3) := dk_180 1 57 (dk_at dksX0_kindOf_0 1 rfl rfl)
theorem dX0_kindOf_4 : decode cX0_kindOf 4 = .ok (.astore_n 2, 1) := dk_77 (dk_at dksX0_kindOf_0 4 rfl rfl)
theorem dX0_kindOf_5 : decode cX0_kindOf 5 = .ok (.iconst 0, 1) := dk_3 (dk_at dksX0_kindOf_0 5 rfl rfl)
theorem dX0_kindOf_6 : decode cX0_kindOf 6 = .ok (.istore_n 3, 1) := dk_62 (dk_at dksX0_kindOf_0 6 rfl rfl)
theorem dX0_kindOf_7 : decode cX0_kindOf 7 = .ok (.iconst 0, 1) := dk_3 (dk_at dksX0_kindOf_0 7 rfl rfl)
theorem dX0_kindOf_8 : decode cX0_kindOf 8 = .ok (.istore 4, 2) := dk_54 4 (dk_at dksX0_kindOf_0 8 rfl rfl)
theorem dX0_kindOf_10 : decode cX0_kindOf 10 = .ok (.iload 4, 2) := dk_21 4 (dk_at dksX0_kindOf_0 10 rfl rfl)
theorem dX0_kindOf_12 : decode cX0_kindOf 12 = .ok (.iconst 3, 1) := dk_6 (dk_at dksX0_kindOf_0 12 rfl rfl)
theorem dX0_kindOf_13 : decode cX0_kindOf 13 = .ok (.if_icmp .ge 37, 3) := dk_162 0 37 (dk_at dksX0_kindOf_0 13 rfl rfl)
theorem dX0_kindOf_16 : decode cX0_kindOf 16 = .ok (.aload_n 1, 1) := dk_43 (dk_at dksX0_kindOf_0 16 rfl rfl)
theorem dX0_kindOf_17 : decode cX0_kindOf 17 = .ok (.getstatic 317, 3) := dk_178 1 61 (dk_at dksX0_kindOf_0 17 rfl rfl)
theorem dX0_kindOf_20 : decode cX0_kindOf 20 = .ok (.iload 4, 2) := dk_21 4 (dk_at dksX0_kindOf_0 20 rfl rfl)
theorem dX0_kindOf_22 : decode cX0_kindOf 22 = .ok (.aaload, 1) := dk_50 (dk_at dksX0_kindOf_0 22 rfl rfl)
theorem dX0_kindOf_23 : decode cX0_kindOf 23 = .ok (.putfield 313, 3) := dk_181 1 57 (dk_at dksX0_kindOf_1 0 rfl rfl)
theorem dX0_kindOf_26 : decode cX0_kindOf 26 = .ok (.iload_n 3, 1) := dk_29 (dk_at dksX0_kindOf_1 3 rfl rfl)
theorem dX0_kindOf_27 : decode cX0_kindOf 27 = .ok (.aload_n 0, 1) := dk_42 (dk_at dksX0_kindOf_1 4 rfl rfl)
theorem dX0_kindOf_28 : decode cX0_kindOf 28 = .ok (.invokevirtual 343, 3) := dk_182 1 87 (dk_at dksX0_kindOf_1 5 rfl rfl)
theorem dX0_kindOf_31 : decode cX0_kindOf 31 = .ok (.ifCond .eq 10, 3) := dk_153 0 10 (dk_at dksX0_kindOf_1 8 rfl rfl)
theorem dX0_kindOf_34 : decode cX0_kindOf 34 = .ok (.iconst 1, 1) := dk_4 (dk_at dksX0_kindOf_1 11 rfl rfl)
theorem dX0_kindOf_35 : decode cX0_kindOf 35 = .ok (.iload 4, 2) := dk_21 4 (dk_at dksX0_kindOf_1 12 rfl rfl)
theorem dX0_kindOf_37 : decode cX0_kindOf 37 = .ok (.ishl, 1) := dk_120 (dk_at dksX0_kindOf_1 14 rfl rfl)
theorem dX0_kindOf_38 : decode cX0_kindOf 38 = .ok (.goto 4, 3) := dk_167 0 4 (dk_at dksX0_kindOf_1 15 rfl rfl)
theorem dX0_kindOf_41 : decode cX0_kindOf 41 = .ok (.iconst 0, 1) := dk_3 (dk_at dksX0_kindOf_1 18 rfl rfl)
theorem dX0_kindOf_42 : decode cX0_kindOf 42 = .ok (.ior, 1) := dk_128 (dk_at dksX0_kindOf_1 19 rfl rfl)
theorem dX0_kindOf_43 : decode cX0_kindOf 43 = .ok (.istore_n 3, 1) := dk_62 (dk_at dksX0_kindOf_1 20 rfl rfl)
theorem dX0_kindOf_44 : decode cX0_kindOf 44 = .ok (.iinc 4 1, 3) := dk_132 4 1 (dk_at dksX0_kindOf_1 21 rfl rfl)
theorem dX0_kindOf_47 : decode cX0_kindOf 47 = .ok (.goto (-37), 3) := dk_167 255 219 (dk_at dksX0_kindOf_2 0 rfl rfl)
theorem dX0_kindOf_50 : decode cX0_kindOf 50 = .ok (.aload_n 1, 1) := dk_43 (dk_at dksX0_kindOf_2 3 rfl rfl)
theorem dX0_kindOf_51 : decode cX0_kindOf 51 = .ok (.aload_n 2, 1) := dk_44 (dk_at dksX0_kindOf_2 4 rfl rfl)
theorem dX0_kindOf_52 : decode cX0_kindOf 52 = .ok (.putfield 313, 3) := dk_181 1 57 (dk_at dksX0_kindOf_2 5 rfl rfl)
theorem dX0_kindOf_55 : decode cX0_kindOf 55 = .ok (.goto 13, 3) := dk_167 0 13 (dk_at dksX0_kindOf_2 8 rfl rfl)
theorem dX0_kindOf_58 : decode cX0_kindOf 58 = .ok (.astore 5, 2) := dk_58 5 (dk_at dksX0_kindOf_2 11 rfl rfl)
theorem dX0_kindOf_60 : decode cX0_kindOf 60 = .ok (.aload_n 1, 1) := dk_43 (dk_at dksX0_kindOf_2 13 rfl rfl)
theorem dX0_kindOf_61 : decode cX0_kindOf 61 = .ok (.aload_n 2, 1) := dk_44 (dk_at dksX0_kindOf_2 14 rfl rfl)
theorem dX0_kindOf_62 : decode cX0_kindOf 62 = .ok (.putfield 313, 3) := dk_181 1 57 (dk_at dksX0_kindOf_2 15 rfl rfl)
theorem dX0_kindOf_65 : decode cX0_kindOf 65 = .ok (.aload 5, 2) := dk_25 5 (dk_at dksX0_kindOf_2 18 rfl rfl)
theorem dX0_kindOf_67 : decode cX0_kindOf 67 = .ok (.athrow, 1) := dk_191 (dk_at dksX0_kindOf_2 20 rfl rfl)
theorem dX0_kindOf_68 : decode cX0_kindOf 68 = .ok (.iload_n 3, 1) := dk_29 (dk_at dksX0_kindOf_2 21 rfl rfl)
theorem dX0_kindOf_69 : decode cX0_kindOf 69 = .ok (.ireturn, 1) := dk_172 (dk_at dksX0_kindOf_2 22 rfl rfl)
abbrev cX0_ask : ByteArray := prog_1_method_64_code
def yX0_ask : MethodName := ⟨RX0, "ask", "()I"⟩
theorem dX0_ask_0 : decode cX0_ask 0 = .ok (.aload_n 0, 1) := by decide +kernel
theorem dX0_ask_1 : decode cX0_ask 1 = .ok (.invokevirtual 359, 3) := by decide +kernel
theorem dX0_ask_4 : decode cX0_ask 4 = .ok (.ireturn, 1) := by decide +kernel
abbrev cX0_askNow : ByteArray := prog_1_method_63_code
def yX0_askNow : MethodName := ⟨RX0, "askNow", "()I"⟩
def dkwX0_askNow_1 : List UInt8 := [182, 1, 100, 162, 0, 7, 29, 167, 0, 4, 28, 61, 132, 3, 1, 167, 255, 226, 28, 172]
abbrev dktX0_askNow_1 : List UInt8 := dkwX0_askNow_1 ++ []
def dkwX0_askNow_0 : List UInt8 := [42, 182, 1, 93, 60, 3, 61, 4, 62, 29, 16, 24, 162, 0, 30, 42, 27, 29, 182, 1, 100, 42, 27, 28]
abbrev dktX0_askNow_0 : List UInt8 := dkwX0_askNow_0 ++ dktX0_askNow_1
theorem dksX0_askNow_0 : cX0_askNow.data.toList.drop 0 = dktX0_askNow_0 := by decide +kernel
theorem dksX0_askNow_1 : cX0_askNow.data.toList.drop 24 = dktX0_askNow_1 := dk_seg dksX0_askNow_0 24 rfl rfl
theorem dX0_askNow_0 : decode cX0_askNow 0 = .ok (.aload_n 0, 1) := dk_42 (dk_at dksX0_askNow_0 0 rfl rfl)
theorem dX0_askNow_1 : decode cX0_askNow 1 = .ok (.invokevirtual 349, 3) := dk_182 1 93 (dk_at dksX0_askNow_0 1 rfl rfl)
theorem dX0_askNow_4 : decode cX0_askNow 4 = .ok (.istore_n 1, 1) := dk_60 (dk_at dksX0_askNow_0 4 rfl rfl)
theorem dX0_askNow_5 : decode cX0_askNow 5 = .ok (.iconst 0, 1) := dk_3 (dk_at dksX0_askNow_0 5 rfl rfl)
theorem dX0_askNow_6 : decode cX0_askNow 6 = .ok (.istore_n 2, 1) := dk_61 (dk_at dksX0_askNow_0 6 rfl rfl)
theorem dX0_askNow_7 : decode cX0_askNow 7 = .ok (.iconst 1, 1) := dk_4 (dk_at dksX0_askNow_0 7 rfl rfl)
theorem dX0_askNow_8 : decode cX0_askNow 8 = .ok (.istore_n 3, 1) := dk_62 (dk_at dksX0_askNow_0 8 rfl rfl)
theorem dX0_askNow_9 : decode cX0_askNow 9 = .ok (.iload_n 3, 1) := dk_29 (dk_at dksX0_askNow_0 9 rfl rfl)
theorem dX0_askNow_10 : decode cX0_askNow 10 = .ok (.bipush 24, 2) := dk_16 24 (dk_at dksX0_askNow_0 10 rfl rfl)
theorem dX0_askNow_12 : decode cX0_askNow 12 = .ok (.if_icmp .ge 30, 3) := dk_162 0 30 (dk_at dksX0_askNow_0 12 rfl rfl)
theorem dX0_askNow_15 : decode cX0_askNow 15 = .ok (.aload_n 0, 1) := dk_42 (dk_at dksX0_askNow_0 15 rfl rfl)
theorem dX0_askNow_16 : decode cX0_askNow 16 = .ok (.iload_n 1, 1) := dk_27 (dk_at dksX0_askNow_0 16 rfl rfl)
theorem dX0_askNow_17 : decode cX0_askNow 17 = .ok (.iload_n 3, 1) := dk_29 (dk_at dksX0_askNow_0 17 rfl rfl)
theorem dX0_askNow_18 : decode cX0_askNow 18 = .ok (.invokevirtual 356, 3) := dk_182 1 100 (dk_at dksX0_askNow_0 18 rfl rfl)
theorem dX0_askNow_21 : decode cX0_askNow 21 = .ok (.aload_n 0, 1) := dk_42 (dk_at dksX0_askNow_0 21 rfl rfl)
theorem dX0_askNow_22 : decode cX0_askNow 22 = .ok (.iload_n 1, 1) := dk_27 (dk_at dksX0_askNow_0 22 rfl rfl)
theorem dX0_askNow_23 : decode cX0_askNow 23 = .ok (.iload_n 2, 1) := dk_28 (dk_at dksX0_askNow_0 23 rfl rfl)
theorem dX0_askNow_24 : decode cX0_askNow 24 = .ok (.invokevirtual 356, 3) := dk_182 1 100 (dk_at dksX0_askNow_1 0 rfl rfl)
theorem dX0_askNow_27 : decode cX0_askNow 27 = .ok (.if_icmp .ge 7, 3) := dk_162 0 7 (dk_at dksX0_askNow_1 3 rfl rfl)
theorem dX0_askNow_30 : decode cX0_askNow 30 = .ok (.iload_n 3, 1) := dk_29 (dk_at dksX0_askNow_1 6 rfl rfl)
theorem dX0_askNow_31 : decode cX0_askNow 31 = .ok (.goto 4, 3) := dk_167 0 4 (dk_at dksX0_askNow_1 7 rfl rfl)
theorem dX0_askNow_34 : decode cX0_askNow 34 = .ok (.iload_n 2, 1) := dk_28 (dk_at dksX0_askNow_1 10 rfl rfl)
theorem dX0_askNow_35 : decode cX0_askNow 35 = .ok (.istore_n 2, 1) := dk_61 (dk_at dksX0_askNow_1 11 rfl rfl)
theorem dX0_askNow_36 : decode cX0_askNow 36 = .ok (.iinc 3 1, 3) := dk_132 3 1 (dk_at dksX0_askNow_1 12 rfl rfl)
theorem dX0_askNow_39 : decode cX0_askNow 39 = .ok (.goto (-30), 3) := dk_167 255 226 (dk_at dksX0_askNow_1 15 rfl rfl)
theorem dX0_askNow_42 : decode cX0_askNow 42 = .ok (.iload_n 2, 1) := dk_28 (dk_at dksX0_askNow_1 18 rfl rfl)
theorem dX0_askNow_43 : decode cX0_askNow 43 = .ok (.ireturn, 1) := dk_172 (dk_at dksX0_askNow_1 19 rfl rfl)
abbrev cX0_alike : ByteArray := prog_1_method_62_code
def yX0_alike : MethodName := ⟨RX0, "alike", "(II)I"⟩
def dkwX0_alike_3 : List UInt8 := [167, 255, 196, 29, 21, 4, 29, 100, 184, 0, 215, 172]
abbrev dktX0_alike_3 : List UInt8 := dkwX0_alike_3 ++ []
def dkwX0_alike_2 : List UInt8 := [21, 4, 27, 21, 5, 184, 0, 200, 153, 0, 7, 4, 167, 0, 4, 3, 96, 54, 4, 132, 5, 1]
abbrev dktX0_alike_2 : List UInt8 := dkwX0_alike_2 ++ dktX0_alike_3
def dkwX0_alike_1 : List UInt8 := [153, 0, 21, 42, 180, 0, 69, 21, 5, 46, 28, 184, 0, 200, 153, 0, 7, 4, 167, 0, 4, 3, 96, 62]
abbrev dktX0_alike_1 : List UInt8 := dkwX0_alike_1 ++ dktX0_alike_2
def dkwX0_alike_0 : List UInt8 := [3, 62, 3, 54, 4, 3, 54, 5, 21, 5, 16, 30, 163, 0, 59, 29, 27, 21, 5, 184, 0, 200]
abbrev dktX0_alike_0 : List UInt8 := dkwX0_alike_0 ++ dktX0_alike_1
theorem dksX0_alike_0 : cX0_alike.data.toList.drop 0 = dktX0_alike_0 := by decide +kernel
theorem dksX0_alike_1 : cX0_alike.data.toList.drop 22 = dktX0_alike_1 := dk_seg dksX0_alike_0 22 rfl rfl
theorem dksX0_alike_2 : cX0_alike.data.toList.drop 46 = dktX0_alike_2 := dk_seg dksX0_alike_1 24 rfl rfl
theorem dksX0_alike_3 : cX0_alike.data.toList.drop 68 = dktX0_alike_3 := dk_seg dksX0_alike_2 22 rfl rfl
theorem dX0_alike_0 : decode cX0_alike 0 = .ok (.iconst 0, 1) := dk_3 (dk_at dksX0_alike_0 0 rfl rfl)
theorem dX0_alike_1 : decode cX0_alike 1 = .ok (.istore_n 3, 1) := dk_62 (dk_at dksX0_alike_0 1 rfl rfl)
theorem dX0_alike_2 : decode cX0_alike 2 = .ok (.iconst 0, 1) := dk_3 (dk_at dksX0_alike_0 2 rfl rfl)
theorem dX0_alike_3 : decode cX0_alike 3 = .ok (.istore 4, 2) := dk_54 4 (dk_at dksX0_alike_0 3 rfl rfl)
theorem dX0_alike_5 : decode cX0_alike 5 = .ok (.iconst 0, 1) := dk_3 (dk_at dksX0_alike_0 5 rfl rfl)
theorem dX0_alike_6 : decode cX0_alike 6 = .ok (.istore 5, 2) := dk_54 5 (dk_at dksX0_alike_0 6 rfl rfl)
theorem dX0_alike_8 : decode cX0_alike 8 = .ok (.iload 5, 2) := dk_21 5 (dk_at dksX0_alike_0 8 rfl rfl)
theorem dX0_alike_10 : decode cX0_alike 10 = .ok (.bipush 30, 2) := dk_16 30 (dk_at dksX0_alike_0 10 rfl rfl)
theorem dX0_alike_12 : decode cX0_alike 12 = .ok (.if_icmp .gt 59, 3) := dk_163 0 59 (dk_at dksX0_alike_0 12 rfl rfl)
theorem dX0_alike_15 : decode cX0_alike 15 = .ok (.iload_n 3, 1) := dk_29 (dk_at dksX0_alike_0 15 rfl rfl)
theorem dX0_alike_16 : decode cX0_alike 16 = .ok (.iload_n 1, 1) := dk_27 (dk_at dksX0_alike_0 16 rfl rfl)
theorem dX0_alike_17 : decode cX0_alike 17 = .ok (.iload 5, 2) := dk_21 5 (dk_at dksX0_alike_0 17 rfl rfl)
theorem dX0_alike_19 : decode cX0_alike 19 = .ok (.invokestatic 200, 3) := dk_184 0 200 (dk_at dksX0_alike_0 19 rfl rfl)
theorem dX0_alike_22 : decode cX0_alike 22 = .ok (.ifCond .eq 21, 3) := dk_153 0 21 (dk_at dksX0_alike_1 0 rfl rfl)
theorem dX0_alike_25 : decode cX0_alike 25 = .ok (.aload_n 0, 1) := dk_42 (dk_at dksX0_alike_1 3 rfl rfl)
theorem dX0_alike_26 : decode cX0_alike 26 = .ok (.getfield 69, 3) := dk_180 0 69 (dk_at dksX0_alike_1 4 rfl rfl)
theorem dX0_alike_29 : decode cX0_alike 29 = .ok (.iload 5, 2) := dk_21 5 (dk_at dksX0_alike_1 7 rfl rfl)
theorem dX0_alike_31 : decode cX0_alike 31 = .ok (.iaload, 1) := dk_46 (dk_at dksX0_alike_1 9 rfl rfl)
theorem dX0_alike_32 : decode cX0_alike 32 = .ok (.iload_n 2, 1) := dk_28 (dk_at dksX0_alike_1 10 rfl rfl)
theorem dX0_alike_33 : decode cX0_alike 33 = .ok (.invokestatic 200, 3) := dk_184 0 200 (dk_at dksX0_alike_1 11 rfl rfl)
theorem dX0_alike_36 : decode cX0_alike 36 = .ok (.ifCond .eq 7, 3) := dk_153 0 7 (dk_at dksX0_alike_1 14 rfl rfl)
theorem dX0_alike_39 : decode cX0_alike 39 = .ok (.iconst 1, 1) := dk_4 (dk_at dksX0_alike_1 17 rfl rfl)
theorem dX0_alike_40 : decode cX0_alike 40 = .ok (.goto 4, 3) := dk_167 0 4 (dk_at dksX0_alike_1 18 rfl rfl)
theorem dX0_alike_43 : decode cX0_alike 43 = .ok (.iconst 0, 1) := dk_3 (dk_at dksX0_alike_1 21 rfl rfl)
theorem dX0_alike_44 : decode cX0_alike 44 = .ok (.iadd, 1) := dk_96 (dk_at dksX0_alike_1 22 rfl rfl)
theorem dX0_alike_45 : decode cX0_alike 45 = .ok (.istore_n 3, 1) := dk_62 (dk_at dksX0_alike_1 23 rfl rfl)
theorem dX0_alike_46 : decode cX0_alike 46 = .ok (.iload 4, 2) := dk_21 4 (dk_at dksX0_alike_2 0 rfl rfl)
theorem dX0_alike_48 : decode cX0_alike 48 = .ok (.iload_n 1, 1) := dk_27 (dk_at dksX0_alike_2 2 rfl rfl)
theorem dX0_alike_49 : decode cX0_alike 49 = .ok (.iload 5, 2) := dk_21 5 (dk_at dksX0_alike_2 3 rfl rfl)
theorem dX0_alike_51 : decode cX0_alike 51 = .ok (.invokestatic 200, 3) := dk_184 0 200 (dk_at dksX0_alike_2 5 rfl rfl)
theorem dX0_alike_54 : decode cX0_alike 54 = .ok (.ifCond .eq 7, 3) := dk_153 0 7 (dk_at dksX0_alike_2 8 rfl rfl)
theorem dX0_alike_57 : decode cX0_alike 57 = .ok (.iconst 1, 1) := dk_4 (dk_at dksX0_alike_2 11 rfl rfl)
theorem dX0_alike_58 : decode cX0_alike 58 = .ok (.goto 4, 3) := dk_167 0 4 (dk_at dksX0_alike_2 12 rfl rfl)
theorem dX0_alike_61 : decode cX0_alike 61 = .ok (.iconst 0, 1) := dk_3 (dk_at dksX0_alike_2 15 rfl rfl)
theorem dX0_alike_62 : decode cX0_alike 62 = .ok (.iadd, 1) := dk_96 (dk_at dksX0_alike_2 16 rfl rfl)
theorem dX0_alike_63 : decode cX0_alike 63 = .ok (.istore 4, 2) := dk_54 4 (dk_at dksX0_alike_2 17 rfl rfl)
theorem dX0_alike_65 : decode cX0_alike 65 = .ok (.iinc 5 1, 3) := dk_132 5 1 (dk_at dksX0_alike_2 19 rfl rfl)
theorem dX0_alike_68 : decode cX0_alike 68 = .ok (.goto (-60), 3) := dk_167 255 196 (dk_at dksX0_alike_3 0 rfl rfl)
theorem dX0_alike_71 : decode cX0_alike 71 = .ok (.iload_n 3, 1) := dk_29 (dk_at dksX0_alike_3 3 rfl rfl)
theorem dX0_alike_72 : decode cX0_alike 72 = .ok (.iload 4, 2) := dk_21 4 (dk_at dksX0_alike_3 4 rfl rfl)
theorem dX0_alike_74 : decode cX0_alike 74 = .ok (.iload_n 3, 1) := dk_29 (dk_at dksX0_alike_3 6 rfl rfl)
theorem dX0_alike_75 : decode cX0_alike 75 = .ok (.isub, 1) := dk_100 (dk_at dksX0_alike_3 7 rfl rfl)
theorem dX0_alike_76 : decode cX0_alike 76 = .ok (.invokestatic 215, 3) := dk_184 0 215 (dk_at dksX0_alike_3 8 rfl rfl)
theorem dX0_alike_79 : decode cX0_alike 79 = .ok (.ireturn, 1) := dk_172 (dk_at dksX0_alike_3 11 rfl rfl)
abbrev cX0_chance : ByteArray := prog_1_method_68_code
def yX0_chance : MethodName := ⟨RX0, "chance", "(III)J"⟩
def dkwX0_chance_1 : List UInt8 := [153, 0, 13, 42, 27, 28, 29, 182, 1, 116, 167, 0, 8, 16, 254, 184, 1, 120, 173]
abbrev dktX0_chance_1 : List UInt8 := dkwX0_chance_1 ++ []
def dkwX0_chance_0 : List UInt8 := [27, 133, 9, 20, 1, 114, 184, 0, 95, 153, 0, 28, 42, 28, 182, 0, 147, 153, 0, 20, 29, 184, 0, 101]
abbrev dktX0_chance_0 : List UInt8 := dkwX0_chance_0 ++ dktX0_chance_1
theorem dksX0_chance_0 : cX0_chance.data.toList.drop 0 = dktX0_chance_0 := by decide +kernel
theorem dksX0_chance_1 : cX0_chance.data.toList.drop 24 = dktX0_chance_1 := dk_seg dksX0_chance_0 24 rfl rfl
theorem dX0_chance_0 : decode cX0_chance 0 = .ok (.iload_n 1, 1) := dk_27 (dk_at dksX0_chance_0 0 rfl rfl)
theorem dX0_chance_1 : decode cX0_chance 1 = .ok (.i2l, 1) := dk_133 (dk_at dksX0_chance_0 1 rfl rfl)
theorem dX0_chance_2 : decode cX0_chance 2 = .ok (.lconst 0, 1) := dk_9 (dk_at dksX0_chance_0 2 rfl rfl)
theorem dX0_chance_3 : decode cX0_chance 3 = .ok (.ldc2_w 370, 3) := dk_20 1 114 (dk_at dksX0_chance_0 3 rfl rfl)
theorem dX0_chance_6 : decode cX0_chance 6 = .ok (.invokestatic 95, 3) := dk_184 0 95 (dk_at dksX0_chance_0 6 rfl rfl)
theorem dX0_chance_9 : decode cX0_chance 9 = .ok (.ifCond .eq 28, 3) := dk_153 0 28 (dk_at dksX0_chance_0 9 rfl rfl)
theorem dX0_chance_12 : decode cX0_chance 12 = .ok (.aload_n 0, 1) := dk_42 (dk_at dksX0_chance_0 12 rfl rfl)
theorem dX0_chance_13 : decode cX0_chance 13 = .ok (.iload_n 2, 1) := dk_28 (dk_at dksX0_chance_0 13 rfl rfl)
theorem dX0_chance_14 : decode cX0_chance 14 = .ok (.invokevirtual 147, 3) := dk_182 0 147 (dk_at dksX0_chance_0 14 rfl rfl)
theorem dX0_chance_17 : decode cX0_chance 17 = .ok (.ifCond .eq 20, 3) := dk_153 0 20 (dk_at dksX0_chance_0 17 rfl rfl)
theorem dX0_chance_20 : decode cX0_chance 20 = .ok (.iload_n 3, 1) := dk_29 (dk_at dksX0_chance_0 20 rfl rfl)
theorem dX0_chance_21 : decode cX0_chance 21 = .ok (.invokestatic 101, 3) := dk_184 0 101 (dk_at dksX0_chance_0 21 rfl rfl)
theorem dX0_chance_24 : decode cX0_chance 24 = .ok (.ifCond .eq 13, 3) := dk_153 0 13 (dk_at dksX0_chance_1 0 rfl rfl)
theorem dX0_chance_27 : decode cX0_chance 27 = .ok (.aload_n 0, 1) := dk_42 (dk_at dksX0_chance_1 3 rfl rfl)
theorem dX0_chance_28 : decode cX0_chance 28 = .ok (.iload_n 1, 1) := dk_27 (dk_at dksX0_chance_1 4 rfl rfl)
theorem dX0_chance_29 : decode cX0_chance 29 = .ok (.iload_n 2, 1) := dk_28 (dk_at dksX0_chance_1 5 rfl rfl)
theorem dX0_chance_30 : decode cX0_chance 30 = .ok (.iload_n 3, 1) := dk_29 (dk_at dksX0_chance_1 6 rfl rfl)
theorem dX0_chance_31 : decode cX0_chance 31 = .ok (.invokevirtual 372, 3) := dk_182 1 116 (dk_at dksX0_chance_1 7 rfl rfl)
theorem dX0_chance_34 : decode cX0_chance 34 = .ok (.goto 8, 3) := dk_167 0 8 (dk_at dksX0_chance_1 10 rfl rfl)
theorem dX0_chance_37 : decode cX0_chance 37 = .ok (.bipush (-2), 2) := dk_16 254 (dk_at dksX0_chance_1 13 rfl rfl)
theorem dX0_chance_39 : decode cX0_chance 39 = .ok (.invokestatic 376, 3) := dk_184 1 120 (dk_at dksX0_chance_1 15 rfl rfl)
theorem dX0_chance_42 : decode cX0_chance 42 = .ok (.lreturn, 1) := dk_173 (dk_at dksX0_chance_1 18 rfl rfl)
abbrev cX0_chanceOf : ByteArray := prog_1_method_67_code
def yX0_chanceOf : MethodName := ⟨RX0, "chanceOf", "(III)J"⟩
def dkwX0_chanceOf_6 : List UInt8 := [7, 21, 4, 104, 121, 29, 184, 1, 110, 173]
abbrev dktX0_chanceOf_6 : List UInt8 := dkwX0_chanceOf_6 ++ []
def dkwX0_chanceOf_5 : List UInt8 := [167, 255, 157, 42, 3, 181, 0, 197, 167, 0, 13, 58, 10, 42, 3, 181, 0, 197, 25, 10, 191, 22, 5, 10]
abbrev dktX0_chanceOf_5 : List UInt8 := dkwX0_chanceOf_5 ++ dktX0_chanceOf_6
def dkwX0_chanceOf_4 : List UInt8 := [132, 9, 1, 167, 255, 219, 22, 5, 22, 7, 97, 55, 5, 42, 89, 180, 0, 197, 4, 96, 181, 0, 197]
abbrev dktX0_chanceOf_4 : List UInt8 := dkwX0_chanceOf_4 ++ dktX0_chanceOf_5
def dkwX0_chanceOf_3 : List UInt8 := [180, 0, 197, 21, 9, 184, 0, 200, 153, 0, 11, 16, 16, 27, 100, 133, 167, 0, 5, 27, 133, 105, 55, 7]
abbrev dktX0_chanceOf_3 : List UInt8 := dkwX0_chanceOf_3 ++ dktX0_chanceOf_4
def dkwX0_chanceOf_2 : List UInt8 := [159, 0, 6, 167, 0, 56, 10, 55, 7, 3, 54, 9, 21, 9, 21, 4, 162, 0, 36, 22, 7, 42]
abbrev dktX0_chanceOf_2 : List UInt8 := dkwX0_chanceOf_2 ++ dktX0_chanceOf_3
def dkwX0_chanceOf_1 : List UInt8 := [120, 162, 0, 94, 42, 182, 1, 29, 42, 180, 0, 37, 28, 182, 0, 138, 192, 0, 75, 180, 0, 250, 6]
abbrev dktX0_chanceOf_1 : List UInt8 := dkwX0_chanceOf_1 ++ dktX0_chanceOf_2
def dkwX0_chanceOf_0 : List UInt8 := [42, 180, 0, 47, 182, 0, 123, 54, 4, 9, 55, 5, 42, 3, 181, 0, 197, 42, 180, 0, 197, 4, 21, 4]
abbrev dktX0_chanceOf_0 : List UInt8 := dkwX0_chanceOf_0 ++ dktX0_chanceOf_1
theorem dksX0_chanceOf_0 : cX0_chanceOf.data.toList.drop 0 = dktX0_chanceOf_0 := by decide +kernel
theorem dksX0_chanceOf_1 : cX0_chanceOf.data.toList.drop 24 = dktX0_chanceOf_1 := dk_seg dksX0_chanceOf_0 24 rfl rfl
theorem dksX0_chanceOf_2 : cX0_chanceOf.data.toList.drop 47 = dktX0_chanceOf_2 := dk_seg dksX0_chanceOf_1 23 rfl rfl
theorem dksX0_chanceOf_3 : cX0_chanceOf.data.toList.drop 69 = dktX0_chanceOf_3 := dk_seg dksX0_chanceOf_2 22 rfl rfl
theorem dksX0_chanceOf_4 : cX0_chanceOf.data.toList.drop 93 = dktX0_chanceOf_4 := dk_seg dksX0_chanceOf_3 24 rfl rfl
theorem dksX0_chanceOf_5 : cX0_chanceOf.data.toList.drop 116 = dktX0_chanceOf_5 := dk_seg dksX0_chanceOf_4 23 rfl rfl
theorem dksX0_chanceOf_6 : cX0_chanceOf.data.toList.drop 140 = dktX0_chanceOf_6 := dk_seg dksX0_chanceOf_5 24 rfl rfl
theorem dX0_chanceOf_0 : decode cX0_chanceOf 0 = .ok (.aload_n 0, 1) := dk_42 (dk_at dksX0_chanceOf_0 0 rfl rfl)
theorem dX0_chanceOf_1 : decode cX0_chanceOf 1 = .ok (.getfield 47, 3) := dk_180 0 47 (dk_at dksX0_chanceOf_0 1 rfl rfl)
theorem dX0_chanceOf_4 : decode cX0_chanceOf 4 = .ok (.invokevirtual 123, 3) := dk_182 0 123 (dk_at dksX0_chanceOf_0 4 rfl rfl)
theorem dX0_chanceOf_7 : decode cX0_chanceOf 7 = .ok (.istore 4, 2) := dk_54 4 (dk_at dksX0_chanceOf_0 7 rfl rfl)
theorem dX0_chanceOf_9 : decode cX0_chanceOf 9 = .ok (.lconst 0, 1) := dk_9 (dk_at dksX0_chanceOf_0 9 rfl rfl)
theorem dX0_chanceOf_10 : decode cX0_chanceOf 10 = .ok (.lstore 5, 2) := dk_55 5 (dk_at dksX0_chanceOf_0 10 rfl rfl)
theorem dX0_chanceOf_12 : decode cX0_chanceOf 12 = .ok (.aload_n 0, 1) := dk_42 (dk_at dksX0_chanceOf_0 12 rfl rfl)
theorem dX0_chanceOf_13 : decode cX0_chanceOf 13 = .ok (.iconst 0, 1) := dk_3 (dk_at dksX0_chanceOf_0 13 rfl rfl)
theorem dX0_chanceOf_14 : decode cX0_chanceOf 14 = .ok (.putfield 197, 3) := dk_181 0 197 (dk_at dksX0_chanceOf_0 14 rfl rfl)
theorem dX0_chanceOf_17 : decode cX0_chanceOf 17 = .ok (.aload_n 0, 1) := dk_42 (dk_at dksX0_chanceOf_0 17 rfl rfl)
theorem dX0_chanceOf_18 : decode cX0_chanceOf 18 = .ok (.getfield 197, 3) := dk_180 0 197 (dk_at dksX0_chanceOf_0 18 rfl rfl)
theorem dX0_chanceOf_21 : decode cX0_chanceOf 21 = .ok (.iconst 1, 1) := dk_4 (dk_at dksX0_chanceOf_0 21 rfl rfl)
theorem dX0_chanceOf_22 : decode cX0_chanceOf 22 = .ok (.iload 4, 2) := dk_21 4 (dk_at dksX0_chanceOf_0 22 rfl rfl)
theorem dX0_chanceOf_24 : decode cX0_chanceOf 24 = .ok (.ishl, 1) := dk_120 (dk_at dksX0_chanceOf_1 0 rfl rfl)
theorem dX0_chanceOf_25 : decode cX0_chanceOf 25 = .ok (.if_icmp .ge 94, 3) := dk_162 0 94 (dk_at dksX0_chanceOf_1 1 rfl rfl)
theorem dX0_chanceOf_28 : decode cX0_chanceOf 28 = .ok (.aload_n 0, 1) := dk_42 (dk_at dksX0_chanceOf_1 4 rfl rfl)
theorem dX0_chanceOf_29 : decode cX0_chanceOf 29 = .ok (.invokevirtual 285, 3) := dk_182 1 29 (dk_at dksX0_chanceOf_1 5 rfl rfl)
theorem dX0_chanceOf_32 : decode cX0_chanceOf 32 = .ok (.aload_n 0, 1) := dk_42 (dk_at dksX0_chanceOf_1 8 rfl rfl)
theorem dX0_chanceOf_33 : decode cX0_chanceOf 33 = .ok (.getfield 37, 3) := dk_180 0 37 (dk_at dksX0_chanceOf_1 9 rfl rfl)
theorem dX0_chanceOf_36 : decode cX0_chanceOf 36 = .ok (.iload_n 2, 1) := dk_28 (dk_at dksX0_chanceOf_1 12 rfl rfl)
theorem dX0_chanceOf_37 : decode cX0_chanceOf 37 = .ok (.invokevirtual 138, 3) := dk_182 0 138 (dk_at dksX0_chanceOf_1 13 rfl rfl)
theorem dX0_chanceOf_40 : decode cX0_chanceOf 40 = .ok (.checkcast 75, 3) := dk_192 0 75 (dk_at dksX0_chanceOf_1 16 rfl rfl)
theorem dX0_chanceOf_43 : decode cX0_chanceOf 43 = .ok (.getfield 250, 3) := dk_180 0 250 (dk_at dksX0_chanceOf_1 19 rfl rfl)
theorem dX0_chanceOf_46 : decode cX0_chanceOf 46 = .ok (.iconst 3, 1) := dk_6 (dk_at dksX0_chanceOf_1 22 rfl rfl)
theorem dX0_chanceOf_47 : decode cX0_chanceOf 47 = .ok (.if_icmp .eq 6, 3) := dk_159 0 6 (dk_at dksX0_chanceOf_2 0 rfl rfl)
theorem dX0_chanceOf_50 : decode cX0_chanceOf 50 = .ok (.goto 56, 3) := dk_167 0 56 (dk_at dksX0_chanceOf_2 3 rfl rfl)
theorem dX0_chanceOf_53 : decode cX0_chanceOf 53 = .ok (.lconst 1, 1) := dk_10 (dk_at dksX0_chanceOf_2 6 rfl rfl)
theorem dX0_chanceOf_54 : decode cX0_chanceOf 54 = .ok (.lstore 7, 2) := dk_55 7 (dk_at dksX0_chanceOf_2 7 rfl rfl)
theorem dX0_chanceOf_56 : decode cX0_chanceOf 56 = .ok (.iconst 0, 1) := dk_3 (dk_at dksX0_chanceOf_2 9 rfl rfl)
theorem dX0_chanceOf_57 : decode cX0_chanceOf 57 = .ok (.istore 9, 2) := dk_54 9 (dk_at dksX0_chanceOf_2 10 rfl rfl)
theorem dX0_chanceOf_59 : decode cX0_chanceOf 59 = .ok (.iload 9, 2) := dk_21 9 (dk_at dksX0_chanceOf_2 12 rfl rfl)
theorem dX0_chanceOf_61 : decode cX0_chanceOf 61 = .ok (.iload 4, 2) := dk_21 4 (dk_at dksX0_chanceOf_2 14 rfl rfl)
theorem dX0_chanceOf_63 : decode cX0_chanceOf 63 = .ok (.if_icmp .ge 36, 3) := dk_162 0 36 (dk_at dksX0_chanceOf_2 16 rfl rfl)
theorem dX0_chanceOf_66 : decode cX0_chanceOf 66 = .ok (.lload 7, 2) := dk_22 7 (dk_at dksX0_chanceOf_2 19 rfl rfl)
theorem dX0_chanceOf_68 : decode cX0_chanceOf 68 = .ok (.aload_n 0, 1) := dk_42 (dk_at dksX0_chanceOf_2 21 rfl rfl)
theorem dX0_chanceOf_69 : decode cX0_chanceOf 69 = .ok (.getfield 197, 3) := dk_180 0 197 (dk_at dksX0_chanceOf_3 0 rfl rfl)
theorem dX0_chanceOf_72 : decode cX0_chanceOf 72 = .ok (.iload 9, 2) := dk_21 9 (dk_at dksX0_chanceOf_3 3 rfl rfl)
theorem dX0_chanceOf_74 : decode cX0_chanceOf 74 = .ok (.invokestatic 200, 3) := dk_184 0 200 (dk_at dksX0_chanceOf_3 5 rfl rfl)
theorem dX0_chanceOf_77 : decode cX0_chanceOf 77 = .ok (.ifCond .eq 11, 3) := dk_153 0 11 (dk_at dksX0_chanceOf_3 8 rfl rfl)
theorem dX0_chanceOf_80 : decode cX0_chanceOf 80 = .ok (.bipush 16, 2) := dk_16 16 (dk_at dksX0_chanceOf_3 11 rfl rfl)
theorem dX0_chanceOf_82 : decode cX0_chanceOf 82 = .ok (.iload_n 1, 1) := dk_27 (dk_at dksX0_chanceOf_3 13 rfl rfl)
theorem dX0_chanceOf_83 : decode cX0_chanceOf 83 = .ok (.isub, 1) := dk_100 (dk_at dksX0_chanceOf_3 14 rfl rfl)
theorem dX0_chanceOf_84 : decode cX0_chanceOf 84 = .ok (.i2l, 1) := dk_133 (dk_at dksX0_chanceOf_3 15 rfl rfl)
theorem dX0_chanceOf_85 : decode cX0_chanceOf 85 = .ok (.goto 5, 3) := dk_167 0 5 (dk_at dksX0_chanceOf_3 16 rfl rfl)
theorem dX0_chanceOf_88 : decode cX0_chanceOf 88 = .ok (.iload_n 1, 1) := dk_27 (dk_at dksX0_chanceOf_3 19 rfl rfl)
theorem dX0_chanceOf_89 : decode cX0_chanceOf 89 = .ok (.i2l, 1) := dk_133 (dk_at dksX0_chanceOf_3 20 rfl rfl)
theorem dX0_chanceOf_90 : decode cX0_chanceOf 90 = .ok (.lmul, 1) := dk_105 (dk_at dksX0_chanceOf_3 21 rfl rfl)
theorem dX0_chanceOf_91 : decode cX0_chanceOf 91 = .ok (.lstore 7, 2) := dk_55 7 (dk_at dksX0_chanceOf_3 22 rfl rfl)
theorem dX0_chanceOf_93 : decode cX0_chanceOf 93 = .ok (.iinc 9 1, 3) := dk_132 9 1 (dk_at dksX0_chanceOf_4 0 rfl rfl)
theorem dX0_chanceOf_96 : decode cX0_chanceOf 96 = .ok (.goto (-37), 3) := dk_167 255 219 (dk_at dksX0_chanceOf_4 3 rfl rfl)
theorem dX0_chanceOf_99 : decode cX0_chanceOf 99 = .ok (.lload 5, 2) := dk_22 5 (dk_at dksX0_chanceOf_4 6 rfl rfl)
theorem dX0_chanceOf_101 : decode cX0_chanceOf 101 = .ok (.lload 7, 2) := dk_22 7 (dk_at dksX0_chanceOf_4 8 rfl rfl)
theorem dX0_chanceOf_103 : decode cX0_chanceOf 103 = .ok (.ladd, 1) := dk_97 (dk_at dksX0_chanceOf_4 10 rfl rfl)
theorem dX0_chanceOf_104 : decode cX0_chanceOf 104 = .ok (.lstore 5, 2) := dk_55 5 (dk_at dksX0_chanceOf_4 11 rfl rfl)
theorem dX0_chanceOf_106 : decode cX0_chanceOf 106 = .ok (.aload_n 0, 1) := dk_42 (dk_at dksX0_chanceOf_4 13 rfl rfl)
theorem dX0_chanceOf_107 : decode cX0_chanceOf 107 = .ok (.dup, 1) := dk_89 (dk_at dksX0_chanceOf_4 14 rfl rfl)
theorem dX0_chanceOf_108 : decode cX0_chanceOf 108 = .ok (.getfield 197, 3) := dk_180 0 197 (dk_at dksX0_chanceOf_4 15 rfl rfl)
theorem dX0_chanceOf_111 : decode cX0_chanceOf 111 = .ok (.iconst 1, 1) := dk_4 (dk_at dksX0_chanceOf_4 18 rfl rfl)
theorem dX0_chanceOf_112 : decode cX0_chanceOf 112 = .ok (.iadd, 1) := dk_96 (dk_at dksX0_chanceOf_4 19 rfl rfl)
theorem dX0_chanceOf_113 : decode cX0_chanceOf 113 = .ok (.putfield 197, 3) := dk_181 0 197 (dk_at dksX0_chanceOf_4 20 rfl rfl)
theorem dX0_chanceOf_116 : decode cX0_chanceOf 116 = .ok (.goto (-99), 3) := dk_167 255 157 (dk_at dksX0_chanceOf_5 0 rfl rfl)
theorem dX0_chanceOf_119 : decode cX0_chanceOf 119 = .ok (.aload_n 0, 1) := dk_42 (dk_at dksX0_chanceOf_5 3 rfl rfl)
theorem dX0_chanceOf_120 : decode cX0_chanceOf 120 = .ok (.iconst 0, 1) := dk_3 (dk_at dksX0_chanceOf_5 4 rfl rfl)
theorem dX0_chanceOf_121 : decode cX0_chanceOf 121 = .ok (.putfield 197, 3) := dk_181 0 197 (dk_at dksX0_chanceOf_5 5 rfl rfl)
theorem dX0_chanceOf_124 : decode cX0_chanceOf 124 = .ok (.goto 13, 3) := dk_167 0 13 (dk_at dksX0_chanceOf_5 8 rfl rfl)
theorem dX0_chanceOf_127 : decode cX0_chanceOf 127 = .ok (.astore 10, 2) := dk_58 10 (dk_at dksX0_chanceOf_5 11 rfl rfl)
theorem dX0_chanceOf_129 : decode cX0_chanceOf 129 = .ok (.aload_n 0, 1) := dk_42 (dk_at dksX0_chanceOf_5 13 rfl rfl)
theorem dX0_chanceOf_130 : decode cX0_chanceOf 130 = .ok (.iconst 0, 1) := dk_3 (dk_at dksX0_chanceOf_5 14 rfl rfl)
theorem dX0_chanceOf_131 : decode cX0_chanceOf 131 = .ok (.putfield 197, 3) := dk_181 0 197 (dk_at dksX0_chanceOf_5 15 rfl rfl)
theorem dX0_chanceOf_134 : decode cX0_chanceOf 134 = .ok (.aload 10, 2) := dk_25 10 (dk_at dksX0_chanceOf_5 18 rfl rfl)
theorem dX0_chanceOf_136 : decode cX0_chanceOf 136 = .ok (.athrow, 1) := dk_191 (dk_at dksX0_chanceOf_5 20 rfl rfl)
theorem dX0_chanceOf_137 : decode cX0_chanceOf 137 = .ok (.lload 5, 2) := dk_22 5 (dk_at dksX0_chanceOf_5 21 rfl rfl)
theorem dX0_chanceOf_139 : decode cX0_chanceOf 139 = .ok (.lconst 1, 1) := dk_10 (dk_at dksX0_chanceOf_5 23 rfl rfl)
theorem dX0_chanceOf_140 : decode cX0_chanceOf 140 = .ok (.iconst 4, 1) := dk_7 (dk_at dksX0_chanceOf_6 0 rfl rfl)
theorem dX0_chanceOf_141 : decode cX0_chanceOf 141 = .ok (.iload 4, 2) := dk_21 4 (dk_at dksX0_chanceOf_6 1 rfl rfl)
theorem dX0_chanceOf_143 : decode cX0_chanceOf 143 = .ok (.imul, 1) := dk_104 (dk_at dksX0_chanceOf_6 3 rfl rfl)
theorem dX0_chanceOf_144 : decode cX0_chanceOf 144 = .ok (.lshl, 1) := dk_121 (dk_at dksX0_chanceOf_6 4 rfl rfl)
theorem dX0_chanceOf_145 : decode cX0_chanceOf 145 = .ok (.iload_n 3, 1) := dk_29 (dk_at dksX0_chanceOf_6 5 rfl rfl)
theorem dX0_chanceOf_146 : decode cX0_chanceOf 146 = .ok (.invokestatic 366, 3) := dk_184 1 110 (dk_at dksX0_chanceOf_6 6 rfl rfl)
theorem dX0_chanceOf_149 : decode cX0_chanceOf 149 = .ok (.lreturn, 1) := dk_173 (dk_at dksX0_chanceOf_6 9 rfl rfl)
abbrev cX0_part : ByteArray := prog_1_method_66_code
def yX0_part : MethodName := ⟨RX0, "part", "(JJI)J"⟩
def dkwX0_part_0 : List UInt8 := [21, 4, 154, 0, 7, 30, 167, 0, 4, 32, 30, 32, 184, 1, 106, 109, 173]
abbrev dktX0_part_0 : List UInt8 := dkwX0_part_0 ++ []
theorem dksX0_part_0 : cX0_part.data.toList.drop 0 = dktX0_part_0 := by decide +kernel
theorem dX0_part_0 : decode cX0_part 0 = .ok (.iload 4, 2) := dk_21 4 (dk_at dksX0_part_0 0 rfl rfl)
theorem dX0_part_2 : decode cX0_part 2 = .ok (.ifCond .ne 7, 3) := dk_154 0 7 (dk_at dksX0_part_0 2 rfl rfl)
theorem dX0_part_5 : decode cX0_part 5 = .ok (.lload_n 0, 1) := dk_30 (dk_at dksX0_part_0 5 rfl rfl)
theorem dX0_part_6 : decode cX0_part 6 = .ok (.goto 4, 3) := dk_167 0 4 (dk_at dksX0_part_0 6 rfl rfl)
theorem dX0_part_9 : decode cX0_part 9 = .ok (.lload_n 2, 1) := dk_32 (dk_at dksX0_part_0 9 rfl rfl)
theorem dX0_part_10 : decode cX0_part 10 = .ok (.lload_n 0, 1) := dk_30 (dk_at dksX0_part_0 10 rfl rfl)
theorem dX0_part_11 : decode cX0_part 11 = .ok (.lload_n 2, 1) := dk_32 (dk_at dksX0_part_0 11 rfl rfl)
theorem dX0_part_12 : decode cX0_part 12 = .ok (.invokestatic 362, 3) := dk_184 1 106 (dk_at dksX0_part_0 12 rfl rfl)
theorem dX0_part_15 : decode cX0_part 15 = .ok (.ldiv, 1) := dk_109 (dk_at dksX0_part_0 15 rfl rfl)
theorem dX0_part_16 : decode cX0_part 16 = .ok (.lreturn, 1) := dk_173 (dk_at dksX0_part_0 16 rfl rfl)
abbrev cX0_divisor : ByteArray := prog_1_method_65_code
def yX0_divisor : MethodName := ⟨RX0, "divisor", "(JJ)J"⟩
def dkwX0_divisor_0 : List UInt8 := [32, 9, 148, 154, 0, 7, 30, 167, 0, 10, 32, 30, 32, 113, 184, 1, 106, 173]
abbrev dktX0_divisor_0 : List UInt8 := dkwX0_divisor_0 ++ []
theorem dksX0_divisor_0 : cX0_divisor.data.toList.drop 0 = dktX0_divisor_0 := by decide +kernel
theorem dX0_divisor_0 : decode cX0_divisor 0 = .ok (.lload_n 2, 1) := dk_32 (dk_at dksX0_divisor_0 0 rfl rfl)
theorem dX0_divisor_1 : decode cX0_divisor 1 = .ok (.lconst 0, 1) := dk_9 (dk_at dksX0_divisor_0 1 rfl rfl)
theorem dX0_divisor_2 : decode cX0_divisor 2 = .ok (.lcmp, 1) := dk_148 (dk_at dksX0_divisor_0 2 rfl rfl)
theorem dX0_divisor_3 : decode cX0_divisor 3 = .ok (.ifCond .ne 7, 3) := dk_154 0 7 (dk_at dksX0_divisor_0 3 rfl rfl)
theorem dX0_divisor_6 : decode cX0_divisor 6 = .ok (.lload_n 0, 1) := dk_30 (dk_at dksX0_divisor_0 6 rfl rfl)
theorem dX0_divisor_7 : decode cX0_divisor 7 = .ok (.goto 10, 3) := dk_167 0 10 (dk_at dksX0_divisor_0 7 rfl rfl)
theorem dX0_divisor_10 : decode cX0_divisor 10 = .ok (.lload_n 2, 1) := dk_32 (dk_at dksX0_divisor_0 10 rfl rfl)
theorem dX0_divisor_11 : decode cX0_divisor 11 = .ok (.lload_n 0, 1) := dk_30 (dk_at dksX0_divisor_0 11 rfl rfl)
theorem dX0_divisor_12 : decode cX0_divisor 12 = .ok (.lload_n 2, 1) := dk_32 (dk_at dksX0_divisor_0 12 rfl rfl)
theorem dX0_divisor_13 : decode cX0_divisor 13 = .ok (.lrem, 1) := dk_113 (dk_at dksX0_divisor_0 13 rfl rfl)
theorem dX0_divisor_14 : decode cX0_divisor 14 = .ok (.invokestatic 362, 3) := dk_184 1 106 (dk_at dksX0_divisor_0 14 rfl rfl)
theorem dX0_divisor_17 : decode cX0_divisor 17 = .ok (.lreturn, 1) := dk_173 (dk_at dksX0_divisor_0 17 rfl rfl)
abbrev cX0_no : ByteArray := prog_1_method_3_code
def yX0_no : MethodName := ⟨RX0, "no", "(I)J"⟩
def dkwX0_no_0 : List UInt8 := [20, 0, 88, 26, 133, 101, 173]
abbrev dktX0_no_0 : List UInt8 := dkwX0_no_0 ++ []
theorem dksX0_no_0 : cX0_no.data.toList.drop 0 = dktX0_no_0 := by decide +kernel
theorem dX0_no_0 : decode cX0_no 0 = .ok (.ldc2_w 88, 3) := dk_20 0 88 (dk_at dksX0_no_0 0 rfl rfl)
theorem dX0_no_3 : decode cX0_no 3 = .ok (.iload_n 0, 1) := dk_26 (dk_at dksX0_no_0 3 rfl rfl)
theorem dX0_no_4 : decode cX0_no 4 = .ok (.i2l, 1) := dk_133 (dk_at dksX0_no_0 4 rfl rfl)
theorem dX0_no_5 : decode cX0_no 5 = .ok (.lsub, 1) := dk_101 (dk_at dksX0_no_0 5 rfl rfl)
theorem dX0_no_6 : decode cX0_no 6 = .ok (.lreturn, 1) := dk_173 (dk_at dksX0_no_0 6 rfl rfl)
abbrev cX0_evenings : ByteArray := prog_1_method_72_code
def yX0_evenings : MethodName := ⟨RX0, "evenings", "(III)I"⟩
def dkwX0_evenings_1 : List UInt8 := [182, 1, 144, 167, 0, 5, 16, 254, 172]
abbrev dktX0_evenings_1 : List UInt8 := dkwX0_evenings_1 ++ []
def dkwX0_evenings_0 : List UInt8 := [28, 133, 9, 20, 1, 142, 184, 0, 95, 153, 0, 20, 29, 184, 0, 101, 153, 0, 13, 42, 27, 28, 29]
abbrev dktX0_evenings_0 : List UInt8 := dkwX0_evenings_0 ++ dktX0_evenings_1
theorem dksX0_evenings_0 : cX0_evenings.data.toList.drop 0 = dktX0_evenings_0 := by decide +kernel
theorem dksX0_evenings_1 : cX0_evenings.data.toList.drop 23 = dktX0_evenings_1 := dk_seg dksX0_evenings_0 23 rfl rfl
theorem dX0_evenings_0 : decode cX0_evenings 0 = .ok (.iload_n 2, 1) := dk_28 (dk_at dksX0_evenings_0 0 rfl rfl)
theorem dX0_evenings_1 : decode cX0_evenings 1 = .ok (.i2l, 1) := dk_133 (dk_at dksX0_evenings_0 1 rfl rfl)
theorem dX0_evenings_2 : decode cX0_evenings 2 = .ok (.lconst 0, 1) := dk_9 (dk_at dksX0_evenings_0 2 rfl rfl)
theorem dX0_evenings_3 : decode cX0_evenings 3 = .ok (.ldc2_w 398, 3) := dk_20 1 142 (dk_at dksX0_evenings_0 3 rfl rfl)
theorem dX0_evenings_6 : decode cX0_evenings 6 = .ok (.invokestatic 95, 3) := dk_184 0 95 (dk_at dksX0_evenings_0 6 rfl rfl)
theorem dX0_evenings_9 : decode cX0_evenings 9 = .ok (.ifCond .eq 20, 3) := dk_153 0 20 (dk_at dksX0_evenings_0 9 rfl rfl)
theorem dX0_evenings_12 : decode cX0_evenings 12 = .ok (.iload_n 3, 1) := dk_29 (dk_at dksX0_evenings_0 12 rfl rfl)
theorem dX0_evenings_13 : decode cX0_evenings 13 = .ok (.invokestatic 101, 3) := dk_184 0 101 (dk_at dksX0_evenings_0 13 rfl rfl)
theorem dX0_evenings_16 : decode cX0_evenings 16 = .ok (.ifCond .eq 13, 3) := dk_153 0 13 (dk_at dksX0_evenings_0 16 rfl rfl)
theorem dX0_evenings_19 : decode cX0_evenings 19 = .ok (.aload_n 0, 1) := dk_42 (dk_at dksX0_evenings_0 19 rfl rfl)
theorem dX0_evenings_20 : decode cX0_evenings 20 = .ok (.iload_n 1, 1) := dk_27 (dk_at dksX0_evenings_0 20 rfl rfl)
theorem dX0_evenings_21 : decode cX0_evenings 21 = .ok (.iload_n 2, 1) := dk_28 (dk_at dksX0_evenings_0 21 rfl rfl)
theorem dX0_evenings_22 : decode cX0_evenings 22 = .ok (.iload_n 3, 1) := dk_29 (dk_at dksX0_evenings_0 22 rfl rfl)
theorem dX0_evenings_23 : decode cX0_evenings 23 = .ok (.invokevirtual 400, 3) := dk_182 1 144 (dk_at dksX0_evenings_1 0 rfl rfl)
theorem dX0_evenings_26 : decode cX0_evenings 26 = .ok (.goto 5, 3) := dk_167 0 5 (dk_at dksX0_evenings_1 3 rfl rfl)
theorem dX0_evenings_29 : decode cX0_evenings 29 = .ok (.bipush (-2), 2) := dk_16 254 (dk_at dksX0_evenings_1 6 rfl rfl)
theorem dX0_evenings_31 : decode cX0_evenings 31 = .ok (.ireturn, 1) := dk_172 (dk_at dksX0_evenings_1 8 rfl rfl)
abbrev cX0_eveningsOf : ByteArray := prog_1_method_71_code
def yX0_eveningsOf : MethodName := ⟨RX0, "eveningsOf", "(III)I"⟩
def dkwX0_eveningsOf_4 : List UInt8 := [180, 0, 33, 181, 0, 37, 25, 5, 191]
abbrev dktX0_eveningsOf_4 : List UInt8 := dkwX0_eveningsOf_4 ++ []
def dkwX0_eveningsOf_3 : List UInt8 := [54, 4, 42, 42, 180, 0, 23, 180, 0, 33, 181, 0, 37, 21, 4, 172, 58, 5, 42, 42, 180, 0, 23]
abbrev dktX0_eveningsOf_3 : List UInt8 := dkwX0_eveningsOf_3 ++ dktX0_eveningsOf_4
def dkwX0_eveningsOf_2 : List UInt8 := [181, 0, 37, 42, 182, 1, 29, 29, 154, 0, 10, 42, 180, 0, 237, 167, 0, 8, 42, 7, 182, 1, 34]
abbrev dktX0_eveningsOf_2 : List UInt8 := dkwX0_eveningsOf_2 ++ dktX0_eveningsOf_3
def dkwX0_eveningsOf_1 : List UInt8 := [180, 0, 72, 42, 21, 4, 182, 1, 138, 182, 0, 160, 87, 132, 4, 1, 167, 255, 233, 42, 42, 180, 0, 72]
abbrev dktX0_eveningsOf_1 : List UInt8 := dkwX0_eveningsOf_1 ++ dktX0_eveningsOf_2
def dkwX0_eveningsOf_0 : List UInt8 := [42, 180, 0, 72, 182, 1, 23, 42, 27, 181, 1, 125, 3, 54, 4, 21, 4, 28, 162, 0, 23, 42]
abbrev dktX0_eveningsOf_0 : List UInt8 := dkwX0_eveningsOf_0 ++ dktX0_eveningsOf_1
theorem dksX0_eveningsOf_0 : cX0_eveningsOf.data.toList.drop 0 = dktX0_eveningsOf_0 := by decide +kernel
theorem dksX0_eveningsOf_1 : cX0_eveningsOf.data.toList.drop 22 = dktX0_eveningsOf_1 := dk_seg dksX0_eveningsOf_0 22 rfl rfl
theorem dksX0_eveningsOf_2 : cX0_eveningsOf.data.toList.drop 46 = dktX0_eveningsOf_2 := dk_seg dksX0_eveningsOf_1 24 rfl rfl
theorem dksX0_eveningsOf_3 : cX0_eveningsOf.data.toList.drop 69 = dktX0_eveningsOf_3 := dk_seg dksX0_eveningsOf_2 23 rfl rfl
theorem dksX0_eveningsOf_4 : cX0_eveningsOf.data.toList.drop 92 = dktX0_eveningsOf_4 := dk_seg dksX0_eveningsOf_3 23 rfl rfl
theorem dX0_eveningsOf_0 : decode cX0_eveningsOf 0 = .ok (.aload_n 0, 1) := dk_42 (dk_at dksX0_eveningsOf_0 0 rfl rfl)
theorem dX0_eveningsOf_1 : decode cX0_eveningsOf 1 = .ok (.getfield 72, 3) := dk_180 0 72 (dk_at dksX0_eveningsOf_0 1 rfl rfl)
theorem dX0_eveningsOf_4 : decode cX0_eveningsOf 4 = .ok (.invokevirtual 279, 3) := dk_182 1 23 (dk_at dksX0_eveningsOf_0 4 rfl rfl)
theorem dX0_eveningsOf_7 : decode cX0_eveningsOf 7 = .ok (.aload_n 0, 1) := dk_42 (dk_at dksX0_eveningsOf_0 7 rfl rfl)
theorem dX0_eveningsOf_8 : decode cX0_eveningsOf 8 = .ok (.iload_n 1, 1) := dk_27 (dk_at dksX0_eveningsOf_0 8 rfl rfl)
theorem dX0_eveningsOf_9 : decode cX0_eveningsOf 9 = .ok (.putfield 381, 3) := dk_181 1 125 (dk_at dksX0_eveningsOf_0 9 rfl rfl)
theorem dX0_eveningsOf_12 : decode cX0_eveningsOf 12 = .ok (.iconst 0, 1) := dk_3 (dk_at dksX0_eveningsOf_0 12 rfl rfl)
theorem dX0_eveningsOf_13 : decode cX0_eveningsOf 13 = .ok (.istore 4, 2) := dk_54 4 (dk_at dksX0_eveningsOf_0 13 rfl rfl)
theorem dX0_eveningsOf_15 : decode cX0_eveningsOf 15 = .ok (.iload 4, 2) := dk_21 4 (dk_at dksX0_eveningsOf_0 15 rfl rfl)
theorem dX0_eveningsOf_17 : decode cX0_eveningsOf 17 = .ok (.iload_n 2, 1) := dk_28 (dk_at dksX0_eveningsOf_0 17 rfl rfl)
theorem dX0_eveningsOf_18 : decode cX0_eveningsOf 18 = .ok (.if_icmp .ge 23, 3) := dk_162 0 23 (dk_at dksX0_eveningsOf_0 18 rfl rfl)
theorem dX0_eveningsOf_21 : decode cX0_eveningsOf 21 = .ok (.aload_n 0, 1) := dk_42 (dk_at dksX0_eveningsOf_0 21 rfl rfl)
theorem dX0_eveningsOf_22 : decode cX0_eveningsOf 22 = .ok (.getfield 72, 3) := dk_180 0 72 (dk_at dksX0_eveningsOf_1 0 rfl rfl)
theorem dX0_eveningsOf_25 : decode cX0_eveningsOf 25 = .ok (.aload_n 0, 1) := dk_42 (dk_at dksX0_eveningsOf_1 3 rfl rfl)
theorem dX0_eveningsOf_26 : decode cX0_eveningsOf 26 = .ok (.iload 4, 2) := dk_21 4 (dk_at dksX0_eveningsOf_1 4 rfl rfl)
theorem dX0_eveningsOf_28 : decode cX0_eveningsOf 28 = .ok (.invokevirtual 394, 3) := dk_182 1 138 (dk_at dksX0_eveningsOf_1 6 rfl rfl)
theorem dX0_eveningsOf_31 : decode cX0_eveningsOf 31 = .ok (.invokevirtual 160, 3) := dk_182 0 160 (dk_at dksX0_eveningsOf_1 9 rfl rfl)
theorem dX0_eveningsOf_34 : decode cX0_eveningsOf 34 = .ok (.pop, 1) := dk_87 (dk_at dksX0_eveningsOf_1 12 rfl rfl)
theorem dX0_eveningsOf_35 : decode cX0_eveningsOf 35 = .ok (.iinc 4 1, 3) := dk_132 4 1 (dk_at dksX0_eveningsOf_1 13 rfl rfl)
theorem dX0_eveningsOf_38 : decode cX0_eveningsOf 38 = .ok (.goto (-23), 3) := dk_167 255 233 (dk_at dksX0_eveningsOf_1 16 rfl rfl)
theorem dX0_eveningsOf_41 : decode cX0_eveningsOf 41 = .ok (.aload_n 0, 1) := dk_42 (dk_at dksX0_eveningsOf_1 19 rfl rfl)
theorem dX0_eveningsOf_42 : decode cX0_eveningsOf 42 = .ok (.aload_n 0, 1) := dk_42 (dk_at dksX0_eveningsOf_1 20 rfl rfl)
theorem dX0_eveningsOf_43 : decode cX0_eveningsOf 43 = .ok (.getfield 72, 3) := dk_180 0 72 (dk_at dksX0_eveningsOf_1 21 rfl rfl)
theorem dX0_eveningsOf_46 : decode cX0_eveningsOf 46 = .ok (.putfield 37, 3) := dk_181 0 37 (dk_at dksX0_eveningsOf_2 0 rfl rfl)
theorem dX0_eveningsOf_49 : decode cX0_eveningsOf 49 = .ok (.aload_n 0, 1) := dk_42 (dk_at dksX0_eveningsOf_2 3 rfl rfl)
theorem dX0_eveningsOf_50 : decode cX0_eveningsOf 50 = .ok (.invokevirtual 285, 3) := dk_182 1 29 (dk_at dksX0_eveningsOf_2 4 rfl rfl)
theorem dX0_eveningsOf_53 : decode cX0_eveningsOf 53 = .ok (.iload_n 3, 1) := dk_29 (dk_at dksX0_eveningsOf_2 7 rfl rfl)
theorem dX0_eveningsOf_54 : decode cX0_eveningsOf 54 = .ok (.ifCond .ne 10, 3) := dk_154 0 10 (dk_at dksX0_eveningsOf_2 8 rfl rfl)
theorem dX0_eveningsOf_57 : decode cX0_eveningsOf 57 = .ok (.aload_n 0, 1) := dk_42 (dk_at dksX0_eveningsOf_2 11 rfl rfl)
theorem dX0_eveningsOf_58 : decode cX0_eveningsOf 58 = .ok (.getfield 237, 3) := dk_180 0 237 (dk_at dksX0_eveningsOf_2 12 rfl rfl)
theorem dX0_eveningsOf_61 : decode cX0_eveningsOf 61 = .ok (.goto 8, 3) := dk_167 0 8 (dk_at dksX0_eveningsOf_2 15 rfl rfl)
theorem dX0_eveningsOf_64 : decode cX0_eveningsOf 64 = .ok (.aload_n 0, 1) := dk_42 (dk_at dksX0_eveningsOf_2 18 rfl rfl)
theorem dX0_eveningsOf_65 : decode cX0_eveningsOf 65 = .ok (.iconst 4, 1) := dk_7 (dk_at dksX0_eveningsOf_2 19 rfl rfl)
theorem dX0_eveningsOf_66 : decode cX0_eveningsOf 66 = .ok (.invokevirtual 290, 3) := dk_182 1 34 (dk_at dksX0_eveningsOf_2 20 rfl rfl)
theorem dX0_eveningsOf_69 : decode cX0_eveningsOf 69 = .ok (.istore 4, 2) := dk_54 4 (dk_at dksX0_eveningsOf_3 0 rfl rfl)
theorem dX0_eveningsOf_71 : decode cX0_eveningsOf 71 = .ok (.aload_n 0, 1) := dk_42 (dk_at dksX0_eveningsOf_3 2 rfl rfl)
theorem dX0_eveningsOf_72 : decode cX0_eveningsOf 72 = .ok (.aload_n 0, 1) := dk_42 (dk_at dksX0_eveningsOf_3 3 rfl rfl)
theorem dX0_eveningsOf_73 : decode cX0_eveningsOf 73 = .ok (.getfield 23, 3) := dk_180 0 23 (dk_at dksX0_eveningsOf_3 4 rfl rfl)
theorem dX0_eveningsOf_76 : decode cX0_eveningsOf 76 = .ok (.getfield 33, 3) := dk_180 0 33 (dk_at dksX0_eveningsOf_3 7 rfl rfl)
theorem dX0_eveningsOf_79 : decode cX0_eveningsOf 79 = .ok (.putfield 37, 3) := dk_181 0 37 (dk_at dksX0_eveningsOf_3 10 rfl rfl)
theorem dX0_eveningsOf_82 : decode cX0_eveningsOf 82 = .ok (.iload 4, 2) := dk_21 4 (dk_at dksX0_eveningsOf_3 13 rfl rfl)
theorem dX0_eveningsOf_84 : decode cX0_eveningsOf 84 = .ok (.ireturn, 1) := dk_172 (dk_at dksX0_eveningsOf_3 15 rfl rfl)
theorem dX0_eveningsOf_85 : decode cX0_eveningsOf 85 = .ok (.astore 5, 2) := dk_58 5 (dk_at dksX0_eveningsOf_3 16 rfl rfl)
theorem dX0_eveningsOf_87 : decode cX0_eveningsOf 87 = .ok (.aload_n 0, 1) := dk_42 (dk_at dksX0_eveningsOf_3 18 rfl rfl)
theorem dX0_eveningsOf_88 : decode cX0_eveningsOf 88 = .ok (.aload_n 0, 1) := dk_42 (dk_at dksX0_eveningsOf_3 19 rfl rfl)
theorem dX0_eveningsOf_89 : decode cX0_eveningsOf 89 = .ok (.getfield 23, 3) := dk_180 0 23 (dk_at dksX0_eveningsOf_3 20 rfl rfl)
theorem dX0_eveningsOf_92 : decode cX0_eveningsOf 92 = .ok (.getfield 33, 3) := dk_180 0 33 (dk_at dksX0_eveningsOf_4 0 rfl rfl)
theorem dX0_eveningsOf_95 : decode cX0_eveningsOf 95 = .ok (.putfield 37, 3) := dk_181 0 37 (dk_at dksX0_eveningsOf_4 3 rfl rfl)
theorem dX0_eveningsOf_98 : decode cX0_eveningsOf 98 = .ok (.aload 5, 2) := dk_25 5 (dk_at dksX0_eveningsOf_4 6 rfl rfl)
theorem dX0_eveningsOf_100 : decode cX0_eveningsOf 100 = .ok (.athrow, 1) := dk_191 (dk_at dksX0_eveningsOf_4 8 rfl rfl)
abbrev cX0_stranger : ByteArray := prog_1_method_70_code
def yX0_stranger : MethodName := ⟨RX0, "stranger", "(I)LSamovar$Guest;"⟩
def dkwX0_stranger_3 : List UInt8 := [176]
abbrev dktX0_stranger_3 : List UInt8 := dkwX0_stranger_3 ++ []
def dkwX0_stranger_2 : List UInt8 := [178, 1, 128, 42, 5, 182, 1, 135, 50, 181, 0, 228, 44, 4, 42, 7, 182, 1, 135, 96, 181, 1, 51, 44]
abbrev dktX0_stranger_2 : List UInt8 := dkwX0_stranger_2 ++ dktX0_stranger_3
def dkwX0_stranger_1 : List UInt8 := [4, 183, 1, 132, 83, 42, 180, 0, 77, 27, 50, 77, 44, 42, 16, 24, 182, 1, 135, 181, 1, 72, 44]
abbrev dktX0_stranger_1 : List UInt8 := dkwX0_stranger_1 ++ dktX0_stranger_2
def dkwX0_stranger_0 : List UInt8 := [42, 180, 0, 77, 27, 50, 199, 0, 23, 42, 180, 0, 77, 27, 187, 0, 75, 89, 3, 178, 1, 128, 3, 50]
abbrev dktX0_stranger_0 : List UInt8 := dkwX0_stranger_0 ++ dktX0_stranger_1
theorem dksX0_stranger_0 : cX0_stranger.data.toList.drop 0 = dktX0_stranger_0 := by decide +kernel
theorem dksX0_stranger_1 : cX0_stranger.data.toList.drop 24 = dktX0_stranger_1 := dk_seg dksX0_stranger_0 24 rfl rfl
theorem dksX0_stranger_2 : cX0_stranger.data.toList.drop 47 = dktX0_stranger_2 := dk_seg dksX0_stranger_1 23 rfl rfl
theorem dksX0_stranger_3 : cX0_stranger.data.toList.drop 71 = dktX0_stranger_3 := dk_seg dksX0_stranger_2 24 rfl rfl
theorem dX0_stranger_0 : decode cX0_stranger 0 = .ok (.aload_n 0, 1) := dk_42 (dk_at dksX0_stranger_0 0 rfl rfl)
theorem dX0_stranger_1 : decode cX0_stranger 1 = .ok (.getfield 77, 3) := dk_180 0 77 (dk_at dksX0_stranger_0 1 rfl rfl)
theorem dX0_stranger_4 : decode cX0_stranger 4 = .ok (.iload_n 1, 1) := dk_27 (dk_at dksX0_stranger_0 4 rfl rfl)
theorem dX0_stranger_5 : decode cX0_stranger 5 = .ok (.aaload, 1) := dk_50 (dk_at dksX0_stranger_0 5 rfl rfl)
theorem dX0_stranger_6 : decode cX0_stranger 6 = .ok (.ifnonnull 23, 3) := dk_199 0 23 (dk_at dksX0_stranger_0 6 rfl rfl)
theorem dX0_stranger_9 : decode cX0_stranger 9 = .ok (.aload_n 0, 1) := dk_42 (dk_at dksX0_stranger_0 9 rfl rfl)
theorem dX0_stranger_10 : decode cX0_stranger 10 = .ok (.getfield 77, 3) := dk_180 0 77 (dk_at dksX0_stranger_0 10 rfl rfl)
theorem dX0_stranger_13 : decode cX0_stranger 13 = .ok (.iload_n 1, 1) := dk_27 (dk_at dksX0_stranger_0 13 rfl rfl)
theorem dX0_stranger_14 : decode cX0_stranger 14 = .ok (.new 75, 3) := dk_187 0 75 (dk_at dksX0_stranger_0 14 rfl rfl)
theorem dX0_stranger_17 : decode cX0_stranger 17 = .ok (.dup, 1) := dk_89 (dk_at dksX0_stranger_0 17 rfl rfl)
theorem dX0_stranger_18 : decode cX0_stranger 18 = .ok (.iconst 0, 1) := dk_3 (dk_at dksX0_stranger_0 18 rfl rfl)
theorem dX0_stranger_19 : decode cX0_stranger 19 = .ok (.getstatic 384, 3) := dk_178 1 128 (dk_at dksX0_stranger_0 19 rfl rfl)
theorem dX0_stranger_22 : decode cX0_stranger 22 = .ok (.iconst 0, 1) := dk_3 (dk_at dksX0_stranger_0 22 rfl rfl)
theorem dX0_stranger_23 : decode cX0_stranger 23 = .ok (.aaload, 1) := dk_50 (dk_at dksX0_stranger_0 23 rfl rfl)
theorem dX0_stranger_24 : decode cX0_stranger 24 = .ok (.iconst 1, 1) := dk_4 (dk_at dksX0_stranger_1 0 rfl rfl)
theorem dX0_stranger_25 : decode cX0_stranger 25 = .ok (.invokespecial 388, 3) := dk_183 1 132 (dk_at dksX0_stranger_1 1 rfl rfl)
theorem dX0_stranger_28 : decode cX0_stranger 28 = .ok (.aastore, 1) := dk_83 (dk_at dksX0_stranger_1 4 rfl rfl)
theorem dX0_stranger_29 : decode cX0_stranger 29 = .ok (.aload_n 0, 1) := dk_42 (dk_at dksX0_stranger_1 5 rfl rfl)
theorem dX0_stranger_30 : decode cX0_stranger 30 = .ok (.getfield 77, 3) := dk_180 0 77 (dk_at dksX0_stranger_1 6 rfl rfl)
theorem dX0_stranger_33 : decode cX0_stranger 33 = .ok (.iload_n 1, 1) := dk_27 (dk_at dksX0_stranger_1 9 rfl rfl)
theorem dX0_stranger_34 : decode cX0_stranger 34 = .ok (.aaload, 1) := dk_50 (dk_at dksX0_stranger_1 10 rfl rfl)
theorem dX0_stranger_35 : decode cX0_stranger 35 = .ok (.astore_n 2, 1) := dk_77 (dk_at dksX0_stranger_1 11 rfl rfl)
theorem dX0_stranger_36 : decode cX0_stranger 36 = .ok (.aload_n 2, 1) := dk_44 (dk_at dksX0_stranger_1 12 rfl rfl)
theorem dX0_stranger_37 : decode cX0_stranger 37 = .ok (.aload_n 0, 1) := dk_42 (dk_at dksX0_stranger_1 13 rfl rfl)
theorem dX0_stranger_38 : decode cX0_stranger 38 = .ok (.bipush 24, 2) := dk_16 24 (dk_at dksX0_stranger_1 14 rfl rfl)
theorem dX0_stranger_40 : decode cX0_stranger 40 = .ok (.invokevirtual 391, 3) := dk_182 1 135 (dk_at dksX0_stranger_1 16 rfl rfl)
theorem dX0_stranger_43 : decode cX0_stranger 43 = .ok (.putfield 328, 3) := dk_181 1 72 (dk_at dksX0_stranger_1 19 rfl rfl)
theorem dX0_stranger_46 : decode cX0_stranger 46 = .ok (.aload_n 2, 1) := dk_44 (dk_at dksX0_stranger_1 22 rfl rfl)
theorem dX0_stranger_47 : decode cX0_stranger 47 = .ok (.getstatic 384, 3) := dk_178 1 128 (dk_at dksX0_stranger_2 0 rfl rfl)
theorem dX0_stranger_50 : decode cX0_stranger 50 = .ok (.aload_n 0, 1) := dk_42 (dk_at dksX0_stranger_2 3 rfl rfl)
theorem dX0_stranger_51 : decode cX0_stranger 51 = .ok (.iconst 2, 1) := dk_5 (dk_at dksX0_stranger_2 4 rfl rfl)
theorem dX0_stranger_52 : decode cX0_stranger 52 = .ok (.invokevirtual 391, 3) := dk_182 1 135 (dk_at dksX0_stranger_2 5 rfl rfl)
theorem dX0_stranger_55 : decode cX0_stranger 55 = .ok (.aaload, 1) := dk_50 (dk_at dksX0_stranger_2 8 rfl rfl)
theorem dX0_stranger_56 : decode cX0_stranger 56 = .ok (.putfield 228, 3) := dk_181 0 228 (dk_at dksX0_stranger_2 9 rfl rfl)
theorem dX0_stranger_59 : decode cX0_stranger 59 = .ok (.aload_n 2, 1) := dk_44 (dk_at dksX0_stranger_2 12 rfl rfl)
theorem dX0_stranger_60 : decode cX0_stranger 60 = .ok (.iconst 1, 1) := dk_4 (dk_at dksX0_stranger_2 13 rfl rfl)
theorem dX0_stranger_61 : decode cX0_stranger 61 = .ok (.aload_n 0, 1) := dk_42 (dk_at dksX0_stranger_2 14 rfl rfl)
theorem dX0_stranger_62 : decode cX0_stranger 62 = .ok (.iconst 4, 1) := dk_7 (dk_at dksX0_stranger_2 15 rfl rfl)
theorem dX0_stranger_63 : decode cX0_stranger 63 = .ok (.invokevirtual 391, 3) := dk_182 1 135 (dk_at dksX0_stranger_2 16 rfl rfl)
theorem dX0_stranger_66 : decode cX0_stranger 66 = .ok (.iadd, 1) := dk_96 (dk_at dksX0_stranger_2 19 rfl rfl)
theorem dX0_stranger_67 : decode cX0_stranger 67 = .ok (.putfield 307, 3) := dk_181 1 51 (dk_at dksX0_stranger_2 20 rfl rfl)
theorem dX0_stranger_70 : decode cX0_stranger 70 = .ok (.aload_n 2, 1) := dk_44 (dk_at dksX0_stranger_2 23 rfl rfl)
theorem dX0_stranger_71 : decode cX0_stranger 71 = .ok (.areturn, 1) := dk_176 (dk_at dksX0_stranger_3 0 rfl rfl)
abbrev cX0_lot : ByteArray := prog_1_method_69_code
def yX0_lot : MethodName := ⟨RX0, "lot", "(I)I"⟩
def dkwX0_lot_1 : List UInt8 := [112, 172]
abbrev dktX0_lot_1 : List UInt8 := dkwX0_lot_1 ++ []
def dkwX0_lot_0 : List UInt8 := [42, 19, 1, 124, 42, 180, 1, 125, 104, 17, 48, 57, 96, 181, 1, 125, 42, 180, 1, 125, 16, 16, 124, 27]
abbrev dktX0_lot_0 : List UInt8 := dkwX0_lot_0 ++ dktX0_lot_1
theorem dksX0_lot_0 : cX0_lot.data.toList.drop 0 = dktX0_lot_0 := by decide +kernel
theorem dksX0_lot_1 : cX0_lot.data.toList.drop 24 = dktX0_lot_1 := dk_seg dksX0_lot_0 24 rfl rfl
theorem dX0_lot_0 : decode cX0_lot 0 = .ok (.aload_n 0, 1) := dk_42 (dk_at dksX0_lot_0 0 rfl rfl)
theorem dX0_lot_1 : decode cX0_lot 1 = .ok (.ldc_w 380, 3) := dk_19 1 124 (dk_at dksX0_lot_0 1 rfl rfl)
theorem dX0_lot_4 : decode cX0_lot 4 = .ok (.aload_n 0, 1) := dk_42 (dk_at dksX0_lot_0 4 rfl rfl)
theorem dX0_lot_5 : decode cX0_lot 5 = .ok (.getfield 381, 3) := dk_180 1 125 (dk_at dksX0_lot_0 5 rfl rfl)
theorem dX0_lot_8 : decode cX0_lot 8 = .ok (.imul, 1) := dk_104 (dk_at dksX0_lot_0 8 rfl rfl)
theorem dX0_lot_9 : decode cX0_lot 9 = .ok (.sipush 12345, 3) := dk_17 48 57 (dk_at dksX0_lot_0 9 rfl rfl)
theorem dX0_lot_12 : decode cX0_lot 12 = .ok (.iadd, 1) := dk_96 (dk_at dksX0_lot_0 12 rfl rfl)
theorem dX0_lot_13 : decode cX0_lot 13 = .ok (.putfield 381, 3) := dk_181 1 125 (dk_at dksX0_lot_0 13 rfl rfl)
theorem dX0_lot_16 : decode cX0_lot 16 = .ok (.aload_n 0, 1) := dk_42 (dk_at dksX0_lot_0 16 rfl rfl)
theorem dX0_lot_17 : decode cX0_lot 17 = .ok (.getfield 381, 3) := dk_180 1 125 (dk_at dksX0_lot_0 17 rfl rfl)
theorem dX0_lot_20 : decode cX0_lot 20 = .ok (.bipush 16, 2) := dk_16 16 (dk_at dksX0_lot_0 20 rfl rfl)
theorem dX0_lot_22 : decode cX0_lot 22 = .ok (.iushr, 1) := dk_124 (dk_at dksX0_lot_0 22 rfl rfl)
theorem dX0_lot_23 : decode cX0_lot 23 = .ok (.iload_n 1, 1) := dk_27 (dk_at dksX0_lot_0 23 rfl rfl)
theorem dX0_lot_24 : decode cX0_lot 24 = .ok (.irem, 1) := dk_112 (dk_at dksX0_lot_1 0 rfl rfl)
theorem dX0_lot_25 : decode cX0_lot 25 = .ok (.ireturn, 1) := dk_172 (dk_at dksX0_lot_1 1 rfl rfl)
abbrev cX0_sheet : ByteArray := prog_1_method_75_code
def yX0_sheet : MethodName := ⟨RX0, "sheet", "(III)I"⟩
def dkwX0_sheet_2 : List UInt8 := [42, 8, 182, 0, 178, 172]
abbrev dktX0_sheet_2 : List UInt8 := dkwX0_sheet_2 ++ []
def dkwX0_sheet_1 : List UInt8 := [164, 0, 6, 16, 254, 172, 42, 180, 0, 84, 27, 50, 28, 29, 184, 1, 149, 181, 0, 174, 29, 172, 58, 4]
abbrev dktX0_sheet_1 : List UInt8 := dkwX0_sheet_1 ++ dktX0_sheet_2
def dkwX0_sheet_0 : List UInt8 := [27, 184, 0, 171, 153, 0, 21, 28, 133, 9, 20, 0, 136, 184, 0, 95, 153, 0, 9, 29, 16, 60]
abbrev dktX0_sheet_0 : List UInt8 := dkwX0_sheet_0 ++ dktX0_sheet_1
theorem dksX0_sheet_0 : cX0_sheet.data.toList.drop 0 = dktX0_sheet_0 := by decide +kernel
theorem dksX0_sheet_1 : cX0_sheet.data.toList.drop 22 = dktX0_sheet_1 := dk_seg dksX0_sheet_0 22 rfl rfl
theorem dksX0_sheet_2 : cX0_sheet.data.toList.drop 46 = dktX0_sheet_2 := dk_seg dksX0_sheet_1 24 rfl rfl
theorem dX0_sheet_0 : decode cX0_sheet 0 = .ok (.iload_n 1, 1) := dk_27 (dk_at dksX0_sheet_0 0 rfl rfl)
theorem dX0_sheet_1 : decode cX0_sheet 1 = .ok (.invokestatic 171, 3) := dk_184 0 171 (dk_at dksX0_sheet_0 1 rfl rfl)
theorem dX0_sheet_4 : decode cX0_sheet 4 = .ok (.ifCond .eq 21, 3) := dk_153 0 21 (dk_at dksX0_sheet_0 4 rfl rfl)
theorem dX0_sheet_7 : decode cX0_sheet 7 = .ok (.iload_n 2, 1) := dk_28 (dk_at dksX0_sheet_0 7 rfl rfl)
theorem dX0_sheet_8 : decode cX0_sheet 8 = .ok (.i2l, 1) := dk_133 (dk_at dksX0_sheet_0 8 rfl rfl)
theorem dX0_sheet_9 : decode cX0_sheet 9 = .ok (.lconst 0, 1) := dk_9 (dk_at dksX0_sheet_0 9 rfl rfl)
theorem dX0_sheet_10 : decode cX0_sheet 10 = .ok (.ldc2_w 136, 3) := dk_20 0 136 (dk_at dksX0_sheet_0 10 rfl rfl)
theorem dX0_sheet_13 : decode cX0_sheet 13 = .ok (.invokestatic 95, 3) := dk_184 0 95 (dk_at dksX0_sheet_0 13 rfl rfl)
theorem dX0_sheet_16 : decode cX0_sheet 16 = .ok (.ifCond .eq 9, 3) := dk_153 0 9 (dk_at dksX0_sheet_0 16 rfl rfl)
theorem dX0_sheet_19 : decode cX0_sheet 19 = .ok (.iload_n 3, 1) := dk_29 (dk_at dksX0_sheet_0 19 rfl rfl)
theorem dX0_sheet_20 : decode cX0_sheet 20 = .ok (.bipush 60, 2) := dk_16 60 (dk_at dksX0_sheet_0 20 rfl rfl)
theorem dX0_sheet_22 : decode cX0_sheet 22 = .ok (.if_icmp .le 6, 3) := dk_164 0 6 (dk_at dksX0_sheet_1 0 rfl rfl)
theorem dX0_sheet_25 : decode cX0_sheet 25 = .ok (.bipush (-2), 2) := dk_16 254 (dk_at dksX0_sheet_1 3 rfl rfl)
theorem dX0_sheet_27 : decode cX0_sheet 27 = .ok (.ireturn, 1) := dk_172 (dk_at dksX0_sheet_1 5 rfl rfl)
theorem dX0_sheet_28 : decode cX0_sheet 28 = .ok (.aload_n 0, 1) := dk_42 (dk_at dksX0_sheet_1 6 rfl rfl)
theorem dX0_sheet_29 : decode cX0_sheet 29 = .ok (.getfield 84, 3) := dk_180 0 84 (dk_at dksX0_sheet_1 7 rfl rfl)
theorem dX0_sheet_32 : decode cX0_sheet 32 = .ok (.iload_n 1, 1) := dk_27 (dk_at dksX0_sheet_1 10 rfl rfl)
theorem dX0_sheet_33 : decode cX0_sheet 33 = .ok (.aaload, 1) := dk_50 (dk_at dksX0_sheet_1 11 rfl rfl)
theorem dX0_sheet_34 : decode cX0_sheet 34 = .ok (.iload_n 2, 1) := dk_28 (dk_at dksX0_sheet_1 12 rfl rfl)
theorem dX0_sheet_35 : decode cX0_sheet 35 = .ok (.iload_n 3, 1) := dk_29 (dk_at dksX0_sheet_1 13 rfl rfl)
theorem dX0_sheet_36 : decode cX0_sheet 36 = .ok (.invokestatic 405, 3) := dk_184 1 149 (dk_at dksX0_sheet_1 14 rfl rfl)
theorem dX0_sheet_39 : decode cX0_sheet 39 = .ok (.putfield 174, 3) := dk_181 0 174 (dk_at dksX0_sheet_1 17 rfl rfl)
theorem dX0_sheet_42 : decode cX0_sheet 42 = .ok (.iload_n 3, 1) := dk_29 (dk_at dksX0_sheet_1 20 rfl rfl)
theorem dX0_sheet_43 : decode cX0_sheet 43 = .ok (.ireturn, 1) := dk_172 (dk_at dksX0_sheet_1 21 rfl rfl)
theorem dX0_sheet_44 : decode cX0_sheet 44 = .ok (.astore 4, 2) := dk_58 4 (dk_at dksX0_sheet_1 22 rfl rfl)
theorem dX0_sheet_46 : decode cX0_sheet 46 = .ok (.aload_n 0, 1) := dk_42 (dk_at dksX0_sheet_2 0 rfl rfl)
theorem dX0_sheet_47 : decode cX0_sheet 47 = .ok (.iconst 5, 1) := dk_8 (dk_at dksX0_sheet_2 1 rfl rfl)
theorem dX0_sheet_48 : decode cX0_sheet 48 = .ok (.invokevirtual 178, 3) := dk_182 0 178 (dk_at dksX0_sheet_2 2 rfl rfl)
theorem dX0_sheet_51 : decode cX0_sheet 51 = .ok (.ireturn, 1) := dk_172 (dk_at dksX0_sheet_2 5 rfl rfl)
abbrev cX0_rowOf : ByteArray := prog_1_method_74_code
def yX0_rowOf : MethodName := ⟨RX0, "rowOf", "(II)Ljava/lang/Object;"⟩
def dkwX0_rowOf_2 : List UInt8 := [27, 188, 8, 176, 27, 188, 9, 176, 27, 188, 10, 176]
abbrev dktX0_rowOf_2 : List UInt8 := dkwX0_rowOf_2 ++ []
def dkwX0_rowOf_1 : List UInt8 := [171, 0, 0, 0, 0, 0, 35, 0, 0, 0, 2, 0, 0, 0, 0, 0, 0, 0, 27, 0, 0, 0, 1, 0, 0, 0, 31]
abbrev dktX0_rowOf_1 : List UInt8 := dkwX0_rowOf_1 ++ dktX0_rowOf_2
def dkwX0_rowOf_0 : List UInt8 := [26]
abbrev dktX0_rowOf_0 : List UInt8 := dkwX0_rowOf_0 ++ dktX0_rowOf_1
theorem dksX0_rowOf_0 : cX0_rowOf.data.toList.drop 0 = dktX0_rowOf_0 := by decide +kernel
theorem dksX0_rowOf_1 : cX0_rowOf.data.toList.drop 1 = dktX0_rowOf_1 := dk_seg dksX0_rowOf_0 1 rfl rfl
theorem dksX0_rowOf_2 : cX0_rowOf.data.toList.drop 28 = dktX0_rowOf_2 := dk_seg dksX0_rowOf_1 27 rfl rfl
theorem dX0_rowOf_0 : decode cX0_rowOf 0 = .ok (.iload_n 0, 1) := dk_26 (dk_at dksX0_rowOf_0 0 rfl rfl)
theorem dX0_rowOf_1 : decode cX0_rowOf 1 = .ok (.lookupswitch 35 #[(0, 27), (1, 31)], 27) := by decide +kernel
theorem dX0_rowOf_28 : decode cX0_rowOf 28 = .ok (.iload_n 1, 1) := dk_27 (dk_at dksX0_rowOf_2 0 rfl rfl)
theorem dX0_rowOf_29 : decode cX0_rowOf 29 = .ok (.newarray .byte, 2) := dk_188_8 (dk_at dksX0_rowOf_2 1 rfl rfl)
theorem dX0_rowOf_31 : decode cX0_rowOf 31 = .ok (.areturn, 1) := dk_176 (dk_at dksX0_rowOf_2 3 rfl rfl)
theorem dX0_rowOf_32 : decode cX0_rowOf 32 = .ok (.iload_n 1, 1) := dk_27 (dk_at dksX0_rowOf_2 4 rfl rfl)
theorem dX0_rowOf_33 : decode cX0_rowOf 33 = .ok (.newarray .short, 2) := dk_188_9 (dk_at dksX0_rowOf_2 5 rfl rfl)
theorem dX0_rowOf_35 : decode cX0_rowOf 35 = .ok (.areturn, 1) := dk_176 (dk_at dksX0_rowOf_2 7 rfl rfl)
theorem dX0_rowOf_36 : decode cX0_rowOf 36 = .ok (.iload_n 1, 1) := dk_27 (dk_at dksX0_rowOf_2 8 rfl rfl)
theorem dX0_rowOf_37 : decode cX0_rowOf 37 = .ok (.newarray .int, 2) := dk_188_10 (dk_at dksX0_rowOf_2 9 rfl rfl)
theorem dX0_rowOf_39 : decode cX0_rowOf 39 = .ok (.areturn, 1) := dk_176 (dk_at dksX0_rowOf_2 11 rfl rfl)
abbrev cX0_lose : ByteArray := prog_1_method_76_code
def yX0_lose : MethodName := ⟨RX0, "lose", "(I)I"⟩
def dkwX0_lose_2 : List UInt8 := [28, 172]
abbrev dktX0_lose_2 : List UInt8 := dkwX0_lose_2 ++ []
def dkwX0_lose_1 : List UInt8 := [182, 0, 178, 172, 42, 180, 0, 84, 27, 50, 182, 0, 181, 61, 42, 180, 0, 84, 27, 50, 1, 181, 0, 174]
abbrev dktX0_lose_1 : List UInt8 := dkwX0_lose_1 ++ dktX0_lose_2
def dkwX0_lose_0 : List UInt8 := [27, 184, 0, 171, 154, 0, 6, 16, 254, 172, 42, 180, 0, 84, 27, 50, 180, 0, 174, 199, 0, 9, 42, 4]
abbrev dktX0_lose_0 : List UInt8 := dkwX0_lose_0 ++ dktX0_lose_1
theorem dksX0_lose_0 : cX0_lose.data.toList.drop 0 = dktX0_lose_0 := by decide +kernel
theorem dksX0_lose_1 : cX0_lose.data.toList.drop 24 = dktX0_lose_1 := dk_seg dksX0_lose_0 24 rfl rfl
theorem dksX0_lose_2 : cX0_lose.data.toList.drop 48 = dktX0_lose_2 := dk_seg dksX0_lose_1 24 rfl rfl
theorem dX0_lose_0 : decode cX0_lose 0 = .ok (.iload_n 1, 1) := dk_27 (dk_at dksX0_lose_0 0 rfl rfl)
theorem dX0_lose_1 : decode cX0_lose 1 = .ok (.invokestatic 171, 3) := dk_184 0 171 (dk_at dksX0_lose_0 1 rfl rfl)
theorem dX0_lose_4 : decode cX0_lose 4 = .ok (.ifCond .ne 6, 3) := dk_154 0 6 (dk_at dksX0_lose_0 4 rfl rfl)
theorem dX0_lose_7 : decode cX0_lose 7 = .ok (.bipush (-2), 2) := dk_16 254 (dk_at dksX0_lose_0 7 rfl rfl)
theorem dX0_lose_9 : decode cX0_lose 9 = .ok (.ireturn, 1) := dk_172 (dk_at dksX0_lose_0 9 rfl rfl)
theorem dX0_lose_10 : decode cX0_lose 10 = .ok (.aload_n 0, 1) := dk_42 (dk_at dksX0_lose_0 10 rfl rfl)
theorem dX0_lose_11 : decode cX0_lose 11 = .ok (.getfield 84, 3) := dk_180 0 84 (dk_at dksX0_lose_0 11 rfl rfl)
theorem dX0_lose_14 : decode cX0_lose 14 = .ok (.iload_n 1, 1) := dk_27 (dk_at dksX0_lose_0 14 rfl rfl)
theorem dX0_lose_15 : decode cX0_lose 15 = .ok (.aaload, 1) := dk_50 (dk_at dksX0_lose_0 15 rfl rfl)
theorem dX0_lose_16 : decode cX0_lose 16 = .ok (.getfield 174, 3) := dk_180 0 174 (dk_at dksX0_lose_0 16 rfl rfl)
theorem dX0_lose_19 : decode cX0_lose 19 = .ok (.ifnonnull 9, 3) := dk_199 0 9 (dk_at dksX0_lose_0 19 rfl rfl)
theorem dX0_lose_22 : decode cX0_lose 22 = .ok (.aload_n 0, 1) := dk_42 (dk_at dksX0_lose_0 22 rfl rfl)
theorem dX0_lose_23 : decode cX0_lose 23 = .ok (.iconst 1, 1) := dk_4 (dk_at dksX0_lose_0 23 rfl rfl)
theorem dX0_lose_24 : decode cX0_lose 24 = .ok (.invokevirtual 178, 3) := dk_182 0 178 (dk_at dksX0_lose_1 0 rfl rfl)
theorem dX0_lose_27 : decode cX0_lose 27 = .ok (.ireturn, 1) := dk_172 (dk_at dksX0_lose_1 3 rfl rfl)
theorem dX0_lose_28 : decode cX0_lose 28 = .ok (.aload_n 0, 1) := dk_42 (dk_at dksX0_lose_1 4 rfl rfl)
theorem dX0_lose_29 : decode cX0_lose 29 = .ok (.getfield 84, 3) := dk_180 0 84 (dk_at dksX0_lose_1 5 rfl rfl)
theorem dX0_lose_32 : decode cX0_lose 32 = .ok (.iload_n 1, 1) := dk_27 (dk_at dksX0_lose_1 8 rfl rfl)
theorem dX0_lose_33 : decode cX0_lose 33 = .ok (.aaload, 1) := dk_50 (dk_at dksX0_lose_1 9 rfl rfl)
theorem dX0_lose_34 : decode cX0_lose 34 = .ok (.invokevirtual 181, 3) := dk_182 0 181 (dk_at dksX0_lose_1 10 rfl rfl)
theorem dX0_lose_37 : decode cX0_lose 37 = .ok (.istore_n 2, 1) := dk_61 (dk_at dksX0_lose_1 13 rfl rfl)
theorem dX0_lose_38 : decode cX0_lose 38 = .ok (.aload_n 0, 1) := dk_42 (dk_at dksX0_lose_1 14 rfl rfl)
theorem dX0_lose_39 : decode cX0_lose 39 = .ok (.getfield 84, 3) := dk_180 0 84 (dk_at dksX0_lose_1 15 rfl rfl)
theorem dX0_lose_42 : decode cX0_lose 42 = .ok (.iload_n 1, 1) := dk_27 (dk_at dksX0_lose_1 18 rfl rfl)
theorem dX0_lose_43 : decode cX0_lose 43 = .ok (.aaload, 1) := dk_50 (dk_at dksX0_lose_1 19 rfl rfl)
theorem dX0_lose_44 : decode cX0_lose 44 = .ok (.aconst_null, 1) := dk_1 (dk_at dksX0_lose_1 20 rfl rfl)
theorem dX0_lose_45 : decode cX0_lose 45 = .ok (.putfield 174, 3) := dk_181 0 174 (dk_at dksX0_lose_1 21 rfl rfl)
theorem dX0_lose_48 : decode cX0_lose 48 = .ok (.iload_n 2, 1) := dk_28 (dk_at dksX0_lose_2 0 rfl rfl)
theorem dX0_lose_49 : decode cX0_lose 49 = .ok (.ireturn, 1) := dk_172 (dk_at dksX0_lose_2 1 rfl rfl)
abbrev cX0_put : ByteArray := prog_1_method_77_code
def yX0_put : MethodName := ⟨RX0, "put", "(IIII)I"⟩
def dkwX0_put_2 : List UInt8 := [29, 21, 4, 182, 1, 155, 4, 172, 58, 5, 42, 6, 182, 0, 178, 172, 58, 5, 42, 5, 182, 0, 178, 172]
abbrev dktX0_put_2 : List UInt8 := dkwX0_put_2 ++ []
def dkwX0_put_1 : List UInt8 := [180, 0, 84, 27, 50, 180, 0, 174, 199, 0, 9, 42, 4, 182, 0, 178, 172, 42, 180, 0, 84, 27, 50, 28]
abbrev dktX0_put_1 : List UInt8 := dkwX0_put_1 ++ dktX0_put_2
def dkwX0_put_0 : List UInt8 := [27, 184, 0, 171, 153, 0, 15, 28, 133, 9, 20, 0, 136, 184, 0, 95, 154, 0, 6, 16, 254, 172, 42]
abbrev dktX0_put_0 : List UInt8 := dkwX0_put_0 ++ dktX0_put_1
theorem dksX0_put_0 : cX0_put.data.toList.drop 0 = dktX0_put_0 := by decide +kernel
theorem dksX0_put_1 : cX0_put.data.toList.drop 23 = dktX0_put_1 := dk_seg dksX0_put_0 23 rfl rfl
theorem dksX0_put_2 : cX0_put.data.toList.drop 47 = dktX0_put_2 := dk_seg dksX0_put_1 24 rfl rfl
theorem dX0_put_0 : decode cX0_put 0 = .ok (.iload_n 1, 1) := dk_27 (dk_at dksX0_put_0 0 rfl rfl)
theorem dX0_put_1 : decode cX0_put 1 = .ok (.invokestatic 171, 3) := dk_184 0 171 (dk_at dksX0_put_0 1 rfl rfl)
theorem dX0_put_4 : decode cX0_put 4 = .ok (.ifCond .eq 15, 3) := dk_153 0 15 (dk_at dksX0_put_0 4 rfl rfl)
theorem dX0_put_7 : decode cX0_put 7 = .ok (.iload_n 2, 1) := dk_28 (dk_at dksX0_put_0 7 rfl rfl)
theorem dX0_put_8 : decode cX0_put 8 = .ok (.i2l, 1) := dk_133 (dk_at dksX0_put_0 8 rfl rfl)
theorem dX0_put_9 : decode cX0_put 9 = .ok (.lconst 0, 1) := dk_9 (dk_at dksX0_put_0 9 rfl rfl)
theorem dX0_put_10 : decode cX0_put 10 = .ok (.ldc2_w 136, 3) := dk_20 0 136 (dk_at dksX0_put_0 10 rfl rfl)
theorem dX0_put_13 : decode cX0_put 13 = .ok (.invokestatic 95, 3) := dk_184 0 95 (dk_at dksX0_put_0 13 rfl rfl)
theorem dX0_put_16 : decode cX0_put 16 = .ok (.ifCond .ne 6, 3) := dk_154 0 6 (dk_at dksX0_put_0 16 rfl rfl)
theorem dX0_put_19 : decode cX0_put 19 = .ok (.bipush (-2), 2) := dk_16 254 (dk_at dksX0_put_0 19 rfl rfl)
theorem dX0_put_21 : decode cX0_put 21 = .ok (.ireturn, 1) := dk_172 (dk_at dksX0_put_0 21 rfl rfl)
theorem dX0_put_22 : decode cX0_put 22 = .ok (.aload_n 0, 1) := dk_42 (dk_at dksX0_put_0 22 rfl rfl)
theorem dX0_put_23 : decode cX0_put 23 = .ok (.getfield 84, 3) := dk_180 0 84 (dk_at dksX0_put_1 0 rfl rfl)
theorem dX0_put_26 : decode cX0_put 26 = .ok (.iload_n 1, 1) := dk_27 (dk_at dksX0_put_1 3 rfl rfl)
theorem dX0_put_27 : decode cX0_put 27 = .ok (.aaload, 1) := dk_50 (dk_at dksX0_put_1 4 rfl rfl)
theorem dX0_put_28 : decode cX0_put 28 = .ok (.getfield 174, 3) := dk_180 0 174 (dk_at dksX0_put_1 5 rfl rfl)
theorem dX0_put_31 : decode cX0_put 31 = .ok (.ifnonnull 9, 3) := dk_199 0 9 (dk_at dksX0_put_1 8 rfl rfl)
theorem dX0_put_34 : decode cX0_put 34 = .ok (.aload_n 0, 1) := dk_42 (dk_at dksX0_put_1 11 rfl rfl)
theorem dX0_put_35 : decode cX0_put 35 = .ok (.iconst 1, 1) := dk_4 (dk_at dksX0_put_1 12 rfl rfl)
theorem dX0_put_36 : decode cX0_put 36 = .ok (.invokevirtual 178, 3) := dk_182 0 178 (dk_at dksX0_put_1 13 rfl rfl)
theorem dX0_put_39 : decode cX0_put 39 = .ok (.ireturn, 1) := dk_172 (dk_at dksX0_put_1 16 rfl rfl)
theorem dX0_put_40 : decode cX0_put 40 = .ok (.aload_n 0, 1) := dk_42 (dk_at dksX0_put_1 17 rfl rfl)
theorem dX0_put_41 : decode cX0_put 41 = .ok (.getfield 84, 3) := dk_180 0 84 (dk_at dksX0_put_1 18 rfl rfl)
theorem dX0_put_44 : decode cX0_put 44 = .ok (.iload_n 1, 1) := dk_27 (dk_at dksX0_put_1 21 rfl rfl)
theorem dX0_put_45 : decode cX0_put 45 = .ok (.aaload, 1) := dk_50 (dk_at dksX0_put_1 22 rfl rfl)
theorem dX0_put_46 : decode cX0_put 46 = .ok (.iload_n 2, 1) := dk_28 (dk_at dksX0_put_1 23 rfl rfl)
theorem dX0_put_47 : decode cX0_put 47 = .ok (.iload_n 3, 1) := dk_29 (dk_at dksX0_put_2 0 rfl rfl)
theorem dX0_put_48 : decode cX0_put 48 = .ok (.iload 4, 2) := dk_21 4 (dk_at dksX0_put_2 1 rfl rfl)
theorem dX0_put_50 : decode cX0_put 50 = .ok (.invokevirtual 411, 3) := dk_182 1 155 (dk_at dksX0_put_2 3 rfl rfl)
theorem dX0_put_53 : decode cX0_put 53 = .ok (.iconst 1, 1) := dk_4 (dk_at dksX0_put_2 6 rfl rfl)
theorem dX0_put_54 : decode cX0_put 54 = .ok (.ireturn, 1) := dk_172 (dk_at dksX0_put_2 7 rfl rfl)
theorem dX0_put_55 : decode cX0_put 55 = .ok (.astore 5, 2) := dk_58 5 (dk_at dksX0_put_2 8 rfl rfl)
theorem dX0_put_57 : decode cX0_put 57 = .ok (.aload_n 0, 1) := dk_42 (dk_at dksX0_put_2 10 rfl rfl)
theorem dX0_put_58 : decode cX0_put 58 = .ok (.iconst 3, 1) := dk_6 (dk_at dksX0_put_2 11 rfl rfl)
theorem dX0_put_59 : decode cX0_put 59 = .ok (.invokevirtual 178, 3) := dk_182 0 178 (dk_at dksX0_put_2 12 rfl rfl)
theorem dX0_put_62 : decode cX0_put 62 = .ok (.ireturn, 1) := dk_172 (dk_at dksX0_put_2 15 rfl rfl)
theorem dX0_put_63 : decode cX0_put 63 = .ok (.astore 5, 2) := dk_58 5 (dk_at dksX0_put_2 16 rfl rfl)
theorem dX0_put_65 : decode cX0_put 65 = .ok (.aload_n 0, 1) := dk_42 (dk_at dksX0_put_2 18 rfl rfl)
theorem dX0_put_66 : decode cX0_put 66 = .ok (.iconst 2, 1) := dk_5 (dk_at dksX0_put_2 19 rfl rfl)
theorem dX0_put_67 : decode cX0_put 67 = .ok (.invokevirtual 178, 3) := dk_182 0 178 (dk_at dksX0_put_2 20 rfl rfl)
theorem dX0_put_70 : decode cX0_put 70 = .ok (.ireturn, 1) := dk_172 (dk_at dksX0_put_2 23 rfl rfl)
abbrev cX0_get : ByteArray := prog_1_method_78_code
def yX0_get : MethodName := ⟨RX0, "get", "(III)I"⟩
def dkwX0_get_2 : List UInt8 := [29, 182, 0, 184, 172, 58, 4, 42, 6, 182, 1, 163, 172, 58, 4, 42, 5, 182, 1, 163, 172]
abbrev dktX0_get_2 : List UInt8 := dkwX0_get_2 ++ []
def dkwX0_get_1 : List UInt8 := [180, 0, 84, 27, 50, 180, 0, 174, 199, 0, 9, 42, 4, 182, 1, 163, 172, 42, 180, 0, 84, 27, 50, 28]
abbrev dktX0_get_1 : List UInt8 := dkwX0_get_1 ++ dktX0_get_2
def dkwX0_get_0 : List UInt8 := [27, 184, 0, 171, 153, 0, 15, 28, 133, 9, 20, 0, 136, 184, 0, 95, 154, 0, 6, 18, 94, 172, 42]
abbrev dktX0_get_0 : List UInt8 := dkwX0_get_0 ++ dktX0_get_1
theorem dksX0_get_0 : cX0_get.data.toList.drop 0 = dktX0_get_0 := by decide +kernel
theorem dksX0_get_1 : cX0_get.data.toList.drop 23 = dktX0_get_1 := dk_seg dksX0_get_0 23 rfl rfl
theorem dksX0_get_2 : cX0_get.data.toList.drop 47 = dktX0_get_2 := dk_seg dksX0_get_1 24 rfl rfl
theorem dX0_get_0 : decode cX0_get 0 = .ok (.iload_n 1, 1) := dk_27 (dk_at dksX0_get_0 0 rfl rfl)
theorem dX0_get_1 : decode cX0_get 1 = .ok (.invokestatic 171, 3) := dk_184 0 171 (dk_at dksX0_get_0 1 rfl rfl)
theorem dX0_get_4 : decode cX0_get 4 = .ok (.ifCond .eq 15, 3) := dk_153 0 15 (dk_at dksX0_get_0 4 rfl rfl)
theorem dX0_get_7 : decode cX0_get 7 = .ok (.iload_n 2, 1) := dk_28 (dk_at dksX0_get_0 7 rfl rfl)
theorem dX0_get_8 : decode cX0_get 8 = .ok (.i2l, 1) := dk_133 (dk_at dksX0_get_0 8 rfl rfl)
theorem dX0_get_9 : decode cX0_get 9 = .ok (.lconst 0, 1) := dk_9 (dk_at dksX0_get_0 9 rfl rfl)
theorem dX0_get_10 : decode cX0_get 10 = .ok (.ldc2_w 136, 3) := dk_20 0 136 (dk_at dksX0_get_0 10 rfl rfl)
theorem dX0_get_13 : decode cX0_get 13 = .ok (.invokestatic 95, 3) := dk_184 0 95 (dk_at dksX0_get_0 13 rfl rfl)
theorem dX0_get_16 : decode cX0_get 16 = .ok (.ifCond .ne 6, 3) := dk_154 0 6 (dk_at dksX0_get_0 16 rfl rfl)
theorem dX0_get_19 : decode cX0_get 19 = .ok (.ldc 94, 2) := dk_18 94 (dk_at dksX0_get_0 19 rfl rfl)
theorem dX0_get_21 : decode cX0_get 21 = .ok (.ireturn, 1) := dk_172 (dk_at dksX0_get_0 21 rfl rfl)
theorem dX0_get_22 : decode cX0_get 22 = .ok (.aload_n 0, 1) := dk_42 (dk_at dksX0_get_0 22 rfl rfl)
theorem dX0_get_23 : decode cX0_get 23 = .ok (.getfield 84, 3) := dk_180 0 84 (dk_at dksX0_get_1 0 rfl rfl)
theorem dX0_get_26 : decode cX0_get 26 = .ok (.iload_n 1, 1) := dk_27 (dk_at dksX0_get_1 3 rfl rfl)
theorem dX0_get_27 : decode cX0_get 27 = .ok (.aaload, 1) := dk_50 (dk_at dksX0_get_1 4 rfl rfl)
theorem dX0_get_28 : decode cX0_get 28 = .ok (.getfield 174, 3) := dk_180 0 174 (dk_at dksX0_get_1 5 rfl rfl)
theorem dX0_get_31 : decode cX0_get 31 = .ok (.ifnonnull 9, 3) := dk_199 0 9 (dk_at dksX0_get_1 8 rfl rfl)
theorem dX0_get_34 : decode cX0_get 34 = .ok (.aload_n 0, 1) := dk_42 (dk_at dksX0_get_1 11 rfl rfl)
theorem dX0_get_35 : decode cX0_get 35 = .ok (.iconst 1, 1) := dk_4 (dk_at dksX0_get_1 12 rfl rfl)
theorem dX0_get_36 : decode cX0_get 36 = .ok (.invokevirtual 419, 3) := dk_182 1 163 (dk_at dksX0_get_1 13 rfl rfl)
theorem dX0_get_39 : decode cX0_get 39 = .ok (.ireturn, 1) := dk_172 (dk_at dksX0_get_1 16 rfl rfl)
theorem dX0_get_40 : decode cX0_get 40 = .ok (.aload_n 0, 1) := dk_42 (dk_at dksX0_get_1 17 rfl rfl)
theorem dX0_get_41 : decode cX0_get 41 = .ok (.getfield 84, 3) := dk_180 0 84 (dk_at dksX0_get_1 18 rfl rfl)
theorem dX0_get_44 : decode cX0_get 44 = .ok (.iload_n 1, 1) := dk_27 (dk_at dksX0_get_1 21 rfl rfl)
theorem dX0_get_45 : decode cX0_get 45 = .ok (.aaload, 1) := dk_50 (dk_at dksX0_get_1 22 rfl rfl)
theorem dX0_get_46 : decode cX0_get 46 = .ok (.iload_n 2, 1) := dk_28 (dk_at dksX0_get_1 23 rfl rfl)
theorem dX0_get_47 : decode cX0_get 47 = .ok (.iload_n 3, 1) := dk_29 (dk_at dksX0_get_2 0 rfl rfl)
theorem dX0_get_48 : decode cX0_get 48 = .ok (.invokevirtual 184, 3) := dk_182 0 184 (dk_at dksX0_get_2 1 rfl rfl)
theorem dX0_get_51 : decode cX0_get 51 = .ok (.ireturn, 1) := dk_172 (dk_at dksX0_get_2 4 rfl rfl)
theorem dX0_get_52 : decode cX0_get 52 = .ok (.astore 4, 2) := dk_58 4 (dk_at dksX0_get_2 5 rfl rfl)
theorem dX0_get_54 : decode cX0_get 54 = .ok (.aload_n 0, 1) := dk_42 (dk_at dksX0_get_2 7 rfl rfl)
theorem dX0_get_55 : decode cX0_get 55 = .ok (.iconst 3, 1) := dk_6 (dk_at dksX0_get_2 8 rfl rfl)
theorem dX0_get_56 : decode cX0_get 56 = .ok (.invokevirtual 419, 3) := dk_182 1 163 (dk_at dksX0_get_2 9 rfl rfl)
theorem dX0_get_59 : decode cX0_get 59 = .ok (.ireturn, 1) := dk_172 (dk_at dksX0_get_2 12 rfl rfl)
theorem dX0_get_60 : decode cX0_get 60 = .ok (.astore 4, 2) := dk_58 4 (dk_at dksX0_get_2 13 rfl rfl)
theorem dX0_get_62 : decode cX0_get 62 = .ok (.aload_n 0, 1) := dk_42 (dk_at dksX0_get_2 15 rfl rfl)
theorem dX0_get_63 : decode cX0_get 63 = .ok (.iconst 2, 1) := dk_5 (dk_at dksX0_get_2 16 rfl rfl)
theorem dX0_get_64 : decode cX0_get 64 = .ok (.invokevirtual 419, 3) := dk_182 1 163 (dk_at dksX0_get_2 17 rfl rfl)
theorem dX0_get_67 : decode cX0_get 67 = .ok (.ireturn, 1) := dk_172 (dk_at dksX0_get_2 20 rfl rfl)
abbrev cX0_lowest : ByteArray := prog_1_method_5_code
def yX0_lowest : MethodName := ⟨RX0, "lowest", "(I)I"⟩
def dkwX0_lowest_0 : List UInt8 := [42, 27, 181, 0, 90, 18, 94, 172]
abbrev dktX0_lowest_0 : List UInt8 := dkwX0_lowest_0 ++ []
theorem dksX0_lowest_0 : cX0_lowest.data.toList.drop 0 = dktX0_lowest_0 := by decide +kernel
theorem dX0_lowest_0 : decode cX0_lowest 0 = .ok (.aload_n 0, 1) := dk_42 (dk_at dksX0_lowest_0 0 rfl rfl)
theorem dX0_lowest_1 : decode cX0_lowest 1 = .ok (.iload_n 1, 1) := dk_27 (dk_at dksX0_lowest_0 1 rfl rfl)
theorem dX0_lowest_2 : decode cX0_lowest 2 = .ok (.putfield 90, 3) := dk_181 0 90 (dk_at dksX0_lowest_0 2 rfl rfl)
theorem dX0_lowest_5 : decode cX0_lowest 5 = .ok (.ldc 94, 2) := dk_18 94 (dk_at dksX0_lowest_0 5 rfl rfl)
theorem dX0_lowest_7 : decode cX0_lowest 7 = .ok (.ireturn, 1) := dk_172 (dk_at dksX0_lowest_0 7 rfl rfl)
abbrev cX0_copy : ByteArray := prog_1_method_79_code
def yX0_copy : MethodName := ⟨RX0, "copy", "(IIIII)I"⟩
def dkwX0_copy_4 : List UInt8 := [21, 4, 21, 5, 184, 1, 166, 4, 172, 58, 6, 42, 5, 182, 0, 178, 172]
abbrev dktX0_copy_4 : List UInt8 := dkwX0_copy_4 ++ []
def dkwX0_copy_3 : List UInt8 := [182, 0, 178, 172, 42, 180, 0, 84, 27, 50, 180, 0, 174, 28, 42, 180, 0, 84, 29, 50, 180, 0, 174]
abbrev dktX0_copy_3 : List UInt8 := dkwX0_copy_3 ++ dktX0_copy_4
def dkwX0_copy_2 : List UInt8 := [42, 180, 0, 84, 27, 50, 182, 0, 182, 42, 180, 0, 84, 29, 50, 182, 0, 182, 159, 0, 9, 42, 7]
abbrev dktX0_copy_2 : List UInt8 := dkwX0_copy_2 ++ dktX0_copy_3
def dkwX0_copy_1 : List UInt8 := [180, 0, 174, 198, 0, 15, 42, 180, 0, 84, 29, 50, 180, 0, 174, 199, 0, 9, 42, 4, 182, 0, 178, 172]
abbrev dktX0_copy_1 : List UInt8 := dkwX0_copy_1 ++ dktX0_copy_2
def dkwX0_copy_0 : List UInt8 := [27, 184, 0, 171, 153, 0, 10, 29, 184, 0, 171, 154, 0, 6, 16, 254, 172, 42, 180, 0, 84, 27, 50]
abbrev dktX0_copy_0 : List UInt8 := dkwX0_copy_0 ++ dktX0_copy_1
theorem dksX0_copy_0 : cX0_copy.data.toList.drop 0 = dktX0_copy_0 := by decide +kernel
theorem dksX0_copy_1 : cX0_copy.data.toList.drop 23 = dktX0_copy_1 := dk_seg dksX0_copy_0 23 rfl rfl
theorem dksX0_copy_2 : cX0_copy.data.toList.drop 47 = dktX0_copy_2 := dk_seg dksX0_copy_1 24 rfl rfl
theorem dksX0_copy_3 : cX0_copy.data.toList.drop 70 = dktX0_copy_3 := dk_seg dksX0_copy_2 23 rfl rfl
theorem dksX0_copy_4 : cX0_copy.data.toList.drop 93 = dktX0_copy_4 := dk_seg dksX0_copy_3 23 rfl rfl
theorem dX0_copy_0 : decode cX0_copy 0 = .ok (.iload_n 1, 1) := dk_27 (dk_at dksX0_copy_0 0 rfl rfl)
theorem dX0_copy_1 : decode cX0_copy 1 = .ok (.invokestatic 171, 3) := dk_184 0 171 (dk_at dksX0_copy_0 1 rfl rfl)
theorem dX0_copy_4 : decode cX0_copy 4 = .ok (.ifCond .eq 10, 3) := dk_153 0 10 (dk_at dksX0_copy_0 4 rfl rfl)
theorem dX0_copy_7 : decode cX0_copy 7 = .ok (.iload_n 3, 1) := dk_29 (dk_at dksX0_copy_0 7 rfl rfl)
theorem dX0_copy_8 : decode cX0_copy 8 = .ok (.invokestatic 171, 3) := dk_184 0 171 (dk_at dksX0_copy_0 8 rfl rfl)
theorem dX0_copy_11 : decode cX0_copy 11 = .ok (.ifCond .ne 6, 3) := dk_154 0 6 (dk_at dksX0_copy_0 11 rfl rfl)
theorem dX0_copy_14 : decode cX0_copy 14 = .ok (.bipush (-2), 2) := dk_16 254 (dk_at dksX0_copy_0 14 rfl rfl)
theorem dX0_copy_16 : decode cX0_copy 16 = .ok (.ireturn, 1) := dk_172 (dk_at dksX0_copy_0 16 rfl rfl)
theorem dX0_copy_17 : decode cX0_copy 17 = .ok (.aload_n 0, 1) := dk_42 (dk_at dksX0_copy_0 17 rfl rfl)
theorem dX0_copy_18 : decode cX0_copy 18 = .ok (.getfield 84, 3) := dk_180 0 84 (dk_at dksX0_copy_0 18 rfl rfl)
theorem dX0_copy_21 : decode cX0_copy 21 = .ok (.iload_n 1, 1) := dk_27 (dk_at dksX0_copy_0 21 rfl rfl)
theorem dX0_copy_22 : decode cX0_copy 22 = .ok (.aaload, 1) := dk_50 (dk_at dksX0_copy_0 22 rfl rfl)
theorem dX0_copy_23 : decode cX0_copy 23 = .ok (.getfield 174, 3) := dk_180 0 174 (dk_at dksX0_copy_1 0 rfl rfl)
theorem dX0_copy_26 : decode cX0_copy 26 = .ok (.ifnull 15, 3) := dk_198 0 15 (dk_at dksX0_copy_1 3 rfl rfl)
theorem dX0_copy_29 : decode cX0_copy 29 = .ok (.aload_n 0, 1) := dk_42 (dk_at dksX0_copy_1 6 rfl rfl)
theorem dX0_copy_30 : decode cX0_copy 30 = .ok (.getfield 84, 3) := dk_180 0 84 (dk_at dksX0_copy_1 7 rfl rfl)
theorem dX0_copy_33 : decode cX0_copy 33 = .ok (.iload_n 3, 1) := dk_29 (dk_at dksX0_copy_1 10 rfl rfl)
theorem dX0_copy_34 : decode cX0_copy 34 = .ok (.aaload, 1) := dk_50 (dk_at dksX0_copy_1 11 rfl rfl)
theorem dX0_copy_35 : decode cX0_copy 35 = .ok (.getfield 174, 3) := dk_180 0 174 (dk_at dksX0_copy_1 12 rfl rfl)
theorem dX0_copy_38 : decode cX0_copy 38 = .ok (.ifnonnull 9, 3) := dk_199 0 9 (dk_at dksX0_copy_1 15 rfl rfl)
theorem dX0_copy_41 : decode cX0_copy 41 = .ok (.aload_n 0, 1) := dk_42 (dk_at dksX0_copy_1 18 rfl rfl)
theorem dX0_copy_42 : decode cX0_copy 42 = .ok (.iconst 1, 1) := dk_4 (dk_at dksX0_copy_1 19 rfl rfl)
theorem dX0_copy_43 : decode cX0_copy 43 = .ok (.invokevirtual 178, 3) := dk_182 0 178 (dk_at dksX0_copy_1 20 rfl rfl)
theorem dX0_copy_46 : decode cX0_copy 46 = .ok (.ireturn, 1) := dk_172 (dk_at dksX0_copy_1 23 rfl rfl)
theorem dX0_copy_47 : decode cX0_copy 47 = .ok (.aload_n 0, 1) := dk_42 (dk_at dksX0_copy_2 0 rfl rfl)
theorem dX0_copy_48 : decode cX0_copy 48 = .ok (.getfield 84, 3) := dk_180 0 84 (dk_at dksX0_copy_2 1 rfl rfl)
theorem dX0_copy_51 : decode cX0_copy 51 = .ok (.iload_n 1, 1) := dk_27 (dk_at dksX0_copy_2 4 rfl rfl)
theorem dX0_copy_52 : decode cX0_copy 52 = .ok (.aaload, 1) := dk_50 (dk_at dksX0_copy_2 5 rfl rfl)
theorem dX0_copy_53 : decode cX0_copy 53 = .ok (.invokevirtual 182, 3) := dk_182 0 182 (dk_at dksX0_copy_2 6 rfl rfl)
theorem dX0_copy_56 : decode cX0_copy 56 = .ok (.aload_n 0, 1) := dk_42 (dk_at dksX0_copy_2 9 rfl rfl)
theorem dX0_copy_57 : decode cX0_copy 57 = .ok (.getfield 84, 3) := dk_180 0 84 (dk_at dksX0_copy_2 10 rfl rfl)
theorem dX0_copy_60 : decode cX0_copy 60 = .ok (.iload_n 3, 1) := dk_29 (dk_at dksX0_copy_2 13 rfl rfl)
theorem dX0_copy_61 : decode cX0_copy 61 = .ok (.aaload, 1) := dk_50 (dk_at dksX0_copy_2 14 rfl rfl)
theorem dX0_copy_62 : decode cX0_copy 62 = .ok (.invokevirtual 182, 3) := dk_182 0 182 (dk_at dksX0_copy_2 15 rfl rfl)
theorem dX0_copy_65 : decode cX0_copy 65 = .ok (.if_icmp .eq 9, 3) := dk_159 0 9 (dk_at dksX0_copy_2 18 rfl rfl)
theorem dX0_copy_68 : decode cX0_copy 68 = .ok (.aload_n 0, 1) := dk_42 (dk_at dksX0_copy_2 21 rfl rfl)
theorem dX0_copy_69 : decode cX0_copy 69 = .ok (.iconst 4, 1) := dk_7 (dk_at dksX0_copy_2 22 rfl rfl)
theorem dX0_copy_70 : decode cX0_copy 70 = .ok (.invokevirtual 178, 3) := dk_182 0 178 (dk_at dksX0_copy_3 0 rfl rfl)
theorem dX0_copy_73 : decode cX0_copy 73 = .ok (.ireturn, 1) := dk_172 (dk_at dksX0_copy_3 3 rfl rfl)
theorem dX0_copy_74 : decode cX0_copy 74 = .ok (.aload_n 0, 1) := dk_42 (dk_at dksX0_copy_3 4 rfl rfl)
theorem dX0_copy_75 : decode cX0_copy 75 = .ok (.getfield 84, 3) := dk_180 0 84 (dk_at dksX0_copy_3 5 rfl rfl)
theorem dX0_copy_78 : decode cX0_copy 78 = .ok (.iload_n 1, 1) := dk_27 (dk_at dksX0_copy_3 8 rfl rfl)
theorem dX0_copy_79 : decode cX0_copy 79 = .ok (.aaload, 1) := dk_50 (dk_at dksX0_copy_3 9 rfl rfl)
theorem dX0_copy_80 : decode cX0_copy 80 = .ok (.getfield 174, 3) := dk_180 0 174 (dk_at dksX0_copy_3 10 rfl rfl)
theorem dX0_copy_83 : decode cX0_copy 83 = .ok (.iload_n 2, 1) := dk_28 (dk_at dksX0_copy_3 13 rfl rfl)
theorem dX0_copy_84 : decode cX0_copy 84 = .ok (.aload_n 0, 1) := dk_42 (dk_at dksX0_copy_3 14 rfl rfl)
theorem dX0_copy_85 : decode cX0_copy 85 = .ok (.getfield 84, 3) := dk_180 0 84 (dk_at dksX0_copy_3 15 rfl rfl)
theorem dX0_copy_88 : decode cX0_copy 88 = .ok (.iload_n 3, 1) := dk_29 (dk_at dksX0_copy_3 18 rfl rfl)
theorem dX0_copy_89 : decode cX0_copy 89 = .ok (.aaload, 1) := dk_50 (dk_at dksX0_copy_3 19 rfl rfl)
theorem dX0_copy_90 : decode cX0_copy 90 = .ok (.getfield 174, 3) := dk_180 0 174 (dk_at dksX0_copy_3 20 rfl rfl)
theorem dX0_copy_93 : decode cX0_copy 93 = .ok (.iload 4, 2) := dk_21 4 (dk_at dksX0_copy_4 0 rfl rfl)
theorem dX0_copy_95 : decode cX0_copy 95 = .ok (.iload 5, 2) := dk_21 5 (dk_at dksX0_copy_4 2 rfl rfl)
theorem dX0_copy_97 : decode cX0_copy 97 = .ok (.invokestatic 422, 3) := dk_184 1 166 (dk_at dksX0_copy_4 4 rfl rfl)
theorem dX0_copy_100 : decode cX0_copy 100 = .ok (.iconst 1, 1) := dk_4 (dk_at dksX0_copy_4 7 rfl rfl)
theorem dX0_copy_101 : decode cX0_copy 101 = .ok (.ireturn, 1) := dk_172 (dk_at dksX0_copy_4 8 rfl rfl)
theorem dX0_copy_102 : decode cX0_copy 102 = .ok (.astore 6, 2) := dk_58 6 (dk_at dksX0_copy_4 9 rfl rfl)
theorem dX0_copy_104 : decode cX0_copy 104 = .ok (.aload_n 0, 1) := dk_42 (dk_at dksX0_copy_4 11 rfl rfl)
theorem dX0_copy_105 : decode cX0_copy 105 = .ok (.iconst 2, 1) := dk_5 (dk_at dksX0_copy_4 12 rfl rfl)
theorem dX0_copy_106 : decode cX0_copy 106 = .ok (.invokevirtual 178, 3) := dk_182 0 178 (dk_at dksX0_copy_4 13 rfl rfl)
theorem dX0_copy_109 : decode cX0_copy 109 = .ok (.ireturn, 1) := dk_172 (dk_at dksX0_copy_4 16 rfl rfl)
abbrev cX0_write : ByteArray := prog_1_method_80_code
def yX0_write : MethodName := ⟨RX0, "write", "(II)I"⟩
def dkwX0_write_4 : List UInt8 := [21, 4, 172]
abbrev dktX0_write_4 : List UInt8 := dkwX0_write_4 ++ []
def dkwX0_write_3 : List UInt8 := [182, 0, 182, 21, 5, 42, 180, 0, 55, 21, 5, 50, 27, 46, 182, 1, 155, 132, 5, 1, 167, 255, 227]
abbrev dktX0_write_3 : List UInt8 := dkwX0_write_3 ++ dktX0_write_4
def dkwX0_write_2 : List UInt8 := [16, 24, 45, 182, 0, 181, 184, 0, 207, 54, 4, 3, 54, 5, 21, 5, 21, 4, 162, 0, 28, 45, 45]
abbrev dktX0_write_2 : List UInt8 := dkwX0_write_2 ++ dktX0_write_3
def dkwX0_write_1 : List UInt8 := [180, 0, 84, 28, 50, 78, 45, 180, 0, 174, 199, 0, 9, 42, 4, 182, 0, 178, 172, 42, 182, 1, 29]
abbrev dktX0_write_1 : List UInt8 := dkwX0_write_1 ++ dktX0_write_2
def dkwX0_write_0 : List UInt8 := [27, 133, 9, 20, 0, 136, 184, 0, 95, 153, 0, 10, 28, 184, 0, 171, 154, 0, 6, 16, 254, 172, 42]
abbrev dktX0_write_0 : List UInt8 := dkwX0_write_0 ++ dktX0_write_1
theorem dksX0_write_0 : cX0_write.data.toList.drop 0 = dktX0_write_0 := by decide +kernel
theorem dksX0_write_1 : cX0_write.data.toList.drop 23 = dktX0_write_1 := dk_seg dksX0_write_0 23 rfl rfl
theorem dksX0_write_2 : cX0_write.data.toList.drop 46 = dktX0_write_2 := dk_seg dksX0_write_1 23 rfl rfl
theorem dksX0_write_3 : cX0_write.data.toList.drop 69 = dktX0_write_3 := dk_seg dksX0_write_2 23 rfl rfl
theorem dksX0_write_4 : cX0_write.data.toList.drop 92 = dktX0_write_4 := dk_seg dksX0_write_3 23 rfl rfl
theorem dX0_write_0 : decode cX0_write 0 = .ok (.iload_n 1, 1) := dk_27 (dk_at dksX0_write_0 0 rfl rfl)
theorem dX0_write_1 : decode cX0_write 1 = .ok (.i2l, 1) := dk_133 (dk_at dksX0_write_0 1 rfl rfl)
theorem dX0_write_2 : decode cX0_write 2 = .ok (.lconst 0, 1) := dk_9 (dk_at dksX0_write_0 2 rfl rfl)
theorem dX0_write_3 : decode cX0_write 3 = .ok (.ldc2_w 136, 3) := dk_20 0 136 (dk_at dksX0_write_0 3 rfl rfl)
theorem dX0_write_6 : decode cX0_write 6 = .ok (.invokestatic 95, 3) := dk_184 0 95 (dk_at dksX0_write_0 6 rfl rfl)
theorem dX0_write_9 : decode cX0_write 9 = .ok (.ifCond .eq 10, 3) := dk_153 0 10 (dk_at dksX0_write_0 9 rfl rfl)
theorem dX0_write_12 : decode cX0_write 12 = .ok (.iload_n 2, 1) := dk_28 (dk_at dksX0_write_0 12 rfl rfl)
theorem dX0_write_13 : decode cX0_write 13 = .ok (.invokestatic 171, 3) := dk_184 0 171 (dk_at dksX0_write_0 13 rfl rfl)
theorem dX0_write_16 : decode cX0_write 16 = .ok (.ifCond .ne 6, 3) := dk_154 0 6 (dk_at dksX0_write_0 16 rfl rfl)
theorem dX0_write_19 : decode cX0_write 19 = .ok (.bipush (-2), 2) := dk_16 254 (dk_at dksX0_write_0 19 rfl rfl)
theorem dX0_write_21 : decode cX0_write 21 = .ok (.ireturn, 1) := dk_172 (dk_at dksX0_write_0 21 rfl rfl)
theorem dX0_write_22 : decode cX0_write 22 = .ok (.aload_n 0, 1) := dk_42 (dk_at dksX0_write_0 22 rfl rfl)
theorem dX0_write_23 : decode cX0_write 23 = .ok (.getfield 84, 3) := dk_180 0 84 (dk_at dksX0_write_1 0 rfl rfl)
theorem dX0_write_26 : decode cX0_write 26 = .ok (.iload_n 2, 1) := dk_28 (dk_at dksX0_write_1 3 rfl rfl)
theorem dX0_write_27 : decode cX0_write 27 = .ok (.aaload, 1) := dk_50 (dk_at dksX0_write_1 4 rfl rfl)
theorem dX0_write_28 : decode cX0_write 28 = .ok (.astore_n 3, 1) := dk_78 (dk_at dksX0_write_1 5 rfl rfl)
theorem dX0_write_29 : decode cX0_write 29 = .ok (.aload_n 3, 1) := dk_45 (dk_at dksX0_write_1 6 rfl rfl)
theorem dX0_write_30 : decode cX0_write 30 = .ok (.getfield 174, 3) := dk_180 0 174 (dk_at dksX0_write_1 7 rfl rfl)
theorem dX0_write_33 : decode cX0_write 33 = .ok (.ifnonnull 9, 3) := dk_199 0 9 (dk_at dksX0_write_1 10 rfl rfl)
theorem dX0_write_36 : decode cX0_write 36 = .ok (.aload_n 0, 1) := dk_42 (dk_at dksX0_write_1 13 rfl rfl)
theorem dX0_write_37 : decode cX0_write 37 = .ok (.iconst 1, 1) := dk_4 (dk_at dksX0_write_1 14 rfl rfl)
theorem dX0_write_38 : decode cX0_write 38 = .ok (.invokevirtual 178, 3) := dk_182 0 178 (dk_at dksX0_write_1 15 rfl rfl)
theorem dX0_write_41 : decode cX0_write 41 = .ok (.ireturn, 1) := dk_172 (dk_at dksX0_write_1 18 rfl rfl)
theorem dX0_write_42 : decode cX0_write 42 = .ok (.aload_n 0, 1) := dk_42 (dk_at dksX0_write_1 19 rfl rfl)
theorem dX0_write_43 : decode cX0_write 43 = .ok (.invokevirtual 285, 3) := dk_182 1 29 (dk_at dksX0_write_1 20 rfl rfl)
theorem dX0_write_46 : decode cX0_write 46 = .ok (.bipush 24, 2) := dk_16 24 (dk_at dksX0_write_2 0 rfl rfl)
theorem dX0_write_48 : decode cX0_write 48 = .ok (.aload_n 3, 1) := dk_45 (dk_at dksX0_write_2 2 rfl rfl)
theorem dX0_write_49 : decode cX0_write 49 = .ok (.invokevirtual 181, 3) := dk_182 0 181 (dk_at dksX0_write_2 3 rfl rfl)
theorem dX0_write_52 : decode cX0_write 52 = .ok (.invokestatic 207, 3) := dk_184 0 207 (dk_at dksX0_write_2 6 rfl rfl)
theorem dX0_write_55 : decode cX0_write 55 = .ok (.istore 4, 2) := dk_54 4 (dk_at dksX0_write_2 9 rfl rfl)
theorem dX0_write_57 : decode cX0_write 57 = .ok (.iconst 0, 1) := dk_3 (dk_at dksX0_write_2 11 rfl rfl)
theorem dX0_write_58 : decode cX0_write 58 = .ok (.istore 5, 2) := dk_54 5 (dk_at dksX0_write_2 12 rfl rfl)
theorem dX0_write_60 : decode cX0_write 60 = .ok (.iload 5, 2) := dk_21 5 (dk_at dksX0_write_2 14 rfl rfl)
theorem dX0_write_62 : decode cX0_write 62 = .ok (.iload 4, 2) := dk_21 4 (dk_at dksX0_write_2 16 rfl rfl)
theorem dX0_write_64 : decode cX0_write 64 = .ok (.if_icmp .ge 28, 3) := dk_162 0 28 (dk_at dksX0_write_2 18 rfl rfl)
theorem dX0_write_67 : decode cX0_write 67 = .ok (.aload_n 3, 1) := dk_45 (dk_at dksX0_write_2 21 rfl rfl)
theorem dX0_write_68 : decode cX0_write 68 = .ok (.aload_n 3, 1) := dk_45 (dk_at dksX0_write_2 22 rfl rfl)
theorem dX0_write_69 : decode cX0_write 69 = .ok (.invokevirtual 182, 3) := dk_182 0 182 (dk_at dksX0_write_3 0 rfl rfl)
theorem dX0_write_72 : decode cX0_write 72 = .ok (.iload 5, 2) := dk_21 5 (dk_at dksX0_write_3 3 rfl rfl)
theorem dX0_write_74 : decode cX0_write 74 = .ok (.aload_n 0, 1) := dk_42 (dk_at dksX0_write_3 5 rfl rfl)
theorem dX0_write_75 : decode cX0_write 75 = .ok (.getfield 55, 3) := dk_180 0 55 (dk_at dksX0_write_3 6 rfl rfl)
theorem dX0_write_78 : decode cX0_write 78 = .ok (.iload 5, 2) := dk_21 5 (dk_at dksX0_write_3 9 rfl rfl)
theorem dX0_write_80 : decode cX0_write 80 = .ok (.aaload, 1) := dk_50 (dk_at dksX0_write_3 11 rfl rfl)
theorem dX0_write_81 : decode cX0_write 81 = .ok (.iload_n 1, 1) := dk_27 (dk_at dksX0_write_3 12 rfl rfl)
theorem dX0_write_82 : decode cX0_write 82 = .ok (.iaload, 1) := dk_46 (dk_at dksX0_write_3 13 rfl rfl)
theorem dX0_write_83 : decode cX0_write 83 = .ok (.invokevirtual 411, 3) := dk_182 1 155 (dk_at dksX0_write_3 14 rfl rfl)
theorem dX0_write_86 : decode cX0_write 86 = .ok (.iinc 5 1, 3) := dk_132 5 1 (dk_at dksX0_write_3 17 rfl rfl)
theorem dX0_write_89 : decode cX0_write 89 = .ok (.goto (-29), 3) := dk_167 255 227 (dk_at dksX0_write_3 20 rfl rfl)
theorem dX0_write_92 : decode cX0_write 92 = .ok (.iload 4, 2) := dk_21 4 (dk_at dksX0_write_4 0 rfl rfl)
theorem dX0_write_94 : decode cX0_write 94 = .ok (.ireturn, 1) := dk_172 (dk_at dksX0_write_4 2 rfl rfl)
abbrev cX0_count : ByteArray := prog_1_method_81_code
def yX0_count : MethodName := ⟨RX0, "count", "(I)I"⟩
def dkwX0_count_4 : List UInt8 := [42, 180, 0, 66, 182, 0, 123, 172, 42, 180, 0, 90, 172, 16, 254, 172]
abbrev dktX0_count_4 : List UInt8 := dkwX0_count_4 ++ []
def dkwX0_count_3 : List UInt8 := [96, 172, 42, 180, 0, 47, 182, 0, 123, 172, 42, 180, 0, 237, 172, 42, 180, 0, 40, 27, 8, 100, 46, 172]
abbrev dktX0_count_3 : List UInt8 := dkwX0_count_3 ++ dktX0_count_4
def dkwX0_count_2 : List UInt8 := [42, 182, 0, 127, 172, 42, 182, 0, 130, 172, 42, 180, 0, 14, 182, 1, 174, 42, 180, 0, 23, 182, 1, 177]
abbrev dktX0_count_2 : List UInt8 := dkwX0_count_2 ++ dktX0_count_3
def dkwX0_count_1 : List UInt8 := [170, 0, 0, 0, 0, 0, 112, 0, 0, 0, 0, 0, 0, 0, 8, 0, 0, 0, 51, 0, 0, 0, 56, 0, 0, 0, 61, 0, 0, 0, 77, 0, 0, 0, 85, 0, 0, 0, 90, 0, 0, 0, 90, 0, 0, 0, 99, 0, 0, 0, 107]
abbrev dktX0_count_1 : List UInt8 := dkwX0_count_1 ++ dktX0_count_2
def dkwX0_count_0 : List UInt8 := [42, 182, 1, 29, 27]
abbrev dktX0_count_0 : List UInt8 := dkwX0_count_0 ++ dktX0_count_1
theorem dksX0_count_0 : cX0_count.data.toList.drop 0 = dktX0_count_0 := by decide +kernel
theorem dksX0_count_1 : cX0_count.data.toList.drop 5 = dktX0_count_1 := dk_seg dksX0_count_0 5 rfl rfl
theorem dksX0_count_2 : cX0_count.data.toList.drop 56 = dktX0_count_2 := dk_seg dksX0_count_1 51 rfl rfl
theorem dksX0_count_3 : cX0_count.data.toList.drop 80 = dktX0_count_3 := dk_seg dksX0_count_2 24 rfl rfl
theorem dksX0_count_4 : cX0_count.data.toList.drop 104 = dktX0_count_4 := dk_seg dksX0_count_3 24 rfl rfl
theorem dX0_count_0 : decode cX0_count 0 = .ok (.aload_n 0, 1) := dk_42 (dk_at dksX0_count_0 0 rfl rfl)
theorem dX0_count_1 : decode cX0_count 1 = .ok (.invokevirtual 285, 3) := dk_182 1 29 (dk_at dksX0_count_0 1 rfl rfl)
theorem dX0_count_4 : decode cX0_count 4 = .ok (.iload_n 1, 1) := dk_27 (dk_at dksX0_count_0 4 rfl rfl)
theorem dX0_count_5 : decode cX0_count 5 = .ok (.tableswitch 112 0 8 #[51, 56, 61, 77, 85, 90, 90, 99, 107], 51) := by decide +kernel
theorem dX0_count_56 : decode cX0_count 56 = .ok (.aload_n 0, 1) := dk_42 (dk_at dksX0_count_2 0 rfl rfl)
theorem dX0_count_57 : decode cX0_count 57 = .ok (.invokevirtual 127, 3) := dk_182 0 127 (dk_at dksX0_count_2 1 rfl rfl)
theorem dX0_count_60 : decode cX0_count 60 = .ok (.ireturn, 1) := dk_172 (dk_at dksX0_count_2 4 rfl rfl)
theorem dX0_count_61 : decode cX0_count 61 = .ok (.aload_n 0, 1) := dk_42 (dk_at dksX0_count_2 5 rfl rfl)
theorem dX0_count_62 : decode cX0_count 62 = .ok (.invokevirtual 130, 3) := dk_182 0 130 (dk_at dksX0_count_2 6 rfl rfl)
theorem dX0_count_65 : decode cX0_count 65 = .ok (.ireturn, 1) := dk_172 (dk_at dksX0_count_2 9 rfl rfl)
theorem dX0_count_66 : decode cX0_count 66 = .ok (.aload_n 0, 1) := dk_42 (dk_at dksX0_count_2 10 rfl rfl)
theorem dX0_count_67 : decode cX0_count 67 = .ok (.getfield 14, 3) := dk_180 0 14 (dk_at dksX0_count_2 11 rfl rfl)
theorem dX0_count_70 : decode cX0_count 70 = .ok (.invokevirtual 430, 3) := dk_182 1 174 (dk_at dksX0_count_2 14 rfl rfl)
theorem dX0_count_73 : decode cX0_count 73 = .ok (.aload_n 0, 1) := dk_42 (dk_at dksX0_count_2 17 rfl rfl)
theorem dX0_count_74 : decode cX0_count 74 = .ok (.getfield 23, 3) := dk_180 0 23 (dk_at dksX0_count_2 18 rfl rfl)
theorem dX0_count_77 : decode cX0_count 77 = .ok (.invokevirtual 433, 3) := dk_182 1 177 (dk_at dksX0_count_2 21 rfl rfl)
theorem dX0_count_80 : decode cX0_count 80 = .ok (.iadd, 1) := dk_96 (dk_at dksX0_count_3 0 rfl rfl)
theorem dX0_count_81 : decode cX0_count 81 = .ok (.ireturn, 1) := dk_172 (dk_at dksX0_count_3 1 rfl rfl)
theorem dX0_count_82 : decode cX0_count 82 = .ok (.aload_n 0, 1) := dk_42 (dk_at dksX0_count_3 2 rfl rfl)
theorem dX0_count_83 : decode cX0_count 83 = .ok (.getfield 47, 3) := dk_180 0 47 (dk_at dksX0_count_3 3 rfl rfl)
theorem dX0_count_86 : decode cX0_count 86 = .ok (.invokevirtual 123, 3) := dk_182 0 123 (dk_at dksX0_count_3 6 rfl rfl)
theorem dX0_count_89 : decode cX0_count 89 = .ok (.ireturn, 1) := dk_172 (dk_at dksX0_count_3 9 rfl rfl)
theorem dX0_count_90 : decode cX0_count 90 = .ok (.aload_n 0, 1) := dk_42 (dk_at dksX0_count_3 10 rfl rfl)
theorem dX0_count_91 : decode cX0_count 91 = .ok (.getfield 237, 3) := dk_180 0 237 (dk_at dksX0_count_3 11 rfl rfl)
theorem dX0_count_94 : decode cX0_count 94 = .ok (.ireturn, 1) := dk_172 (dk_at dksX0_count_3 14 rfl rfl)
theorem dX0_count_95 : decode cX0_count 95 = .ok (.aload_n 0, 1) := dk_42 (dk_at dksX0_count_3 15 rfl rfl)
theorem dX0_count_96 : decode cX0_count 96 = .ok (.getfield 40, 3) := dk_180 0 40 (dk_at dksX0_count_3 16 rfl rfl)
theorem dX0_count_99 : decode cX0_count 99 = .ok (.iload_n 1, 1) := dk_27 (dk_at dksX0_count_3 19 rfl rfl)
theorem dX0_count_100 : decode cX0_count 100 = .ok (.iconst 5, 1) := dk_8 (dk_at dksX0_count_3 20 rfl rfl)
theorem dX0_count_101 : decode cX0_count 101 = .ok (.isub, 1) := dk_100 (dk_at dksX0_count_3 21 rfl rfl)
theorem dX0_count_102 : decode cX0_count 102 = .ok (.iaload, 1) := dk_46 (dk_at dksX0_count_3 22 rfl rfl)
theorem dX0_count_103 : decode cX0_count 103 = .ok (.ireturn, 1) := dk_172 (dk_at dksX0_count_3 23 rfl rfl)
theorem dX0_count_104 : decode cX0_count 104 = .ok (.aload_n 0, 1) := dk_42 (dk_at dksX0_count_4 0 rfl rfl)
theorem dX0_count_105 : decode cX0_count 105 = .ok (.getfield 66, 3) := dk_180 0 66 (dk_at dksX0_count_4 1 rfl rfl)
theorem dX0_count_108 : decode cX0_count 108 = .ok (.invokevirtual 123, 3) := dk_182 0 123 (dk_at dksX0_count_4 4 rfl rfl)
theorem dX0_count_111 : decode cX0_count 111 = .ok (.ireturn, 1) := dk_172 (dk_at dksX0_count_4 7 rfl rfl)
theorem dX0_count_112 : decode cX0_count 112 = .ok (.aload_n 0, 1) := dk_42 (dk_at dksX0_count_4 8 rfl rfl)
theorem dX0_count_113 : decode cX0_count 113 = .ok (.getfield 90, 3) := dk_180 0 90 (dk_at dksX0_count_4 9 rfl rfl)
theorem dX0_count_116 : decode cX0_count 116 = .ok (.ireturn, 1) := dk_172 (dk_at dksX0_count_4 12 rfl rfl)
theorem dX0_count_117 : decode cX0_count 117 = .ok (.bipush (-2), 2) := dk_16 254 (dk_at dksX0_count_4 13 rfl rfl)
theorem dX0_count_119 : decode cX0_count 119 = .ok (.ireturn, 1) := dk_172 (dk_at dksX0_count_4 15 rfl rfl)
abbrev cX0_digest : ByteArray := prog_1_method_84_code
def yX0_digest : MethodName := ⟨RX0, "digest", "()J"⟩
def dkwX0_digest_16 : List UInt8 := [132, 3, 1, 167, 255, 231, 31, 173]
abbrev dktX0_digest_16 : List UInt8 := dkwX0_digest_16 ++ []
def dkwX0_digest_15 : List UInt8 := [3, 62, 29, 5, 162, 0, 26, 20, 1, 178, 31, 105, 42, 16, 7, 16, 6, 29, 182, 1, 144, 133, 97, 64]
abbrev dktX0_digest_15 : List UInt8 := dkwX0_digest_15 ++ dktX0_digest_16
def dkwX0_digest_14 : List UInt8 := [20, 1, 178, 31, 105, 42, 182, 1, 93, 133, 97, 64, 20, 1, 178, 31, 105, 42, 182, 1, 103, 133, 97, 64]
abbrev dktX0_digest_14 : List UInt8 := dkwX0_digest_14 ++ dktX0_digest_15
def dkwX0_digest_13 : List UInt8 := [182, 1, 84, 133, 97, 64, 132, 3, 1, 167, 255, 235, 20, 1, 178, 31, 105, 42, 182, 1, 90, 133, 97, 64]
abbrev dktX0_digest_13 : List UInt8 := dkwX0_digest_13 ++ dktX0_digest_14
def dkwX0_digest_12 : List UInt8 := [133, 97, 64, 132, 3, 1, 167, 255, 235, 2, 62, 29, 4, 162, 0, 22, 20, 1, 178, 31, 105, 42, 29]
abbrev dktX0_digest_12 : List UInt8 := dkwX0_digest_12 ++ dktX0_digest_13
def dkwX0_digest_11 : List UInt8 := [42, 182, 1, 54, 133, 97, 64, 3, 62, 29, 5, 162, 0, 22, 20, 1, 178, 31, 105, 42, 29, 182, 1, 69]
abbrev dktX0_digest_11 : List UInt8 := dkwX0_digest_11 ++ dktX0_digest_12
def dkwX0_digest_10 : List UInt8 := [20, 1, 178, 31, 105, 42, 29, 182, 1, 48, 133, 97, 64, 132, 3, 1, 167, 255, 235, 20, 1, 178, 31, 105]
abbrev dktX0_digest_10 : List UInt8 := dkwX0_digest_10 ++ dktX0_digest_11
def dkwX0_digest_9 : List UInt8 := [167, 255, 235, 20, 1, 178, 31, 105, 42, 182, 1, 45, 133, 97, 64, 3, 62, 29, 5, 162, 0, 22]
abbrev dktX0_digest_9 : List UInt8 := dkwX0_digest_9 ++ dktX0_digest_10
def dkwX0_digest_8 : List UInt8 := [62, 29, 8, 162, 0, 22, 20, 1, 178, 31, 105, 42, 29, 182, 1, 42, 133, 97, 64, 132, 3, 1]
abbrev dktX0_digest_8 : List UInt8 := dkwX0_digest_8 ++ dktX0_digest_9
def dkwX0_digest_7 : List UInt8 := [182, 0, 130, 162, 0, 16, 42, 31, 29, 182, 1, 189, 64, 132, 3, 1, 167, 255, 238, 42, 182, 1, 29, 3]
abbrev dktX0_digest_7 : List UInt8 := dkwX0_digest_7 ++ dktX0_digest_8
def dkwX0_digest_6 : List UInt8 := [180, 0, 122, 29, 182, 0, 138, 192, 0, 142, 182, 1, 185, 64, 132, 3, 1, 167, 255, 225, 3, 62, 29, 42]
abbrev dktX0_digest_6 : List UInt8 := dkwX0_digest_6 ++ dktX0_digest_7
def dkwX0_digest_5 : List UInt8 := [97, 64, 132, 3, 1, 167, 255, 200, 3, 62, 29, 42, 182, 0, 127, 162, 0, 29, 42, 31, 42, 180, 0, 14]
abbrev dktX0_digest_5 : List UInt8 := dkwX0_digest_5 ++ dktX0_digest_6
def dkwX0_digest_4 : List UInt8 := [21, 4, 46, 133, 97, 64, 132, 4, 1, 167, 255, 229, 20, 1, 178, 31, 105, 42, 180, 0, 58, 29, 46, 133]
abbrev dktX0_digest_4 : List UInt8 := dkwX0_digest_4 ++ dktX0_digest_5
def dkwX0_digest_3 : List UInt8 := [162, 0, 56, 3, 54, 4, 21, 4, 16, 6, 162, 0, 26, 20, 1, 178, 31, 105, 42, 180, 0, 55, 29, 50]
abbrev dktX0_digest_3 : List UInt8 := dkwX0_digest_3 ++ dktX0_digest_4
def dkwX0_digest_2 : List UInt8 := [50, 182, 0, 118, 133, 97, 64, 132, 3, 1, 167, 255, 231, 42, 182, 1, 29, 3, 62, 29, 16, 24]
abbrev dktX0_digest_2 : List UInt8 := dkwX0_digest_2 ++ dktX0_digest_3
def dkwX0_digest_1 : List UInt8 := [64, 132, 3, 1, 167, 255, 234, 3, 62, 29, 5, 162, 0, 26, 20, 1, 178, 31, 105, 42, 180, 0, 29, 29]
abbrev dktX0_digest_1 : List UInt8 := dkwX0_digest_1 ++ dktX0_digest_2
def dkwX0_digest_0 : List UInt8 := [20, 1, 180, 64, 3, 62, 29, 16, 8, 162, 0, 22, 20, 1, 178, 31, 105, 42, 29, 182, 1, 182, 133, 97]
abbrev dktX0_digest_0 : List UInt8 := dkwX0_digest_0 ++ dktX0_digest_1
theorem dksX0_digest_0 : cX0_digest.data.toList.drop 0 = dktX0_digest_0 := by decide +kernel
theorem dksX0_digest_1 : cX0_digest.data.toList.drop 24 = dktX0_digest_1 := dk_seg dksX0_digest_0 24 rfl rfl
theorem dksX0_digest_2 : cX0_digest.data.toList.drop 48 = dktX0_digest_2 := dk_seg dksX0_digest_1 24 rfl rfl
theorem dksX0_digest_3 : cX0_digest.data.toList.drop 70 = dktX0_digest_3 := dk_seg dksX0_digest_2 22 rfl rfl
theorem dksX0_digest_4 : cX0_digest.data.toList.drop 94 = dktX0_digest_4 := dk_seg dksX0_digest_3 24 rfl rfl
theorem dksX0_digest_5 : cX0_digest.data.toList.drop 118 = dktX0_digest_5 := dk_seg dksX0_digest_4 24 rfl rfl
theorem dksX0_digest_6 : cX0_digest.data.toList.drop 142 = dktX0_digest_6 := dk_seg dksX0_digest_5 24 rfl rfl
theorem dksX0_digest_7 : cX0_digest.data.toList.drop 166 = dktX0_digest_7 := dk_seg dksX0_digest_6 24 rfl rfl
theorem dksX0_digest_8 : cX0_digest.data.toList.drop 190 = dktX0_digest_8 := dk_seg dksX0_digest_7 24 rfl rfl
theorem dksX0_digest_9 : cX0_digest.data.toList.drop 212 = dktX0_digest_9 := dk_seg dksX0_digest_8 22 rfl rfl
theorem dksX0_digest_10 : cX0_digest.data.toList.drop 234 = dktX0_digest_10 := dk_seg dksX0_digest_9 22 rfl rfl
theorem dksX0_digest_11 : cX0_digest.data.toList.drop 258 = dktX0_digest_11 := dk_seg dksX0_digest_10 24 rfl rfl
theorem dksX0_digest_12 : cX0_digest.data.toList.drop 282 = dktX0_digest_12 := dk_seg dksX0_digest_11 24 rfl rfl
theorem dksX0_digest_13 : cX0_digest.data.toList.drop 305 = dktX0_digest_13 := dk_seg dksX0_digest_12 23 rfl rfl
theorem dksX0_digest_14 : cX0_digest.data.toList.drop 329 = dktX0_digest_14 := dk_seg dksX0_digest_13 24 rfl rfl
theorem dksX0_digest_15 : cX0_digest.data.toList.drop 353 = dktX0_digest_15 := dk_seg dksX0_digest_14 24 rfl rfl
theorem dksX0_digest_16 : cX0_digest.data.toList.drop 377 = dktX0_digest_16 := dk_seg dksX0_digest_15 24 rfl rfl
theorem dX0_digest_0 : decode cX0_digest 0 = .ok (.ldc2_w 436, 3) := dk_20 1 180 (dk_at dksX0_digest_0 0 rfl rfl)
theorem dX0_digest_3 : decode cX0_digest 3 = .ok (.lstore_n 1, 1) := dk_64 (dk_at dksX0_digest_0 3 rfl rfl)
theorem dX0_digest_4 : decode cX0_digest 4 = .ok (.iconst 0, 1) := dk_3 (dk_at dksX0_digest_0 4 rfl rfl)
theorem dX0_digest_5 : decode cX0_digest 5 = .ok (.istore_n 3, 1) := dk_62 (dk_at dksX0_digest_0 5 rfl rfl)
theorem dX0_digest_6 : decode cX0_digest 6 = .ok (.iload_n 3, 1) := dk_29 (dk_at dksX0_digest_0 6 rfl rfl)
theorem dX0_digest_7 : decode cX0_digest 7 = .ok (.bipush 8, 2) := dk_16 8 (dk_at dksX0_digest_0 7 rfl rfl)
theorem dX0_digest_9 : decode cX0_digest 9 = .ok (.if_icmp .ge 22, 3) := dk_162 0 22 (dk_at dksX0_digest_0 9 rfl rfl)
theorem dX0_digest_12 : decode cX0_digest 12 = .ok (.ldc2_w 434, 3) := dk_20 1 178 (dk_at dksX0_digest_0 12 rfl rfl)
theorem dX0_digest_15 : decode cX0_digest 15 = .ok (.lload_n 1, 1) := dk_31 (dk_at dksX0_digest_0 15 rfl rfl)
theorem dX0_digest_16 : decode cX0_digest 16 = .ok (.lmul, 1) := dk_105 (dk_at dksX0_digest_0 16 rfl rfl)
theorem dX0_digest_17 : decode cX0_digest 17 = .ok (.aload_n 0, 1) := dk_42 (dk_at dksX0_digest_0 17 rfl rfl)
theorem dX0_digest_18 : decode cX0_digest 18 = .ok (.iload_n 3, 1) := dk_29 (dk_at dksX0_digest_0 18 rfl rfl)
theorem dX0_digest_19 : decode cX0_digest 19 = .ok (.invokevirtual 438, 3) := dk_182 1 182 (dk_at dksX0_digest_0 19 rfl rfl)
theorem dX0_digest_22 : decode cX0_digest 22 = .ok (.i2l, 1) := dk_133 (dk_at dksX0_digest_0 22 rfl rfl)
theorem dX0_digest_23 : decode cX0_digest 23 = .ok (.ladd, 1) := dk_97 (dk_at dksX0_digest_0 23 rfl rfl)
theorem dX0_digest_24 : decode cX0_digest 24 = .ok (.lstore_n 1, 1) := dk_64 (dk_at dksX0_digest_1 0 rfl rfl)
theorem dX0_digest_25 : decode cX0_digest 25 = .ok (.iinc 3 1, 3) := dk_132 3 1 (dk_at dksX0_digest_1 1 rfl rfl)
theorem dX0_digest_28 : decode cX0_digest 28 = .ok (.goto (-22), 3) := dk_167 255 234 (dk_at dksX0_digest_1 4 rfl rfl)
theorem dX0_digest_31 : decode cX0_digest 31 = .ok (.iconst 0, 1) := dk_3 (dk_at dksX0_digest_1 7 rfl rfl)
theorem dX0_digest_32 : decode cX0_digest 32 = .ok (.istore_n 3, 1) := dk_62 (dk_at dksX0_digest_1 8 rfl rfl)
theorem dX0_digest_33 : decode cX0_digest 33 = .ok (.iload_n 3, 1) := dk_29 (dk_at dksX0_digest_1 9 rfl rfl)
theorem dX0_digest_34 : decode cX0_digest 34 = .ok (.iconst 2, 1) := dk_5 (dk_at dksX0_digest_1 10 rfl rfl)
theorem dX0_digest_35 : decode cX0_digest 35 = .ok (.if_icmp .ge 26, 3) := dk_162 0 26 (dk_at dksX0_digest_1 11 rfl rfl)
theorem dX0_digest_38 : decode cX0_digest 38 = .ok (.ldc2_w 434, 3) := dk_20 1 178 (dk_at dksX0_digest_1 14 rfl rfl)
theorem dX0_digest_41 : decode cX0_digest 41 = .ok (.lload_n 1, 1) := dk_31 (dk_at dksX0_digest_1 17 rfl rfl)
theorem dX0_digest_42 : decode cX0_digest 42 = .ok (.lmul, 1) := dk_105 (dk_at dksX0_digest_1 18 rfl rfl)
theorem dX0_digest_43 : decode cX0_digest 43 = .ok (.aload_n 0, 1) := dk_42 (dk_at dksX0_digest_1 19 rfl rfl)
theorem dX0_digest_44 : decode cX0_digest 44 = .ok (.getfield 29, 3) := dk_180 0 29 (dk_at dksX0_digest_1 20 rfl rfl)
theorem dX0_digest_47 : decode cX0_digest 47 = .ok (.iload_n 3, 1) := dk_29 (dk_at dksX0_digest_1 23 rfl rfl)
theorem dX0_digest_48 : decode cX0_digest 48 = .ok (.aaload, 1) := dk_50 (dk_at dksX0_digest_2 0 rfl rfl)
theorem dX0_digest_49 : decode cX0_digest 49 = .ok (.invokevirtual 118, 3) := dk_182 0 118 (dk_at dksX0_digest_2 1 rfl rfl)
theorem dX0_digest_52 : decode cX0_digest 52 = .ok (.i2l, 1) := dk_133 (dk_at dksX0_digest_2 4 rfl rfl)
theorem dX0_digest_53 : decode cX0_digest 53 = .ok (.ladd, 1) := dk_97 (dk_at dksX0_digest_2 5 rfl rfl)
theorem dX0_digest_54 : decode cX0_digest 54 = .ok (.lstore_n 1, 1) := dk_64 (dk_at dksX0_digest_2 6 rfl rfl)
theorem dX0_digest_55 : decode cX0_digest 55 = .ok (.iinc 3 1, 3) := dk_132 3 1 (dk_at dksX0_digest_2 7 rfl rfl)
theorem dX0_digest_58 : decode cX0_digest 58 = .ok (.goto (-25), 3) := dk_167 255 231 (dk_at dksX0_digest_2 10 rfl rfl)
theorem dX0_digest_61 : decode cX0_digest 61 = .ok (.aload_n 0, 1) := dk_42 (dk_at dksX0_digest_2 13 rfl rfl)
theorem dX0_digest_62 : decode cX0_digest 62 = .ok (.invokevirtual 285, 3) := dk_182 1 29 (dk_at dksX0_digest_2 14 rfl rfl)
theorem dX0_digest_65 : decode cX0_digest 65 = .ok (.iconst 0, 1) := dk_3 (dk_at dksX0_digest_2 17 rfl rfl)
theorem dX0_digest_66 : decode cX0_digest 66 = .ok (.istore_n 3, 1) := dk_62 (dk_at dksX0_digest_2 18 rfl rfl)
theorem dX0_digest_67 : decode cX0_digest 67 = .ok (.iload_n 3, 1) := dk_29 (dk_at dksX0_digest_2 19 rfl rfl)
theorem dX0_digest_68 : decode cX0_digest 68 = .ok (.bipush 24, 2) := dk_16 24 (dk_at dksX0_digest_2 20 rfl rfl)
theorem dX0_digest_70 : decode cX0_digest 70 = .ok (.if_icmp .ge 56, 3) := dk_162 0 56 (dk_at dksX0_digest_3 0 rfl rfl)
theorem dX0_digest_73 : decode cX0_digest 73 = .ok (.iconst 0, 1) := dk_3 (dk_at dksX0_digest_3 3 rfl rfl)
theorem dX0_digest_74 : decode cX0_digest 74 = .ok (.istore 4, 2) := dk_54 4 (dk_at dksX0_digest_3 4 rfl rfl)
theorem dX0_digest_76 : decode cX0_digest 76 = .ok (.iload 4, 2) := dk_21 4 (dk_at dksX0_digest_3 6 rfl rfl)
theorem dX0_digest_78 : decode cX0_digest 78 = .ok (.bipush 6, 2) := dk_16 6 (dk_at dksX0_digest_3 8 rfl rfl)
theorem dX0_digest_80 : decode cX0_digest 80 = .ok (.if_icmp .ge 26, 3) := dk_162 0 26 (dk_at dksX0_digest_3 10 rfl rfl)
theorem dX0_digest_83 : decode cX0_digest 83 = .ok (.ldc2_w 434, 3) := dk_20 1 178 (dk_at dksX0_digest_3 13 rfl rfl)
theorem dX0_digest_86 : decode cX0_digest 86 = .ok (.lload_n 1, 1) := dk_31 (dk_at dksX0_digest_3 16 rfl rfl)
theorem dX0_digest_87 : decode cX0_digest 87 = .ok (.lmul, 1) := dk_105 (dk_at dksX0_digest_3 17 rfl rfl)
theorem dX0_digest_88 : decode cX0_digest 88 = .ok (.aload_n 0, 1) := dk_42 (dk_at dksX0_digest_3 18 rfl rfl)
theorem dX0_digest_89 : decode cX0_digest 89 = .ok (.getfield 55, 3) := dk_180 0 55 (dk_at dksX0_digest_3 19 rfl rfl)
theorem dX0_digest_92 : decode cX0_digest 92 = .ok (.iload_n 3, 1) := dk_29 (dk_at dksX0_digest_3 22 rfl rfl)
theorem dX0_digest_93 : decode cX0_digest 93 = .ok (.aaload, 1) := dk_50 (dk_at dksX0_digest_3 23 rfl rfl)
theorem dX0_digest_94 : decode cX0_digest 94 = .ok (.iload 4, 2) := dk_21 4 (dk_at dksX0_digest_4 0 rfl rfl)
theorem dX0_digest_96 : decode cX0_digest 96 = .ok (.iaload, 1) := dk_46 (dk_at dksX0_digest_4 2 rfl rfl)
theorem dX0_digest_97 : decode cX0_digest 97 = .ok (.i2l, 1) := dk_133 (dk_at dksX0_digest_4 3 rfl rfl)
theorem dX0_digest_98 : decode cX0_digest 98 = .ok (.ladd, 1) := dk_97 (dk_at dksX0_digest_4 4 rfl rfl)
theorem dX0_digest_99 : decode cX0_digest 99 = .ok (.lstore_n 1, 1) := dk_64 (dk_at dksX0_digest_4 5 rfl rfl)
theorem dX0_digest_100 : decode cX0_digest 100 = .ok (.iinc 4 1, 3) := dk_132 4 1 (dk_at dksX0_digest_4 6 rfl rfl)
theorem dX0_digest_103 : decode cX0_digest 103 = .ok (.goto (-27), 3) := dk_167 255 229 (dk_at dksX0_digest_4 9 rfl rfl)
theorem dX0_digest_106 : decode cX0_digest 106 = .ok (.ldc2_w 434, 3) := dk_20 1 178 (dk_at dksX0_digest_4 12 rfl rfl)
theorem dX0_digest_109 : decode cX0_digest 109 = .ok (.lload_n 1, 1) := dk_31 (dk_at dksX0_digest_4 15 rfl rfl)
theorem dX0_digest_110 : decode cX0_digest 110 = .ok (.lmul, 1) := dk_105 (dk_at dksX0_digest_4 16 rfl rfl)
theorem dX0_digest_111 : decode cX0_digest 111 = .ok (.aload_n 0, 1) := dk_42 (dk_at dksX0_digest_4 17 rfl rfl)
theorem dX0_digest_112 : decode cX0_digest 112 = .ok (.getfield 58, 3) := dk_180 0 58 (dk_at dksX0_digest_4 18 rfl rfl)
theorem dX0_digest_115 : decode cX0_digest 115 = .ok (.iload_n 3, 1) := dk_29 (dk_at dksX0_digest_4 21 rfl rfl)
theorem dX0_digest_116 : decode cX0_digest 116 = .ok (.iaload, 1) := dk_46 (dk_at dksX0_digest_4 22 rfl rfl)
theorem dX0_digest_117 : decode cX0_digest 117 = .ok (.i2l, 1) := dk_133 (dk_at dksX0_digest_4 23 rfl rfl)
theorem dX0_digest_118 : decode cX0_digest 118 = .ok (.ladd, 1) := dk_97 (dk_at dksX0_digest_5 0 rfl rfl)
theorem dX0_digest_119 : decode cX0_digest 119 = .ok (.lstore_n 1, 1) := dk_64 (dk_at dksX0_digest_5 1 rfl rfl)
theorem dX0_digest_120 : decode cX0_digest 120 = .ok (.iinc 3 1, 3) := dk_132 3 1 (dk_at dksX0_digest_5 2 rfl rfl)
theorem dX0_digest_123 : decode cX0_digest 123 = .ok (.goto (-56), 3) := dk_167 255 200 (dk_at dksX0_digest_5 5 rfl rfl)
theorem dX0_digest_126 : decode cX0_digest 126 = .ok (.iconst 0, 1) := dk_3 (dk_at dksX0_digest_5 8 rfl rfl)
theorem dX0_digest_127 : decode cX0_digest 127 = .ok (.istore_n 3, 1) := dk_62 (dk_at dksX0_digest_5 9 rfl rfl)
theorem dX0_digest_128 : decode cX0_digest 128 = .ok (.iload_n 3, 1) := dk_29 (dk_at dksX0_digest_5 10 rfl rfl)
theorem dX0_digest_129 : decode cX0_digest 129 = .ok (.aload_n 0, 1) := dk_42 (dk_at dksX0_digest_5 11 rfl rfl)
theorem dX0_digest_130 : decode cX0_digest 130 = .ok (.invokevirtual 127, 3) := dk_182 0 127 (dk_at dksX0_digest_5 12 rfl rfl)
theorem dX0_digest_133 : decode cX0_digest 133 = .ok (.if_icmp .ge 29, 3) := dk_162 0 29 (dk_at dksX0_digest_5 15 rfl rfl)
theorem dX0_digest_136 : decode cX0_digest 136 = .ok (.aload_n 0, 1) := dk_42 (dk_at dksX0_digest_5 18 rfl rfl)
theorem dX0_digest_137 : decode cX0_digest 137 = .ok (.lload_n 1, 1) := dk_31 (dk_at dksX0_digest_5 19 rfl rfl)
theorem dX0_digest_138 : decode cX0_digest 138 = .ok (.aload_n 0, 1) := dk_42 (dk_at dksX0_digest_5 20 rfl rfl)
theorem dX0_digest_139 : decode cX0_digest 139 = .ok (.getfield 14, 3) := dk_180 0 14 (dk_at dksX0_digest_5 21 rfl rfl)
theorem dX0_digest_142 : decode cX0_digest 142 = .ok (.getfield 122, 3) := dk_180 0 122 (dk_at dksX0_digest_6 0 rfl rfl)
theorem dX0_digest_145 : decode cX0_digest 145 = .ok (.iload_n 3, 1) := dk_29 (dk_at dksX0_digest_6 3 rfl rfl)
theorem dX0_digest_146 : decode cX0_digest 146 = .ok (.invokevirtual 138, 3) := dk_182 0 138 (dk_at dksX0_digest_6 4 rfl rfl)
theorem dX0_digest_149 : decode cX0_digest 149 = .ok (.checkcast 142, 3) := dk_192 0 142 (dk_at dksX0_digest_6 7 rfl rfl)
theorem dX0_digest_152 : decode cX0_digest 152 = .ok (.invokevirtual 441, 3) := dk_182 1 185 (dk_at dksX0_digest_6 10 rfl rfl)
theorem dX0_digest_155 : decode cX0_digest 155 = .ok (.lstore_n 1, 1) := dk_64 (dk_at dksX0_digest_6 13 rfl rfl)
theorem dX0_digest_156 : decode cX0_digest 156 = .ok (.iinc 3 1, 3) := dk_132 3 1 (dk_at dksX0_digest_6 14 rfl rfl)
theorem dX0_digest_159 : decode cX0_digest 159 = .ok (.goto (-31), 3) := dk_167 255 225 (dk_at dksX0_digest_6 17 rfl rfl)
theorem dX0_digest_162 : decode cX0_digest 162 = .ok (.iconst 0, 1) := dk_3 (dk_at dksX0_digest_6 20 rfl rfl)
theorem dX0_digest_163 : decode cX0_digest 163 = .ok (.istore_n 3, 1) := dk_62 (dk_at dksX0_digest_6 21 rfl rfl)
theorem dX0_digest_164 : decode cX0_digest 164 = .ok (.iload_n 3, 1) := dk_29 (dk_at dksX0_digest_6 22 rfl rfl)
theorem dX0_digest_165 : decode cX0_digest 165 = .ok (.aload_n 0, 1) := dk_42 (dk_at dksX0_digest_6 23 rfl rfl)
theorem dX0_digest_166 : decode cX0_digest 166 = .ok (.invokevirtual 130, 3) := dk_182 0 130 (dk_at dksX0_digest_7 0 rfl rfl)
theorem dX0_digest_169 : decode cX0_digest 169 = .ok (.if_icmp .ge 16, 3) := dk_162 0 16 (dk_at dksX0_digest_7 3 rfl rfl)
theorem dX0_digest_172 : decode cX0_digest 172 = .ok (.aload_n 0, 1) := dk_42 (dk_at dksX0_digest_7 6 rfl rfl)
theorem dX0_digest_173 : decode cX0_digest 173 = .ok (.lload_n 1, 1) := dk_31 (dk_at dksX0_digest_7 7 rfl rfl)
theorem dX0_digest_174 : decode cX0_digest 174 = .ok (.iload_n 3, 1) := dk_29 (dk_at dksX0_digest_7 8 rfl rfl)
theorem dX0_digest_175 : decode cX0_digest 175 = .ok (.invokevirtual 445, 3) := dk_182 1 189 (dk_at dksX0_digest_7 9 rfl rfl)
theorem dX0_digest_178 : decode cX0_digest 178 = .ok (.lstore_n 1, 1) := dk_64 (dk_at dksX0_digest_7 12 rfl rfl)
theorem dX0_digest_179 : decode cX0_digest 179 = .ok (.iinc 3 1, 3) := dk_132 3 1 (dk_at dksX0_digest_7 13 rfl rfl)
theorem dX0_digest_182 : decode cX0_digest 182 = .ok (.goto (-18), 3) := dk_167 255 238 (dk_at dksX0_digest_7 16 rfl rfl)
theorem dX0_digest_185 : decode cX0_digest 185 = .ok (.aload_n 0, 1) := dk_42 (dk_at dksX0_digest_7 19 rfl rfl)
theorem dX0_digest_186 : decode cX0_digest 186 = .ok (.invokevirtual 285, 3) := dk_182 1 29 (dk_at dksX0_digest_7 20 rfl rfl)
theorem dX0_digest_189 : decode cX0_digest 189 = .ok (.iconst 0, 1) := dk_3 (dk_at dksX0_digest_7 23 rfl rfl)
theorem dX0_digest_190 : decode cX0_digest 190 = .ok (.istore_n 3, 1) := dk_62 (dk_at dksX0_digest_8 0 rfl rfl)
theorem dX0_digest_191 : decode cX0_digest 191 = .ok (.iload_n 3, 1) := dk_29 (dk_at dksX0_digest_8 1 rfl rfl)
theorem dX0_digest_192 : decode cX0_digest 192 = .ok (.iconst 5, 1) := dk_8 (dk_at dksX0_digest_8 2 rfl rfl)
theorem dX0_digest_193 : decode cX0_digest 193 = .ok (.if_icmp .ge 22, 3) := dk_162 0 22 (dk_at dksX0_digest_8 3 rfl rfl)
theorem dX0_digest_196 : decode cX0_digest 196 = .ok (.ldc2_w 434, 3) := dk_20 1 178 (dk_at dksX0_digest_8 6 rfl rfl)
theorem dX0_digest_199 : decode cX0_digest 199 = .ok (.lload_n 1, 1) := dk_31 (dk_at dksX0_digest_8 9 rfl rfl)
theorem dX0_digest_200 : decode cX0_digest 200 = .ok (.lmul, 1) := dk_105 (dk_at dksX0_digest_8 10 rfl rfl)
theorem dX0_digest_201 : decode cX0_digest 201 = .ok (.aload_n 0, 1) := dk_42 (dk_at dksX0_digest_8 11 rfl rfl)
theorem dX0_digest_202 : decode cX0_digest 202 = .ok (.iload_n 3, 1) := dk_29 (dk_at dksX0_digest_8 12 rfl rfl)
theorem dX0_digest_203 : decode cX0_digest 203 = .ok (.invokevirtual 298, 3) := dk_182 1 42 (dk_at dksX0_digest_8 13 rfl rfl)
theorem dX0_digest_206 : decode cX0_digest 206 = .ok (.i2l, 1) := dk_133 (dk_at dksX0_digest_8 16 rfl rfl)
theorem dX0_digest_207 : decode cX0_digest 207 = .ok (.ladd, 1) := dk_97 (dk_at dksX0_digest_8 17 rfl rfl)
theorem dX0_digest_208 : decode cX0_digest 208 = .ok (.lstore_n 1, 1) := dk_64 (dk_at dksX0_digest_8 18 rfl rfl)
theorem dX0_digest_209 : decode cX0_digest 209 = .ok (.iinc 3 1, 3) := dk_132 3 1 (dk_at dksX0_digest_8 19 rfl rfl)
theorem dX0_digest_212 : decode cX0_digest 212 = .ok (.goto (-21), 3) := dk_167 255 235 (dk_at dksX0_digest_9 0 rfl rfl)
theorem dX0_digest_215 : decode cX0_digest 215 = .ok (.ldc2_w 434, 3) := dk_20 1 178 (dk_at dksX0_digest_9 3 rfl rfl)
theorem dX0_digest_218 : decode cX0_digest 218 = .ok (.lload_n 1, 1) := dk_31 (dk_at dksX0_digest_9 6 rfl rfl)
theorem dX0_digest_219 : decode cX0_digest 219 = .ok (.lmul, 1) := dk_105 (dk_at dksX0_digest_9 7 rfl rfl)
theorem dX0_digest_220 : decode cX0_digest 220 = .ok (.aload_n 0, 1) := dk_42 (dk_at dksX0_digest_9 8 rfl rfl)
theorem dX0_digest_221 : decode cX0_digest 221 = .ok (.invokevirtual 301, 3) := dk_182 1 45 (dk_at dksX0_digest_9 9 rfl rfl)
theorem dX0_digest_224 : decode cX0_digest 224 = .ok (.i2l, 1) := dk_133 (dk_at dksX0_digest_9 12 rfl rfl)
theorem dX0_digest_225 : decode cX0_digest 225 = .ok (.ladd, 1) := dk_97 (dk_at dksX0_digest_9 13 rfl rfl)
theorem dX0_digest_226 : decode cX0_digest 226 = .ok (.lstore_n 1, 1) := dk_64 (dk_at dksX0_digest_9 14 rfl rfl)
theorem dX0_digest_227 : decode cX0_digest 227 = .ok (.iconst 0, 1) := dk_3 (dk_at dksX0_digest_9 15 rfl rfl)
theorem dX0_digest_228 : decode cX0_digest 228 = .ok (.istore_n 3, 1) := dk_62 (dk_at dksX0_digest_9 16 rfl rfl)
theorem dX0_digest_229 : decode cX0_digest 229 = .ok (.iload_n 3, 1) := dk_29 (dk_at dksX0_digest_9 17 rfl rfl)
theorem dX0_digest_230 : decode cX0_digest 230 = .ok (.iconst 2, 1) := dk_5 (dk_at dksX0_digest_9 18 rfl rfl)
theorem dX0_digest_231 : decode cX0_digest 231 = .ok (.if_icmp .ge 22, 3) := dk_162 0 22 (dk_at dksX0_digest_9 19 rfl rfl)
theorem dX0_digest_234 : decode cX0_digest 234 = .ok (.ldc2_w 434, 3) := dk_20 1 178 (dk_at dksX0_digest_10 0 rfl rfl)
theorem dX0_digest_237 : decode cX0_digest 237 = .ok (.lload_n 1, 1) := dk_31 (dk_at dksX0_digest_10 3 rfl rfl)
theorem dX0_digest_238 : decode cX0_digest 238 = .ok (.lmul, 1) := dk_105 (dk_at dksX0_digest_10 4 rfl rfl)
theorem dX0_digest_239 : decode cX0_digest 239 = .ok (.aload_n 0, 1) := dk_42 (dk_at dksX0_digest_10 5 rfl rfl)
theorem dX0_digest_240 : decode cX0_digest 240 = .ok (.iload_n 3, 1) := dk_29 (dk_at dksX0_digest_10 6 rfl rfl)
theorem dX0_digest_241 : decode cX0_digest 241 = .ok (.invokevirtual 304, 3) := dk_182 1 48 (dk_at dksX0_digest_10 7 rfl rfl)
theorem dX0_digest_244 : decode cX0_digest 244 = .ok (.i2l, 1) := dk_133 (dk_at dksX0_digest_10 10 rfl rfl)
theorem dX0_digest_245 : decode cX0_digest 245 = .ok (.ladd, 1) := dk_97 (dk_at dksX0_digest_10 11 rfl rfl)
theorem dX0_digest_246 : decode cX0_digest 246 = .ok (.lstore_n 1, 1) := dk_64 (dk_at dksX0_digest_10 12 rfl rfl)
theorem dX0_digest_247 : decode cX0_digest 247 = .ok (.iinc 3 1, 3) := dk_132 3 1 (dk_at dksX0_digest_10 13 rfl rfl)
theorem dX0_digest_250 : decode cX0_digest 250 = .ok (.goto (-21), 3) := dk_167 255 235 (dk_at dksX0_digest_10 16 rfl rfl)
theorem dX0_digest_253 : decode cX0_digest 253 = .ok (.ldc2_w 434, 3) := dk_20 1 178 (dk_at dksX0_digest_10 19 rfl rfl)
theorem dX0_digest_256 : decode cX0_digest 256 = .ok (.lload_n 1, 1) := dk_31 (dk_at dksX0_digest_10 22 rfl rfl)
theorem dX0_digest_257 : decode cX0_digest 257 = .ok (.lmul, 1) := dk_105 (dk_at dksX0_digest_10 23 rfl rfl)
theorem dX0_digest_258 : decode cX0_digest 258 = .ok (.aload_n 0, 1) := dk_42 (dk_at dksX0_digest_11 0 rfl rfl)
theorem dX0_digest_259 : decode cX0_digest 259 = .ok (.invokevirtual 310, 3) := dk_182 1 54 (dk_at dksX0_digest_11 1 rfl rfl)
theorem dX0_digest_262 : decode cX0_digest 262 = .ok (.i2l, 1) := dk_133 (dk_at dksX0_digest_11 4 rfl rfl)
theorem dX0_digest_263 : decode cX0_digest 263 = .ok (.ladd, 1) := dk_97 (dk_at dksX0_digest_11 5 rfl rfl)
theorem dX0_digest_264 : decode cX0_digest 264 = .ok (.lstore_n 1, 1) := dk_64 (dk_at dksX0_digest_11 6 rfl rfl)
theorem dX0_digest_265 : decode cX0_digest 265 = .ok (.iconst 0, 1) := dk_3 (dk_at dksX0_digest_11 7 rfl rfl)
theorem dX0_digest_266 : decode cX0_digest 266 = .ok (.istore_n 3, 1) := dk_62 (dk_at dksX0_digest_11 8 rfl rfl)
theorem dX0_digest_267 : decode cX0_digest 267 = .ok (.iload_n 3, 1) := dk_29 (dk_at dksX0_digest_11 9 rfl rfl)
theorem dX0_digest_268 : decode cX0_digest 268 = .ok (.iconst 2, 1) := dk_5 (dk_at dksX0_digest_11 10 rfl rfl)
theorem dX0_digest_269 : decode cX0_digest 269 = .ok (.if_icmp .ge 22, 3) := dk_162 0 22 (dk_at dksX0_digest_11 11 rfl rfl)
theorem dX0_digest_272 : decode cX0_digest 272 = .ok (.ldc2_w 434, 3) := dk_20 1 178 (dk_at dksX0_digest_11 14 rfl rfl)
theorem dX0_digest_275 : decode cX0_digest 275 = .ok (.lload_n 1, 1) := dk_31 (dk_at dksX0_digest_11 17 rfl rfl)
theorem dX0_digest_276 : decode cX0_digest 276 = .ok (.lmul, 1) := dk_105 (dk_at dksX0_digest_11 18 rfl rfl)
theorem dX0_digest_277 : decode cX0_digest 277 = .ok (.aload_n 0, 1) := dk_42 (dk_at dksX0_digest_11 19 rfl rfl)
theorem dX0_digest_278 : decode cX0_digest 278 = .ok (.iload_n 3, 1) := dk_29 (dk_at dksX0_digest_11 20 rfl rfl)
theorem dX0_digest_279 : decode cX0_digest 279 = .ok (.invokevirtual 325, 3) := dk_182 1 69 (dk_at dksX0_digest_11 21 rfl rfl)
theorem dX0_digest_282 : decode cX0_digest 282 = .ok (.i2l, 1) := dk_133 (dk_at dksX0_digest_12 0 rfl rfl)
theorem dX0_digest_283 : decode cX0_digest 283 = .ok (.ladd, 1) := dk_97 (dk_at dksX0_digest_12 1 rfl rfl)
theorem dX0_digest_284 : decode cX0_digest 284 = .ok (.lstore_n 1, 1) := dk_64 (dk_at dksX0_digest_12 2 rfl rfl)
theorem dX0_digest_285 : decode cX0_digest 285 = .ok (.iinc 3 1, 3) := dk_132 3 1 (dk_at dksX0_digest_12 3 rfl rfl)
theorem dX0_digest_288 : decode cX0_digest 288 = .ok (.goto (-21), 3) := dk_167 255 235 (dk_at dksX0_digest_12 6 rfl rfl)
theorem dX0_digest_291 : decode cX0_digest 291 = .ok (.iconst (-1), 1) := dk_2 (dk_at dksX0_digest_12 9 rfl rfl)
theorem dX0_digest_292 : decode cX0_digest 292 = .ok (.istore_n 3, 1) := dk_62 (dk_at dksX0_digest_12 10 rfl rfl)
theorem dX0_digest_293 : decode cX0_digest 293 = .ok (.iload_n 3, 1) := dk_29 (dk_at dksX0_digest_12 11 rfl rfl)
theorem dX0_digest_294 : decode cX0_digest 294 = .ok (.iconst 1, 1) := dk_4 (dk_at dksX0_digest_12 12 rfl rfl)
theorem dX0_digest_295 : decode cX0_digest 295 = .ok (.if_icmp .ge 22, 3) := dk_162 0 22 (dk_at dksX0_digest_12 13 rfl rfl)
theorem dX0_digest_298 : decode cX0_digest 298 = .ok (.ldc2_w 434, 3) := dk_20 1 178 (dk_at dksX0_digest_12 16 rfl rfl)
theorem dX0_digest_301 : decode cX0_digest 301 = .ok (.lload_n 1, 1) := dk_31 (dk_at dksX0_digest_12 19 rfl rfl)
theorem dX0_digest_302 : decode cX0_digest 302 = .ok (.lmul, 1) := dk_105 (dk_at dksX0_digest_12 20 rfl rfl)
theorem dX0_digest_303 : decode cX0_digest 303 = .ok (.aload_n 0, 1) := dk_42 (dk_at dksX0_digest_12 21 rfl rfl)
theorem dX0_digest_304 : decode cX0_digest 304 = .ok (.iload_n 3, 1) := dk_29 (dk_at dksX0_digest_12 22 rfl rfl)
theorem dX0_digest_305 : decode cX0_digest 305 = .ok (.invokevirtual 340, 3) := dk_182 1 84 (dk_at dksX0_digest_13 0 rfl rfl)
theorem dX0_digest_308 : decode cX0_digest 308 = .ok (.i2l, 1) := dk_133 (dk_at dksX0_digest_13 3 rfl rfl)
theorem dX0_digest_309 : decode cX0_digest 309 = .ok (.ladd, 1) := dk_97 (dk_at dksX0_digest_13 4 rfl rfl)
theorem dX0_digest_310 : decode cX0_digest 310 = .ok (.lstore_n 1, 1) := dk_64 (dk_at dksX0_digest_13 5 rfl rfl)
theorem dX0_digest_311 : decode cX0_digest 311 = .ok (.iinc 3 1, 3) := dk_132 3 1 (dk_at dksX0_digest_13 6 rfl rfl)
theorem dX0_digest_314 : decode cX0_digest 314 = .ok (.goto (-21), 3) := dk_167 255 235 (dk_at dksX0_digest_13 9 rfl rfl)
theorem dX0_digest_317 : decode cX0_digest 317 = .ok (.ldc2_w 434, 3) := dk_20 1 178 (dk_at dksX0_digest_13 12 rfl rfl)
theorem dX0_digest_320 : decode cX0_digest 320 = .ok (.lload_n 1, 1) := dk_31 (dk_at dksX0_digest_13 15 rfl rfl)
theorem dX0_digest_321 : decode cX0_digest 321 = .ok (.lmul, 1) := dk_105 (dk_at dksX0_digest_13 16 rfl rfl)
theorem dX0_digest_322 : decode cX0_digest 322 = .ok (.aload_n 0, 1) := dk_42 (dk_at dksX0_digest_13 17 rfl rfl)
theorem dX0_digest_323 : decode cX0_digest 323 = .ok (.invokevirtual 346, 3) := dk_182 1 90 (dk_at dksX0_digest_13 18 rfl rfl)
theorem dX0_digest_326 : decode cX0_digest 326 = .ok (.i2l, 1) := dk_133 (dk_at dksX0_digest_13 21 rfl rfl)
theorem dX0_digest_327 : decode cX0_digest 327 = .ok (.ladd, 1) := dk_97 (dk_at dksX0_digest_13 22 rfl rfl)
theorem dX0_digest_328 : decode cX0_digest 328 = .ok (.lstore_n 1, 1) := dk_64 (dk_at dksX0_digest_13 23 rfl rfl)
theorem dX0_digest_329 : decode cX0_digest 329 = .ok (.ldc2_w 434, 3) := dk_20 1 178 (dk_at dksX0_digest_14 0 rfl rfl)
theorem dX0_digest_332 : decode cX0_digest 332 = .ok (.lload_n 1, 1) := dk_31 (dk_at dksX0_digest_14 3 rfl rfl)
theorem dX0_digest_333 : decode cX0_digest 333 = .ok (.lmul, 1) := dk_105 (dk_at dksX0_digest_14 4 rfl rfl)
theorem dX0_digest_334 : decode cX0_digest 334 = .ok (.aload_n 0, 1) := dk_42 (dk_at dksX0_digest_14 5 rfl rfl)
theorem dX0_digest_335 : decode cX0_digest 335 = .ok (.invokevirtual 349, 3) := dk_182 1 93 (dk_at dksX0_digest_14 6 rfl rfl)
theorem dX0_digest_338 : decode cX0_digest 338 = .ok (.i2l, 1) := dk_133 (dk_at dksX0_digest_14 9 rfl rfl)
theorem dX0_digest_339 : decode cX0_digest 339 = .ok (.ladd, 1) := dk_97 (dk_at dksX0_digest_14 10 rfl rfl)
theorem dX0_digest_340 : decode cX0_digest 340 = .ok (.lstore_n 1, 1) := dk_64 (dk_at dksX0_digest_14 11 rfl rfl)
theorem dX0_digest_341 : decode cX0_digest 341 = .ok (.ldc2_w 434, 3) := dk_20 1 178 (dk_at dksX0_digest_14 12 rfl rfl)
theorem dX0_digest_344 : decode cX0_digest 344 = .ok (.lload_n 1, 1) := dk_31 (dk_at dksX0_digest_14 15 rfl rfl)
theorem dX0_digest_345 : decode cX0_digest 345 = .ok (.lmul, 1) := dk_105 (dk_at dksX0_digest_14 16 rfl rfl)
theorem dX0_digest_346 : decode cX0_digest 346 = .ok (.aload_n 0, 1) := dk_42 (dk_at dksX0_digest_14 17 rfl rfl)
theorem dX0_digest_347 : decode cX0_digest 347 = .ok (.invokevirtual 359, 3) := dk_182 1 103 (dk_at dksX0_digest_14 18 rfl rfl)
theorem dX0_digest_350 : decode cX0_digest 350 = .ok (.i2l, 1) := dk_133 (dk_at dksX0_digest_14 21 rfl rfl)
theorem dX0_digest_351 : decode cX0_digest 351 = .ok (.ladd, 1) := dk_97 (dk_at dksX0_digest_14 22 rfl rfl)
theorem dX0_digest_352 : decode cX0_digest 352 = .ok (.lstore_n 1, 1) := dk_64 (dk_at dksX0_digest_14 23 rfl rfl)
theorem dX0_digest_353 : decode cX0_digest 353 = .ok (.iconst 0, 1) := dk_3 (dk_at dksX0_digest_15 0 rfl rfl)
theorem dX0_digest_354 : decode cX0_digest 354 = .ok (.istore_n 3, 1) := dk_62 (dk_at dksX0_digest_15 1 rfl rfl)
theorem dX0_digest_355 : decode cX0_digest 355 = .ok (.iload_n 3, 1) := dk_29 (dk_at dksX0_digest_15 2 rfl rfl)
theorem dX0_digest_356 : decode cX0_digest 356 = .ok (.iconst 2, 1) := dk_5 (dk_at dksX0_digest_15 3 rfl rfl)
theorem dX0_digest_357 : decode cX0_digest 357 = .ok (.if_icmp .ge 26, 3) := dk_162 0 26 (dk_at dksX0_digest_15 4 rfl rfl)
theorem dX0_digest_360 : decode cX0_digest 360 = .ok (.ldc2_w 434, 3) := dk_20 1 178 (dk_at dksX0_digest_15 7 rfl rfl)
theorem dX0_digest_363 : decode cX0_digest 363 = .ok (.lload_n 1, 1) := dk_31 (dk_at dksX0_digest_15 10 rfl rfl)
theorem dX0_digest_364 : decode cX0_digest 364 = .ok (.lmul, 1) := dk_105 (dk_at dksX0_digest_15 11 rfl rfl)
theorem dX0_digest_365 : decode cX0_digest 365 = .ok (.aload_n 0, 1) := dk_42 (dk_at dksX0_digest_15 12 rfl rfl)
theorem dX0_digest_366 : decode cX0_digest 366 = .ok (.bipush 7, 2) := dk_16 7 (dk_at dksX0_digest_15 13 rfl rfl)
theorem dX0_digest_368 : decode cX0_digest 368 = .ok (.bipush 6, 2) := dk_16 6 (dk_at dksX0_digest_15 15 rfl rfl)
theorem dX0_digest_370 : decode cX0_digest 370 = .ok (.iload_n 3, 1) := dk_29 (dk_at dksX0_digest_15 17 rfl rfl)
theorem dX0_digest_371 : decode cX0_digest 371 = .ok (.invokevirtual 400, 3) := dk_182 1 144 (dk_at dksX0_digest_15 18 rfl rfl)
theorem dX0_digest_374 : decode cX0_digest 374 = .ok (.i2l, 1) := dk_133 (dk_at dksX0_digest_15 21 rfl rfl)
theorem dX0_digest_375 : decode cX0_digest 375 = .ok (.ladd, 1) := dk_97 (dk_at dksX0_digest_15 22 rfl rfl)
theorem dX0_digest_376 : decode cX0_digest 376 = .ok (.lstore_n 1, 1) := dk_64 (dk_at dksX0_digest_15 23 rfl rfl)
theorem dX0_digest_377 : decode cX0_digest 377 = .ok (.iinc 3 1, 3) := dk_132 3 1 (dk_at dksX0_digest_16 0 rfl rfl)
theorem dX0_digest_380 : decode cX0_digest 380 = .ok (.goto (-25), 3) := dk_167 255 231 (dk_at dksX0_digest_16 3 rfl rfl)
theorem dX0_digest_383 : decode cX0_digest 383 = .ok (.lload_n 1, 1) := dk_31 (dk_at dksX0_digest_16 6 rfl rfl)
theorem dX0_digest_384 : decode cX0_digest 384 = .ok (.lreturn, 1) := dk_173 (dk_at dksX0_digest_16 7 rfl rfl)
abbrev cX0_tellsPiece : ByteArray := prog_1_method_82_code
def yX0_tellsPiece : MethodName := ⟨RX0, "tellsPiece", "(JLSamovar$Piece;)J"⟩
def dkwX0_tellsPiece_3 : List UInt8 := [42, 45, 182, 1, 96, 133, 97, 173]
abbrev dktX0_tellsPiece_3 : List UInt8 := dkwX0_tellsPiece_3 ++ []
def dkwX0_tellsPiece_2 : List UInt8 := [105, 42, 45, 21, 6, 182, 1, 65, 133, 97, 55, 4, 132, 6, 1, 167, 255, 230, 20, 1, 178, 22, 4, 105]
abbrev dktX0_tellsPiece_2 : List UInt8 := dkwX0_tellsPiece_2 ++ dktX0_tellsPiece_3
def dkwX0_tellsPiece_1 : List UInt8 := [133, 97, 55, 4, 132, 6, 1, 167, 255, 231, 3, 54, 6, 21, 6, 5, 162, 0, 26, 20, 1, 178, 22, 4]
abbrev dktX0_tellsPiece_1 : List UInt8 := dkwX0_tellsPiece_1 ++ dktX0_tellsPiece_2
def dkwX0_tellsPiece_0 : List UInt8 := [31, 55, 4, 3, 54, 6, 21, 6, 6, 162, 0, 25, 20, 1, 178, 22, 4, 105, 45, 21, 6, 182, 0, 144]
abbrev dktX0_tellsPiece_0 : List UInt8 := dkwX0_tellsPiece_0 ++ dktX0_tellsPiece_1
theorem dksX0_tellsPiece_0 : cX0_tellsPiece.data.toList.drop 0 = dktX0_tellsPiece_0 := by decide +kernel
theorem dksX0_tellsPiece_1 : cX0_tellsPiece.data.toList.drop 24 = dktX0_tellsPiece_1 := dk_seg dksX0_tellsPiece_0 24 rfl rfl
theorem dksX0_tellsPiece_2 : cX0_tellsPiece.data.toList.drop 48 = dktX0_tellsPiece_2 := dk_seg dksX0_tellsPiece_1 24 rfl rfl
theorem dksX0_tellsPiece_3 : cX0_tellsPiece.data.toList.drop 72 = dktX0_tellsPiece_3 := dk_seg dksX0_tellsPiece_2 24 rfl rfl
theorem dX0_tellsPiece_0 : decode cX0_tellsPiece 0 = .ok (.lload_n 1, 1) := dk_31 (dk_at dksX0_tellsPiece_0 0 rfl rfl)
theorem dX0_tellsPiece_1 : decode cX0_tellsPiece 1 = .ok (.lstore 4, 2) := dk_55 4 (dk_at dksX0_tellsPiece_0 1 rfl rfl)
theorem dX0_tellsPiece_3 : decode cX0_tellsPiece 3 = .ok (.iconst 0, 1) := dk_3 (dk_at dksX0_tellsPiece_0 3 rfl rfl)
theorem dX0_tellsPiece_4 : decode cX0_tellsPiece 4 = .ok (.istore 6, 2) := dk_54 6 (dk_at dksX0_tellsPiece_0 4 rfl rfl)
theorem dX0_tellsPiece_6 : decode cX0_tellsPiece 6 = .ok (.iload 6, 2) := dk_21 6 (dk_at dksX0_tellsPiece_0 6 rfl rfl)
theorem dX0_tellsPiece_8 : decode cX0_tellsPiece 8 = .ok (.iconst 3, 1) := dk_6 (dk_at dksX0_tellsPiece_0 8 rfl rfl)
theorem dX0_tellsPiece_9 : decode cX0_tellsPiece 9 = .ok (.if_icmp .ge 25, 3) := dk_162 0 25 (dk_at dksX0_tellsPiece_0 9 rfl rfl)
theorem dX0_tellsPiece_12 : decode cX0_tellsPiece 12 = .ok (.ldc2_w 434, 3) := dk_20 1 178 (dk_at dksX0_tellsPiece_0 12 rfl rfl)
theorem dX0_tellsPiece_15 : decode cX0_tellsPiece 15 = .ok (.lload 4, 2) := dk_22 4 (dk_at dksX0_tellsPiece_0 15 rfl rfl)
theorem dX0_tellsPiece_17 : decode cX0_tellsPiece 17 = .ok (.lmul, 1) := dk_105 (dk_at dksX0_tellsPiece_0 17 rfl rfl)
theorem dX0_tellsPiece_18 : decode cX0_tellsPiece 18 = .ok (.aload_n 3, 1) := dk_45 (dk_at dksX0_tellsPiece_0 18 rfl rfl)
theorem dX0_tellsPiece_19 : decode cX0_tellsPiece 19 = .ok (.iload 6, 2) := dk_21 6 (dk_at dksX0_tellsPiece_0 19 rfl rfl)
theorem dX0_tellsPiece_21 : decode cX0_tellsPiece 21 = .ok (.invokevirtual 144, 3) := dk_182 0 144 (dk_at dksX0_tellsPiece_0 21 rfl rfl)
theorem dX0_tellsPiece_24 : decode cX0_tellsPiece 24 = .ok (.i2l, 1) := dk_133 (dk_at dksX0_tellsPiece_1 0 rfl rfl)
theorem dX0_tellsPiece_25 : decode cX0_tellsPiece 25 = .ok (.ladd, 1) := dk_97 (dk_at dksX0_tellsPiece_1 1 rfl rfl)
theorem dX0_tellsPiece_26 : decode cX0_tellsPiece 26 = .ok (.lstore 4, 2) := dk_55 4 (dk_at dksX0_tellsPiece_1 2 rfl rfl)
theorem dX0_tellsPiece_28 : decode cX0_tellsPiece 28 = .ok (.iinc 6 1, 3) := dk_132 6 1 (dk_at dksX0_tellsPiece_1 4 rfl rfl)
theorem dX0_tellsPiece_31 : decode cX0_tellsPiece 31 = .ok (.goto (-25), 3) := dk_167 255 231 (dk_at dksX0_tellsPiece_1 7 rfl rfl)
theorem dX0_tellsPiece_34 : decode cX0_tellsPiece 34 = .ok (.iconst 0, 1) := dk_3 (dk_at dksX0_tellsPiece_1 10 rfl rfl)
theorem dX0_tellsPiece_35 : decode cX0_tellsPiece 35 = .ok (.istore 6, 2) := dk_54 6 (dk_at dksX0_tellsPiece_1 11 rfl rfl)
theorem dX0_tellsPiece_37 : decode cX0_tellsPiece 37 = .ok (.iload 6, 2) := dk_21 6 (dk_at dksX0_tellsPiece_1 13 rfl rfl)
theorem dX0_tellsPiece_39 : decode cX0_tellsPiece 39 = .ok (.iconst 2, 1) := dk_5 (dk_at dksX0_tellsPiece_1 15 rfl rfl)
theorem dX0_tellsPiece_40 : decode cX0_tellsPiece 40 = .ok (.if_icmp .ge 26, 3) := dk_162 0 26 (dk_at dksX0_tellsPiece_1 16 rfl rfl)
theorem dX0_tellsPiece_43 : decode cX0_tellsPiece 43 = .ok (.ldc2_w 434, 3) := dk_20 1 178 (dk_at dksX0_tellsPiece_1 19 rfl rfl)
theorem dX0_tellsPiece_46 : decode cX0_tellsPiece 46 = .ok (.lload 4, 2) := dk_22 4 (dk_at dksX0_tellsPiece_1 22 rfl rfl)
theorem dX0_tellsPiece_48 : decode cX0_tellsPiece 48 = .ok (.lmul, 1) := dk_105 (dk_at dksX0_tellsPiece_2 0 rfl rfl)
theorem dX0_tellsPiece_49 : decode cX0_tellsPiece 49 = .ok (.aload_n 0, 1) := dk_42 (dk_at dksX0_tellsPiece_2 1 rfl rfl)
theorem dX0_tellsPiece_50 : decode cX0_tellsPiece 50 = .ok (.aload_n 3, 1) := dk_45 (dk_at dksX0_tellsPiece_2 2 rfl rfl)
theorem dX0_tellsPiece_51 : decode cX0_tellsPiece 51 = .ok (.iload 6, 2) := dk_21 6 (dk_at dksX0_tellsPiece_2 3 rfl rfl)
theorem dX0_tellsPiece_53 : decode cX0_tellsPiece 53 = .ok (.invokevirtual 321, 3) := dk_182 1 65 (dk_at dksX0_tellsPiece_2 5 rfl rfl)
theorem dX0_tellsPiece_56 : decode cX0_tellsPiece 56 = .ok (.i2l, 1) := dk_133 (dk_at dksX0_tellsPiece_2 8 rfl rfl)
theorem dX0_tellsPiece_57 : decode cX0_tellsPiece 57 = .ok (.ladd, 1) := dk_97 (dk_at dksX0_tellsPiece_2 9 rfl rfl)
theorem dX0_tellsPiece_58 : decode cX0_tellsPiece 58 = .ok (.lstore 4, 2) := dk_55 4 (dk_at dksX0_tellsPiece_2 10 rfl rfl)
theorem dX0_tellsPiece_60 : decode cX0_tellsPiece 60 = .ok (.iinc 6 1, 3) := dk_132 6 1 (dk_at dksX0_tellsPiece_2 12 rfl rfl)
theorem dX0_tellsPiece_63 : decode cX0_tellsPiece 63 = .ok (.goto (-26), 3) := dk_167 255 230 (dk_at dksX0_tellsPiece_2 15 rfl rfl)
theorem dX0_tellsPiece_66 : decode cX0_tellsPiece 66 = .ok (.ldc2_w 434, 3) := dk_20 1 178 (dk_at dksX0_tellsPiece_2 18 rfl rfl)
theorem dX0_tellsPiece_69 : decode cX0_tellsPiece 69 = .ok (.lload 4, 2) := dk_22 4 (dk_at dksX0_tellsPiece_2 21 rfl rfl)
theorem dX0_tellsPiece_71 : decode cX0_tellsPiece 71 = .ok (.lmul, 1) := dk_105 (dk_at dksX0_tellsPiece_2 23 rfl rfl)
theorem dX0_tellsPiece_72 : decode cX0_tellsPiece 72 = .ok (.aload_n 0, 1) := dk_42 (dk_at dksX0_tellsPiece_3 0 rfl rfl)
theorem dX0_tellsPiece_73 : decode cX0_tellsPiece 73 = .ok (.aload_n 3, 1) := dk_45 (dk_at dksX0_tellsPiece_3 1 rfl rfl)
theorem dX0_tellsPiece_74 : decode cX0_tellsPiece 74 = .ok (.invokevirtual 352, 3) := dk_182 1 96 (dk_at dksX0_tellsPiece_3 2 rfl rfl)
theorem dX0_tellsPiece_77 : decode cX0_tellsPiece 77 = .ok (.i2l, 1) := dk_133 (dk_at dksX0_tellsPiece_3 5 rfl rfl)
theorem dX0_tellsPiece_78 : decode cX0_tellsPiece 78 = .ok (.ladd, 1) := dk_97 (dk_at dksX0_tellsPiece_3 6 rfl rfl)
theorem dX0_tellsPiece_79 : decode cX0_tellsPiece 79 = .ok (.lreturn, 1) := dk_173 (dk_at dksX0_tellsPiece_3 7 rfl rfl)
abbrev cX0_tellsGuest : ByteArray := prog_1_method_83_code
def yX0_tellsGuest : MethodName := ⟨RX0, "tellsGuest", "(JI)J"⟩
def dkwX0_tellsGuest_10 : List UInt8 := [55, 5, 132, 7, 1, 167, 255, 230, 22, 5, 173]
abbrev dktX0_tellsGuest_10 : List UInt8 := dkwX0_tellsGuest_10 ++ []
def dkwX0_tellsGuest_9 : List UInt8 := [3, 54, 7, 21, 7, 5, 162, 0, 26, 20, 1, 178, 22, 5, 105, 42, 8, 29, 21, 7, 182, 1, 116, 97]
abbrev dktX0_tellsGuest_9 : List UInt8 := dkwX0_tellsGuest_9 ++ dktX0_tellsGuest_10
def dkwX0_tellsGuest_8 : List UInt8 := [20, 1, 178, 22, 5, 105, 42, 25, 4, 21, 7, 182, 1, 75, 133, 97, 55, 5, 132, 7, 1, 167, 255, 229]
abbrev dktX0_tellsGuest_8 : List UInt8 := dkwX0_tellsGuest_8 ++ dktX0_tellsGuest_9
def dkwX0_tellsGuest_7 : List UInt8 := [20, 1, 178, 22, 5, 105, 25, 4, 180, 1, 17, 133, 97, 55, 5, 3, 54, 7, 21, 7, 5, 162, 0, 27]
abbrev dktX0_tellsGuest_7 : List UInt8 := dkwX0_tellsGuest_7 ++ dktX0_tellsGuest_8
def dkwX0_tellsGuest_6 : List UInt8 := [105, 42, 180, 0, 63, 16, 23, 50, 29, 50, 21, 7, 46, 133, 97, 55, 5, 132, 7, 1, 167, 255, 225]
abbrev dktX0_tellsGuest_6 : List UInt8 := dkwX0_tellsGuest_6 ++ dktX0_tellsGuest_7
def dkwX0_tellsGuest_5 : List UInt8 := [133, 97, 55, 5, 132, 7, 1, 167, 255, 225, 3, 54, 7, 21, 7, 5, 162, 0, 31, 20, 1, 178, 22, 5]
abbrev dktX0_tellsGuest_5 : List UInt8 := dkwX0_tellsGuest_5 ++ dktX0_tellsGuest_6
def dkwX0_tellsGuest_4 : List UInt8 := [21, 7, 5, 162, 0, 31, 20, 1, 178, 22, 5, 105, 42, 180, 0, 63, 16, 11, 50, 29, 50, 21, 7, 46]
abbrev dktX0_tellsGuest_4 : List UInt8 := dkwX0_tellsGuest_4 ++ dktX0_tellsGuest_5
def dkwX0_tellsGuest_3 : List UInt8 := [180, 0, 63, 7, 50, 29, 50, 21, 7, 46, 133, 97, 55, 5, 132, 7, 1, 167, 255, 226, 3, 54, 7]
abbrev dktX0_tellsGuest_3 : List UInt8 := dkwX0_tellsGuest_3 ++ dktX0_tellsGuest_4
def dkwX0_tellsGuest_2 : List UInt8 := [132, 7, 1, 167, 255, 230, 3, 54, 7, 21, 7, 5, 162, 0, 30, 20, 1, 178, 22, 5, 105, 42]
abbrev dktX0_tellsGuest_2 : List UInt8 := dkwX0_tellsGuest_2 ++ dktX0_tellsGuest_3
def dkwX0_tellsGuest_1 : List UInt8 := [21, 7, 6, 162, 0, 26, 20, 1, 178, 22, 5, 105, 25, 4, 21, 7, 182, 0, 150, 133, 97, 55, 5]
abbrev dktX0_tellsGuest_1 : List UInt8 := dkwX0_tellsGuest_1 ++ dktX0_tellsGuest_2
def dkwX0_tellsGuest_0 : List UInt8 := [42, 180, 0, 37, 29, 182, 0, 138, 192, 0, 75, 58, 4, 42, 182, 1, 29, 31, 55, 5, 3, 54, 7]
abbrev dktX0_tellsGuest_0 : List UInt8 := dkwX0_tellsGuest_0 ++ dktX0_tellsGuest_1
theorem dksX0_tellsGuest_0 : cX0_tellsGuest.data.toList.drop 0 = dktX0_tellsGuest_0 := by decide +kernel
theorem dksX0_tellsGuest_1 : cX0_tellsGuest.data.toList.drop 23 = dktX0_tellsGuest_1 := dk_seg dksX0_tellsGuest_0 23 rfl rfl
theorem dksX0_tellsGuest_2 : cX0_tellsGuest.data.toList.drop 46 = dktX0_tellsGuest_2 := dk_seg dksX0_tellsGuest_1 23 rfl rfl
theorem dksX0_tellsGuest_3 : cX0_tellsGuest.data.toList.drop 68 = dktX0_tellsGuest_3 := dk_seg dksX0_tellsGuest_2 22 rfl rfl
theorem dksX0_tellsGuest_4 : cX0_tellsGuest.data.toList.drop 91 = dktX0_tellsGuest_4 := dk_seg dksX0_tellsGuest_3 23 rfl rfl
theorem dksX0_tellsGuest_5 : cX0_tellsGuest.data.toList.drop 115 = dktX0_tellsGuest_5 := dk_seg dksX0_tellsGuest_4 24 rfl rfl
theorem dksX0_tellsGuest_6 : cX0_tellsGuest.data.toList.drop 139 = dktX0_tellsGuest_6 := dk_seg dksX0_tellsGuest_5 24 rfl rfl
theorem dksX0_tellsGuest_7 : cX0_tellsGuest.data.toList.drop 162 = dktX0_tellsGuest_7 := dk_seg dksX0_tellsGuest_6 23 rfl rfl
theorem dksX0_tellsGuest_8 : cX0_tellsGuest.data.toList.drop 186 = dktX0_tellsGuest_8 := dk_seg dksX0_tellsGuest_7 24 rfl rfl
theorem dksX0_tellsGuest_9 : cX0_tellsGuest.data.toList.drop 210 = dktX0_tellsGuest_9 := dk_seg dksX0_tellsGuest_8 24 rfl rfl
theorem dksX0_tellsGuest_10 : cX0_tellsGuest.data.toList.drop 234 = dktX0_tellsGuest_10 := dk_seg dksX0_tellsGuest_9 24 rfl rfl
theorem dX0_tellsGuest_0 : decode cX0_tellsGuest 0 = .ok (.aload_n 0, 1) := dk_42 (dk_at dksX0_tellsGuest_0 0 rfl rfl)
theorem dX0_tellsGuest_1 : decode cX0_tellsGuest 1 = .ok (.getfield 37, 3) := dk_180 0 37 (dk_at dksX0_tellsGuest_0 1 rfl rfl)
theorem dX0_tellsGuest_4 : decode cX0_tellsGuest 4 = .ok (.iload_n 3, 1) := dk_29 (dk_at dksX0_tellsGuest_0 4 rfl rfl)
theorem dX0_tellsGuest_5 : decode cX0_tellsGuest 5 = .ok (.invokevirtual 138, 3) := dk_182 0 138 (dk_at dksX0_tellsGuest_0 5 rfl rfl)
theorem dX0_tellsGuest_8 : decode cX0_tellsGuest 8 = .ok (.checkcast 75, 3) := dk_192 0 75 (dk_at dksX0_tellsGuest_0 8 rfl rfl)
theorem dX0_tellsGuest_11 : decode cX0_tellsGuest 11 = .ok (.astore 4, 2) := dk_58 4 (dk_at dksX0_tellsGuest_0 11 rfl rfl)
theorem dX0_tellsGuest_13 : decode cX0_tellsGuest 13 = .ok (.aload_n 0, 1) := dk_42 (dk_at dksX0_tellsGuest_0 13 rfl rfl)
theorem dX0_tellsGuest_14 : decode cX0_tellsGuest 14 = .ok (.invokevirtual 285, 3) := dk_182 1 29 (dk_at dksX0_tellsGuest_0 14 rfl rfl)
theorem dX0_tellsGuest_17 : decode cX0_tellsGuest 17 = .ok (.lload_n 1, 1) := dk_31 (dk_at dksX0_tellsGuest_0 17 rfl rfl)
theorem dX0_tellsGuest_18 : decode cX0_tellsGuest 18 = .ok (.lstore 5, 2) := dk_55 5 (dk_at dksX0_tellsGuest_0 18 rfl rfl)
theorem dX0_tellsGuest_20 : decode cX0_tellsGuest 20 = .ok (.iconst 0, 1) := dk_3 (dk_at dksX0_tellsGuest_0 20 rfl rfl)
theorem dX0_tellsGuest_21 : decode cX0_tellsGuest 21 = .ok (.istore 7, 2) := dk_54 7 (dk_at dksX0_tellsGuest_0 21 rfl rfl)
theorem dX0_tellsGuest_23 : decode cX0_tellsGuest 23 = .ok (.iload 7, 2) := dk_21 7 (dk_at dksX0_tellsGuest_1 0 rfl rfl)
theorem dX0_tellsGuest_25 : decode cX0_tellsGuest 25 = .ok (.iconst 3, 1) := dk_6 (dk_at dksX0_tellsGuest_1 2 rfl rfl)
theorem dX0_tellsGuest_26 : decode cX0_tellsGuest 26 = .ok (.if_icmp .ge 26, 3) := dk_162 0 26 (dk_at dksX0_tellsGuest_1 3 rfl rfl)
theorem dX0_tellsGuest_29 : decode cX0_tellsGuest 29 = .ok (.ldc2_w 434, 3) := dk_20 1 178 (dk_at dksX0_tellsGuest_1 6 rfl rfl)
theorem dX0_tellsGuest_32 : decode cX0_tellsGuest 32 = .ok (.lload 5, 2) := dk_22 5 (dk_at dksX0_tellsGuest_1 9 rfl rfl)
theorem dX0_tellsGuest_34 : decode cX0_tellsGuest 34 = .ok (.lmul, 1) := dk_105 (dk_at dksX0_tellsGuest_1 11 rfl rfl)
theorem dX0_tellsGuest_35 : decode cX0_tellsGuest 35 = .ok (.aload 4, 2) := dk_25 4 (dk_at dksX0_tellsGuest_1 12 rfl rfl)
theorem dX0_tellsGuest_37 : decode cX0_tellsGuest 37 = .ok (.iload 7, 2) := dk_21 7 (dk_at dksX0_tellsGuest_1 14 rfl rfl)
theorem dX0_tellsGuest_39 : decode cX0_tellsGuest 39 = .ok (.invokevirtual 150, 3) := dk_182 0 150 (dk_at dksX0_tellsGuest_1 16 rfl rfl)
theorem dX0_tellsGuest_42 : decode cX0_tellsGuest 42 = .ok (.i2l, 1) := dk_133 (dk_at dksX0_tellsGuest_1 19 rfl rfl)
theorem dX0_tellsGuest_43 : decode cX0_tellsGuest 43 = .ok (.ladd, 1) := dk_97 (dk_at dksX0_tellsGuest_1 20 rfl rfl)
theorem dX0_tellsGuest_44 : decode cX0_tellsGuest 44 = .ok (.lstore 5, 2) := dk_55 5 (dk_at dksX0_tellsGuest_1 21 rfl rfl)
theorem dX0_tellsGuest_46 : decode cX0_tellsGuest 46 = .ok (.iinc 7 1, 3) := dk_132 7 1 (dk_at dksX0_tellsGuest_2 0 rfl rfl)
theorem dX0_tellsGuest_49 : decode cX0_tellsGuest 49 = .ok (.goto (-26), 3) := dk_167 255 230 (dk_at dksX0_tellsGuest_2 3 rfl rfl)
theorem dX0_tellsGuest_52 : decode cX0_tellsGuest 52 = .ok (.iconst 0, 1) := dk_3 (dk_at dksX0_tellsGuest_2 6 rfl rfl)
theorem dX0_tellsGuest_53 : decode cX0_tellsGuest 53 = .ok (.istore 7, 2) := dk_54 7 (dk_at dksX0_tellsGuest_2 7 rfl rfl)
theorem dX0_tellsGuest_55 : decode cX0_tellsGuest 55 = .ok (.iload 7, 2) := dk_21 7 (dk_at dksX0_tellsGuest_2 9 rfl rfl)
theorem dX0_tellsGuest_57 : decode cX0_tellsGuest 57 = .ok (.iconst 2, 1) := dk_5 (dk_at dksX0_tellsGuest_2 11 rfl rfl)
theorem dX0_tellsGuest_58 : decode cX0_tellsGuest 58 = .ok (.if_icmp .ge 30, 3) := dk_162 0 30 (dk_at dksX0_tellsGuest_2 12 rfl rfl)
theorem dX0_tellsGuest_61 : decode cX0_tellsGuest 61 = .ok (.ldc2_w 434, 3) := dk_20 1 178 (dk_at dksX0_tellsGuest_2 15 rfl rfl)
theorem dX0_tellsGuest_64 : decode cX0_tellsGuest 64 = .ok (.lload 5, 2) := dk_22 5 (dk_at dksX0_tellsGuest_2 18 rfl rfl)
theorem dX0_tellsGuest_66 : decode cX0_tellsGuest 66 = .ok (.lmul, 1) := dk_105 (dk_at dksX0_tellsGuest_2 20 rfl rfl)
theorem dX0_tellsGuest_67 : decode cX0_tellsGuest 67 = .ok (.aload_n 0, 1) := dk_42 (dk_at dksX0_tellsGuest_2 21 rfl rfl)
theorem dX0_tellsGuest_68 : decode cX0_tellsGuest 68 = .ok (.getfield 63, 3) := dk_180 0 63 (dk_at dksX0_tellsGuest_3 0 rfl rfl)
theorem dX0_tellsGuest_71 : decode cX0_tellsGuest 71 = .ok (.iconst 4, 1) := dk_7 (dk_at dksX0_tellsGuest_3 3 rfl rfl)
theorem dX0_tellsGuest_72 : decode cX0_tellsGuest 72 = .ok (.aaload, 1) := dk_50 (dk_at dksX0_tellsGuest_3 4 rfl rfl)
theorem dX0_tellsGuest_73 : decode cX0_tellsGuest 73 = .ok (.iload_n 3, 1) := dk_29 (dk_at dksX0_tellsGuest_3 5 rfl rfl)
theorem dX0_tellsGuest_74 : decode cX0_tellsGuest 74 = .ok (.aaload, 1) := dk_50 (dk_at dksX0_tellsGuest_3 6 rfl rfl)
theorem dX0_tellsGuest_75 : decode cX0_tellsGuest 75 = .ok (.iload 7, 2) := dk_21 7 (dk_at dksX0_tellsGuest_3 7 rfl rfl)
theorem dX0_tellsGuest_77 : decode cX0_tellsGuest 77 = .ok (.iaload, 1) := dk_46 (dk_at dksX0_tellsGuest_3 9 rfl rfl)
theorem dX0_tellsGuest_78 : decode cX0_tellsGuest 78 = .ok (.i2l, 1) := dk_133 (dk_at dksX0_tellsGuest_3 10 rfl rfl)
theorem dX0_tellsGuest_79 : decode cX0_tellsGuest 79 = .ok (.ladd, 1) := dk_97 (dk_at dksX0_tellsGuest_3 11 rfl rfl)
theorem dX0_tellsGuest_80 : decode cX0_tellsGuest 80 = .ok (.lstore 5, 2) := dk_55 5 (dk_at dksX0_tellsGuest_3 12 rfl rfl)
theorem dX0_tellsGuest_82 : decode cX0_tellsGuest 82 = .ok (.iinc 7 1, 3) := dk_132 7 1 (dk_at dksX0_tellsGuest_3 14 rfl rfl)
theorem dX0_tellsGuest_85 : decode cX0_tellsGuest 85 = .ok (.goto (-30), 3) := dk_167 255 226 (dk_at dksX0_tellsGuest_3 17 rfl rfl)
theorem dX0_tellsGuest_88 : decode cX0_tellsGuest 88 = .ok (.iconst 0, 1) := dk_3 (dk_at dksX0_tellsGuest_3 20 rfl rfl)
theorem dX0_tellsGuest_89 : decode cX0_tellsGuest 89 = .ok (.istore 7, 2) := dk_54 7 (dk_at dksX0_tellsGuest_3 21 rfl rfl)
theorem dX0_tellsGuest_91 : decode cX0_tellsGuest 91 = .ok (.iload 7, 2) := dk_21 7 (dk_at dksX0_tellsGuest_4 0 rfl rfl)
theorem dX0_tellsGuest_93 : decode cX0_tellsGuest 93 = .ok (.iconst 2, 1) := dk_5 (dk_at dksX0_tellsGuest_4 2 rfl rfl)
theorem dX0_tellsGuest_94 : decode cX0_tellsGuest 94 = .ok (.if_icmp .ge 31, 3) := dk_162 0 31 (dk_at dksX0_tellsGuest_4 3 rfl rfl)
theorem dX0_tellsGuest_97 : decode cX0_tellsGuest 97 = .ok (.ldc2_w 434, 3) := dk_20 1 178 (dk_at dksX0_tellsGuest_4 6 rfl rfl)
theorem dX0_tellsGuest_100 : decode cX0_tellsGuest 100 = .ok (.lload 5, 2) := dk_22 5 (dk_at dksX0_tellsGuest_4 9 rfl rfl)
theorem dX0_tellsGuest_102 : decode cX0_tellsGuest 102 = .ok (.lmul, 1) := dk_105 (dk_at dksX0_tellsGuest_4 11 rfl rfl)
theorem dX0_tellsGuest_103 : decode cX0_tellsGuest 103 = .ok (.aload_n 0, 1) := dk_42 (dk_at dksX0_tellsGuest_4 12 rfl rfl)
theorem dX0_tellsGuest_104 : decode cX0_tellsGuest 104 = .ok (.getfield 63, 3) := dk_180 0 63 (dk_at dksX0_tellsGuest_4 13 rfl rfl)
theorem dX0_tellsGuest_107 : decode cX0_tellsGuest 107 = .ok (.bipush 11, 2) := dk_16 11 (dk_at dksX0_tellsGuest_4 16 rfl rfl)
theorem dX0_tellsGuest_109 : decode cX0_tellsGuest 109 = .ok (.aaload, 1) := dk_50 (dk_at dksX0_tellsGuest_4 18 rfl rfl)
theorem dX0_tellsGuest_110 : decode cX0_tellsGuest 110 = .ok (.iload_n 3, 1) := dk_29 (dk_at dksX0_tellsGuest_4 19 rfl rfl)
theorem dX0_tellsGuest_111 : decode cX0_tellsGuest 111 = .ok (.aaload, 1) := dk_50 (dk_at dksX0_tellsGuest_4 20 rfl rfl)
theorem dX0_tellsGuest_112 : decode cX0_tellsGuest 112 = .ok (.iload 7, 2) := dk_21 7 (dk_at dksX0_tellsGuest_4 21 rfl rfl)
theorem dX0_tellsGuest_114 : decode cX0_tellsGuest 114 = .ok (.iaload, 1) := dk_46 (dk_at dksX0_tellsGuest_4 23 rfl rfl)
theorem dX0_tellsGuest_115 : decode cX0_tellsGuest 115 = .ok (.i2l, 1) := dk_133 (dk_at dksX0_tellsGuest_5 0 rfl rfl)
theorem dX0_tellsGuest_116 : decode cX0_tellsGuest 116 = .ok (.ladd, 1) := dk_97 (dk_at dksX0_tellsGuest_5 1 rfl rfl)
theorem dX0_tellsGuest_117 : decode cX0_tellsGuest 117 = .ok (.lstore 5, 2) := dk_55 5 (dk_at dksX0_tellsGuest_5 2 rfl rfl)
theorem dX0_tellsGuest_119 : decode cX0_tellsGuest 119 = .ok (.iinc 7 1, 3) := dk_132 7 1 (dk_at dksX0_tellsGuest_5 4 rfl rfl)
theorem dX0_tellsGuest_122 : decode cX0_tellsGuest 122 = .ok (.goto (-31), 3) := dk_167 255 225 (dk_at dksX0_tellsGuest_5 7 rfl rfl)
theorem dX0_tellsGuest_125 : decode cX0_tellsGuest 125 = .ok (.iconst 0, 1) := dk_3 (dk_at dksX0_tellsGuest_5 10 rfl rfl)
theorem dX0_tellsGuest_126 : decode cX0_tellsGuest 126 = .ok (.istore 7, 2) := dk_54 7 (dk_at dksX0_tellsGuest_5 11 rfl rfl)
theorem dX0_tellsGuest_128 : decode cX0_tellsGuest 128 = .ok (.iload 7, 2) := dk_21 7 (dk_at dksX0_tellsGuest_5 13 rfl rfl)
theorem dX0_tellsGuest_130 : decode cX0_tellsGuest 130 = .ok (.iconst 2, 1) := dk_5 (dk_at dksX0_tellsGuest_5 15 rfl rfl)
theorem dX0_tellsGuest_131 : decode cX0_tellsGuest 131 = .ok (.if_icmp .ge 31, 3) := dk_162 0 31 (dk_at dksX0_tellsGuest_5 16 rfl rfl)
theorem dX0_tellsGuest_134 : decode cX0_tellsGuest 134 = .ok (.ldc2_w 434, 3) := dk_20 1 178 (dk_at dksX0_tellsGuest_5 19 rfl rfl)
theorem dX0_tellsGuest_137 : decode cX0_tellsGuest 137 = .ok (.lload 5, 2) := dk_22 5 (dk_at dksX0_tellsGuest_5 22 rfl rfl)
theorem dX0_tellsGuest_139 : decode cX0_tellsGuest 139 = .ok (.lmul, 1) := dk_105 (dk_at dksX0_tellsGuest_6 0 rfl rfl)
theorem dX0_tellsGuest_140 : decode cX0_tellsGuest 140 = .ok (.aload_n 0, 1) := dk_42 (dk_at dksX0_tellsGuest_6 1 rfl rfl)
theorem dX0_tellsGuest_141 : decode cX0_tellsGuest 141 = .ok (.getfield 63, 3) := dk_180 0 63 (dk_at dksX0_tellsGuest_6 2 rfl rfl)
theorem dX0_tellsGuest_144 : decode cX0_tellsGuest 144 = .ok (.bipush 23, 2) := dk_16 23 (dk_at dksX0_tellsGuest_6 5 rfl rfl)
theorem dX0_tellsGuest_146 : decode cX0_tellsGuest 146 = .ok (.aaload, 1) := dk_50 (dk_at dksX0_tellsGuest_6 7 rfl rfl)
theorem dX0_tellsGuest_147 : decode cX0_tellsGuest 147 = .ok (.iload_n 3, 1) := dk_29 (dk_at dksX0_tellsGuest_6 8 rfl rfl)
theorem dX0_tellsGuest_148 : decode cX0_tellsGuest 148 = .ok (.aaload, 1) := dk_50 (dk_at dksX0_tellsGuest_6 9 rfl rfl)
theorem dX0_tellsGuest_149 : decode cX0_tellsGuest 149 = .ok (.iload 7, 2) := dk_21 7 (dk_at dksX0_tellsGuest_6 10 rfl rfl)
theorem dX0_tellsGuest_151 : decode cX0_tellsGuest 151 = .ok (.iaload, 1) := dk_46 (dk_at dksX0_tellsGuest_6 12 rfl rfl)
theorem dX0_tellsGuest_152 : decode cX0_tellsGuest 152 = .ok (.i2l, 1) := dk_133 (dk_at dksX0_tellsGuest_6 13 rfl rfl)
theorem dX0_tellsGuest_153 : decode cX0_tellsGuest 153 = .ok (.ladd, 1) := dk_97 (dk_at dksX0_tellsGuest_6 14 rfl rfl)
theorem dX0_tellsGuest_154 : decode cX0_tellsGuest 154 = .ok (.lstore 5, 2) := dk_55 5 (dk_at dksX0_tellsGuest_6 15 rfl rfl)
theorem dX0_tellsGuest_156 : decode cX0_tellsGuest 156 = .ok (.iinc 7 1, 3) := dk_132 7 1 (dk_at dksX0_tellsGuest_6 17 rfl rfl)
theorem dX0_tellsGuest_159 : decode cX0_tellsGuest 159 = .ok (.goto (-31), 3) := dk_167 255 225 (dk_at dksX0_tellsGuest_6 20 rfl rfl)
theorem dX0_tellsGuest_162 : decode cX0_tellsGuest 162 = .ok (.ldc2_w 434, 3) := dk_20 1 178 (dk_at dksX0_tellsGuest_7 0 rfl rfl)
theorem dX0_tellsGuest_165 : decode cX0_tellsGuest 165 = .ok (.lload 5, 2) := dk_22 5 (dk_at dksX0_tellsGuest_7 3 rfl rfl)
theorem dX0_tellsGuest_167 : decode cX0_tellsGuest 167 = .ok (.lmul, 1) := dk_105 (dk_at dksX0_tellsGuest_7 5 rfl rfl)
theorem dX0_tellsGuest_168 : decode cX0_tellsGuest 168 = .ok (.aload 4, 2) := dk_25 4 (dk_at dksX0_tellsGuest_7 6 rfl rfl)
theorem dX0_tellsGuest_170 : decode cX0_tellsGuest 170 = .ok (.getfield 273, 3) := dk_180 1 17 (dk_at dksX0_tellsGuest_7 8 rfl rfl)
theorem dX0_tellsGuest_173 : decode cX0_tellsGuest 173 = .ok (.i2l, 1) := dk_133 (dk_at dksX0_tellsGuest_7 11 rfl rfl)
theorem dX0_tellsGuest_174 : decode cX0_tellsGuest 174 = .ok (.ladd, 1) := dk_97 (dk_at dksX0_tellsGuest_7 12 rfl rfl)
theorem dX0_tellsGuest_175 : decode cX0_tellsGuest 175 = .ok (.lstore 5, 2) := dk_55 5 (dk_at dksX0_tellsGuest_7 13 rfl rfl)
theorem dX0_tellsGuest_177 : decode cX0_tellsGuest 177 = .ok (.iconst 0, 1) := dk_3 (dk_at dksX0_tellsGuest_7 15 rfl rfl)
theorem dX0_tellsGuest_178 : decode cX0_tellsGuest 178 = .ok (.istore 7, 2) := dk_54 7 (dk_at dksX0_tellsGuest_7 16 rfl rfl)
theorem dX0_tellsGuest_180 : decode cX0_tellsGuest 180 = .ok (.iload 7, 2) := dk_21 7 (dk_at dksX0_tellsGuest_7 18 rfl rfl)
theorem dX0_tellsGuest_182 : decode cX0_tellsGuest 182 = .ok (.iconst 2, 1) := dk_5 (dk_at dksX0_tellsGuest_7 20 rfl rfl)
theorem dX0_tellsGuest_183 : decode cX0_tellsGuest 183 = .ok (.if_icmp .ge 27, 3) := dk_162 0 27 (dk_at dksX0_tellsGuest_7 21 rfl rfl)
theorem dX0_tellsGuest_186 : decode cX0_tellsGuest 186 = .ok (.ldc2_w 434, 3) := dk_20 1 178 (dk_at dksX0_tellsGuest_8 0 rfl rfl)
theorem dX0_tellsGuest_189 : decode cX0_tellsGuest 189 = .ok (.lload 5, 2) := dk_22 5 (dk_at dksX0_tellsGuest_8 3 rfl rfl)
theorem dX0_tellsGuest_191 : decode cX0_tellsGuest 191 = .ok (.lmul, 1) := dk_105 (dk_at dksX0_tellsGuest_8 5 rfl rfl)
theorem dX0_tellsGuest_192 : decode cX0_tellsGuest 192 = .ok (.aload_n 0, 1) := dk_42 (dk_at dksX0_tellsGuest_8 6 rfl rfl)
theorem dX0_tellsGuest_193 : decode cX0_tellsGuest 193 = .ok (.aload 4, 2) := dk_25 4 (dk_at dksX0_tellsGuest_8 7 rfl rfl)
theorem dX0_tellsGuest_195 : decode cX0_tellsGuest 195 = .ok (.iload 7, 2) := dk_21 7 (dk_at dksX0_tellsGuest_8 9 rfl rfl)
theorem dX0_tellsGuest_197 : decode cX0_tellsGuest 197 = .ok (.invokevirtual 331, 3) := dk_182 1 75 (dk_at dksX0_tellsGuest_8 11 rfl rfl)
theorem dX0_tellsGuest_200 : decode cX0_tellsGuest 200 = .ok (.i2l, 1) := dk_133 (dk_at dksX0_tellsGuest_8 14 rfl rfl)
theorem dX0_tellsGuest_201 : decode cX0_tellsGuest 201 = .ok (.ladd, 1) := dk_97 (dk_at dksX0_tellsGuest_8 15 rfl rfl)
theorem dX0_tellsGuest_202 : decode cX0_tellsGuest 202 = .ok (.lstore 5, 2) := dk_55 5 (dk_at dksX0_tellsGuest_8 16 rfl rfl)
theorem dX0_tellsGuest_204 : decode cX0_tellsGuest 204 = .ok (.iinc 7 1, 3) := dk_132 7 1 (dk_at dksX0_tellsGuest_8 18 rfl rfl)
theorem dX0_tellsGuest_207 : decode cX0_tellsGuest 207 = .ok (.goto (-27), 3) := dk_167 255 229 (dk_at dksX0_tellsGuest_8 21 rfl rfl)
theorem dX0_tellsGuest_210 : decode cX0_tellsGuest 210 = .ok (.iconst 0, 1) := dk_3 (dk_at dksX0_tellsGuest_9 0 rfl rfl)
theorem dX0_tellsGuest_211 : decode cX0_tellsGuest 211 = .ok (.istore 7, 2) := dk_54 7 (dk_at dksX0_tellsGuest_9 1 rfl rfl)
theorem dX0_tellsGuest_213 : decode cX0_tellsGuest 213 = .ok (.iload 7, 2) := dk_21 7 (dk_at dksX0_tellsGuest_9 3 rfl rfl)
theorem dX0_tellsGuest_215 : decode cX0_tellsGuest 215 = .ok (.iconst 2, 1) := dk_5 (dk_at dksX0_tellsGuest_9 5 rfl rfl)
theorem dX0_tellsGuest_216 : decode cX0_tellsGuest 216 = .ok (.if_icmp .ge 26, 3) := dk_162 0 26 (dk_at dksX0_tellsGuest_9 6 rfl rfl)
theorem dX0_tellsGuest_219 : decode cX0_tellsGuest 219 = .ok (.ldc2_w 434, 3) := dk_20 1 178 (dk_at dksX0_tellsGuest_9 9 rfl rfl)
theorem dX0_tellsGuest_222 : decode cX0_tellsGuest 222 = .ok (.lload 5, 2) := dk_22 5 (dk_at dksX0_tellsGuest_9 12 rfl rfl)
theorem dX0_tellsGuest_224 : decode cX0_tellsGuest 224 = .ok (.lmul, 1) := dk_105 (dk_at dksX0_tellsGuest_9 14 rfl rfl)
theorem dX0_tellsGuest_225 : decode cX0_tellsGuest 225 = .ok (.aload_n 0, 1) := dk_42 (dk_at dksX0_tellsGuest_9 15 rfl rfl)
theorem dX0_tellsGuest_226 : decode cX0_tellsGuest 226 = .ok (.iconst 5, 1) := dk_8 (dk_at dksX0_tellsGuest_9 16 rfl rfl)
theorem dX0_tellsGuest_227 : decode cX0_tellsGuest 227 = .ok (.iload_n 3, 1) := dk_29 (dk_at dksX0_tellsGuest_9 17 rfl rfl)
theorem dX0_tellsGuest_228 : decode cX0_tellsGuest 228 = .ok (.iload 7, 2) := dk_21 7 (dk_at dksX0_tellsGuest_9 18 rfl rfl)
theorem dX0_tellsGuest_230 : decode cX0_tellsGuest 230 = .ok (.invokevirtual 372, 3) := dk_182 1 116 (dk_at dksX0_tellsGuest_9 20 rfl rfl)
theorem dX0_tellsGuest_233 : decode cX0_tellsGuest 233 = .ok (.ladd, 1) := dk_97 (dk_at dksX0_tellsGuest_9 23 rfl rfl)
theorem dX0_tellsGuest_234 : decode cX0_tellsGuest 234 = .ok (.lstore 5, 2) := dk_55 5 (dk_at dksX0_tellsGuest_10 0 rfl rfl)
theorem dX0_tellsGuest_236 : decode cX0_tellsGuest 236 = .ok (.iinc 7 1, 3) := dk_132 7 1 (dk_at dksX0_tellsGuest_10 2 rfl rfl)
theorem dX0_tellsGuest_239 : decode cX0_tellsGuest 239 = .ok (.goto (-26), 3) := dk_167 255 230 (dk_at dksX0_tellsGuest_10 5 rfl rfl)
theorem dX0_tellsGuest_242 : decode cX0_tellsGuest 242 = .ok (.lload 5, 2) := dk_22 5 (dk_at dksX0_tellsGuest_10 8 rfl rfl)
theorem dX0_tellsGuest_244 : decode cX0_tellsGuest 244 = .ok (.lreturn, 1) := dk_173 (dk_at dksX0_tellsGuest_10 10 rfl rfl)
