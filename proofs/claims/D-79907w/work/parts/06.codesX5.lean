set_option maxRecDepth 100000
abbrev cX5_init : ByteArray := prog_15_method_1_code
def yX5_init : MethodName := ⟨RX5, "<init>", "()V"⟩
def dkwX5_init_11 : List UInt8 := [188, 10, 181, 0, 107, 42, 16, 16, 181, 0, 110, 42, 16, 16, 181, 0, 114, 177]
abbrev dktX5_init_11 : List UInt8 := dkwX5_init_11 ++ []
def dkwX5_init_10 : List UInt8 := [188, 10, 181, 0, 98, 42, 7, 188, 10, 181, 0, 101, 42, 17, 0, 240, 188, 10, 181, 0, 104, 42, 16, 60]
abbrev dktX5_init_10 : List UInt8 := dkwX5_init_10 ++ dktX5_init_11
def dkwX5_init_9 : List UInt8 := [16, 8, 188, 10, 181, 0, 88, 42, 16, 24, 188, 10, 181, 0, 91, 42, 7, 188, 4, 181, 0, 94, 42, 7]
abbrev dktX5_init_9 : List UInt8 := dkwX5_init_9 ++ dktX5_init_10
def dkwX5_init_8 : List UInt8 := [17, 0, 192, 188, 10, 181, 0, 79, 42, 5, 188, 10, 181, 0, 82, 42, 16, 8, 188, 10, 181, 0, 85, 42]
abbrev dktX5_init_8 : List UInt8 := dkwX5_init_8 ++ dktX5_init_9
def dkwX5_init_7 : List UInt8 := [188, 10, 181, 0, 70, 42, 16, 24, 188, 10, 181, 0, 73, 42, 17, 0, 192, 188, 10, 181, 0, 76, 42]
abbrev dktX5_init_7 : List UInt8 := dkwX5_init_7 ++ dktX5_init_8
def dkwX5_init_6 : List UInt8 := [181, 0, 61, 42, 16, 8, 188, 10, 181, 0, 64, 42, 16, 8, 188, 10, 181, 0, 67, 42, 17, 0, 144]
abbrev dktX5_init_6 : List UInt8 := dkwX5_init_6 ++ dktX5_init_7
def dkwX5_init_5 : List UInt8 := [181, 0, 52, 42, 16, 8, 188, 10, 181, 0, 55, 42, 16, 8, 188, 10, 181, 0, 58, 42, 16, 8, 188, 10]
abbrev dktX5_init_5 : List UInt8 := dkwX5_init_5 ++ dktX5_init_6
def dkwX5_init_4 : List UInt8 := [181, 0, 43, 42, 16, 8, 188, 10, 181, 0, 46, 42, 16, 8, 188, 10, 181, 0, 49, 42, 16, 8, 188, 10]
abbrev dktX5_init_4 : List UInt8 := dkwX5_init_4 ++ dktX5_init_5
def dkwX5_init_3 : List UInt8 := [181, 0, 34, 42, 16, 8, 188, 10, 181, 0, 37, 42, 16, 8, 188, 10, 181, 0, 40, 42, 16, 8, 188, 10]
abbrev dktX5_init_3 : List UInt8 := dkwX5_init_3 ++ dktX5_init_4
def dkwX5_init_2 : List UInt8 := [181, 0, 25, 42, 16, 9, 188, 10, 181, 0, 28, 42, 16, 9, 188, 10, 181, 0, 31, 42, 16, 8, 188, 10]
abbrev dktX5_init_2 : List UInt8 := dkwX5_init_2 ++ dktX5_init_3
def dkwX5_init_1 : List UInt8 := [181, 0, 16, 42, 16, 9, 188, 10, 181, 0, 19, 42, 16, 9, 188, 10, 181, 0, 22, 42, 16, 9, 188, 10]
abbrev dktX5_init_1 : List UInt8 := dkwX5_init_1 ++ dktX5_init_2
def dkwX5_init_0 : List UInt8 := [42, 183, 0, 1, 42, 5, 188, 10, 181, 0, 7, 42, 16, 62, 188, 10, 181, 0, 13, 42, 16, 9, 188, 10]
abbrev dktX5_init_0 : List UInt8 := dkwX5_init_0 ++ dktX5_init_1
theorem dksX5_init_0 : cX5_init.data.toList.drop 0 = dktX5_init_0 := by decide +kernel
theorem dksX5_init_1 : cX5_init.data.toList.drop 24 = dktX5_init_1 := dk_seg dksX5_init_0 24 rfl rfl
theorem dksX5_init_2 : cX5_init.data.toList.drop 48 = dktX5_init_2 := dk_seg dksX5_init_1 24 rfl rfl
theorem dksX5_init_3 : cX5_init.data.toList.drop 72 = dktX5_init_3 := dk_seg dksX5_init_2 24 rfl rfl
theorem dksX5_init_4 : cX5_init.data.toList.drop 96 = dktX5_init_4 := dk_seg dksX5_init_3 24 rfl rfl
theorem dksX5_init_5 : cX5_init.data.toList.drop 120 = dktX5_init_5 := dk_seg dksX5_init_4 24 rfl rfl
theorem dksX5_init_6 : cX5_init.data.toList.drop 144 = dktX5_init_6 := dk_seg dksX5_init_5 24 rfl rfl
theorem dksX5_init_7 : cX5_init.data.toList.drop 167 = dktX5_init_7 := dk_seg dksX5_init_6 23 rfl rfl
theorem dksX5_init_8 : cX5_init.data.toList.drop 190 = dktX5_init_8 := dk_seg dksX5_init_7 23 rfl rfl
theorem dksX5_init_9 : cX5_init.data.toList.drop 214 = dktX5_init_9 := dk_seg dksX5_init_8 24 rfl rfl
theorem dksX5_init_10 : cX5_init.data.toList.drop 238 = dktX5_init_10 := dk_seg dksX5_init_9 24 rfl rfl
theorem dksX5_init_11 : cX5_init.data.toList.drop 262 = dktX5_init_11 := dk_seg dksX5_init_10 24 rfl rfl
theorem dX5_init_0 : decode cX5_init 0 = .ok (.aload_n 0, 1) := dk_42 (dk_at dksX5_init_0 0 rfl rfl)
theorem dX5_init_1 : decode cX5_init 1 = .ok (.invokespecial 1, 3) := dk_183 0 1 (dk_at dksX5_init_0 1 rfl rfl)
theorem dX5_init_4 : decode cX5_init 4 = .ok (.aload_n 0, 1) := dk_42 (dk_at dksX5_init_0 4 rfl rfl)
theorem dX5_init_5 : decode cX5_init 5 = .ok (.iconst 2, 1) := dk_5 (dk_at dksX5_init_0 5 rfl rfl)
theorem dX5_init_6 : decode cX5_init 6 = .ok (.newarray .int, 2) := dk_188_10 (dk_at dksX5_init_0 6 rfl rfl)
theorem dX5_init_8 : decode cX5_init 8 = .ok (.putfield 7, 3) := dk_181 0 7 (dk_at dksX5_init_0 8 rfl rfl)
theorem dX5_init_11 : decode cX5_init 11 = .ok (.aload_n 0, 1) := dk_42 (dk_at dksX5_init_0 11 rfl rfl)
theorem dX5_init_12 : decode cX5_init 12 = .ok (.bipush 62, 2) := dk_16 62 (dk_at dksX5_init_0 12 rfl rfl)
theorem dX5_init_14 : decode cX5_init 14 = .ok (.newarray .int, 2) := dk_188_10 (dk_at dksX5_init_0 14 rfl rfl)
theorem dX5_init_16 : decode cX5_init 16 = .ok (.putfield 13, 3) := dk_181 0 13 (dk_at dksX5_init_0 16 rfl rfl)
theorem dX5_init_19 : decode cX5_init 19 = .ok (.aload_n 0, 1) := dk_42 (dk_at dksX5_init_0 19 rfl rfl)
theorem dX5_init_20 : decode cX5_init 20 = .ok (.bipush 9, 2) := dk_16 9 (dk_at dksX5_init_0 20 rfl rfl)
theorem dX5_init_22 : decode cX5_init 22 = .ok (.newarray .int, 2) := dk_188_10 (dk_at dksX5_init_0 22 rfl rfl)
theorem dX5_init_24 : decode cX5_init 24 = .ok (.putfield 16, 3) := dk_181 0 16 (dk_at dksX5_init_1 0 rfl rfl)
theorem dX5_init_27 : decode cX5_init 27 = .ok (.aload_n 0, 1) := dk_42 (dk_at dksX5_init_1 3 rfl rfl)
theorem dX5_init_28 : decode cX5_init 28 = .ok (.bipush 9, 2) := dk_16 9 (dk_at dksX5_init_1 4 rfl rfl)
theorem dX5_init_30 : decode cX5_init 30 = .ok (.newarray .int, 2) := dk_188_10 (dk_at dksX5_init_1 6 rfl rfl)
theorem dX5_init_32 : decode cX5_init 32 = .ok (.putfield 19, 3) := dk_181 0 19 (dk_at dksX5_init_1 8 rfl rfl)
theorem dX5_init_35 : decode cX5_init 35 = .ok (.aload_n 0, 1) := dk_42 (dk_at dksX5_init_1 11 rfl rfl)
theorem dX5_init_36 : decode cX5_init 36 = .ok (.bipush 9, 2) := dk_16 9 (dk_at dksX5_init_1 12 rfl rfl)
theorem dX5_init_38 : decode cX5_init 38 = .ok (.newarray .int, 2) := dk_188_10 (dk_at dksX5_init_1 14 rfl rfl)
theorem dX5_init_40 : decode cX5_init 40 = .ok (.putfield 22, 3) := dk_181 0 22 (dk_at dksX5_init_1 16 rfl rfl)
theorem dX5_init_43 : decode cX5_init 43 = .ok (.aload_n 0, 1) := dk_42 (dk_at dksX5_init_1 19 rfl rfl)
theorem dX5_init_44 : decode cX5_init 44 = .ok (.bipush 9, 2) := dk_16 9 (dk_at dksX5_init_1 20 rfl rfl)
theorem dX5_init_46 : decode cX5_init 46 = .ok (.newarray .int, 2) := dk_188_10 (dk_at dksX5_init_1 22 rfl rfl)
theorem dX5_init_48 : decode cX5_init 48 = .ok (.putfield 25, 3) := dk_181 0 25 (dk_at dksX5_init_2 0 rfl rfl)
theorem dX5_init_51 : decode cX5_init 51 = .ok (.aload_n 0, 1) := dk_42 (dk_at dksX5_init_2 3 rfl rfl)
theorem dX5_init_52 : decode cX5_init 52 = .ok (.bipush 9, 2) := dk_16 9 (dk_at dksX5_init_2 4 rfl rfl)
theorem dX5_init_54 : decode cX5_init 54 = .ok (.newarray .int, 2) := dk_188_10 (dk_at dksX5_init_2 6 rfl rfl)
theorem dX5_init_56 : decode cX5_init 56 = .ok (.putfield 28, 3) := dk_181 0 28 (dk_at dksX5_init_2 8 rfl rfl)
theorem dX5_init_59 : decode cX5_init 59 = .ok (.aload_n 0, 1) := dk_42 (dk_at dksX5_init_2 11 rfl rfl)
theorem dX5_init_60 : decode cX5_init 60 = .ok (.bipush 9, 2) := dk_16 9 (dk_at dksX5_init_2 12 rfl rfl)
theorem dX5_init_62 : decode cX5_init 62 = .ok (.newarray .int, 2) := dk_188_10 (dk_at dksX5_init_2 14 rfl rfl)
theorem dX5_init_64 : decode cX5_init 64 = .ok (.putfield 31, 3) := dk_181 0 31 (dk_at dksX5_init_2 16 rfl rfl)
theorem dX5_init_67 : decode cX5_init 67 = .ok (.aload_n 0, 1) := dk_42 (dk_at dksX5_init_2 19 rfl rfl)
theorem dX5_init_68 : decode cX5_init 68 = .ok (.bipush 8, 2) := dk_16 8 (dk_at dksX5_init_2 20 rfl rfl)
theorem dX5_init_70 : decode cX5_init 70 = .ok (.newarray .int, 2) := dk_188_10 (dk_at dksX5_init_2 22 rfl rfl)
theorem dX5_init_72 : decode cX5_init 72 = .ok (.putfield 34, 3) := dk_181 0 34 (dk_at dksX5_init_3 0 rfl rfl)
theorem dX5_init_75 : decode cX5_init 75 = .ok (.aload_n 0, 1) := dk_42 (dk_at dksX5_init_3 3 rfl rfl)
theorem dX5_init_76 : decode cX5_init 76 = .ok (.bipush 8, 2) := dk_16 8 (dk_at dksX5_init_3 4 rfl rfl)
theorem dX5_init_78 : decode cX5_init 78 = .ok (.newarray .int, 2) := dk_188_10 (dk_at dksX5_init_3 6 rfl rfl)
theorem dX5_init_80 : decode cX5_init 80 = .ok (.putfield 37, 3) := dk_181 0 37 (dk_at dksX5_init_3 8 rfl rfl)
theorem dX5_init_83 : decode cX5_init 83 = .ok (.aload_n 0, 1) := dk_42 (dk_at dksX5_init_3 11 rfl rfl)
theorem dX5_init_84 : decode cX5_init 84 = .ok (.bipush 8, 2) := dk_16 8 (dk_at dksX5_init_3 12 rfl rfl)
theorem dX5_init_86 : decode cX5_init 86 = .ok (.newarray .int, 2) := dk_188_10 (dk_at dksX5_init_3 14 rfl rfl)
theorem dX5_init_88 : decode cX5_init 88 = .ok (.putfield 40, 3) := dk_181 0 40 (dk_at dksX5_init_3 16 rfl rfl)
theorem dX5_init_91 : decode cX5_init 91 = .ok (.aload_n 0, 1) := dk_42 (dk_at dksX5_init_3 19 rfl rfl)
theorem dX5_init_92 : decode cX5_init 92 = .ok (.bipush 8, 2) := dk_16 8 (dk_at dksX5_init_3 20 rfl rfl)
theorem dX5_init_94 : decode cX5_init 94 = .ok (.newarray .int, 2) := dk_188_10 (dk_at dksX5_init_3 22 rfl rfl)
theorem dX5_init_96 : decode cX5_init 96 = .ok (.putfield 43, 3) := dk_181 0 43 (dk_at dksX5_init_4 0 rfl rfl)
theorem dX5_init_99 : decode cX5_init 99 = .ok (.aload_n 0, 1) := dk_42 (dk_at dksX5_init_4 3 rfl rfl)
theorem dX5_init_100 : decode cX5_init 100 = .ok (.bipush 8, 2) := dk_16 8 (dk_at dksX5_init_4 4 rfl rfl)
theorem dX5_init_102 : decode cX5_init 102 = .ok (.newarray .int, 2) := dk_188_10 (dk_at dksX5_init_4 6 rfl rfl)
theorem dX5_init_104 : decode cX5_init 104 = .ok (.putfield 46, 3) := dk_181 0 46 (dk_at dksX5_init_4 8 rfl rfl)
theorem dX5_init_107 : decode cX5_init 107 = .ok (.aload_n 0, 1) := dk_42 (dk_at dksX5_init_4 11 rfl rfl)
theorem dX5_init_108 : decode cX5_init 108 = .ok (.bipush 8, 2) := dk_16 8 (dk_at dksX5_init_4 12 rfl rfl)
theorem dX5_init_110 : decode cX5_init 110 = .ok (.newarray .int, 2) := dk_188_10 (dk_at dksX5_init_4 14 rfl rfl)
theorem dX5_init_112 : decode cX5_init 112 = .ok (.putfield 49, 3) := dk_181 0 49 (dk_at dksX5_init_4 16 rfl rfl)
theorem dX5_init_115 : decode cX5_init 115 = .ok (.aload_n 0, 1) := dk_42 (dk_at dksX5_init_4 19 rfl rfl)
theorem dX5_init_116 : decode cX5_init 116 = .ok (.bipush 8, 2) := dk_16 8 (dk_at dksX5_init_4 20 rfl rfl)
theorem dX5_init_118 : decode cX5_init 118 = .ok (.newarray .int, 2) := dk_188_10 (dk_at dksX5_init_4 22 rfl rfl)
theorem dX5_init_120 : decode cX5_init 120 = .ok (.putfield 52, 3) := dk_181 0 52 (dk_at dksX5_init_5 0 rfl rfl)
theorem dX5_init_123 : decode cX5_init 123 = .ok (.aload_n 0, 1) := dk_42 (dk_at dksX5_init_5 3 rfl rfl)
theorem dX5_init_124 : decode cX5_init 124 = .ok (.bipush 8, 2) := dk_16 8 (dk_at dksX5_init_5 4 rfl rfl)
theorem dX5_init_126 : decode cX5_init 126 = .ok (.newarray .int, 2) := dk_188_10 (dk_at dksX5_init_5 6 rfl rfl)
theorem dX5_init_128 : decode cX5_init 128 = .ok (.putfield 55, 3) := dk_181 0 55 (dk_at dksX5_init_5 8 rfl rfl)
theorem dX5_init_131 : decode cX5_init 131 = .ok (.aload_n 0, 1) := dk_42 (dk_at dksX5_init_5 11 rfl rfl)
theorem dX5_init_132 : decode cX5_init 132 = .ok (.bipush 8, 2) := dk_16 8 (dk_at dksX5_init_5 12 rfl rfl)
theorem dX5_init_134 : decode cX5_init 134 = .ok (.newarray .int, 2) := dk_188_10 (dk_at dksX5_init_5 14 rfl rfl)
theorem dX5_init_136 : decode cX5_init 136 = .ok (.putfield 58, 3) := dk_181 0 58 (dk_at dksX5_init_5 16 rfl rfl)
theorem dX5_init_139 : decode cX5_init 139 = .ok (.aload_n 0, 1) := dk_42 (dk_at dksX5_init_5 19 rfl rfl)
theorem dX5_init_140 : decode cX5_init 140 = .ok (.bipush 8, 2) := dk_16 8 (dk_at dksX5_init_5 20 rfl rfl)
theorem dX5_init_142 : decode cX5_init 142 = .ok (.newarray .int, 2) := dk_188_10 (dk_at dksX5_init_5 22 rfl rfl)
theorem dX5_init_144 : decode cX5_init 144 = .ok (.putfield 61, 3) := dk_181 0 61 (dk_at dksX5_init_6 0 rfl rfl)
theorem dX5_init_147 : decode cX5_init 147 = .ok (.aload_n 0, 1) := dk_42 (dk_at dksX5_init_6 3 rfl rfl)
theorem dX5_init_148 : decode cX5_init 148 = .ok (.bipush 8, 2) := dk_16 8 (dk_at dksX5_init_6 4 rfl rfl)
theorem dX5_init_150 : decode cX5_init 150 = .ok (.newarray .int, 2) := dk_188_10 (dk_at dksX5_init_6 6 rfl rfl)
theorem dX5_init_152 : decode cX5_init 152 = .ok (.putfield 64, 3) := dk_181 0 64 (dk_at dksX5_init_6 8 rfl rfl)
theorem dX5_init_155 : decode cX5_init 155 = .ok (.aload_n 0, 1) := dk_42 (dk_at dksX5_init_6 11 rfl rfl)
theorem dX5_init_156 : decode cX5_init 156 = .ok (.bipush 8, 2) := dk_16 8 (dk_at dksX5_init_6 12 rfl rfl)
theorem dX5_init_158 : decode cX5_init 158 = .ok (.newarray .int, 2) := dk_188_10 (dk_at dksX5_init_6 14 rfl rfl)
theorem dX5_init_160 : decode cX5_init 160 = .ok (.putfield 67, 3) := dk_181 0 67 (dk_at dksX5_init_6 16 rfl rfl)
theorem dX5_init_163 : decode cX5_init 163 = .ok (.aload_n 0, 1) := dk_42 (dk_at dksX5_init_6 19 rfl rfl)
theorem dX5_init_164 : decode cX5_init 164 = .ok (.sipush 144, 3) := dk_17 0 144 (dk_at dksX5_init_6 20 rfl rfl)
theorem dX5_init_167 : decode cX5_init 167 = .ok (.newarray .int, 2) := dk_188_10 (dk_at dksX5_init_7 0 rfl rfl)
theorem dX5_init_169 : decode cX5_init 169 = .ok (.putfield 70, 3) := dk_181 0 70 (dk_at dksX5_init_7 2 rfl rfl)
theorem dX5_init_172 : decode cX5_init 172 = .ok (.aload_n 0, 1) := dk_42 (dk_at dksX5_init_7 5 rfl rfl)
theorem dX5_init_173 : decode cX5_init 173 = .ok (.bipush 24, 2) := dk_16 24 (dk_at dksX5_init_7 6 rfl rfl)
theorem dX5_init_175 : decode cX5_init 175 = .ok (.newarray .int, 2) := dk_188_10 (dk_at dksX5_init_7 8 rfl rfl)
theorem dX5_init_177 : decode cX5_init 177 = .ok (.putfield 73, 3) := dk_181 0 73 (dk_at dksX5_init_7 10 rfl rfl)
theorem dX5_init_180 : decode cX5_init 180 = .ok (.aload_n 0, 1) := dk_42 (dk_at dksX5_init_7 13 rfl rfl)
theorem dX5_init_181 : decode cX5_init 181 = .ok (.sipush 192, 3) := dk_17 0 192 (dk_at dksX5_init_7 14 rfl rfl)
theorem dX5_init_184 : decode cX5_init 184 = .ok (.newarray .int, 2) := dk_188_10 (dk_at dksX5_init_7 17 rfl rfl)
theorem dX5_init_186 : decode cX5_init 186 = .ok (.putfield 76, 3) := dk_181 0 76 (dk_at dksX5_init_7 19 rfl rfl)
theorem dX5_init_189 : decode cX5_init 189 = .ok (.aload_n 0, 1) := dk_42 (dk_at dksX5_init_7 22 rfl rfl)
theorem dX5_init_190 : decode cX5_init 190 = .ok (.sipush 192, 3) := dk_17 0 192 (dk_at dksX5_init_8 0 rfl rfl)
theorem dX5_init_193 : decode cX5_init 193 = .ok (.newarray .int, 2) := dk_188_10 (dk_at dksX5_init_8 3 rfl rfl)
theorem dX5_init_195 : decode cX5_init 195 = .ok (.putfield 79, 3) := dk_181 0 79 (dk_at dksX5_init_8 5 rfl rfl)
theorem dX5_init_198 : decode cX5_init 198 = .ok (.aload_n 0, 1) := dk_42 (dk_at dksX5_init_8 8 rfl rfl)
theorem dX5_init_199 : decode cX5_init 199 = .ok (.iconst 2, 1) := dk_5 (dk_at dksX5_init_8 9 rfl rfl)
theorem dX5_init_200 : decode cX5_init 200 = .ok (.newarray .int, 2) := dk_188_10 (dk_at dksX5_init_8 10 rfl rfl)
theorem dX5_init_202 : decode cX5_init 202 = .ok (.putfield 82, 3) := dk_181 0 82 (dk_at dksX5_init_8 12 rfl rfl)
theorem dX5_init_205 : decode cX5_init 205 = .ok (.aload_n 0, 1) := dk_42 (dk_at dksX5_init_8 15 rfl rfl)
theorem dX5_init_206 : decode cX5_init 206 = .ok (.bipush 8, 2) := dk_16 8 (dk_at dksX5_init_8 16 rfl rfl)
theorem dX5_init_208 : decode cX5_init 208 = .ok (.newarray .int, 2) := dk_188_10 (dk_at dksX5_init_8 18 rfl rfl)
theorem dX5_init_210 : decode cX5_init 210 = .ok (.putfield 85, 3) := dk_181 0 85 (dk_at dksX5_init_8 20 rfl rfl)
theorem dX5_init_213 : decode cX5_init 213 = .ok (.aload_n 0, 1) := dk_42 (dk_at dksX5_init_8 23 rfl rfl)
theorem dX5_init_214 : decode cX5_init 214 = .ok (.bipush 8, 2) := dk_16 8 (dk_at dksX5_init_9 0 rfl rfl)
theorem dX5_init_216 : decode cX5_init 216 = .ok (.newarray .int, 2) := dk_188_10 (dk_at dksX5_init_9 2 rfl rfl)
theorem dX5_init_218 : decode cX5_init 218 = .ok (.putfield 88, 3) := dk_181 0 88 (dk_at dksX5_init_9 4 rfl rfl)
theorem dX5_init_221 : decode cX5_init 221 = .ok (.aload_n 0, 1) := dk_42 (dk_at dksX5_init_9 7 rfl rfl)
theorem dX5_init_222 : decode cX5_init 222 = .ok (.bipush 24, 2) := dk_16 24 (dk_at dksX5_init_9 8 rfl rfl)
theorem dX5_init_224 : decode cX5_init 224 = .ok (.newarray .int, 2) := dk_188_10 (dk_at dksX5_init_9 10 rfl rfl)
theorem dX5_init_226 : decode cX5_init 226 = .ok (.putfield 91, 3) := dk_181 0 91 (dk_at dksX5_init_9 12 rfl rfl)
theorem dX5_init_229 : decode cX5_init 229 = .ok (.aload_n 0, 1) := dk_42 (dk_at dksX5_init_9 15 rfl rfl)
theorem dX5_init_230 : decode cX5_init 230 = .ok (.iconst 4, 1) := dk_7 (dk_at dksX5_init_9 16 rfl rfl)
theorem dX5_init_231 : decode cX5_init 231 = .ok (.newarray .boolean, 2) := dk_188_4 (dk_at dksX5_init_9 17 rfl rfl)
theorem dX5_init_233 : decode cX5_init 233 = .ok (.putfield 94, 3) := dk_181 0 94 (dk_at dksX5_init_9 19 rfl rfl)
theorem dX5_init_236 : decode cX5_init 236 = .ok (.aload_n 0, 1) := dk_42 (dk_at dksX5_init_9 22 rfl rfl)
theorem dX5_init_237 : decode cX5_init 237 = .ok (.iconst 4, 1) := dk_7 (dk_at dksX5_init_9 23 rfl rfl)
theorem dX5_init_238 : decode cX5_init 238 = .ok (.newarray .int, 2) := dk_188_10 (dk_at dksX5_init_10 0 rfl rfl)
theorem dX5_init_240 : decode cX5_init 240 = .ok (.putfield 98, 3) := dk_181 0 98 (dk_at dksX5_init_10 2 rfl rfl)
theorem dX5_init_243 : decode cX5_init 243 = .ok (.aload_n 0, 1) := dk_42 (dk_at dksX5_init_10 5 rfl rfl)
theorem dX5_init_244 : decode cX5_init 244 = .ok (.iconst 4, 1) := dk_7 (dk_at dksX5_init_10 6 rfl rfl)
theorem dX5_init_245 : decode cX5_init 245 = .ok (.newarray .int, 2) := dk_188_10 (dk_at dksX5_init_10 7 rfl rfl)
theorem dX5_init_247 : decode cX5_init 247 = .ok (.putfield 101, 3) := dk_181 0 101 (dk_at dksX5_init_10 9 rfl rfl)
theorem dX5_init_250 : decode cX5_init 250 = .ok (.aload_n 0, 1) := dk_42 (dk_at dksX5_init_10 12 rfl rfl)
theorem dX5_init_251 : decode cX5_init 251 = .ok (.sipush 240, 3) := dk_17 0 240 (dk_at dksX5_init_10 13 rfl rfl)
theorem dX5_init_254 : decode cX5_init 254 = .ok (.newarray .int, 2) := dk_188_10 (dk_at dksX5_init_10 16 rfl rfl)
theorem dX5_init_256 : decode cX5_init 256 = .ok (.putfield 104, 3) := dk_181 0 104 (dk_at dksX5_init_10 18 rfl rfl)
theorem dX5_init_259 : decode cX5_init 259 = .ok (.aload_n 0, 1) := dk_42 (dk_at dksX5_init_10 21 rfl rfl)
theorem dX5_init_260 : decode cX5_init 260 = .ok (.bipush 60, 2) := dk_16 60 (dk_at dksX5_init_10 22 rfl rfl)
theorem dX5_init_262 : decode cX5_init 262 = .ok (.newarray .int, 2) := dk_188_10 (dk_at dksX5_init_11 0 rfl rfl)
theorem dX5_init_264 : decode cX5_init 264 = .ok (.putfield 107, 3) := dk_181 0 107 (dk_at dksX5_init_11 2 rfl rfl)
theorem dX5_init_267 : decode cX5_init 267 = .ok (.aload_n 0, 1) := dk_42 (dk_at dksX5_init_11 5 rfl rfl)
theorem dX5_init_268 : decode cX5_init 268 = .ok (.bipush 16, 2) := dk_16 16 (dk_at dksX5_init_11 6 rfl rfl)
theorem dX5_init_270 : decode cX5_init 270 = .ok (.putfield 110, 3) := dk_181 0 110 (dk_at dksX5_init_11 8 rfl rfl)
theorem dX5_init_273 : decode cX5_init 273 = .ok (.aload_n 0, 1) := dk_42 (dk_at dksX5_init_11 11 rfl rfl)
theorem dX5_init_274 : decode cX5_init 274 = .ok (.bipush 16, 2) := dk_16 16 (dk_at dksX5_init_11 12 rfl rfl)
theorem dX5_init_276 : decode cX5_init 276 = .ok (.putfield 114, 3) := dk_181 0 114 (dk_at dksX5_init_11 14 rfl rfl)
theorem dX5_init_279 : decode cX5_init 279 = .ok (.return_, 1) := dk_177 (dk_at dksX5_init_11 17 rfl rfl)
abbrev cX5_type : ByteArray := prog_15_method_11_code
def yX5_type : MethodName := ⟨RX5, "type", "(II)I"⟩
def dkwX5_type_3 : List UInt8 := [172]
abbrev dktX5_type_3 : List UInt8 := dkwX5_type_3 ++ []
def dkwX5_type_2 : List UInt8 := [180, 0, 7, 27, 46, 96, 28, 79, 42, 180, 0, 7, 27, 92, 46, 4, 96, 79, 42, 180, 0, 7, 27, 46]
abbrev dktX5_type_2 : List UInt8 := dkwX5_type_2 ++ dktX5_type_3
def dkwX5_type_1 : List UInt8 := [180, 0, 7, 27, 46, 16, 31, 160, 0, 6, 16, 252, 172, 42, 180, 0, 13, 16, 31, 27, 104, 42]
abbrev dktX5_type_1 : List UInt8 := dkwX5_type_1 ++ dktX5_type_2
def dkwX5_type_0 : List UInt8 := [27, 184, 0, 123, 153, 0, 14, 28, 3, 17, 0, 255, 184, 0, 119, 154, 0, 6, 16, 254, 172, 42]
abbrev dktX5_type_0 : List UInt8 := dkwX5_type_0 ++ dktX5_type_1
theorem dksX5_type_0 : cX5_type.data.toList.drop 0 = dktX5_type_0 := by decide +kernel
theorem dksX5_type_1 : cX5_type.data.toList.drop 22 = dktX5_type_1 := dk_seg dksX5_type_0 22 rfl rfl
theorem dksX5_type_2 : cX5_type.data.toList.drop 44 = dktX5_type_2 := dk_seg dksX5_type_1 22 rfl rfl
theorem dksX5_type_3 : cX5_type.data.toList.drop 68 = dktX5_type_3 := dk_seg dksX5_type_2 24 rfl rfl
theorem dX5_type_0 : decode cX5_type 0 = .ok (.iload_n 1, 1) := dk_27 (dk_at dksX5_type_0 0 rfl rfl)
theorem dX5_type_1 : decode cX5_type 1 = .ok (.invokestatic 123, 3) := dk_184 0 123 (dk_at dksX5_type_0 1 rfl rfl)
theorem dX5_type_4 : decode cX5_type 4 = .ok (.ifCond .eq 14, 3) := dk_153 0 14 (dk_at dksX5_type_0 4 rfl rfl)
theorem dX5_type_7 : decode cX5_type 7 = .ok (.iload_n 2, 1) := dk_28 (dk_at dksX5_type_0 7 rfl rfl)
theorem dX5_type_8 : decode cX5_type 8 = .ok (.iconst 0, 1) := dk_3 (dk_at dksX5_type_0 8 rfl rfl)
theorem dX5_type_9 : decode cX5_type 9 = .ok (.sipush 255, 3) := dk_17 0 255 (dk_at dksX5_type_0 9 rfl rfl)
theorem dX5_type_12 : decode cX5_type 12 = .ok (.invokestatic 119, 3) := dk_184 0 119 (dk_at dksX5_type_0 12 rfl rfl)
theorem dX5_type_15 : decode cX5_type 15 = .ok (.ifCond .ne 6, 3) := dk_154 0 6 (dk_at dksX5_type_0 15 rfl rfl)
theorem dX5_type_18 : decode cX5_type 18 = .ok (.bipush (-2), 2) := dk_16 254 (dk_at dksX5_type_0 18 rfl rfl)
theorem dX5_type_20 : decode cX5_type 20 = .ok (.ireturn, 1) := dk_172 (dk_at dksX5_type_0 20 rfl rfl)
theorem dX5_type_21 : decode cX5_type 21 = .ok (.aload_n 0, 1) := dk_42 (dk_at dksX5_type_0 21 rfl rfl)
theorem dX5_type_22 : decode cX5_type 22 = .ok (.getfield 7, 3) := dk_180 0 7 (dk_at dksX5_type_1 0 rfl rfl)
theorem dX5_type_25 : decode cX5_type 25 = .ok (.iload_n 1, 1) := dk_27 (dk_at dksX5_type_1 3 rfl rfl)
theorem dX5_type_26 : decode cX5_type 26 = .ok (.iaload, 1) := dk_46 (dk_at dksX5_type_1 4 rfl rfl)
theorem dX5_type_27 : decode cX5_type 27 = .ok (.bipush 31, 2) := dk_16 31 (dk_at dksX5_type_1 5 rfl rfl)
theorem dX5_type_29 : decode cX5_type 29 = .ok (.if_icmp .ne 6, 3) := dk_160 0 6 (dk_at dksX5_type_1 7 rfl rfl)
theorem dX5_type_32 : decode cX5_type 32 = .ok (.bipush (-4), 2) := dk_16 252 (dk_at dksX5_type_1 10 rfl rfl)
theorem dX5_type_34 : decode cX5_type 34 = .ok (.ireturn, 1) := dk_172 (dk_at dksX5_type_1 12 rfl rfl)
theorem dX5_type_35 : decode cX5_type 35 = .ok (.aload_n 0, 1) := dk_42 (dk_at dksX5_type_1 13 rfl rfl)
theorem dX5_type_36 : decode cX5_type 36 = .ok (.getfield 13, 3) := dk_180 0 13 (dk_at dksX5_type_1 14 rfl rfl)
theorem dX5_type_39 : decode cX5_type 39 = .ok (.bipush 31, 2) := dk_16 31 (dk_at dksX5_type_1 17 rfl rfl)
theorem dX5_type_41 : decode cX5_type 41 = .ok (.iload_n 1, 1) := dk_27 (dk_at dksX5_type_1 19 rfl rfl)
theorem dX5_type_42 : decode cX5_type 42 = .ok (.imul, 1) := dk_104 (dk_at dksX5_type_1 20 rfl rfl)
theorem dX5_type_43 : decode cX5_type 43 = .ok (.aload_n 0, 1) := dk_42 (dk_at dksX5_type_1 21 rfl rfl)
theorem dX5_type_44 : decode cX5_type 44 = .ok (.getfield 7, 3) := dk_180 0 7 (dk_at dksX5_type_2 0 rfl rfl)
theorem dX5_type_47 : decode cX5_type 47 = .ok (.iload_n 1, 1) := dk_27 (dk_at dksX5_type_2 3 rfl rfl)
theorem dX5_type_48 : decode cX5_type 48 = .ok (.iaload, 1) := dk_46 (dk_at dksX5_type_2 4 rfl rfl)
theorem dX5_type_49 : decode cX5_type 49 = .ok (.iadd, 1) := dk_96 (dk_at dksX5_type_2 5 rfl rfl)
theorem dX5_type_50 : decode cX5_type 50 = .ok (.iload_n 2, 1) := dk_28 (dk_at dksX5_type_2 6 rfl rfl)
theorem dX5_type_51 : decode cX5_type 51 = .ok (.iastore, 1) := dk_79 (dk_at dksX5_type_2 7 rfl rfl)
theorem dX5_type_52 : decode cX5_type 52 = .ok (.aload_n 0, 1) := dk_42 (dk_at dksX5_type_2 8 rfl rfl)
theorem dX5_type_53 : decode cX5_type 53 = .ok (.getfield 7, 3) := dk_180 0 7 (dk_at dksX5_type_2 9 rfl rfl)
theorem dX5_type_56 : decode cX5_type 56 = .ok (.iload_n 1, 1) := dk_27 (dk_at dksX5_type_2 12 rfl rfl)
theorem dX5_type_57 : decode cX5_type 57 = .ok (.dup2, 1) := dk_92 (dk_at dksX5_type_2 13 rfl rfl)
theorem dX5_type_58 : decode cX5_type 58 = .ok (.iaload, 1) := dk_46 (dk_at dksX5_type_2 14 rfl rfl)
theorem dX5_type_59 : decode cX5_type 59 = .ok (.iconst 1, 1) := dk_4 (dk_at dksX5_type_2 15 rfl rfl)
theorem dX5_type_60 : decode cX5_type 60 = .ok (.iadd, 1) := dk_96 (dk_at dksX5_type_2 16 rfl rfl)
theorem dX5_type_61 : decode cX5_type 61 = .ok (.iastore, 1) := dk_79 (dk_at dksX5_type_2 17 rfl rfl)
theorem dX5_type_62 : decode cX5_type 62 = .ok (.aload_n 0, 1) := dk_42 (dk_at dksX5_type_2 18 rfl rfl)
theorem dX5_type_63 : decode cX5_type 63 = .ok (.getfield 7, 3) := dk_180 0 7 (dk_at dksX5_type_2 19 rfl rfl)
theorem dX5_type_66 : decode cX5_type 66 = .ok (.iload_n 1, 1) := dk_27 (dk_at dksX5_type_2 22 rfl rfl)
theorem dX5_type_67 : decode cX5_type 67 = .ok (.iaload, 1) := dk_46 (dk_at dksX5_type_2 23 rfl rfl)
theorem dX5_type_68 : decode cX5_type 68 = .ok (.ireturn, 1) := dk_172 (dk_at dksX5_type_3 0 rfl rfl)
abbrev cX5_isTwo : ByteArray := prog_15_method_8_code
def yX5_isTwo : MethodName := ⟨RX5, "isTwo", "(I)Z"⟩
def dkwX5_isTwo_0 : List UInt8 := [26, 3, 4, 184, 0, 119, 172]
abbrev dktX5_isTwo_0 : List UInt8 := dkwX5_isTwo_0 ++ []
theorem dksX5_isTwo_0 : cX5_isTwo.data.toList.drop 0 = dktX5_isTwo_0 := by decide +kernel
theorem dX5_isTwo_0 : decode cX5_isTwo 0 = .ok (.iload_n 0, 1) := dk_26 (dk_at dksX5_isTwo_0 0 rfl rfl)
theorem dX5_isTwo_1 : decode cX5_isTwo 1 = .ok (.iconst 0, 1) := dk_3 (dk_at dksX5_isTwo_0 1 rfl rfl)
theorem dX5_isTwo_2 : decode cX5_isTwo 2 = .ok (.iconst 1, 1) := dk_4 (dk_at dksX5_isTwo_0 2 rfl rfl)
theorem dX5_isTwo_3 : decode cX5_isTwo 3 = .ok (.invokestatic 119, 3) := dk_184 0 119 (dk_at dksX5_isTwo_0 3 rfl rfl)
theorem dX5_isTwo_6 : decode cX5_isTwo 6 = .ok (.ireturn, 1) := dk_172 (dk_at dksX5_isTwo_0 6 rfl rfl)
abbrev cX5_in : ByteArray := prog_15_method_3_code
def yX5_in : MethodName := ⟨RX5, "in", "(III)Z"⟩
def dkwX5_in_0 : List UInt8 := [26, 27, 161, 0, 12, 26, 28, 163, 0, 7, 4, 167, 0, 4, 3, 172]
abbrev dktX5_in_0 : List UInt8 := dkwX5_in_0 ++ []
theorem dksX5_in_0 : cX5_in.data.toList.drop 0 = dktX5_in_0 := by decide +kernel
theorem dX5_in_0 : decode cX5_in 0 = .ok (.iload_n 0, 1) := dk_26 (dk_at dksX5_in_0 0 rfl rfl)
theorem dX5_in_1 : decode cX5_in 1 = .ok (.iload_n 1, 1) := dk_27 (dk_at dksX5_in_0 1 rfl rfl)
theorem dX5_in_2 : decode cX5_in 2 = .ok (.if_icmp .lt 12, 3) := dk_161 0 12 (dk_at dksX5_in_0 2 rfl rfl)
theorem dX5_in_5 : decode cX5_in 5 = .ok (.iload_n 0, 1) := dk_26 (dk_at dksX5_in_0 5 rfl rfl)
theorem dX5_in_6 : decode cX5_in 6 = .ok (.iload_n 2, 1) := dk_28 (dk_at dksX5_in_0 6 rfl rfl)
theorem dX5_in_7 : decode cX5_in 7 = .ok (.if_icmp .gt 7, 3) := dk_163 0 7 (dk_at dksX5_in_0 7 rfl rfl)
theorem dX5_in_10 : decode cX5_in 10 = .ok (.iconst 1, 1) := dk_4 (dk_at dksX5_in_0 10 rfl rfl)
theorem dX5_in_11 : decode cX5_in 11 = .ok (.goto 4, 3) := dk_167 0 4 (dk_at dksX5_in_0 11 rfl rfl)
theorem dX5_in_14 : decode cX5_in 14 = .ok (.iconst 0, 1) := dk_3 (dk_at dksX5_in_0 14 rfl rfl)
theorem dX5_in_15 : decode cX5_in 15 = .ok (.ireturn, 1) := dk_172 (dk_at dksX5_in_0 15 rfl rfl)
abbrev cX5_wipe : ByteArray := prog_15_method_12_code
def yX5_wipe : MethodName := ⟨RX5, "wipe", "(I)I"⟩
def dkwX5_wipe_1 : List UInt8 := [28, 172]
abbrev dktX5_wipe_1 : List UInt8 := dkwX5_wipe_1 ++ []
def dkwX5_wipe_0 : List UInt8 := [27, 184, 0, 123, 154, 0, 6, 16, 254, 172, 42, 180, 0, 7, 27, 46, 61, 42, 180, 0, 7, 27, 3, 79]
abbrev dktX5_wipe_0 : List UInt8 := dkwX5_wipe_0 ++ dktX5_wipe_1
theorem dksX5_wipe_0 : cX5_wipe.data.toList.drop 0 = dktX5_wipe_0 := by decide +kernel
theorem dksX5_wipe_1 : cX5_wipe.data.toList.drop 24 = dktX5_wipe_1 := dk_seg dksX5_wipe_0 24 rfl rfl
theorem dX5_wipe_0 : decode cX5_wipe 0 = .ok (.iload_n 1, 1) := dk_27 (dk_at dksX5_wipe_0 0 rfl rfl)
theorem dX5_wipe_1 : decode cX5_wipe 1 = .ok (.invokestatic 123, 3) := dk_184 0 123 (dk_at dksX5_wipe_0 1 rfl rfl)
theorem dX5_wipe_4 : decode cX5_wipe 4 = .ok (.ifCond .ne 6, 3) := dk_154 0 6 (dk_at dksX5_wipe_0 4 rfl rfl)
theorem dX5_wipe_7 : decode cX5_wipe 7 = .ok (.bipush (-2), 2) := dk_16 254 (dk_at dksX5_wipe_0 7 rfl rfl)
theorem dX5_wipe_9 : decode cX5_wipe 9 = .ok (.ireturn, 1) := dk_172 (dk_at dksX5_wipe_0 9 rfl rfl)
theorem dX5_wipe_10 : decode cX5_wipe 10 = .ok (.aload_n 0, 1) := dk_42 (dk_at dksX5_wipe_0 10 rfl rfl)
theorem dX5_wipe_11 : decode cX5_wipe 11 = .ok (.getfield 7, 3) := dk_180 0 7 (dk_at dksX5_wipe_0 11 rfl rfl)
theorem dX5_wipe_14 : decode cX5_wipe 14 = .ok (.iload_n 1, 1) := dk_27 (dk_at dksX5_wipe_0 14 rfl rfl)
theorem dX5_wipe_15 : decode cX5_wipe 15 = .ok (.iaload, 1) := dk_46 (dk_at dksX5_wipe_0 15 rfl rfl)
theorem dX5_wipe_16 : decode cX5_wipe 16 = .ok (.istore_n 2, 1) := dk_61 (dk_at dksX5_wipe_0 16 rfl rfl)
theorem dX5_wipe_17 : decode cX5_wipe 17 = .ok (.aload_n 0, 1) := dk_42 (dk_at dksX5_wipe_0 17 rfl rfl)
theorem dX5_wipe_18 : decode cX5_wipe 18 = .ok (.getfield 7, 3) := dk_180 0 7 (dk_at dksX5_wipe_0 18 rfl rfl)
theorem dX5_wipe_21 : decode cX5_wipe 21 = .ok (.iload_n 1, 1) := dk_27 (dk_at dksX5_wipe_0 21 rfl rfl)
theorem dX5_wipe_22 : decode cX5_wipe 22 = .ok (.iconst 0, 1) := dk_3 (dk_at dksX5_wipe_0 22 rfl rfl)
theorem dX5_wipe_23 : decode cX5_wipe 23 = .ok (.iastore, 1) := dk_79 (dk_at dksX5_wipe_0 23 rfl rfl)
theorem dX5_wipe_24 : decode cX5_wipe 24 = .ok (.iload_n 2, 1) := dk_28 (dk_at dksX5_wipe_1 0 rfl rfl)
theorem dX5_wipe_25 : decode cX5_wipe 25 = .ok (.ireturn, 1) := dk_172 (dk_at dksX5_wipe_1 1 rfl rfl)
abbrev cX5_undo : ByteArray := prog_15_method_13_code
def yX5_undo : MethodName := ⟨RX5, "undo", "(I)I"⟩
def dkwX5_undo_1 : List UInt8 := [180, 0, 7, 27, 92, 46, 4, 100, 79, 42, 180, 0, 7, 27, 46, 172]
abbrev dktX5_undo_1 : List UInt8 := dkwX5_undo_1 ++ []
def dkwX5_undo_0 : List UInt8 := [27, 184, 0, 123, 154, 0, 6, 16, 254, 172, 42, 180, 0, 7, 27, 46, 154, 0, 6, 16, 253, 172, 42]
abbrev dktX5_undo_0 : List UInt8 := dkwX5_undo_0 ++ dktX5_undo_1
theorem dksX5_undo_0 : cX5_undo.data.toList.drop 0 = dktX5_undo_0 := by decide +kernel
theorem dksX5_undo_1 : cX5_undo.data.toList.drop 23 = dktX5_undo_1 := dk_seg dksX5_undo_0 23 rfl rfl
theorem dX5_undo_0 : decode cX5_undo 0 = .ok (.iload_n 1, 1) := dk_27 (dk_at dksX5_undo_0 0 rfl rfl)
theorem dX5_undo_1 : decode cX5_undo 1 = .ok (.invokestatic 123, 3) := dk_184 0 123 (dk_at dksX5_undo_0 1 rfl rfl)
theorem dX5_undo_4 : decode cX5_undo 4 = .ok (.ifCond .ne 6, 3) := dk_154 0 6 (dk_at dksX5_undo_0 4 rfl rfl)
theorem dX5_undo_7 : decode cX5_undo 7 = .ok (.bipush (-2), 2) := dk_16 254 (dk_at dksX5_undo_0 7 rfl rfl)
theorem dX5_undo_9 : decode cX5_undo 9 = .ok (.ireturn, 1) := dk_172 (dk_at dksX5_undo_0 9 rfl rfl)
theorem dX5_undo_10 : decode cX5_undo 10 = .ok (.aload_n 0, 1) := dk_42 (dk_at dksX5_undo_0 10 rfl rfl)
theorem dX5_undo_11 : decode cX5_undo 11 = .ok (.getfield 7, 3) := dk_180 0 7 (dk_at dksX5_undo_0 11 rfl rfl)
theorem dX5_undo_14 : decode cX5_undo 14 = .ok (.iload_n 1, 1) := dk_27 (dk_at dksX5_undo_0 14 rfl rfl)
theorem dX5_undo_15 : decode cX5_undo 15 = .ok (.iaload, 1) := dk_46 (dk_at dksX5_undo_0 15 rfl rfl)
theorem dX5_undo_16 : decode cX5_undo 16 = .ok (.ifCond .ne 6, 3) := dk_154 0 6 (dk_at dksX5_undo_0 16 rfl rfl)
theorem dX5_undo_19 : decode cX5_undo 19 = .ok (.bipush (-3), 2) := dk_16 253 (dk_at dksX5_undo_0 19 rfl rfl)
theorem dX5_undo_21 : decode cX5_undo 21 = .ok (.ireturn, 1) := dk_172 (dk_at dksX5_undo_0 21 rfl rfl)
theorem dX5_undo_22 : decode cX5_undo 22 = .ok (.aload_n 0, 1) := dk_42 (dk_at dksX5_undo_0 22 rfl rfl)
theorem dX5_undo_23 : decode cX5_undo 23 = .ok (.getfield 7, 3) := dk_180 0 7 (dk_at dksX5_undo_1 0 rfl rfl)
theorem dX5_undo_26 : decode cX5_undo 26 = .ok (.iload_n 1, 1) := dk_27 (dk_at dksX5_undo_1 3 rfl rfl)
theorem dX5_undo_27 : decode cX5_undo 27 = .ok (.dup2, 1) := dk_92 (dk_at dksX5_undo_1 4 rfl rfl)
theorem dX5_undo_28 : decode cX5_undo 28 = .ok (.iaload, 1) := dk_46 (dk_at dksX5_undo_1 5 rfl rfl)
theorem dX5_undo_29 : decode cX5_undo 29 = .ok (.iconst 1, 1) := dk_4 (dk_at dksX5_undo_1 6 rfl rfl)
theorem dX5_undo_30 : decode cX5_undo 30 = .ok (.isub, 1) := dk_100 (dk_at dksX5_undo_1 7 rfl rfl)
theorem dX5_undo_31 : decode cX5_undo 31 = .ok (.iastore, 1) := dk_79 (dk_at dksX5_undo_1 8 rfl rfl)
theorem dX5_undo_32 : decode cX5_undo 32 = .ok (.aload_n 0, 1) := dk_42 (dk_at dksX5_undo_1 9 rfl rfl)
theorem dX5_undo_33 : decode cX5_undo 33 = .ok (.getfield 7, 3) := dk_180 0 7 (dk_at dksX5_undo_1 10 rfl rfl)
theorem dX5_undo_36 : decode cX5_undo 36 = .ok (.iload_n 1, 1) := dk_27 (dk_at dksX5_undo_1 13 rfl rfl)
theorem dX5_undo_37 : decode cX5_undo 37 = .ok (.iaload, 1) := dk_46 (dk_at dksX5_undo_1 14 rfl rfl)
theorem dX5_undo_38 : decode cX5_undo 38 = .ok (.ireturn, 1) := dk_172 (dk_at dksX5_undo_1 15 rfl rfl)
abbrev cX5_fault : ByteArray := prog_15_method_19_code
def yX5_fault : MethodName := ⟨RX5, "fault", "(I)I"⟩
def dkwX5_fault_0 : List UInt8 := [27, 184, 0, 123, 153, 0, 11, 42, 27, 182, 0, 148, 167, 0, 5, 16, 254, 172]
abbrev dktX5_fault_0 : List UInt8 := dkwX5_fault_0 ++ []
theorem dksX5_fault_0 : cX5_fault.data.toList.drop 0 = dktX5_fault_0 := by decide +kernel
theorem dX5_fault_0 : decode cX5_fault 0 = .ok (.iload_n 1, 1) := dk_27 (dk_at dksX5_fault_0 0 rfl rfl)
theorem dX5_fault_1 : decode cX5_fault 1 = .ok (.invokestatic 123, 3) := dk_184 0 123 (dk_at dksX5_fault_0 1 rfl rfl)
theorem dX5_fault_4 : decode cX5_fault 4 = .ok (.ifCond .eq 11, 3) := dk_153 0 11 (dk_at dksX5_fault_0 4 rfl rfl)
theorem dX5_fault_7 : decode cX5_fault 7 = .ok (.aload_n 0, 1) := dk_42 (dk_at dksX5_fault_0 7 rfl rfl)
theorem dX5_fault_8 : decode cX5_fault 8 = .ok (.iload_n 1, 1) := dk_27 (dk_at dksX5_fault_0 8 rfl rfl)
theorem dX5_fault_9 : decode cX5_fault 9 = .ok (.invokevirtual 148, 3) := dk_182 0 148 (dk_at dksX5_fault_0 9 rfl rfl)
theorem dX5_fault_12 : decode cX5_fault 12 = .ok (.goto 5, 3) := dk_167 0 5 (dk_at dksX5_fault_0 12 rfl rfl)
theorem dX5_fault_15 : decode cX5_fault 15 = .ok (.bipush (-2), 2) := dk_16 254 (dk_at dksX5_fault_0 15 rfl rfl)
theorem dX5_fault_17 : decode cX5_fault 17 = .ok (.ireturn, 1) := dk_172 (dk_at dksX5_fault_0 17 rfl rfl)
abbrev cX5_faultOf : ByteArray := prog_15_method_17_code
def yX5_faultOf : MethodName := ⟨RX5, "faultOf", "(I)I"⟩
def dkwX5_faultOf_0 : List UInt8 := [42, 3, 182, 0, 144, 61, 42, 4, 182, 0, 144, 62, 27, 154, 0, 7, 28, 167, 0, 4, 29, 172]
abbrev dktX5_faultOf_0 : List UInt8 := dkwX5_faultOf_0 ++ []
theorem dksX5_faultOf_0 : cX5_faultOf.data.toList.drop 0 = dktX5_faultOf_0 := by decide +kernel
theorem dX5_faultOf_0 : decode cX5_faultOf 0 = .ok (.aload_n 0, 1) := dk_42 (dk_at dksX5_faultOf_0 0 rfl rfl)
theorem dX5_faultOf_1 : decode cX5_faultOf 1 = .ok (.iconst 0, 1) := dk_3 (dk_at dksX5_faultOf_0 1 rfl rfl)
theorem dX5_faultOf_2 : decode cX5_faultOf 2 = .ok (.invokevirtual 144, 3) := dk_182 0 144 (dk_at dksX5_faultOf_0 2 rfl rfl)
theorem dX5_faultOf_5 : decode cX5_faultOf 5 = .ok (.istore_n 2, 1) := dk_61 (dk_at dksX5_faultOf_0 5 rfl rfl)
theorem dX5_faultOf_6 : decode cX5_faultOf 6 = .ok (.aload_n 0, 1) := dk_42 (dk_at dksX5_faultOf_0 6 rfl rfl)
theorem dX5_faultOf_7 : decode cX5_faultOf 7 = .ok (.iconst 1, 1) := dk_4 (dk_at dksX5_faultOf_0 7 rfl rfl)
theorem dX5_faultOf_8 : decode cX5_faultOf 8 = .ok (.invokevirtual 144, 3) := dk_182 0 144 (dk_at dksX5_faultOf_0 8 rfl rfl)
theorem dX5_faultOf_11 : decode cX5_faultOf 11 = .ok (.istore_n 3, 1) := dk_62 (dk_at dksX5_faultOf_0 11 rfl rfl)
theorem dX5_faultOf_12 : decode cX5_faultOf 12 = .ok (.iload_n 1, 1) := dk_27 (dk_at dksX5_faultOf_0 12 rfl rfl)
theorem dX5_faultOf_13 : decode cX5_faultOf 13 = .ok (.ifCond .ne 7, 3) := dk_154 0 7 (dk_at dksX5_faultOf_0 13 rfl rfl)
theorem dX5_faultOf_16 : decode cX5_faultOf 16 = .ok (.iload_n 2, 1) := dk_28 (dk_at dksX5_faultOf_0 16 rfl rfl)
theorem dX5_faultOf_17 : decode cX5_faultOf 17 = .ok (.goto 4, 3) := dk_167 0 4 (dk_at dksX5_faultOf_0 17 rfl rfl)
theorem dX5_faultOf_20 : decode cX5_faultOf 20 = .ok (.iload_n 3, 1) := dk_29 (dk_at dksX5_faultOf_0 20 rfl rfl)
theorem dX5_faultOf_21 : decode cX5_faultOf 21 = .ok (.ireturn, 1) := dk_172 (dk_at dksX5_faultOf_0 21 rfl rfl)
abbrev cX5_readsText : ByteArray := prog_15_method_16_code
def yX5_readsText : MethodName := ⟨RX5, "readsText", "(I)I"⟩
def dkwX5_readsText_6 : List UInt8 := [2, 172]
abbrev dktX5_readsText_6 : List UInt8 := dkwX5_readsText_6 ++ []
def dkwX5_readsText_5 : List UInt8 := [181, 0, 137, 2, 172, 42, 27, 29, 182, 0, 127, 16, 59, 159, 0, 5, 29, 172, 132, 3, 1, 167, 255, 155]
abbrev dktX5_readsText_5 : List UInt8 := dkwX5_readsText_5 ++ dktX5_readsText_6
def dkwX5_readsText_4 : List UInt8 := [167, 0, 7, 42, 180, 0, 134, 181, 0, 134, 42, 27, 4, 160, 0, 7, 28, 167, 0, 7, 42, 180, 0, 137]
abbrev dktX5_readsText_4 : List UInt8 := dkwX5_readsText_4 ++ dktX5_readsText_5
def dkwX5_readsText_3 : List UInt8 := [132, 2, 1, 132, 3, 3, 29, 42, 180, 0, 7, 27, 46, 160, 0, 38, 42, 27, 154, 0, 7, 28]
abbrev dktX5_readsText_3 : List UInt8 := dkwX5_readsText_3 ++ dktX5_readsText_4
def dkwX5_readsText_2 : List UInt8 := [29, 158, 0, 93, 42, 27, 28, 29, 182, 0, 140, 54, 4, 21, 4, 6, 162, 0, 8, 29, 21, 4, 96, 172]
abbrev dktX5_readsText_2 : List UInt8 := dkwX5_readsText_2 ++ dktX5_readsText_3
def dkwX5_readsText_1 : List UInt8 := [160, 0, 7, 3, 167, 0, 7, 42, 180, 0, 137, 181, 0, 137, 29, 42, 180, 0, 7, 27, 46, 161, 0, 7]
abbrev dktX5_readsText_1 : List UInt8 := dkwX5_readsText_1 ++ dktX5_readsText_2
def dkwX5_readsText_0 : List UInt8 := [3, 61, 3, 62, 42, 27, 154, 0, 7, 3, 167, 0, 7, 42, 180, 0, 134, 181, 0, 134, 42, 27, 4]
abbrev dktX5_readsText_0 : List UInt8 := dkwX5_readsText_0 ++ dktX5_readsText_1
theorem dksX5_readsText_0 : cX5_readsText.data.toList.drop 0 = dktX5_readsText_0 := by decide +kernel
theorem dksX5_readsText_1 : cX5_readsText.data.toList.drop 23 = dktX5_readsText_1 := dk_seg dksX5_readsText_0 23 rfl rfl
theorem dksX5_readsText_2 : cX5_readsText.data.toList.drop 47 = dktX5_readsText_2 := dk_seg dksX5_readsText_1 24 rfl rfl
theorem dksX5_readsText_3 : cX5_readsText.data.toList.drop 71 = dktX5_readsText_3 := dk_seg dksX5_readsText_2 24 rfl rfl
theorem dksX5_readsText_4 : cX5_readsText.data.toList.drop 93 = dktX5_readsText_4 := dk_seg dksX5_readsText_3 22 rfl rfl
theorem dksX5_readsText_5 : cX5_readsText.data.toList.drop 117 = dktX5_readsText_5 := dk_seg dksX5_readsText_4 24 rfl rfl
theorem dksX5_readsText_6 : cX5_readsText.data.toList.drop 141 = dktX5_readsText_6 := dk_seg dksX5_readsText_5 24 rfl rfl
theorem dX5_readsText_0 : decode cX5_readsText 0 = .ok (.iconst 0, 1) := dk_3 (dk_at dksX5_readsText_0 0 rfl rfl)
theorem dX5_readsText_1 : decode cX5_readsText 1 = .ok (.istore_n 2, 1) := dk_61 (dk_at dksX5_readsText_0 1 rfl rfl)
theorem dX5_readsText_2 : decode cX5_readsText 2 = .ok (.iconst 0, 1) := dk_3 (dk_at dksX5_readsText_0 2 rfl rfl)
theorem dX5_readsText_3 : decode cX5_readsText 3 = .ok (.istore_n 3, 1) := dk_62 (dk_at dksX5_readsText_0 3 rfl rfl)
theorem dX5_readsText_4 : decode cX5_readsText 4 = .ok (.aload_n 0, 1) := dk_42 (dk_at dksX5_readsText_0 4 rfl rfl)
theorem dX5_readsText_5 : decode cX5_readsText 5 = .ok (.iload_n 1, 1) := dk_27 (dk_at dksX5_readsText_0 5 rfl rfl)
theorem dX5_readsText_6 : decode cX5_readsText 6 = .ok (.ifCond .ne 7, 3) := dk_154 0 7 (dk_at dksX5_readsText_0 6 rfl rfl)
theorem dX5_readsText_9 : decode cX5_readsText 9 = .ok (.iconst 0, 1) := dk_3 (dk_at dksX5_readsText_0 9 rfl rfl)
theorem dX5_readsText_10 : decode cX5_readsText 10 = .ok (.goto 7, 3) := dk_167 0 7 (dk_at dksX5_readsText_0 10 rfl rfl)
theorem dX5_readsText_13 : decode cX5_readsText 13 = .ok (.aload_n 0, 1) := dk_42 (dk_at dksX5_readsText_0 13 rfl rfl)
theorem dX5_readsText_14 : decode cX5_readsText 14 = .ok (.getfield 134, 3) := dk_180 0 134 (dk_at dksX5_readsText_0 14 rfl rfl)
theorem dX5_readsText_17 : decode cX5_readsText 17 = .ok (.putfield 134, 3) := dk_181 0 134 (dk_at dksX5_readsText_0 17 rfl rfl)
theorem dX5_readsText_20 : decode cX5_readsText 20 = .ok (.aload_n 0, 1) := dk_42 (dk_at dksX5_readsText_0 20 rfl rfl)
theorem dX5_readsText_21 : decode cX5_readsText 21 = .ok (.iload_n 1, 1) := dk_27 (dk_at dksX5_readsText_0 21 rfl rfl)
theorem dX5_readsText_22 : decode cX5_readsText 22 = .ok (.iconst 1, 1) := dk_4 (dk_at dksX5_readsText_0 22 rfl rfl)
theorem dX5_readsText_23 : decode cX5_readsText 23 = .ok (.if_icmp .ne 7, 3) := dk_160 0 7 (dk_at dksX5_readsText_1 0 rfl rfl)
theorem dX5_readsText_26 : decode cX5_readsText 26 = .ok (.iconst 0, 1) := dk_3 (dk_at dksX5_readsText_1 3 rfl rfl)
theorem dX5_readsText_27 : decode cX5_readsText 27 = .ok (.goto 7, 3) := dk_167 0 7 (dk_at dksX5_readsText_1 4 rfl rfl)
theorem dX5_readsText_30 : decode cX5_readsText 30 = .ok (.aload_n 0, 1) := dk_42 (dk_at dksX5_readsText_1 7 rfl rfl)
theorem dX5_readsText_31 : decode cX5_readsText 31 = .ok (.getfield 137, 3) := dk_180 0 137 (dk_at dksX5_readsText_1 8 rfl rfl)
theorem dX5_readsText_34 : decode cX5_readsText 34 = .ok (.putfield 137, 3) := dk_181 0 137 (dk_at dksX5_readsText_1 11 rfl rfl)
theorem dX5_readsText_37 : decode cX5_readsText 37 = .ok (.iload_n 3, 1) := dk_29 (dk_at dksX5_readsText_1 14 rfl rfl)
theorem dX5_readsText_38 : decode cX5_readsText 38 = .ok (.aload_n 0, 1) := dk_42 (dk_at dksX5_readsText_1 15 rfl rfl)
theorem dX5_readsText_39 : decode cX5_readsText 39 = .ok (.getfield 7, 3) := dk_180 0 7 (dk_at dksX5_readsText_1 16 rfl rfl)
theorem dX5_readsText_42 : decode cX5_readsText 42 = .ok (.iload_n 1, 1) := dk_27 (dk_at dksX5_readsText_1 19 rfl rfl)
theorem dX5_readsText_43 : decode cX5_readsText 43 = .ok (.iaload, 1) := dk_46 (dk_at dksX5_readsText_1 20 rfl rfl)
theorem dX5_readsText_44 : decode cX5_readsText 44 = .ok (.if_icmp .lt 7, 3) := dk_161 0 7 (dk_at dksX5_readsText_1 21 rfl rfl)
theorem dX5_readsText_47 : decode cX5_readsText 47 = .ok (.iload_n 3, 1) := dk_29 (dk_at dksX5_readsText_2 0 rfl rfl)
theorem dX5_readsText_48 : decode cX5_readsText 48 = .ok (.ifCond .le 93, 3) := dk_158 0 93 (dk_at dksX5_readsText_2 1 rfl rfl)
theorem dX5_readsText_51 : decode cX5_readsText 51 = .ok (.aload_n 0, 1) := dk_42 (dk_at dksX5_readsText_2 4 rfl rfl)
theorem dX5_readsText_52 : decode cX5_readsText 52 = .ok (.iload_n 1, 1) := dk_27 (dk_at dksX5_readsText_2 5 rfl rfl)
theorem dX5_readsText_53 : decode cX5_readsText 53 = .ok (.iload_n 2, 1) := dk_28 (dk_at dksX5_readsText_2 6 rfl rfl)
theorem dX5_readsText_54 : decode cX5_readsText 54 = .ok (.iload_n 3, 1) := dk_29 (dk_at dksX5_readsText_2 7 rfl rfl)
theorem dX5_readsText_55 : decode cX5_readsText 55 = .ok (.invokevirtual 140, 3) := dk_182 0 140 (dk_at dksX5_readsText_2 8 rfl rfl)
theorem dX5_readsText_58 : decode cX5_readsText 58 = .ok (.istore 4, 2) := dk_54 4 (dk_at dksX5_readsText_2 11 rfl rfl)
theorem dX5_readsText_60 : decode cX5_readsText 60 = .ok (.iload 4, 2) := dk_21 4 (dk_at dksX5_readsText_2 13 rfl rfl)
theorem dX5_readsText_62 : decode cX5_readsText 62 = .ok (.iconst 3, 1) := dk_6 (dk_at dksX5_readsText_2 15 rfl rfl)
theorem dX5_readsText_63 : decode cX5_readsText 63 = .ok (.if_icmp .ge 8, 3) := dk_162 0 8 (dk_at dksX5_readsText_2 16 rfl rfl)
theorem dX5_readsText_66 : decode cX5_readsText 66 = .ok (.iload_n 3, 1) := dk_29 (dk_at dksX5_readsText_2 19 rfl rfl)
theorem dX5_readsText_67 : decode cX5_readsText 67 = .ok (.iload 4, 2) := dk_21 4 (dk_at dksX5_readsText_2 20 rfl rfl)
theorem dX5_readsText_69 : decode cX5_readsText 69 = .ok (.iadd, 1) := dk_96 (dk_at dksX5_readsText_2 22 rfl rfl)
theorem dX5_readsText_70 : decode cX5_readsText 70 = .ok (.ireturn, 1) := dk_172 (dk_at dksX5_readsText_2 23 rfl rfl)
theorem dX5_readsText_71 : decode cX5_readsText 71 = .ok (.iinc 2 1, 3) := dk_132 2 1 (dk_at dksX5_readsText_3 0 rfl rfl)
theorem dX5_readsText_74 : decode cX5_readsText 74 = .ok (.iinc 3 3, 3) := dk_132 3 3 (dk_at dksX5_readsText_3 3 rfl rfl)
theorem dX5_readsText_77 : decode cX5_readsText 77 = .ok (.iload_n 3, 1) := dk_29 (dk_at dksX5_readsText_3 6 rfl rfl)
theorem dX5_readsText_78 : decode cX5_readsText 78 = .ok (.aload_n 0, 1) := dk_42 (dk_at dksX5_readsText_3 7 rfl rfl)
theorem dX5_readsText_79 : decode cX5_readsText 79 = .ok (.getfield 7, 3) := dk_180 0 7 (dk_at dksX5_readsText_3 8 rfl rfl)
theorem dX5_readsText_82 : decode cX5_readsText 82 = .ok (.iload_n 1, 1) := dk_27 (dk_at dksX5_readsText_3 11 rfl rfl)
theorem dX5_readsText_83 : decode cX5_readsText 83 = .ok (.iaload, 1) := dk_46 (dk_at dksX5_readsText_3 12 rfl rfl)
theorem dX5_readsText_84 : decode cX5_readsText 84 = .ok (.if_icmp .ne 38, 3) := dk_160 0 38 (dk_at dksX5_readsText_3 13 rfl rfl)
theorem dX5_readsText_87 : decode cX5_readsText 87 = .ok (.aload_n 0, 1) := dk_42 (dk_at dksX5_readsText_3 16 rfl rfl)
theorem dX5_readsText_88 : decode cX5_readsText 88 = .ok (.iload_n 1, 1) := dk_27 (dk_at dksX5_readsText_3 17 rfl rfl)
theorem dX5_readsText_89 : decode cX5_readsText 89 = .ok (.ifCond .ne 7, 3) := dk_154 0 7 (dk_at dksX5_readsText_3 18 rfl rfl)
theorem dX5_readsText_92 : decode cX5_readsText 92 = .ok (.iload_n 2, 1) := dk_28 (dk_at dksX5_readsText_3 21 rfl rfl)
theorem dX5_readsText_93 : decode cX5_readsText 93 = .ok (.goto 7, 3) := dk_167 0 7 (dk_at dksX5_readsText_4 0 rfl rfl)
theorem dX5_readsText_96 : decode cX5_readsText 96 = .ok (.aload_n 0, 1) := dk_42 (dk_at dksX5_readsText_4 3 rfl rfl)
theorem dX5_readsText_97 : decode cX5_readsText 97 = .ok (.getfield 134, 3) := dk_180 0 134 (dk_at dksX5_readsText_4 4 rfl rfl)
theorem dX5_readsText_100 : decode cX5_readsText 100 = .ok (.putfield 134, 3) := dk_181 0 134 (dk_at dksX5_readsText_4 7 rfl rfl)
theorem dX5_readsText_103 : decode cX5_readsText 103 = .ok (.aload_n 0, 1) := dk_42 (dk_at dksX5_readsText_4 10 rfl rfl)
theorem dX5_readsText_104 : decode cX5_readsText 104 = .ok (.iload_n 1, 1) := dk_27 (dk_at dksX5_readsText_4 11 rfl rfl)
theorem dX5_readsText_105 : decode cX5_readsText 105 = .ok (.iconst 1, 1) := dk_4 (dk_at dksX5_readsText_4 12 rfl rfl)
theorem dX5_readsText_106 : decode cX5_readsText 106 = .ok (.if_icmp .ne 7, 3) := dk_160 0 7 (dk_at dksX5_readsText_4 13 rfl rfl)
theorem dX5_readsText_109 : decode cX5_readsText 109 = .ok (.iload_n 2, 1) := dk_28 (dk_at dksX5_readsText_4 16 rfl rfl)
theorem dX5_readsText_110 : decode cX5_readsText 110 = .ok (.goto 7, 3) := dk_167 0 7 (dk_at dksX5_readsText_4 17 rfl rfl)
theorem dX5_readsText_113 : decode cX5_readsText 113 = .ok (.aload_n 0, 1) := dk_42 (dk_at dksX5_readsText_4 20 rfl rfl)
theorem dX5_readsText_114 : decode cX5_readsText 114 = .ok (.getfield 137, 3) := dk_180 0 137 (dk_at dksX5_readsText_4 21 rfl rfl)
theorem dX5_readsText_117 : decode cX5_readsText 117 = .ok (.putfield 137, 3) := dk_181 0 137 (dk_at dksX5_readsText_5 0 rfl rfl)
theorem dX5_readsText_120 : decode cX5_readsText 120 = .ok (.iconst (-1), 1) := dk_2 (dk_at dksX5_readsText_5 3 rfl rfl)
theorem dX5_readsText_121 : decode cX5_readsText 121 = .ok (.ireturn, 1) := dk_172 (dk_at dksX5_readsText_5 4 rfl rfl)
theorem dX5_readsText_122 : decode cX5_readsText 122 = .ok (.aload_n 0, 1) := dk_42 (dk_at dksX5_readsText_5 5 rfl rfl)
theorem dX5_readsText_123 : decode cX5_readsText 123 = .ok (.iload_n 1, 1) := dk_27 (dk_at dksX5_readsText_5 6 rfl rfl)
theorem dX5_readsText_124 : decode cX5_readsText 124 = .ok (.iload_n 3, 1) := dk_29 (dk_at dksX5_readsText_5 7 rfl rfl)
theorem dX5_readsText_125 : decode cX5_readsText 125 = .ok (.invokevirtual 127, 3) := dk_182 0 127 (dk_at dksX5_readsText_5 8 rfl rfl)
theorem dX5_readsText_128 : decode cX5_readsText 128 = .ok (.bipush 59, 2) := dk_16 59 (dk_at dksX5_readsText_5 11 rfl rfl)
theorem dX5_readsText_130 : decode cX5_readsText 130 = .ok (.if_icmp .eq 5, 3) := dk_159 0 5 (dk_at dksX5_readsText_5 13 rfl rfl)
theorem dX5_readsText_133 : decode cX5_readsText 133 = .ok (.iload_n 3, 1) := dk_29 (dk_at dksX5_readsText_5 16 rfl rfl)
theorem dX5_readsText_134 : decode cX5_readsText 134 = .ok (.ireturn, 1) := dk_172 (dk_at dksX5_readsText_5 17 rfl rfl)
theorem dX5_readsText_135 : decode cX5_readsText 135 = .ok (.iinc 3 1, 3) := dk_132 3 1 (dk_at dksX5_readsText_5 18 rfl rfl)
theorem dX5_readsText_138 : decode cX5_readsText 138 = .ok (.goto (-101), 3) := dk_167 255 155 (dk_at dksX5_readsText_5 21 rfl rfl)
theorem dX5_readsText_141 : decode cX5_readsText 141 = .ok (.iconst (-1), 1) := dk_2 (dk_at dksX5_readsText_6 0 rfl rfl)
theorem dX5_readsText_142 : decode cX5_readsText 142 = .ok (.ireturn, 1) := dk_172 (dk_at dksX5_readsText_6 1 rfl rfl)
abbrev cX5_readsPart : ByteArray := prog_15_method_15_code
def yX5_readsPart : MethodName := ⟨RX5, "readsPart", "(III)I"⟩
def dkwX5_readsPart_8 : List UInt8 := [180, 0, 28, 28, 21, 6, 79, 42, 180, 0, 31, 28, 21, 7, 79, 6, 172]
abbrev dktX5_readsPart_8 : List UInt8 := dkwX5_readsPart_8 ++ []
def dkwX5_readsPart_7 : List UInt8 := [28, 21, 6, 79, 42, 180, 0, 22, 28, 21, 7, 79, 167, 0, 27, 42, 180, 0, 25, 28, 21, 4, 79, 42]
abbrev dktX5_readsPart_7 : List UInt8 := dkwX5_readsPart_7 ++ dktX5_readsPart_8
def dkwX5_readsPart_6 : List UInt8 := [184, 0, 119, 154, 0, 5, 5, 172, 27, 154, 0, 30, 42, 180, 0, 16, 28, 21, 4, 79, 42, 180, 0, 19]
abbrev dktX5_readsPart_6 : List UInt8 := dkwX5_readsPart_6 ++ dktX5_readsPart_7
def dkwX5_readsPart_5 : List UInt8 := [3, 172, 21, 6, 2, 160, 0, 5, 4, 172, 21, 7, 4, 27, 154, 0, 7, 6, 167, 0, 4, 7]
abbrev dktX5_readsPart_5 : List UInt8 := dkwX5_readsPart_5 ++ dktX5_readsPart_6
def dkwX5_readsPart_4 : List UInt8 := [5, 96, 182, 0, 127, 16, 48, 100, 54, 7, 28, 16, 8, 159, 0, 11, 21, 4, 184, 0, 131, 154, 0, 5]
abbrev dktX5_readsPart_4 : List UInt8 := dkwX5_readsPart_4 ++ dktX5_readsPart_5
def dkwX5_readsPart_3 : List UInt8 := [160, 0, 7, 3, 167, 0, 15, 21, 5, 16, 100, 160, 0, 7, 4, 167, 0, 4, 2, 54, 6, 42, 27, 29]
abbrev dktX5_readsPart_3 : List UInt8 := dkwX5_readsPart_3 ++ dktX5_readsPart_4
def dkwX5_readsPart_2 : List UInt8 := [167, 0, 41, 21, 5, 16, 99, 160, 0, 7, 5, 167, 0, 30, 2, 167, 0, 26, 21, 5, 16, 119]
abbrev dktX5_readsPart_2 : List UInt8 := dkwX5_readsPart_2 ++ dktX5_readsPart_3
def dkwX5_readsPart_1 : List UInt8 := [154, 0, 40, 21, 5, 16, 107, 160, 0, 7, 3, 167, 0, 52, 21, 5, 16, 98, 160, 0, 7, 4]
abbrev dktX5_readsPart_1 : List UInt8 := dkwX5_readsPart_1 ++ dktX5_readsPart_2
def dkwX5_readsPart_0 : List UInt8 := [42, 27, 29, 182, 0, 127, 16, 97, 100, 54, 4, 42, 27, 29, 4, 96, 182, 0, 127, 54, 5, 27]
abbrev dktX5_readsPart_0 : List UInt8 := dkwX5_readsPart_0 ++ dktX5_readsPart_1
theorem dksX5_readsPart_0 : cX5_readsPart.data.toList.drop 0 = dktX5_readsPart_0 := by decide +kernel
theorem dksX5_readsPart_1 : cX5_readsPart.data.toList.drop 22 = dktX5_readsPart_1 := dk_seg dksX5_readsPart_0 22 rfl rfl
theorem dksX5_readsPart_2 : cX5_readsPart.data.toList.drop 44 = dktX5_readsPart_2 := dk_seg dksX5_readsPart_1 22 rfl rfl
theorem dksX5_readsPart_3 : cX5_readsPart.data.toList.drop 66 = dktX5_readsPart_3 := dk_seg dksX5_readsPart_2 22 rfl rfl
theorem dksX5_readsPart_4 : cX5_readsPart.data.toList.drop 90 = dktX5_readsPart_4 := dk_seg dksX5_readsPart_3 24 rfl rfl
theorem dksX5_readsPart_5 : cX5_readsPart.data.toList.drop 114 = dktX5_readsPart_5 := dk_seg dksX5_readsPart_4 24 rfl rfl
theorem dksX5_readsPart_6 : cX5_readsPart.data.toList.drop 136 = dktX5_readsPart_6 := dk_seg dksX5_readsPart_5 22 rfl rfl
theorem dksX5_readsPart_7 : cX5_readsPart.data.toList.drop 160 = dktX5_readsPart_7 := dk_seg dksX5_readsPart_6 24 rfl rfl
theorem dksX5_readsPart_8 : cX5_readsPart.data.toList.drop 184 = dktX5_readsPart_8 := dk_seg dksX5_readsPart_7 24 rfl rfl
theorem dX5_readsPart_0 : decode cX5_readsPart 0 = .ok (.aload_n 0, 1) := dk_42 (dk_at dksX5_readsPart_0 0 rfl rfl)
theorem dX5_readsPart_1 : decode cX5_readsPart 1 = .ok (.iload_n 1, 1) := dk_27 (dk_at dksX5_readsPart_0 1 rfl rfl)
theorem dX5_readsPart_2 : decode cX5_readsPart 2 = .ok (.iload_n 3, 1) := dk_29 (dk_at dksX5_readsPart_0 2 rfl rfl)
theorem dX5_readsPart_3 : decode cX5_readsPart 3 = .ok (.invokevirtual 127, 3) := dk_182 0 127 (dk_at dksX5_readsPart_0 3 rfl rfl)
theorem dX5_readsPart_6 : decode cX5_readsPart 6 = .ok (.bipush 97, 2) := dk_16 97 (dk_at dksX5_readsPart_0 6 rfl rfl)
theorem dX5_readsPart_8 : decode cX5_readsPart 8 = .ok (.isub, 1) := dk_100 (dk_at dksX5_readsPart_0 8 rfl rfl)
theorem dX5_readsPart_9 : decode cX5_readsPart 9 = .ok (.istore 4, 2) := dk_54 4 (dk_at dksX5_readsPart_0 9 rfl rfl)
theorem dX5_readsPart_11 : decode cX5_readsPart 11 = .ok (.aload_n 0, 1) := dk_42 (dk_at dksX5_readsPart_0 11 rfl rfl)
theorem dX5_readsPart_12 : decode cX5_readsPart 12 = .ok (.iload_n 1, 1) := dk_27 (dk_at dksX5_readsPart_0 12 rfl rfl)
theorem dX5_readsPart_13 : decode cX5_readsPart 13 = .ok (.iload_n 3, 1) := dk_29 (dk_at dksX5_readsPart_0 13 rfl rfl)
theorem dX5_readsPart_14 : decode cX5_readsPart 14 = .ok (.iconst 1, 1) := dk_4 (dk_at dksX5_readsPart_0 14 rfl rfl)
theorem dX5_readsPart_15 : decode cX5_readsPart 15 = .ok (.iadd, 1) := dk_96 (dk_at dksX5_readsPart_0 15 rfl rfl)
theorem dX5_readsPart_16 : decode cX5_readsPart 16 = .ok (.invokevirtual 127, 3) := dk_182 0 127 (dk_at dksX5_readsPart_0 16 rfl rfl)
theorem dX5_readsPart_19 : decode cX5_readsPart 19 = .ok (.istore 5, 2) := dk_54 5 (dk_at dksX5_readsPart_0 19 rfl rfl)
theorem dX5_readsPart_21 : decode cX5_readsPart 21 = .ok (.iload_n 1, 1) := dk_27 (dk_at dksX5_readsPart_0 21 rfl rfl)
theorem dX5_readsPart_22 : decode cX5_readsPart 22 = .ok (.ifCond .ne 40, 3) := dk_154 0 40 (dk_at dksX5_readsPart_1 0 rfl rfl)
theorem dX5_readsPart_25 : decode cX5_readsPart 25 = .ok (.iload 5, 2) := dk_21 5 (dk_at dksX5_readsPart_1 3 rfl rfl)
theorem dX5_readsPart_27 : decode cX5_readsPart 27 = .ok (.bipush 107, 2) := dk_16 107 (dk_at dksX5_readsPart_1 5 rfl rfl)
theorem dX5_readsPart_29 : decode cX5_readsPart 29 = .ok (.if_icmp .ne 7, 3) := dk_160 0 7 (dk_at dksX5_readsPart_1 7 rfl rfl)
theorem dX5_readsPart_32 : decode cX5_readsPart 32 = .ok (.iconst 0, 1) := dk_3 (dk_at dksX5_readsPart_1 10 rfl rfl)
theorem dX5_readsPart_33 : decode cX5_readsPart 33 = .ok (.goto 52, 3) := dk_167 0 52 (dk_at dksX5_readsPart_1 11 rfl rfl)
theorem dX5_readsPart_36 : decode cX5_readsPart 36 = .ok (.iload 5, 2) := dk_21 5 (dk_at dksX5_readsPart_1 14 rfl rfl)
theorem dX5_readsPart_38 : decode cX5_readsPart 38 = .ok (.bipush 98, 2) := dk_16 98 (dk_at dksX5_readsPart_1 16 rfl rfl)
theorem dX5_readsPart_40 : decode cX5_readsPart 40 = .ok (.if_icmp .ne 7, 3) := dk_160 0 7 (dk_at dksX5_readsPart_1 18 rfl rfl)
theorem dX5_readsPart_43 : decode cX5_readsPart 43 = .ok (.iconst 1, 1) := dk_4 (dk_at dksX5_readsPart_1 21 rfl rfl)
theorem dX5_readsPart_44 : decode cX5_readsPart 44 = .ok (.goto 41, 3) := dk_167 0 41 (dk_at dksX5_readsPart_2 0 rfl rfl)
theorem dX5_readsPart_47 : decode cX5_readsPart 47 = .ok (.iload 5, 2) := dk_21 5 (dk_at dksX5_readsPart_2 3 rfl rfl)
theorem dX5_readsPart_49 : decode cX5_readsPart 49 = .ok (.bipush 99, 2) := dk_16 99 (dk_at dksX5_readsPart_2 5 rfl rfl)
theorem dX5_readsPart_51 : decode cX5_readsPart 51 = .ok (.if_icmp .ne 7, 3) := dk_160 0 7 (dk_at dksX5_readsPart_2 7 rfl rfl)
theorem dX5_readsPart_54 : decode cX5_readsPart 54 = .ok (.iconst 2, 1) := dk_5 (dk_at dksX5_readsPart_2 10 rfl rfl)
theorem dX5_readsPart_55 : decode cX5_readsPart 55 = .ok (.goto 30, 3) := dk_167 0 30 (dk_at dksX5_readsPart_2 11 rfl rfl)
theorem dX5_readsPart_58 : decode cX5_readsPart 58 = .ok (.iconst (-1), 1) := dk_2 (dk_at dksX5_readsPart_2 14 rfl rfl)
theorem dX5_readsPart_59 : decode cX5_readsPart 59 = .ok (.goto 26, 3) := dk_167 0 26 (dk_at dksX5_readsPart_2 15 rfl rfl)
theorem dX5_readsPart_62 : decode cX5_readsPart 62 = .ok (.iload 5, 2) := dk_21 5 (dk_at dksX5_readsPart_2 18 rfl rfl)
theorem dX5_readsPart_64 : decode cX5_readsPart 64 = .ok (.bipush 119, 2) := dk_16 119 (dk_at dksX5_readsPart_2 20 rfl rfl)
theorem dX5_readsPart_66 : decode cX5_readsPart 66 = .ok (.if_icmp .ne 7, 3) := dk_160 0 7 (dk_at dksX5_readsPart_3 0 rfl rfl)
theorem dX5_readsPart_69 : decode cX5_readsPart 69 = .ok (.iconst 0, 1) := dk_3 (dk_at dksX5_readsPart_3 3 rfl rfl)
theorem dX5_readsPart_70 : decode cX5_readsPart 70 = .ok (.goto 15, 3) := dk_167 0 15 (dk_at dksX5_readsPart_3 4 rfl rfl)
theorem dX5_readsPart_73 : decode cX5_readsPart 73 = .ok (.iload 5, 2) := dk_21 5 (dk_at dksX5_readsPart_3 7 rfl rfl)
theorem dX5_readsPart_75 : decode cX5_readsPart 75 = .ok (.bipush 100, 2) := dk_16 100 (dk_at dksX5_readsPart_3 9 rfl rfl)
theorem dX5_readsPart_77 : decode cX5_readsPart 77 = .ok (.if_icmp .ne 7, 3) := dk_160 0 7 (dk_at dksX5_readsPart_3 11 rfl rfl)
theorem dX5_readsPart_80 : decode cX5_readsPart 80 = .ok (.iconst 1, 1) := dk_4 (dk_at dksX5_readsPart_3 14 rfl rfl)
theorem dX5_readsPart_81 : decode cX5_readsPart 81 = .ok (.goto 4, 3) := dk_167 0 4 (dk_at dksX5_readsPart_3 15 rfl rfl)
theorem dX5_readsPart_84 : decode cX5_readsPart 84 = .ok (.iconst (-1), 1) := dk_2 (dk_at dksX5_readsPart_3 18 rfl rfl)
theorem dX5_readsPart_85 : decode cX5_readsPart 85 = .ok (.istore 6, 2) := dk_54 6 (dk_at dksX5_readsPart_3 19 rfl rfl)
theorem dX5_readsPart_87 : decode cX5_readsPart 87 = .ok (.aload_n 0, 1) := dk_42 (dk_at dksX5_readsPart_3 21 rfl rfl)
theorem dX5_readsPart_88 : decode cX5_readsPart 88 = .ok (.iload_n 1, 1) := dk_27 (dk_at dksX5_readsPart_3 22 rfl rfl)
theorem dX5_readsPart_89 : decode cX5_readsPart 89 = .ok (.iload_n 3, 1) := dk_29 (dk_at dksX5_readsPart_3 23 rfl rfl)
theorem dX5_readsPart_90 : decode cX5_readsPart 90 = .ok (.iconst 2, 1) := dk_5 (dk_at dksX5_readsPart_4 0 rfl rfl)
theorem dX5_readsPart_91 : decode cX5_readsPart 91 = .ok (.iadd, 1) := dk_96 (dk_at dksX5_readsPart_4 1 rfl rfl)
theorem dX5_readsPart_92 : decode cX5_readsPart 92 = .ok (.invokevirtual 127, 3) := dk_182 0 127 (dk_at dksX5_readsPart_4 2 rfl rfl)
theorem dX5_readsPart_95 : decode cX5_readsPart 95 = .ok (.bipush 48, 2) := dk_16 48 (dk_at dksX5_readsPart_4 5 rfl rfl)
theorem dX5_readsPart_97 : decode cX5_readsPart 97 = .ok (.isub, 1) := dk_100 (dk_at dksX5_readsPart_4 7 rfl rfl)
theorem dX5_readsPart_98 : decode cX5_readsPart 98 = .ok (.istore 7, 2) := dk_54 7 (dk_at dksX5_readsPart_4 8 rfl rfl)
theorem dX5_readsPart_100 : decode cX5_readsPart 100 = .ok (.iload_n 2, 1) := dk_28 (dk_at dksX5_readsPart_4 10 rfl rfl)
theorem dX5_readsPart_101 : decode cX5_readsPart 101 = .ok (.bipush 8, 2) := dk_16 8 (dk_at dksX5_readsPart_4 11 rfl rfl)
theorem dX5_readsPart_103 : decode cX5_readsPart 103 = .ok (.if_icmp .eq 11, 3) := dk_159 0 11 (dk_at dksX5_readsPart_4 13 rfl rfl)
theorem dX5_readsPart_106 : decode cX5_readsPart 106 = .ok (.iload 4, 2) := dk_21 4 (dk_at dksX5_readsPart_4 16 rfl rfl)
theorem dX5_readsPart_108 : decode cX5_readsPart 108 = .ok (.invokestatic 131, 3) := dk_184 0 131 (dk_at dksX5_readsPart_4 18 rfl rfl)
theorem dX5_readsPart_111 : decode cX5_readsPart 111 = .ok (.ifCond .ne 5, 3) := dk_154 0 5 (dk_at dksX5_readsPart_4 21 rfl rfl)
theorem dX5_readsPart_114 : decode cX5_readsPart 114 = .ok (.iconst 0, 1) := dk_3 (dk_at dksX5_readsPart_5 0 rfl rfl)
theorem dX5_readsPart_115 : decode cX5_readsPart 115 = .ok (.ireturn, 1) := dk_172 (dk_at dksX5_readsPart_5 1 rfl rfl)
theorem dX5_readsPart_116 : decode cX5_readsPart 116 = .ok (.iload 6, 2) := dk_21 6 (dk_at dksX5_readsPart_5 2 rfl rfl)
theorem dX5_readsPart_118 : decode cX5_readsPart 118 = .ok (.iconst (-1), 1) := dk_2 (dk_at dksX5_readsPart_5 4 rfl rfl)
theorem dX5_readsPart_119 : decode cX5_readsPart 119 = .ok (.if_icmp .ne 5, 3) := dk_160 0 5 (dk_at dksX5_readsPart_5 5 rfl rfl)
theorem dX5_readsPart_122 : decode cX5_readsPart 122 = .ok (.iconst 1, 1) := dk_4 (dk_at dksX5_readsPart_5 8 rfl rfl)
theorem dX5_readsPart_123 : decode cX5_readsPart 123 = .ok (.ireturn, 1) := dk_172 (dk_at dksX5_readsPart_5 9 rfl rfl)
theorem dX5_readsPart_124 : decode cX5_readsPart 124 = .ok (.iload 7, 2) := dk_21 7 (dk_at dksX5_readsPart_5 10 rfl rfl)
theorem dX5_readsPart_126 : decode cX5_readsPart 126 = .ok (.iconst 1, 1) := dk_4 (dk_at dksX5_readsPart_5 12 rfl rfl)
theorem dX5_readsPart_127 : decode cX5_readsPart 127 = .ok (.iload_n 1, 1) := dk_27 (dk_at dksX5_readsPart_5 13 rfl rfl)
theorem dX5_readsPart_128 : decode cX5_readsPart 128 = .ok (.ifCond .ne 7, 3) := dk_154 0 7 (dk_at dksX5_readsPart_5 14 rfl rfl)
theorem dX5_readsPart_131 : decode cX5_readsPart 131 = .ok (.iconst 3, 1) := dk_6 (dk_at dksX5_readsPart_5 17 rfl rfl)
theorem dX5_readsPart_132 : decode cX5_readsPart 132 = .ok (.goto 4, 3) := dk_167 0 4 (dk_at dksX5_readsPart_5 18 rfl rfl)
theorem dX5_readsPart_135 : decode cX5_readsPart 135 = .ok (.iconst 4, 1) := dk_7 (dk_at dksX5_readsPart_5 21 rfl rfl)
theorem dX5_readsPart_136 : decode cX5_readsPart 136 = .ok (.invokestatic 119, 3) := dk_184 0 119 (dk_at dksX5_readsPart_6 0 rfl rfl)
theorem dX5_readsPart_139 : decode cX5_readsPart 139 = .ok (.ifCond .ne 5, 3) := dk_154 0 5 (dk_at dksX5_readsPart_6 3 rfl rfl)
theorem dX5_readsPart_142 : decode cX5_readsPart 142 = .ok (.iconst 2, 1) := dk_5 (dk_at dksX5_readsPart_6 6 rfl rfl)
theorem dX5_readsPart_143 : decode cX5_readsPart 143 = .ok (.ireturn, 1) := dk_172 (dk_at dksX5_readsPart_6 7 rfl rfl)
theorem dX5_readsPart_144 : decode cX5_readsPart 144 = .ok (.iload_n 1, 1) := dk_27 (dk_at dksX5_readsPart_6 8 rfl rfl)
theorem dX5_readsPart_145 : decode cX5_readsPart 145 = .ok (.ifCond .ne 30, 3) := dk_154 0 30 (dk_at dksX5_readsPart_6 9 rfl rfl)
theorem dX5_readsPart_148 : decode cX5_readsPart 148 = .ok (.aload_n 0, 1) := dk_42 (dk_at dksX5_readsPart_6 12 rfl rfl)
theorem dX5_readsPart_149 : decode cX5_readsPart 149 = .ok (.getfield 16, 3) := dk_180 0 16 (dk_at dksX5_readsPart_6 13 rfl rfl)
theorem dX5_readsPart_152 : decode cX5_readsPart 152 = .ok (.iload_n 2, 1) := dk_28 (dk_at dksX5_readsPart_6 16 rfl rfl)
theorem dX5_readsPart_153 : decode cX5_readsPart 153 = .ok (.iload 4, 2) := dk_21 4 (dk_at dksX5_readsPart_6 17 rfl rfl)
theorem dX5_readsPart_155 : decode cX5_readsPart 155 = .ok (.iastore, 1) := dk_79 (dk_at dksX5_readsPart_6 19 rfl rfl)
theorem dX5_readsPart_156 : decode cX5_readsPart 156 = .ok (.aload_n 0, 1) := dk_42 (dk_at dksX5_readsPart_6 20 rfl rfl)
theorem dX5_readsPart_157 : decode cX5_readsPart 157 = .ok (.getfield 19, 3) := dk_180 0 19 (dk_at dksX5_readsPart_6 21 rfl rfl)
theorem dX5_readsPart_160 : decode cX5_readsPart 160 = .ok (.iload_n 2, 1) := dk_28 (dk_at dksX5_readsPart_7 0 rfl rfl)
theorem dX5_readsPart_161 : decode cX5_readsPart 161 = .ok (.iload 6, 2) := dk_21 6 (dk_at dksX5_readsPart_7 1 rfl rfl)
theorem dX5_readsPart_163 : decode cX5_readsPart 163 = .ok (.iastore, 1) := dk_79 (dk_at dksX5_readsPart_7 3 rfl rfl)
theorem dX5_readsPart_164 : decode cX5_readsPart 164 = .ok (.aload_n 0, 1) := dk_42 (dk_at dksX5_readsPart_7 4 rfl rfl)
theorem dX5_readsPart_165 : decode cX5_readsPart 165 = .ok (.getfield 22, 3) := dk_180 0 22 (dk_at dksX5_readsPart_7 5 rfl rfl)
theorem dX5_readsPart_168 : decode cX5_readsPart 168 = .ok (.iload_n 2, 1) := dk_28 (dk_at dksX5_readsPart_7 8 rfl rfl)
theorem dX5_readsPart_169 : decode cX5_readsPart 169 = .ok (.iload 7, 2) := dk_21 7 (dk_at dksX5_readsPart_7 9 rfl rfl)
theorem dX5_readsPart_171 : decode cX5_readsPart 171 = .ok (.iastore, 1) := dk_79 (dk_at dksX5_readsPart_7 11 rfl rfl)
theorem dX5_readsPart_172 : decode cX5_readsPart 172 = .ok (.goto 27, 3) := dk_167 0 27 (dk_at dksX5_readsPart_7 12 rfl rfl)
theorem dX5_readsPart_175 : decode cX5_readsPart 175 = .ok (.aload_n 0, 1) := dk_42 (dk_at dksX5_readsPart_7 15 rfl rfl)
theorem dX5_readsPart_176 : decode cX5_readsPart 176 = .ok (.getfield 25, 3) := dk_180 0 25 (dk_at dksX5_readsPart_7 16 rfl rfl)
theorem dX5_readsPart_179 : decode cX5_readsPart 179 = .ok (.iload_n 2, 1) := dk_28 (dk_at dksX5_readsPart_7 19 rfl rfl)
theorem dX5_readsPart_180 : decode cX5_readsPart 180 = .ok (.iload 4, 2) := dk_21 4 (dk_at dksX5_readsPart_7 20 rfl rfl)
theorem dX5_readsPart_182 : decode cX5_readsPart 182 = .ok (.iastore, 1) := dk_79 (dk_at dksX5_readsPart_7 22 rfl rfl)
theorem dX5_readsPart_183 : decode cX5_readsPart 183 = .ok (.aload_n 0, 1) := dk_42 (dk_at dksX5_readsPart_7 23 rfl rfl)
theorem dX5_readsPart_184 : decode cX5_readsPart 184 = .ok (.getfield 28, 3) := dk_180 0 28 (dk_at dksX5_readsPart_8 0 rfl rfl)
theorem dX5_readsPart_187 : decode cX5_readsPart 187 = .ok (.iload_n 2, 1) := dk_28 (dk_at dksX5_readsPart_8 3 rfl rfl)
theorem dX5_readsPart_188 : decode cX5_readsPart 188 = .ok (.iload 6, 2) := dk_21 6 (dk_at dksX5_readsPart_8 4 rfl rfl)
theorem dX5_readsPart_190 : decode cX5_readsPart 190 = .ok (.iastore, 1) := dk_79 (dk_at dksX5_readsPart_8 6 rfl rfl)
theorem dX5_readsPart_191 : decode cX5_readsPart 191 = .ok (.aload_n 0, 1) := dk_42 (dk_at dksX5_readsPart_8 7 rfl rfl)
theorem dX5_readsPart_192 : decode cX5_readsPart 192 = .ok (.getfield 31, 3) := dk_180 0 31 (dk_at dksX5_readsPart_8 8 rfl rfl)
theorem dX5_readsPart_195 : decode cX5_readsPart 195 = .ok (.iload_n 2, 1) := dk_28 (dk_at dksX5_readsPart_8 11 rfl rfl)
theorem dX5_readsPart_196 : decode cX5_readsPart 196 = .ok (.iload 7, 2) := dk_21 7 (dk_at dksX5_readsPart_8 12 rfl rfl)
theorem dX5_readsPart_198 : decode cX5_readsPart 198 = .ok (.iastore, 1) := dk_79 (dk_at dksX5_readsPart_8 14 rfl rfl)
theorem dX5_readsPart_199 : decode cX5_readsPart 199 = .ok (.iconst 3, 1) := dk_6 (dk_at dksX5_readsPart_8 15 rfl rfl)
theorem dX5_readsPart_200 : decode cX5_readsPart 200 = .ok (.ireturn, 1) := dk_172 (dk_at dksX5_readsPart_8 16 rfl rfl)
abbrev cX5_byteAt : ByteArray := prog_15_method_14_code
def yX5_byteAt : MethodName := ⟨RX5, "byteAt", "(II)I"⟩
def dkwX5_byteAt_1 : List UInt8 := [2, 172]
abbrev dktX5_byteAt_1 : List UInt8 := dkwX5_byteAt_1 ++ []
def dkwX5_byteAt_0 : List UInt8 := [28, 42, 180, 0, 7, 27, 46, 162, 0, 17, 42, 180, 0, 13, 16, 31, 27, 104, 28, 96, 46, 167, 0, 4]
abbrev dktX5_byteAt_0 : List UInt8 := dkwX5_byteAt_0 ++ dktX5_byteAt_1
theorem dksX5_byteAt_0 : cX5_byteAt.data.toList.drop 0 = dktX5_byteAt_0 := by decide +kernel
theorem dksX5_byteAt_1 : cX5_byteAt.data.toList.drop 24 = dktX5_byteAt_1 := dk_seg dksX5_byteAt_0 24 rfl rfl
theorem dX5_byteAt_0 : decode cX5_byteAt 0 = .ok (.iload_n 2, 1) := dk_28 (dk_at dksX5_byteAt_0 0 rfl rfl)
theorem dX5_byteAt_1 : decode cX5_byteAt 1 = .ok (.aload_n 0, 1) := dk_42 (dk_at dksX5_byteAt_0 1 rfl rfl)
theorem dX5_byteAt_2 : decode cX5_byteAt 2 = .ok (.getfield 7, 3) := dk_180 0 7 (dk_at dksX5_byteAt_0 2 rfl rfl)
theorem dX5_byteAt_5 : decode cX5_byteAt 5 = .ok (.iload_n 1, 1) := dk_27 (dk_at dksX5_byteAt_0 5 rfl rfl)
theorem dX5_byteAt_6 : decode cX5_byteAt 6 = .ok (.iaload, 1) := dk_46 (dk_at dksX5_byteAt_0 6 rfl rfl)
theorem dX5_byteAt_7 : decode cX5_byteAt 7 = .ok (.if_icmp .ge 17, 3) := dk_162 0 17 (dk_at dksX5_byteAt_0 7 rfl rfl)
theorem dX5_byteAt_10 : decode cX5_byteAt 10 = .ok (.aload_n 0, 1) := dk_42 (dk_at dksX5_byteAt_0 10 rfl rfl)
theorem dX5_byteAt_11 : decode cX5_byteAt 11 = .ok (.getfield 13, 3) := dk_180 0 13 (dk_at dksX5_byteAt_0 11 rfl rfl)
theorem dX5_byteAt_14 : decode cX5_byteAt 14 = .ok (.bipush 31, 2) := dk_16 31 (dk_at dksX5_byteAt_0 14 rfl rfl)
theorem dX5_byteAt_16 : decode cX5_byteAt 16 = .ok (.iload_n 1, 1) := dk_27 (dk_at dksX5_byteAt_0 16 rfl rfl)
theorem dX5_byteAt_17 : decode cX5_byteAt 17 = .ok (.imul, 1) := dk_104 (dk_at dksX5_byteAt_0 17 rfl rfl)
theorem dX5_byteAt_18 : decode cX5_byteAt 18 = .ok (.iload_n 2, 1) := dk_28 (dk_at dksX5_byteAt_0 18 rfl rfl)
theorem dX5_byteAt_19 : decode cX5_byteAt 19 = .ok (.iadd, 1) := dk_96 (dk_at dksX5_byteAt_0 19 rfl rfl)
theorem dX5_byteAt_20 : decode cX5_byteAt 20 = .ok (.iaload, 1) := dk_46 (dk_at dksX5_byteAt_0 20 rfl rfl)
theorem dX5_byteAt_21 : decode cX5_byteAt 21 = .ok (.goto 4, 3) := dk_167 0 4 (dk_at dksX5_byteAt_0 21 rfl rfl)
theorem dX5_byteAt_24 : decode cX5_byteAt 24 = .ok (.iconst (-1), 1) := dk_2 (dk_at dksX5_byteAt_1 0 rfl rfl)
theorem dX5_byteAt_25 : decode cX5_byteAt 25 = .ok (.ireturn, 1) := dk_172 (dk_at dksX5_byteAt_1 1 rfl rfl)
abbrev cX5_isMinute : ByteArray := prog_15_method_10_code
def yX5_isMinute : MethodName := ⟨RX5, "isMinute", "(I)Z"⟩
def dkwX5_isMinute_0 : List UInt8 := [26, 3, 16, 23, 184, 0, 119, 172]
abbrev dktX5_isMinute_0 : List UInt8 := dkwX5_isMinute_0 ++ []
theorem dksX5_isMinute_0 : cX5_isMinute.data.toList.drop 0 = dktX5_isMinute_0 := by decide +kernel
theorem dX5_isMinute_0 : decode cX5_isMinute 0 = .ok (.iload_n 0, 1) := dk_26 (dk_at dksX5_isMinute_0 0 rfl rfl)
theorem dX5_isMinute_1 : decode cX5_isMinute 1 = .ok (.iconst 0, 1) := dk_3 (dk_at dksX5_isMinute_0 1 rfl rfl)
theorem dX5_isMinute_2 : decode cX5_isMinute 2 = .ok (.bipush 23, 2) := dk_16 23 (dk_at dksX5_isMinute_0 2 rfl rfl)
theorem dX5_isMinute_4 : decode cX5_isMinute 4 = .ok (.invokestatic 119, 3) := dk_184 0 119 (dk_at dksX5_isMinute_0 4 rfl rfl)
theorem dX5_isMinute_7 : decode cX5_isMinute 7 = .ok (.ireturn, 1) := dk_172 (dk_at dksX5_isMinute_0 7 rfl rfl)
abbrev cX5_piece : ByteArray := prog_15_method_23_code
def yX5_piece : MethodName := ⟨RX5, "piece", "(II)I"⟩
def dkwX5_piece_1 : List UInt8 := [16, 254, 172]
abbrev dktX5_piece_1 : List UInt8 := dkwX5_piece_1 ++ []
def dkwX5_piece_0 : List UInt8 := [42, 27, 182, 0, 154, 153, 0, 19, 28, 184, 0, 157, 153, 0, 12, 42, 27, 28, 182, 0, 160, 167, 0, 5]
abbrev dktX5_piece_0 : List UInt8 := dkwX5_piece_0 ++ dktX5_piece_1
theorem dksX5_piece_0 : cX5_piece.data.toList.drop 0 = dktX5_piece_0 := by decide +kernel
theorem dksX5_piece_1 : cX5_piece.data.toList.drop 24 = dktX5_piece_1 := dk_seg dksX5_piece_0 24 rfl rfl
theorem dX5_piece_0 : decode cX5_piece 0 = .ok (.aload_n 0, 1) := dk_42 (dk_at dksX5_piece_0 0 rfl rfl)
theorem dX5_piece_1 : decode cX5_piece 1 = .ok (.iload_n 1, 1) := dk_27 (dk_at dksX5_piece_0 1 rfl rfl)
theorem dX5_piece_2 : decode cX5_piece 2 = .ok (.invokevirtual 154, 3) := dk_182 0 154 (dk_at dksX5_piece_0 2 rfl rfl)
theorem dX5_piece_5 : decode cX5_piece 5 = .ok (.ifCond .eq 19, 3) := dk_153 0 19 (dk_at dksX5_piece_0 5 rfl rfl)
theorem dX5_piece_8 : decode cX5_piece 8 = .ok (.iload_n 2, 1) := dk_28 (dk_at dksX5_piece_0 8 rfl rfl)
theorem dX5_piece_9 : decode cX5_piece 9 = .ok (.invokestatic 157, 3) := dk_184 0 157 (dk_at dksX5_piece_0 9 rfl rfl)
theorem dX5_piece_12 : decode cX5_piece 12 = .ok (.ifCond .eq 12, 3) := dk_153 0 12 (dk_at dksX5_piece_0 12 rfl rfl)
theorem dX5_piece_15 : decode cX5_piece 15 = .ok (.aload_n 0, 1) := dk_42 (dk_at dksX5_piece_0 15 rfl rfl)
theorem dX5_piece_16 : decode cX5_piece 16 = .ok (.iload_n 1, 1) := dk_27 (dk_at dksX5_piece_0 16 rfl rfl)
theorem dX5_piece_17 : decode cX5_piece 17 = .ok (.iload_n 2, 1) := dk_28 (dk_at dksX5_piece_0 17 rfl rfl)
theorem dX5_piece_18 : decode cX5_piece 18 = .ok (.invokevirtual 160, 3) := dk_182 0 160 (dk_at dksX5_piece_0 18 rfl rfl)
theorem dX5_piece_21 : decode cX5_piece 21 = .ok (.goto 5, 3) := dk_167 0 5 (dk_at dksX5_piece_0 21 rfl rfl)
theorem dX5_piece_24 : decode cX5_piece 24 = .ok (.bipush (-2), 2) := dk_16 254 (dk_at dksX5_piece_1 0 rfl rfl)
theorem dX5_piece_26 : decode cX5_piece 26 = .ok (.ireturn, 1) := dk_172 (dk_at dksX5_piece_1 2 rfl rfl)
abbrev cX5_isPiece : ByteArray := prog_15_method_20_code
def yX5_isPiece : MethodName := ⟨RX5, "isPiece", "(I)Z"⟩
def dkwX5_isPiece_0 : List UInt8 := [42, 182, 0, 151, 27, 3, 42, 180, 0, 134, 4, 100, 184, 0, 119, 172]
abbrev dktX5_isPiece_0 : List UInt8 := dkwX5_isPiece_0 ++ []
theorem dksX5_isPiece_0 : cX5_isPiece.data.toList.drop 0 = dktX5_isPiece_0 := by decide +kernel
theorem dX5_isPiece_0 : decode cX5_isPiece 0 = .ok (.aload_n 0, 1) := dk_42 (dk_at dksX5_isPiece_0 0 rfl rfl)
theorem dX5_isPiece_1 : decode cX5_isPiece 1 = .ok (.invokevirtual 151, 3) := dk_182 0 151 (dk_at dksX5_isPiece_0 1 rfl rfl)
theorem dX5_isPiece_4 : decode cX5_isPiece 4 = .ok (.iload_n 1, 1) := dk_27 (dk_at dksX5_isPiece_0 4 rfl rfl)
theorem dX5_isPiece_5 : decode cX5_isPiece 5 = .ok (.iconst 0, 1) := dk_3 (dk_at dksX5_isPiece_0 5 rfl rfl)
theorem dX5_isPiece_6 : decode cX5_isPiece 6 = .ok (.aload_n 0, 1) := dk_42 (dk_at dksX5_isPiece_0 6 rfl rfl)
theorem dX5_isPiece_7 : decode cX5_isPiece 7 = .ok (.getfield 134, 3) := dk_180 0 134 (dk_at dksX5_isPiece_0 7 rfl rfl)
theorem dX5_isPiece_10 : decode cX5_isPiece 10 = .ok (.iconst 1, 1) := dk_4 (dk_at dksX5_isPiece_0 10 rfl rfl)
theorem dX5_isPiece_11 : decode cX5_isPiece 11 = .ok (.isub, 1) := dk_100 (dk_at dksX5_isPiece_0 11 rfl rfl)
theorem dX5_isPiece_12 : decode cX5_isPiece 12 = .ok (.invokestatic 119, 3) := dk_184 0 119 (dk_at dksX5_isPiece_0 12 rfl rfl)
theorem dX5_isPiece_15 : decode cX5_isPiece 15 = .ok (.ireturn, 1) := dk_172 (dk_at dksX5_isPiece_0 15 rfl rfl)
abbrev cX5_reads : ByteArray := prog_15_method_18_code
def yX5_reads : MethodName := ⟨RX5, "reads", "()V"⟩
def dkwX5_reads_0 : List UInt8 := [42, 3, 182, 0, 148, 60, 177]
abbrev dktX5_reads_0 : List UInt8 := dkwX5_reads_0 ++ []
theorem dksX5_reads_0 : cX5_reads.data.toList.drop 0 = dktX5_reads_0 := by decide +kernel
theorem dX5_reads_0 : decode cX5_reads 0 = .ok (.aload_n 0, 1) := dk_42 (dk_at dksX5_reads_0 0 rfl rfl)
theorem dX5_reads_1 : decode cX5_reads 1 = .ok (.iconst 0, 1) := dk_3 (dk_at dksX5_reads_0 1 rfl rfl)
theorem dX5_reads_2 : decode cX5_reads 2 = .ok (.invokevirtual 148, 3) := dk_182 0 148 (dk_at dksX5_reads_0 2 rfl rfl)
theorem dX5_reads_5 : decode cX5_reads 5 = .ok (.istore_n 1, 1) := dk_60 (dk_at dksX5_reads_0 5 rfl rfl)
theorem dX5_reads_6 : decode cX5_reads 6 = .ok (.return_, 1) := dk_177 (dk_at dksX5_reads_0 6 rfl rfl)
abbrev cX5_isThree : ByteArray := prog_15_method_9_code
def yX5_isThree : MethodName := ⟨RX5, "isThree", "(I)Z"⟩
def dkwX5_isThree_0 : List UInt8 := [26, 3, 5, 184, 0, 119, 172]
abbrev dktX5_isThree_0 : List UInt8 := dkwX5_isThree_0 ++ []
theorem dksX5_isThree_0 : cX5_isThree.data.toList.drop 0 = dktX5_isThree_0 := by decide +kernel
theorem dX5_isThree_0 : decode cX5_isThree 0 = .ok (.iload_n 0, 1) := dk_26 (dk_at dksX5_isThree_0 0 rfl rfl)
theorem dX5_isThree_1 : decode cX5_isThree 1 = .ok (.iconst 0, 1) := dk_3 (dk_at dksX5_isThree_0 1 rfl rfl)
theorem dX5_isThree_2 : decode cX5_isThree 2 = .ok (.iconst 2, 1) := dk_5 (dk_at dksX5_isThree_0 2 rfl rfl)
theorem dX5_isThree_3 : decode cX5_isThree 3 = .ok (.invokestatic 119, 3) := dk_184 0 119 (dk_at dksX5_isThree_0 3 rfl rfl)
theorem dX5_isThree_6 : decode cX5_isThree 6 = .ok (.ireturn, 1) := dk_172 (dk_at dksX5_isThree_0 6 rfl rfl)
abbrev cX5_pieceOf : ByteArray := prog_15_method_22_code
def yX5_pieceOf : MethodName := ⟨RX5, "pieceOf", "(II)I"⟩
def dkwX5_pieceOf_1 : List UInt8 := [167, 0, 9, 42, 180, 0, 22, 27, 46, 172]
abbrev dktX5_pieceOf_1 : List UInt8 := dkwX5_pieceOf_1 ++ []
def dkwX5_pieceOf_0 : List UInt8 := [28, 154, 0, 12, 42, 180, 0, 16, 27, 46, 167, 0, 23, 28, 4, 160, 0, 12, 42, 180, 0, 19, 27, 46]
abbrev dktX5_pieceOf_0 : List UInt8 := dkwX5_pieceOf_0 ++ dktX5_pieceOf_1
theorem dksX5_pieceOf_0 : cX5_pieceOf.data.toList.drop 0 = dktX5_pieceOf_0 := by decide +kernel
theorem dksX5_pieceOf_1 : cX5_pieceOf.data.toList.drop 24 = dktX5_pieceOf_1 := dk_seg dksX5_pieceOf_0 24 rfl rfl
theorem dX5_pieceOf_0 : decode cX5_pieceOf 0 = .ok (.iload_n 2, 1) := dk_28 (dk_at dksX5_pieceOf_0 0 rfl rfl)
theorem dX5_pieceOf_1 : decode cX5_pieceOf 1 = .ok (.ifCond .ne 12, 3) := dk_154 0 12 (dk_at dksX5_pieceOf_0 1 rfl rfl)
theorem dX5_pieceOf_4 : decode cX5_pieceOf 4 = .ok (.aload_n 0, 1) := dk_42 (dk_at dksX5_pieceOf_0 4 rfl rfl)
theorem dX5_pieceOf_5 : decode cX5_pieceOf 5 = .ok (.getfield 16, 3) := dk_180 0 16 (dk_at dksX5_pieceOf_0 5 rfl rfl)
theorem dX5_pieceOf_8 : decode cX5_pieceOf 8 = .ok (.iload_n 1, 1) := dk_27 (dk_at dksX5_pieceOf_0 8 rfl rfl)
theorem dX5_pieceOf_9 : decode cX5_pieceOf 9 = .ok (.iaload, 1) := dk_46 (dk_at dksX5_pieceOf_0 9 rfl rfl)
theorem dX5_pieceOf_10 : decode cX5_pieceOf 10 = .ok (.goto 23, 3) := dk_167 0 23 (dk_at dksX5_pieceOf_0 10 rfl rfl)
theorem dX5_pieceOf_13 : decode cX5_pieceOf 13 = .ok (.iload_n 2, 1) := dk_28 (dk_at dksX5_pieceOf_0 13 rfl rfl)
theorem dX5_pieceOf_14 : decode cX5_pieceOf 14 = .ok (.iconst 1, 1) := dk_4 (dk_at dksX5_pieceOf_0 14 rfl rfl)
theorem dX5_pieceOf_15 : decode cX5_pieceOf 15 = .ok (.if_icmp .ne 12, 3) := dk_160 0 12 (dk_at dksX5_pieceOf_0 15 rfl rfl)
theorem dX5_pieceOf_18 : decode cX5_pieceOf 18 = .ok (.aload_n 0, 1) := dk_42 (dk_at dksX5_pieceOf_0 18 rfl rfl)
theorem dX5_pieceOf_19 : decode cX5_pieceOf 19 = .ok (.getfield 19, 3) := dk_180 0 19 (dk_at dksX5_pieceOf_0 19 rfl rfl)
theorem dX5_pieceOf_22 : decode cX5_pieceOf 22 = .ok (.iload_n 1, 1) := dk_27 (dk_at dksX5_pieceOf_0 22 rfl rfl)
theorem dX5_pieceOf_23 : decode cX5_pieceOf 23 = .ok (.iaload, 1) := dk_46 (dk_at dksX5_pieceOf_0 23 rfl rfl)
theorem dX5_pieceOf_24 : decode cX5_pieceOf 24 = .ok (.goto 9, 3) := dk_167 0 9 (dk_at dksX5_pieceOf_1 0 rfl rfl)
theorem dX5_pieceOf_27 : decode cX5_pieceOf 27 = .ok (.aload_n 0, 1) := dk_42 (dk_at dksX5_pieceOf_1 3 rfl rfl)
theorem dX5_pieceOf_28 : decode cX5_pieceOf 28 = .ok (.getfield 22, 3) := dk_180 0 22 (dk_at dksX5_pieceOf_1 4 rfl rfl)
theorem dX5_pieceOf_31 : decode cX5_pieceOf 31 = .ok (.iload_n 1, 1) := dk_27 (dk_at dksX5_pieceOf_1 7 rfl rfl)
theorem dX5_pieceOf_32 : decode cX5_pieceOf 32 = .ok (.iaload, 1) := dk_46 (dk_at dksX5_pieceOf_1 8 rfl rfl)
theorem dX5_pieceOf_33 : decode cX5_pieceOf 33 = .ok (.ireturn, 1) := dk_172 (dk_at dksX5_pieceOf_1 9 rfl rfl)
abbrev cX5_guest : ByteArray := prog_15_method_25_code
def yX5_guest : MethodName := ⟨RX5, "guest", "(II)I"⟩
def dkwX5_guest_1 : List UInt8 := [16, 254, 172]
abbrev dktX5_guest_1 : List UInt8 := dkwX5_guest_1 ++ []
def dkwX5_guest_0 : List UInt8 := [42, 27, 182, 0, 163, 153, 0, 19, 28, 184, 0, 157, 153, 0, 12, 42, 27, 28, 182, 0, 166, 167, 0, 5]
abbrev dktX5_guest_0 : List UInt8 := dkwX5_guest_0 ++ dktX5_guest_1
theorem dksX5_guest_0 : cX5_guest.data.toList.drop 0 = dktX5_guest_0 := by decide +kernel
theorem dksX5_guest_1 : cX5_guest.data.toList.drop 24 = dktX5_guest_1 := dk_seg dksX5_guest_0 24 rfl rfl
theorem dX5_guest_0 : decode cX5_guest 0 = .ok (.aload_n 0, 1) := dk_42 (dk_at dksX5_guest_0 0 rfl rfl)
theorem dX5_guest_1 : decode cX5_guest 1 = .ok (.iload_n 1, 1) := dk_27 (dk_at dksX5_guest_0 1 rfl rfl)
theorem dX5_guest_2 : decode cX5_guest 2 = .ok (.invokevirtual 163, 3) := dk_182 0 163 (dk_at dksX5_guest_0 2 rfl rfl)
theorem dX5_guest_5 : decode cX5_guest 5 = .ok (.ifCond .eq 19, 3) := dk_153 0 19 (dk_at dksX5_guest_0 5 rfl rfl)
theorem dX5_guest_8 : decode cX5_guest 8 = .ok (.iload_n 2, 1) := dk_28 (dk_at dksX5_guest_0 8 rfl rfl)
theorem dX5_guest_9 : decode cX5_guest 9 = .ok (.invokestatic 157, 3) := dk_184 0 157 (dk_at dksX5_guest_0 9 rfl rfl)
theorem dX5_guest_12 : decode cX5_guest 12 = .ok (.ifCond .eq 12, 3) := dk_153 0 12 (dk_at dksX5_guest_0 12 rfl rfl)
theorem dX5_guest_15 : decode cX5_guest 15 = .ok (.aload_n 0, 1) := dk_42 (dk_at dksX5_guest_0 15 rfl rfl)
theorem dX5_guest_16 : decode cX5_guest 16 = .ok (.iload_n 1, 1) := dk_27 (dk_at dksX5_guest_0 16 rfl rfl)
theorem dX5_guest_17 : decode cX5_guest 17 = .ok (.iload_n 2, 1) := dk_28 (dk_at dksX5_guest_0 17 rfl rfl)
theorem dX5_guest_18 : decode cX5_guest 18 = .ok (.invokevirtual 166, 3) := dk_182 0 166 (dk_at dksX5_guest_0 18 rfl rfl)
theorem dX5_guest_21 : decode cX5_guest 21 = .ok (.goto 5, 3) := dk_167 0 5 (dk_at dksX5_guest_0 21 rfl rfl)
theorem dX5_guest_24 : decode cX5_guest 24 = .ok (.bipush (-2), 2) := dk_16 254 (dk_at dksX5_guest_1 0 rfl rfl)
theorem dX5_guest_26 : decode cX5_guest 26 = .ok (.ireturn, 1) := dk_172 (dk_at dksX5_guest_1 2 rfl rfl)
abbrev cX5_isGuest : ByteArray := prog_15_method_21_code
def yX5_isGuest : MethodName := ⟨RX5, "isGuest", "(I)Z"⟩
def dkwX5_isGuest_0 : List UInt8 := [42, 182, 0, 151, 27, 3, 42, 180, 0, 137, 4, 100, 184, 0, 119, 172]
abbrev dktX5_isGuest_0 : List UInt8 := dkwX5_isGuest_0 ++ []
theorem dksX5_isGuest_0 : cX5_isGuest.data.toList.drop 0 = dktX5_isGuest_0 := by decide +kernel
theorem dX5_isGuest_0 : decode cX5_isGuest 0 = .ok (.aload_n 0, 1) := dk_42 (dk_at dksX5_isGuest_0 0 rfl rfl)
theorem dX5_isGuest_1 : decode cX5_isGuest 1 = .ok (.invokevirtual 151, 3) := dk_182 0 151 (dk_at dksX5_isGuest_0 1 rfl rfl)
theorem dX5_isGuest_4 : decode cX5_isGuest 4 = .ok (.iload_n 1, 1) := dk_27 (dk_at dksX5_isGuest_0 4 rfl rfl)
theorem dX5_isGuest_5 : decode cX5_isGuest 5 = .ok (.iconst 0, 1) := dk_3 (dk_at dksX5_isGuest_0 5 rfl rfl)
theorem dX5_isGuest_6 : decode cX5_isGuest 6 = .ok (.aload_n 0, 1) := dk_42 (dk_at dksX5_isGuest_0 6 rfl rfl)
theorem dX5_isGuest_7 : decode cX5_isGuest 7 = .ok (.getfield 137, 3) := dk_180 0 137 (dk_at dksX5_isGuest_0 7 rfl rfl)
theorem dX5_isGuest_10 : decode cX5_isGuest 10 = .ok (.iconst 1, 1) := dk_4 (dk_at dksX5_isGuest_0 10 rfl rfl)
theorem dX5_isGuest_11 : decode cX5_isGuest 11 = .ok (.isub, 1) := dk_100 (dk_at dksX5_isGuest_0 11 rfl rfl)
theorem dX5_isGuest_12 : decode cX5_isGuest 12 = .ok (.invokestatic 119, 3) := dk_184 0 119 (dk_at dksX5_isGuest_0 12 rfl rfl)
theorem dX5_isGuest_15 : decode cX5_isGuest 15 = .ok (.ireturn, 1) := dk_172 (dk_at dksX5_isGuest_0 15 rfl rfl)
abbrev cX5_guestOf : ByteArray := prog_15_method_24_code
def yX5_guestOf : MethodName := ⟨RX5, "guestOf", "(II)I"⟩
def dkwX5_guestOf_1 : List UInt8 := [167, 0, 9, 42, 180, 0, 31, 27, 46, 172]
abbrev dktX5_guestOf_1 : List UInt8 := dkwX5_guestOf_1 ++ []
def dkwX5_guestOf_0 : List UInt8 := [28, 154, 0, 12, 42, 180, 0, 25, 27, 46, 167, 0, 23, 28, 4, 160, 0, 12, 42, 180, 0, 28, 27, 46]
abbrev dktX5_guestOf_0 : List UInt8 := dkwX5_guestOf_0 ++ dktX5_guestOf_1
theorem dksX5_guestOf_0 : cX5_guestOf.data.toList.drop 0 = dktX5_guestOf_0 := by decide +kernel
theorem dksX5_guestOf_1 : cX5_guestOf.data.toList.drop 24 = dktX5_guestOf_1 := dk_seg dksX5_guestOf_0 24 rfl rfl
theorem dX5_guestOf_0 : decode cX5_guestOf 0 = .ok (.iload_n 2, 1) := dk_28 (dk_at dksX5_guestOf_0 0 rfl rfl)
theorem dX5_guestOf_1 : decode cX5_guestOf 1 = .ok (.ifCond .ne 12, 3) := dk_154 0 12 (dk_at dksX5_guestOf_0 1 rfl rfl)
theorem dX5_guestOf_4 : decode cX5_guestOf 4 = .ok (.aload_n 0, 1) := dk_42 (dk_at dksX5_guestOf_0 4 rfl rfl)
theorem dX5_guestOf_5 : decode cX5_guestOf 5 = .ok (.getfield 25, 3) := dk_180 0 25 (dk_at dksX5_guestOf_0 5 rfl rfl)
theorem dX5_guestOf_8 : decode cX5_guestOf 8 = .ok (.iload_n 1, 1) := dk_27 (dk_at dksX5_guestOf_0 8 rfl rfl)
theorem dX5_guestOf_9 : decode cX5_guestOf 9 = .ok (.iaload, 1) := dk_46 (dk_at dksX5_guestOf_0 9 rfl rfl)
theorem dX5_guestOf_10 : decode cX5_guestOf 10 = .ok (.goto 23, 3) := dk_167 0 23 (dk_at dksX5_guestOf_0 10 rfl rfl)
theorem dX5_guestOf_13 : decode cX5_guestOf 13 = .ok (.iload_n 2, 1) := dk_28 (dk_at dksX5_guestOf_0 13 rfl rfl)
theorem dX5_guestOf_14 : decode cX5_guestOf 14 = .ok (.iconst 1, 1) := dk_4 (dk_at dksX5_guestOf_0 14 rfl rfl)
theorem dX5_guestOf_15 : decode cX5_guestOf 15 = .ok (.if_icmp .ne 12, 3) := dk_160 0 12 (dk_at dksX5_guestOf_0 15 rfl rfl)
theorem dX5_guestOf_18 : decode cX5_guestOf 18 = .ok (.aload_n 0, 1) := dk_42 (dk_at dksX5_guestOf_0 18 rfl rfl)
theorem dX5_guestOf_19 : decode cX5_guestOf 19 = .ok (.getfield 28, 3) := dk_180 0 28 (dk_at dksX5_guestOf_0 19 rfl rfl)
theorem dX5_guestOf_22 : decode cX5_guestOf 22 = .ok (.iload_n 1, 1) := dk_27 (dk_at dksX5_guestOf_0 22 rfl rfl)
theorem dX5_guestOf_23 : decode cX5_guestOf 23 = .ok (.iaload, 1) := dk_46 (dk_at dksX5_guestOf_0 23 rfl rfl)
theorem dX5_guestOf_24 : decode cX5_guestOf 24 = .ok (.goto 9, 3) := dk_167 0 9 (dk_at dksX5_guestOf_1 0 rfl rfl)
theorem dX5_guestOf_27 : decode cX5_guestOf 27 = .ok (.aload_n 0, 1) := dk_42 (dk_at dksX5_guestOf_1 3 rfl rfl)
theorem dX5_guestOf_28 : decode cX5_guestOf 28 = .ok (.getfield 31, 3) := dk_180 0 31 (dk_at dksX5_guestOf_1 4 rfl rfl)
theorem dX5_guestOf_31 : decode cX5_guestOf 31 = .ok (.iload_n 1, 1) := dk_27 (dk_at dksX5_guestOf_1 7 rfl rfl)
theorem dX5_guestOf_32 : decode cX5_guestOf 32 = .ok (.iaload, 1) := dk_46 (dk_at dksX5_guestOf_1 8 rfl rfl)
theorem dX5_guestOf_33 : decode cX5_guestOf 33 = .ok (.ireturn, 1) := dk_172 (dk_at dksX5_guestOf_1 9 rfl rfl)
abbrev cX5_set : ByteArray := prog_15_method_26_code
def yX5_set : MethodName := ⟨RX5, "set", "(II)I"⟩
def dkwX5_set_3 : List UInt8 := [42, 180, 0, 114, 181, 0, 114, 29, 172]
abbrev dktX5_set_3 : List UInt8 := dkwX5_set_3 ++ []
def dkwX5_set_2 : List UInt8 := [154, 0, 7, 28, 167, 0, 7, 42, 180, 0, 110, 181, 0, 110, 42, 27, 4, 160, 0, 7, 28, 167, 0, 7]
abbrev dktX5_set_2 : List UInt8 := dkwX5_set_2 ++ dktX5_set_3
def dkwX5_set_1 : List UInt8 := [154, 0, 6, 16, 254, 172, 27, 154, 0, 10, 42, 180, 0, 110, 167, 0, 7, 42, 180, 0, 114, 62, 42, 27]
abbrev dktX5_set_1 : List UInt8 := dkwX5_set_1 ++ dktX5_set_2
def dkwX5_set_0 : List UInt8 := [27, 184, 0, 123, 153, 0, 22, 28, 3, 27, 154, 0, 8, 16, 30, 167, 0, 5, 16, 40, 184, 0, 119]
abbrev dktX5_set_0 : List UInt8 := dkwX5_set_0 ++ dktX5_set_1
theorem dksX5_set_0 : cX5_set.data.toList.drop 0 = dktX5_set_0 := by decide +kernel
theorem dksX5_set_1 : cX5_set.data.toList.drop 23 = dktX5_set_1 := dk_seg dksX5_set_0 23 rfl rfl
theorem dksX5_set_2 : cX5_set.data.toList.drop 47 = dktX5_set_2 := dk_seg dksX5_set_1 24 rfl rfl
theorem dksX5_set_3 : cX5_set.data.toList.drop 71 = dktX5_set_3 := dk_seg dksX5_set_2 24 rfl rfl
theorem dX5_set_0 : decode cX5_set 0 = .ok (.iload_n 1, 1) := dk_27 (dk_at dksX5_set_0 0 rfl rfl)
theorem dX5_set_1 : decode cX5_set 1 = .ok (.invokestatic 123, 3) := dk_184 0 123 (dk_at dksX5_set_0 1 rfl rfl)
theorem dX5_set_4 : decode cX5_set 4 = .ok (.ifCond .eq 22, 3) := dk_153 0 22 (dk_at dksX5_set_0 4 rfl rfl)
theorem dX5_set_7 : decode cX5_set 7 = .ok (.iload_n 2, 1) := dk_28 (dk_at dksX5_set_0 7 rfl rfl)
theorem dX5_set_8 : decode cX5_set 8 = .ok (.iconst 0, 1) := dk_3 (dk_at dksX5_set_0 8 rfl rfl)
theorem dX5_set_9 : decode cX5_set 9 = .ok (.iload_n 1, 1) := dk_27 (dk_at dksX5_set_0 9 rfl rfl)
theorem dX5_set_10 : decode cX5_set 10 = .ok (.ifCond .ne 8, 3) := dk_154 0 8 (dk_at dksX5_set_0 10 rfl rfl)
theorem dX5_set_13 : decode cX5_set 13 = .ok (.bipush 30, 2) := dk_16 30 (dk_at dksX5_set_0 13 rfl rfl)
theorem dX5_set_15 : decode cX5_set 15 = .ok (.goto 5, 3) := dk_167 0 5 (dk_at dksX5_set_0 15 rfl rfl)
theorem dX5_set_18 : decode cX5_set 18 = .ok (.bipush 40, 2) := dk_16 40 (dk_at dksX5_set_0 18 rfl rfl)
theorem dX5_set_20 : decode cX5_set 20 = .ok (.invokestatic 119, 3) := dk_184 0 119 (dk_at dksX5_set_0 20 rfl rfl)
theorem dX5_set_23 : decode cX5_set 23 = .ok (.ifCond .ne 6, 3) := dk_154 0 6 (dk_at dksX5_set_1 0 rfl rfl)
theorem dX5_set_26 : decode cX5_set 26 = .ok (.bipush (-2), 2) := dk_16 254 (dk_at dksX5_set_1 3 rfl rfl)
theorem dX5_set_28 : decode cX5_set 28 = .ok (.ireturn, 1) := dk_172 (dk_at dksX5_set_1 5 rfl rfl)
theorem dX5_set_29 : decode cX5_set 29 = .ok (.iload_n 1, 1) := dk_27 (dk_at dksX5_set_1 6 rfl rfl)
theorem dX5_set_30 : decode cX5_set 30 = .ok (.ifCond .ne 10, 3) := dk_154 0 10 (dk_at dksX5_set_1 7 rfl rfl)
theorem dX5_set_33 : decode cX5_set 33 = .ok (.aload_n 0, 1) := dk_42 (dk_at dksX5_set_1 10 rfl rfl)
theorem dX5_set_34 : decode cX5_set 34 = .ok (.getfield 110, 3) := dk_180 0 110 (dk_at dksX5_set_1 11 rfl rfl)
theorem dX5_set_37 : decode cX5_set 37 = .ok (.goto 7, 3) := dk_167 0 7 (dk_at dksX5_set_1 14 rfl rfl)
theorem dX5_set_40 : decode cX5_set 40 = .ok (.aload_n 0, 1) := dk_42 (dk_at dksX5_set_1 17 rfl rfl)
theorem dX5_set_41 : decode cX5_set 41 = .ok (.getfield 114, 3) := dk_180 0 114 (dk_at dksX5_set_1 18 rfl rfl)
theorem dX5_set_44 : decode cX5_set 44 = .ok (.istore_n 3, 1) := dk_62 (dk_at dksX5_set_1 21 rfl rfl)
theorem dX5_set_45 : decode cX5_set 45 = .ok (.aload_n 0, 1) := dk_42 (dk_at dksX5_set_1 22 rfl rfl)
theorem dX5_set_46 : decode cX5_set 46 = .ok (.iload_n 1, 1) := dk_27 (dk_at dksX5_set_1 23 rfl rfl)
theorem dX5_set_47 : decode cX5_set 47 = .ok (.ifCond .ne 7, 3) := dk_154 0 7 (dk_at dksX5_set_2 0 rfl rfl)
theorem dX5_set_50 : decode cX5_set 50 = .ok (.iload_n 2, 1) := dk_28 (dk_at dksX5_set_2 3 rfl rfl)
theorem dX5_set_51 : decode cX5_set 51 = .ok (.goto 7, 3) := dk_167 0 7 (dk_at dksX5_set_2 4 rfl rfl)
theorem dX5_set_54 : decode cX5_set 54 = .ok (.aload_n 0, 1) := dk_42 (dk_at dksX5_set_2 7 rfl rfl)
theorem dX5_set_55 : decode cX5_set 55 = .ok (.getfield 110, 3) := dk_180 0 110 (dk_at dksX5_set_2 8 rfl rfl)
theorem dX5_set_58 : decode cX5_set 58 = .ok (.putfield 110, 3) := dk_181 0 110 (dk_at dksX5_set_2 11 rfl rfl)
theorem dX5_set_61 : decode cX5_set 61 = .ok (.aload_n 0, 1) := dk_42 (dk_at dksX5_set_2 14 rfl rfl)
theorem dX5_set_62 : decode cX5_set 62 = .ok (.iload_n 1, 1) := dk_27 (dk_at dksX5_set_2 15 rfl rfl)
theorem dX5_set_63 : decode cX5_set 63 = .ok (.iconst 1, 1) := dk_4 (dk_at dksX5_set_2 16 rfl rfl)
theorem dX5_set_64 : decode cX5_set 64 = .ok (.if_icmp .ne 7, 3) := dk_160 0 7 (dk_at dksX5_set_2 17 rfl rfl)
theorem dX5_set_67 : decode cX5_set 67 = .ok (.iload_n 2, 1) := dk_28 (dk_at dksX5_set_2 20 rfl rfl)
theorem dX5_set_68 : decode cX5_set 68 = .ok (.goto 7, 3) := dk_167 0 7 (dk_at dksX5_set_2 21 rfl rfl)
theorem dX5_set_71 : decode cX5_set 71 = .ok (.aload_n 0, 1) := dk_42 (dk_at dksX5_set_3 0 rfl rfl)
theorem dX5_set_72 : decode cX5_set 72 = .ok (.getfield 114, 3) := dk_180 0 114 (dk_at dksX5_set_3 1 rfl rfl)
theorem dX5_set_75 : decode cX5_set 75 = .ok (.putfield 114, 3) := dk_181 0 114 (dk_at dksX5_set_3 4 rfl rfl)
theorem dX5_set_78 : decode cX5_set 78 = .ok (.iload_n 3, 1) := dk_29 (dk_at dksX5_set_3 7 rfl rfl)
theorem dX5_set_79 : decode cX5_set 79 = .ok (.ireturn, 1) := dk_172 (dk_at dksX5_set_3 8 rfl rfl)
abbrev cX5_event : ByteArray := prog_15_method_27_code
def yX5_event : MethodName := ⟨RX5, "event", "(III)I"⟩
def dkwX5_event_3 : List UInt8 := [180, 0, 169, 4, 96, 181, 0, 169, 42, 180, 0, 169, 172]
abbrev dktX5_event_3 : List UInt8 := dkwX5_event_3 ++ []
def dkwX5_event_2 : List UInt8 := [79, 42, 180, 0, 37, 42, 180, 0, 169, 28, 79, 42, 180, 0, 40, 42, 180, 0, 169, 29, 79, 42, 89]
abbrev dktX5_event_2 : List UInt8 := dkwX5_event_2 ++ dktX5_event_3
def dkwX5_event_1 : List UInt8 := [16, 254, 172, 42, 180, 0, 169, 16, 8, 160, 0, 6, 16, 252, 172, 42, 180, 0, 34, 42, 180, 0, 169, 27]
abbrev dktX5_event_1 : List UInt8 := dkwX5_event_1 ++ dktX5_event_2
def dkwX5_event_0 : List UInt8 := [27, 184, 0, 157, 153, 0, 20, 28, 184, 0, 131, 153, 0, 13, 29, 3, 16, 9, 184, 0, 119, 154, 0, 6]
abbrev dktX5_event_0 : List UInt8 := dkwX5_event_0 ++ dktX5_event_1
theorem dksX5_event_0 : cX5_event.data.toList.drop 0 = dktX5_event_0 := by decide +kernel
theorem dksX5_event_1 : cX5_event.data.toList.drop 24 = dktX5_event_1 := dk_seg dksX5_event_0 24 rfl rfl
theorem dksX5_event_2 : cX5_event.data.toList.drop 48 = dktX5_event_2 := dk_seg dksX5_event_1 24 rfl rfl
theorem dksX5_event_3 : cX5_event.data.toList.drop 71 = dktX5_event_3 := dk_seg dksX5_event_2 23 rfl rfl
theorem dX5_event_0 : decode cX5_event 0 = .ok (.iload_n 1, 1) := dk_27 (dk_at dksX5_event_0 0 rfl rfl)
theorem dX5_event_1 : decode cX5_event 1 = .ok (.invokestatic 157, 3) := dk_184 0 157 (dk_at dksX5_event_0 1 rfl rfl)
theorem dX5_event_4 : decode cX5_event 4 = .ok (.ifCond .eq 20, 3) := dk_153 0 20 (dk_at dksX5_event_0 4 rfl rfl)
theorem dX5_event_7 : decode cX5_event 7 = .ok (.iload_n 2, 1) := dk_28 (dk_at dksX5_event_0 7 rfl rfl)
theorem dX5_event_8 : decode cX5_event 8 = .ok (.invokestatic 131, 3) := dk_184 0 131 (dk_at dksX5_event_0 8 rfl rfl)
theorem dX5_event_11 : decode cX5_event 11 = .ok (.ifCond .eq 13, 3) := dk_153 0 13 (dk_at dksX5_event_0 11 rfl rfl)
theorem dX5_event_14 : decode cX5_event 14 = .ok (.iload_n 3, 1) := dk_29 (dk_at dksX5_event_0 14 rfl rfl)
theorem dX5_event_15 : decode cX5_event 15 = .ok (.iconst 0, 1) := dk_3 (dk_at dksX5_event_0 15 rfl rfl)
theorem dX5_event_16 : decode cX5_event 16 = .ok (.bipush 9, 2) := dk_16 9 (dk_at dksX5_event_0 16 rfl rfl)
theorem dX5_event_18 : decode cX5_event 18 = .ok (.invokestatic 119, 3) := dk_184 0 119 (dk_at dksX5_event_0 18 rfl rfl)
theorem dX5_event_21 : decode cX5_event 21 = .ok (.ifCond .ne 6, 3) := dk_154 0 6 (dk_at dksX5_event_0 21 rfl rfl)
theorem dX5_event_24 : decode cX5_event 24 = .ok (.bipush (-2), 2) := dk_16 254 (dk_at dksX5_event_1 0 rfl rfl)
theorem dX5_event_26 : decode cX5_event 26 = .ok (.ireturn, 1) := dk_172 (dk_at dksX5_event_1 2 rfl rfl)
theorem dX5_event_27 : decode cX5_event 27 = .ok (.aload_n 0, 1) := dk_42 (dk_at dksX5_event_1 3 rfl rfl)
theorem dX5_event_28 : decode cX5_event 28 = .ok (.getfield 169, 3) := dk_180 0 169 (dk_at dksX5_event_1 4 rfl rfl)
theorem dX5_event_31 : decode cX5_event 31 = .ok (.bipush 8, 2) := dk_16 8 (dk_at dksX5_event_1 7 rfl rfl)
theorem dX5_event_33 : decode cX5_event 33 = .ok (.if_icmp .ne 6, 3) := dk_160 0 6 (dk_at dksX5_event_1 9 rfl rfl)
theorem dX5_event_36 : decode cX5_event 36 = .ok (.bipush (-4), 2) := dk_16 252 (dk_at dksX5_event_1 12 rfl rfl)
theorem dX5_event_38 : decode cX5_event 38 = .ok (.ireturn, 1) := dk_172 (dk_at dksX5_event_1 14 rfl rfl)
theorem dX5_event_39 : decode cX5_event 39 = .ok (.aload_n 0, 1) := dk_42 (dk_at dksX5_event_1 15 rfl rfl)
theorem dX5_event_40 : decode cX5_event 40 = .ok (.getfield 34, 3) := dk_180 0 34 (dk_at dksX5_event_1 16 rfl rfl)
theorem dX5_event_43 : decode cX5_event 43 = .ok (.aload_n 0, 1) := dk_42 (dk_at dksX5_event_1 19 rfl rfl)
theorem dX5_event_44 : decode cX5_event 44 = .ok (.getfield 169, 3) := dk_180 0 169 (dk_at dksX5_event_1 20 rfl rfl)
theorem dX5_event_47 : decode cX5_event 47 = .ok (.iload_n 1, 1) := dk_27 (dk_at dksX5_event_1 23 rfl rfl)
theorem dX5_event_48 : decode cX5_event 48 = .ok (.iastore, 1) := dk_79 (dk_at dksX5_event_2 0 rfl rfl)
theorem dX5_event_49 : decode cX5_event 49 = .ok (.aload_n 0, 1) := dk_42 (dk_at dksX5_event_2 1 rfl rfl)
theorem dX5_event_50 : decode cX5_event 50 = .ok (.getfield 37, 3) := dk_180 0 37 (dk_at dksX5_event_2 2 rfl rfl)
theorem dX5_event_53 : decode cX5_event 53 = .ok (.aload_n 0, 1) := dk_42 (dk_at dksX5_event_2 5 rfl rfl)
theorem dX5_event_54 : decode cX5_event 54 = .ok (.getfield 169, 3) := dk_180 0 169 (dk_at dksX5_event_2 6 rfl rfl)
theorem dX5_event_57 : decode cX5_event 57 = .ok (.iload_n 2, 1) := dk_28 (dk_at dksX5_event_2 9 rfl rfl)
theorem dX5_event_58 : decode cX5_event 58 = .ok (.iastore, 1) := dk_79 (dk_at dksX5_event_2 10 rfl rfl)
theorem dX5_event_59 : decode cX5_event 59 = .ok (.aload_n 0, 1) := dk_42 (dk_at dksX5_event_2 11 rfl rfl)
theorem dX5_event_60 : decode cX5_event 60 = .ok (.getfield 40, 3) := dk_180 0 40 (dk_at dksX5_event_2 12 rfl rfl)
theorem dX5_event_63 : decode cX5_event 63 = .ok (.aload_n 0, 1) := dk_42 (dk_at dksX5_event_2 15 rfl rfl)
theorem dX5_event_64 : decode cX5_event 64 = .ok (.getfield 169, 3) := dk_180 0 169 (dk_at dksX5_event_2 16 rfl rfl)
theorem dX5_event_67 : decode cX5_event 67 = .ok (.iload_n 3, 1) := dk_29 (dk_at dksX5_event_2 19 rfl rfl)
theorem dX5_event_68 : decode cX5_event 68 = .ok (.iastore, 1) := dk_79 (dk_at dksX5_event_2 20 rfl rfl)
theorem dX5_event_69 : decode cX5_event 69 = .ok (.aload_n 0, 1) := dk_42 (dk_at dksX5_event_2 21 rfl rfl)
theorem dX5_event_70 : decode cX5_event 70 = .ok (.dup, 1) := dk_89 (dk_at dksX5_event_2 22 rfl rfl)
theorem dX5_event_71 : decode cX5_event 71 = .ok (.getfield 169, 3) := dk_180 0 169 (dk_at dksX5_event_3 0 rfl rfl)
theorem dX5_event_74 : decode cX5_event 74 = .ok (.iconst 1, 1) := dk_4 (dk_at dksX5_event_3 3 rfl rfl)
theorem dX5_event_75 : decode cX5_event 75 = .ok (.iadd, 1) := dk_96 (dk_at dksX5_event_3 4 rfl rfl)
theorem dX5_event_76 : decode cX5_event 76 = .ok (.putfield 169, 3) := dk_181 0 169 (dk_at dksX5_event_3 5 rfl rfl)
theorem dX5_event_79 : decode cX5_event 79 = .ok (.aload_n 0, 1) := dk_42 (dk_at dksX5_event_3 8 rfl rfl)
theorem dX5_event_80 : decode cX5_event 80 = .ok (.getfield 169, 3) := dk_180 0 169 (dk_at dksX5_event_3 9 rfl rfl)
theorem dX5_event_83 : decode cX5_event 83 = .ok (.ireturn, 1) := dk_172 (dk_at dksX5_event_3 12 rfl rfl)
abbrev cX5_back : ByteArray := prog_15_method_28_code
def yX5_back : MethodName := ⟨RX5, "back", "()I"⟩
def dkwX5_back_1 : List UInt8 := [172]
abbrev dktX5_back_1 : List UInt8 := dkwX5_back_1 ++ []
def dkwX5_back_0 : List UInt8 := [42, 180, 0, 169, 154, 0, 6, 16, 253, 172, 42, 89, 180, 0, 169, 4, 100, 181, 0, 169, 42, 180, 0, 169]
abbrev dktX5_back_0 : List UInt8 := dkwX5_back_0 ++ dktX5_back_1
theorem dksX5_back_0 : cX5_back.data.toList.drop 0 = dktX5_back_0 := by decide +kernel
theorem dksX5_back_1 : cX5_back.data.toList.drop 24 = dktX5_back_1 := dk_seg dksX5_back_0 24 rfl rfl
theorem dX5_back_0 : decode cX5_back 0 = .ok (.aload_n 0, 1) := dk_42 (dk_at dksX5_back_0 0 rfl rfl)
theorem dX5_back_1 : decode cX5_back 1 = .ok (.getfield 169, 3) := dk_180 0 169 (dk_at dksX5_back_0 1 rfl rfl)
theorem dX5_back_4 : decode cX5_back 4 = .ok (.ifCond .ne 6, 3) := dk_154 0 6 (dk_at dksX5_back_0 4 rfl rfl)
theorem dX5_back_7 : decode cX5_back 7 = .ok (.bipush (-3), 2) := dk_16 253 (dk_at dksX5_back_0 7 rfl rfl)
theorem dX5_back_9 : decode cX5_back 9 = .ok (.ireturn, 1) := dk_172 (dk_at dksX5_back_0 9 rfl rfl)
theorem dX5_back_10 : decode cX5_back 10 = .ok (.aload_n 0, 1) := dk_42 (dk_at dksX5_back_0 10 rfl rfl)
theorem dX5_back_11 : decode cX5_back 11 = .ok (.dup, 1) := dk_89 (dk_at dksX5_back_0 11 rfl rfl)
theorem dX5_back_12 : decode cX5_back 12 = .ok (.getfield 169, 3) := dk_180 0 169 (dk_at dksX5_back_0 12 rfl rfl)
theorem dX5_back_15 : decode cX5_back 15 = .ok (.iconst 1, 1) := dk_4 (dk_at dksX5_back_0 15 rfl rfl)
theorem dX5_back_16 : decode cX5_back 16 = .ok (.isub, 1) := dk_100 (dk_at dksX5_back_0 16 rfl rfl)
theorem dX5_back_17 : decode cX5_back 17 = .ok (.putfield 169, 3) := dk_181 0 169 (dk_at dksX5_back_0 17 rfl rfl)
theorem dX5_back_20 : decode cX5_back 20 = .ok (.aload_n 0, 1) := dk_42 (dk_at dksX5_back_0 20 rfl rfl)
theorem dX5_back_21 : decode cX5_back 21 = .ok (.getfield 169, 3) := dk_180 0 169 (dk_at dksX5_back_0 21 rfl rfl)
theorem dX5_back_24 : decode cX5_back 24 = .ok (.ireturn, 1) := dk_172 (dk_at dksX5_back_1 0 rfl rfl)
abbrev cX5_read : ByteArray := prog_15_method_29_code
def yX5_read : MethodName := ⟨RX5, "read", "(I)I"⟩
def dkwX5_read_4 : List UInt8 := [172]
abbrev dktX5_read_4 : List UInt8 := dkwX5_read_4 ++ []
def dkwX5_read_3 : List UInt8 := [180, 0, 104, 29, 6, 28, 104, 96, 5, 96, 46, 182, 0, 178, 158, 0, 9, 132, 2, 1, 167, 255, 198, 28]
abbrev dktX5_read_3 : List UInt8 := dkwX5_read_3 ++ dktX5_read_4
def dkwX5_read_2 : List UInt8 := [180, 0, 104, 29, 6, 28, 104, 96, 46, 42, 180, 0, 104, 29, 6, 28, 104, 96, 4, 96, 46, 42]
abbrev dktX5_read_2 : List UInt8 := dkwX5_read_2 ++ dktX5_read_3
def dkwX5_read_1 : List UInt8 := [172, 3, 61, 16, 60, 27, 104, 62, 6, 28, 104, 5, 96, 42, 180, 0, 101, 27, 46, 162, 0, 50, 42, 42]
abbrev dktX5_read_1 : List UInt8 := dkwX5_read_1 ++ dktX5_read_2
def dkwX5_read_0 : List UInt8 := [27, 184, 0, 172, 154, 0, 6, 16, 254, 172, 42, 180, 0, 94, 27, 51, 154, 0, 9, 42, 4, 182, 0, 175]
abbrev dktX5_read_0 : List UInt8 := dkwX5_read_0 ++ dktX5_read_1
theorem dksX5_read_0 : cX5_read.data.toList.drop 0 = dktX5_read_0 := by decide +kernel
theorem dksX5_read_1 : cX5_read.data.toList.drop 24 = dktX5_read_1 := dk_seg dksX5_read_0 24 rfl rfl
theorem dksX5_read_2 : cX5_read.data.toList.drop 48 = dktX5_read_2 := dk_seg dksX5_read_1 24 rfl rfl
theorem dksX5_read_3 : cX5_read.data.toList.drop 70 = dktX5_read_3 := dk_seg dksX5_read_2 22 rfl rfl
theorem dksX5_read_4 : cX5_read.data.toList.drop 94 = dktX5_read_4 := dk_seg dksX5_read_3 24 rfl rfl
theorem dX5_read_0 : decode cX5_read 0 = .ok (.iload_n 1, 1) := dk_27 (dk_at dksX5_read_0 0 rfl rfl)
theorem dX5_read_1 : decode cX5_read 1 = .ok (.invokestatic 172, 3) := dk_184 0 172 (dk_at dksX5_read_0 1 rfl rfl)
theorem dX5_read_4 : decode cX5_read 4 = .ok (.ifCond .ne 6, 3) := dk_154 0 6 (dk_at dksX5_read_0 4 rfl rfl)
theorem dX5_read_7 : decode cX5_read 7 = .ok (.bipush (-2), 2) := dk_16 254 (dk_at dksX5_read_0 7 rfl rfl)
theorem dX5_read_9 : decode cX5_read 9 = .ok (.ireturn, 1) := dk_172 (dk_at dksX5_read_0 9 rfl rfl)
theorem dX5_read_10 : decode cX5_read 10 = .ok (.aload_n 0, 1) := dk_42 (dk_at dksX5_read_0 10 rfl rfl)
theorem dX5_read_11 : decode cX5_read 11 = .ok (.getfield 94, 3) := dk_180 0 94 (dk_at dksX5_read_0 11 rfl rfl)
theorem dX5_read_14 : decode cX5_read 14 = .ok (.iload_n 1, 1) := dk_27 (dk_at dksX5_read_0 14 rfl rfl)
theorem dX5_read_15 : decode cX5_read 15 = .ok (.baload, 1) := dk_51 (dk_at dksX5_read_0 15 rfl rfl)
theorem dX5_read_16 : decode cX5_read 16 = .ok (.ifCond .ne 9, 3) := dk_154 0 9 (dk_at dksX5_read_0 16 rfl rfl)
theorem dX5_read_19 : decode cX5_read 19 = .ok (.aload_n 0, 1) := dk_42 (dk_at dksX5_read_0 19 rfl rfl)
theorem dX5_read_20 : decode cX5_read 20 = .ok (.iconst 1, 1) := dk_4 (dk_at dksX5_read_0 20 rfl rfl)
theorem dX5_read_21 : decode cX5_read 21 = .ok (.invokevirtual 175, 3) := dk_182 0 175 (dk_at dksX5_read_0 21 rfl rfl)
theorem dX5_read_24 : decode cX5_read 24 = .ok (.ireturn, 1) := dk_172 (dk_at dksX5_read_1 0 rfl rfl)
theorem dX5_read_25 : decode cX5_read 25 = .ok (.iconst 0, 1) := dk_3 (dk_at dksX5_read_1 1 rfl rfl)
theorem dX5_read_26 : decode cX5_read 26 = .ok (.istore_n 2, 1) := dk_61 (dk_at dksX5_read_1 2 rfl rfl)
theorem dX5_read_27 : decode cX5_read 27 = .ok (.bipush 60, 2) := dk_16 60 (dk_at dksX5_read_1 3 rfl rfl)
theorem dX5_read_29 : decode cX5_read 29 = .ok (.iload_n 1, 1) := dk_27 (dk_at dksX5_read_1 5 rfl rfl)
theorem dX5_read_30 : decode cX5_read 30 = .ok (.imul, 1) := dk_104 (dk_at dksX5_read_1 6 rfl rfl)
theorem dX5_read_31 : decode cX5_read 31 = .ok (.istore_n 3, 1) := dk_62 (dk_at dksX5_read_1 7 rfl rfl)
theorem dX5_read_32 : decode cX5_read 32 = .ok (.iconst 3, 1) := dk_6 (dk_at dksX5_read_1 8 rfl rfl)
theorem dX5_read_33 : decode cX5_read 33 = .ok (.iload_n 2, 1) := dk_28 (dk_at dksX5_read_1 9 rfl rfl)
theorem dX5_read_34 : decode cX5_read 34 = .ok (.imul, 1) := dk_104 (dk_at dksX5_read_1 10 rfl rfl)
theorem dX5_read_35 : decode cX5_read 35 = .ok (.iconst 2, 1) := dk_5 (dk_at dksX5_read_1 11 rfl rfl)
theorem dX5_read_36 : decode cX5_read 36 = .ok (.iadd, 1) := dk_96 (dk_at dksX5_read_1 12 rfl rfl)
theorem dX5_read_37 : decode cX5_read 37 = .ok (.aload_n 0, 1) := dk_42 (dk_at dksX5_read_1 13 rfl rfl)
theorem dX5_read_38 : decode cX5_read 38 = .ok (.getfield 101, 3) := dk_180 0 101 (dk_at dksX5_read_1 14 rfl rfl)
theorem dX5_read_41 : decode cX5_read 41 = .ok (.iload_n 1, 1) := dk_27 (dk_at dksX5_read_1 17 rfl rfl)
theorem dX5_read_42 : decode cX5_read 42 = .ok (.iaload, 1) := dk_46 (dk_at dksX5_read_1 18 rfl rfl)
theorem dX5_read_43 : decode cX5_read 43 = .ok (.if_icmp .ge 50, 3) := dk_162 0 50 (dk_at dksX5_read_1 19 rfl rfl)
theorem dX5_read_46 : decode cX5_read 46 = .ok (.aload_n 0, 1) := dk_42 (dk_at dksX5_read_1 22 rfl rfl)
theorem dX5_read_47 : decode cX5_read 47 = .ok (.aload_n 0, 1) := dk_42 (dk_at dksX5_read_1 23 rfl rfl)
theorem dX5_read_48 : decode cX5_read 48 = .ok (.getfield 104, 3) := dk_180 0 104 (dk_at dksX5_read_2 0 rfl rfl)
theorem dX5_read_51 : decode cX5_read 51 = .ok (.iload_n 3, 1) := dk_29 (dk_at dksX5_read_2 3 rfl rfl)
theorem dX5_read_52 : decode cX5_read 52 = .ok (.iconst 3, 1) := dk_6 (dk_at dksX5_read_2 4 rfl rfl)
theorem dX5_read_53 : decode cX5_read 53 = .ok (.iload_n 2, 1) := dk_28 (dk_at dksX5_read_2 5 rfl rfl)
theorem dX5_read_54 : decode cX5_read 54 = .ok (.imul, 1) := dk_104 (dk_at dksX5_read_2 6 rfl rfl)
theorem dX5_read_55 : decode cX5_read 55 = .ok (.iadd, 1) := dk_96 (dk_at dksX5_read_2 7 rfl rfl)
theorem dX5_read_56 : decode cX5_read 56 = .ok (.iaload, 1) := dk_46 (dk_at dksX5_read_2 8 rfl rfl)
theorem dX5_read_57 : decode cX5_read 57 = .ok (.aload_n 0, 1) := dk_42 (dk_at dksX5_read_2 9 rfl rfl)
theorem dX5_read_58 : decode cX5_read 58 = .ok (.getfield 104, 3) := dk_180 0 104 (dk_at dksX5_read_2 10 rfl rfl)
theorem dX5_read_61 : decode cX5_read 61 = .ok (.iload_n 3, 1) := dk_29 (dk_at dksX5_read_2 13 rfl rfl)
theorem dX5_read_62 : decode cX5_read 62 = .ok (.iconst 3, 1) := dk_6 (dk_at dksX5_read_2 14 rfl rfl)
theorem dX5_read_63 : decode cX5_read 63 = .ok (.iload_n 2, 1) := dk_28 (dk_at dksX5_read_2 15 rfl rfl)
theorem dX5_read_64 : decode cX5_read 64 = .ok (.imul, 1) := dk_104 (dk_at dksX5_read_2 16 rfl rfl)
theorem dX5_read_65 : decode cX5_read 65 = .ok (.iadd, 1) := dk_96 (dk_at dksX5_read_2 17 rfl rfl)
theorem dX5_read_66 : decode cX5_read 66 = .ok (.iconst 1, 1) := dk_4 (dk_at dksX5_read_2 18 rfl rfl)
theorem dX5_read_67 : decode cX5_read 67 = .ok (.iadd, 1) := dk_96 (dk_at dksX5_read_2 19 rfl rfl)
theorem dX5_read_68 : decode cX5_read 68 = .ok (.iaload, 1) := dk_46 (dk_at dksX5_read_2 20 rfl rfl)
theorem dX5_read_69 : decode cX5_read 69 = .ok (.aload_n 0, 1) := dk_42 (dk_at dksX5_read_2 21 rfl rfl)
theorem dX5_read_70 : decode cX5_read 70 = .ok (.getfield 104, 3) := dk_180 0 104 (dk_at dksX5_read_3 0 rfl rfl)
theorem dX5_read_73 : decode cX5_read 73 = .ok (.iload_n 3, 1) := dk_29 (dk_at dksX5_read_3 3 rfl rfl)
theorem dX5_read_74 : decode cX5_read 74 = .ok (.iconst 3, 1) := dk_6 (dk_at dksX5_read_3 4 rfl rfl)
theorem dX5_read_75 : decode cX5_read 75 = .ok (.iload_n 2, 1) := dk_28 (dk_at dksX5_read_3 5 rfl rfl)
theorem dX5_read_76 : decode cX5_read 76 = .ok (.imul, 1) := dk_104 (dk_at dksX5_read_3 6 rfl rfl)
theorem dX5_read_77 : decode cX5_read 77 = .ok (.iadd, 1) := dk_96 (dk_at dksX5_read_3 7 rfl rfl)
theorem dX5_read_78 : decode cX5_read 78 = .ok (.iconst 2, 1) := dk_5 (dk_at dksX5_read_3 8 rfl rfl)
theorem dX5_read_79 : decode cX5_read 79 = .ok (.iadd, 1) := dk_96 (dk_at dksX5_read_3 9 rfl rfl)
theorem dX5_read_80 : decode cX5_read 80 = .ok (.iaload, 1) := dk_46 (dk_at dksX5_read_3 10 rfl rfl)
theorem dX5_read_81 : decode cX5_read 81 = .ok (.invokevirtual 178, 3) := dk_182 0 178 (dk_at dksX5_read_3 11 rfl rfl)
theorem dX5_read_84 : decode cX5_read 84 = .ok (.ifCond .le 9, 3) := dk_158 0 9 (dk_at dksX5_read_3 14 rfl rfl)
theorem dX5_read_87 : decode cX5_read 87 = .ok (.iinc 2 1, 3) := dk_132 2 1 (dk_at dksX5_read_3 17 rfl rfl)
theorem dX5_read_90 : decode cX5_read 90 = .ok (.goto (-58), 3) := dk_167 255 198 (dk_at dksX5_read_3 20 rfl rfl)
theorem dX5_read_93 : decode cX5_read 93 = .ok (.iload_n 2, 1) := dk_28 (dk_at dksX5_read_3 23 rfl rfl)
theorem dX5_read_94 : decode cX5_read 94 = .ok (.ireturn, 1) := dk_172 (dk_at dksX5_read_4 0 rfl rfl)
abbrev cX5_isSheet : ByteArray := prog_15_method_88_code
def yX5_isSheet : MethodName := ⟨RX5, "isSheet", "(I)Z"⟩
def dkwX5_isSheet_0 : List UInt8 := [26, 3, 6, 184, 0, 119, 172]
abbrev dktX5_isSheet_0 : List UInt8 := dkwX5_isSheet_0 ++ []
theorem dksX5_isSheet_0 : cX5_isSheet.data.toList.drop 0 = dktX5_isSheet_0 := by decide +kernel
theorem dX5_isSheet_0 : decode cX5_isSheet 0 = .ok (.iload_n 0, 1) := dk_26 (dk_at dksX5_isSheet_0 0 rfl rfl)
theorem dX5_isSheet_1 : decode cX5_isSheet 1 = .ok (.iconst 0, 1) := dk_3 (dk_at dksX5_isSheet_0 1 rfl rfl)
theorem dX5_isSheet_2 : decode cX5_isSheet 2 = .ok (.iconst 3, 1) := dk_6 (dk_at dksX5_isSheet_0 2 rfl rfl)
theorem dX5_isSheet_3 : decode cX5_isSheet 3 = .ok (.invokestatic 119, 3) := dk_184 0 119 (dk_at dksX5_isSheet_0 3 rfl rfl)
theorem dX5_isSheet_6 : decode cX5_isSheet 6 = .ok (.ireturn, 1) := dk_172 (dk_at dksX5_isSheet_0 6 rfl rfl)
abbrev cX5_meets : ByteArray := prog_15_method_87_code
def yX5_meets : MethodName := ⟨RX5, "meets", "(I)I"⟩
def dkwX5_meets_0 : List UInt8 := [42, 27, 181, 1, 99, 16, 246, 27, 100, 172]
abbrev dktX5_meets_0 : List UInt8 := dkwX5_meets_0 ++ []
theorem dksX5_meets_0 : cX5_meets.data.toList.drop 0 = dktX5_meets_0 := by decide +kernel
theorem dX5_meets_0 : decode cX5_meets 0 = .ok (.aload_n 0, 1) := dk_42 (dk_at dksX5_meets_0 0 rfl rfl)
theorem dX5_meets_1 : decode cX5_meets 1 = .ok (.iload_n 1, 1) := dk_27 (dk_at dksX5_meets_0 1 rfl rfl)
theorem dX5_meets_2 : decode cX5_meets 2 = .ok (.putfield 355, 3) := dk_181 1 99 (dk_at dksX5_meets_0 2 rfl rfl)
theorem dX5_meets_5 : decode cX5_meets 5 = .ok (.bipush (-10), 2) := dk_16 246 (dk_at dksX5_meets_0 5 rfl rfl)
theorem dX5_meets_7 : decode cX5_meets 7 = .ok (.iload_n 1, 1) := dk_27 (dk_at dksX5_meets_0 7 rfl rfl)
theorem dX5_meets_8 : decode cX5_meets 8 = .ok (.isub, 1) := dk_100 (dk_at dksX5_meets_0 8 rfl rfl)
theorem dX5_meets_9 : decode cX5_meets 9 = .ok (.ireturn, 1) := dk_172 (dk_at dksX5_meets_0 9 rfl rfl)
abbrev cX5_at : ByteArray := prog_15_method_42_code
def yX5_at : MethodName := ⟨RX5, "at", "(II)I"⟩
def dkwX5_at_1 : List UInt8 := [167, 0, 5, 16, 254, 172]
abbrev dktX5_at_1 : List UInt8 := dkwX5_at_1 ++ []
def dkwX5_at_0 : List UInt8 := [27, 184, 0, 131, 153, 0, 21, 28, 3, 8, 184, 0, 119, 153, 0, 12, 42, 27, 28, 182, 1, 0]
abbrev dktX5_at_0 : List UInt8 := dkwX5_at_0 ++ dktX5_at_1
theorem dksX5_at_0 : cX5_at.data.toList.drop 0 = dktX5_at_0 := by decide +kernel
theorem dksX5_at_1 : cX5_at.data.toList.drop 22 = dktX5_at_1 := dk_seg dksX5_at_0 22 rfl rfl
theorem dX5_at_0 : decode cX5_at 0 = .ok (.iload_n 1, 1) := dk_27 (dk_at dksX5_at_0 0 rfl rfl)
theorem dX5_at_1 : decode cX5_at 1 = .ok (.invokestatic 131, 3) := dk_184 0 131 (dk_at dksX5_at_0 1 rfl rfl)
theorem dX5_at_4 : decode cX5_at 4 = .ok (.ifCond .eq 21, 3) := dk_153 0 21 (dk_at dksX5_at_0 4 rfl rfl)
theorem dX5_at_7 : decode cX5_at 7 = .ok (.iload_n 2, 1) := dk_28 (dk_at dksX5_at_0 7 rfl rfl)
theorem dX5_at_8 : decode cX5_at 8 = .ok (.iconst 0, 1) := dk_3 (dk_at dksX5_at_0 8 rfl rfl)
theorem dX5_at_9 : decode cX5_at 9 = .ok (.iconst 5, 1) := dk_8 (dk_at dksX5_at_0 9 rfl rfl)
theorem dX5_at_10 : decode cX5_at 10 = .ok (.invokestatic 119, 3) := dk_184 0 119 (dk_at dksX5_at_0 10 rfl rfl)
theorem dX5_at_13 : decode cX5_at 13 = .ok (.ifCond .eq 12, 3) := dk_153 0 12 (dk_at dksX5_at_0 13 rfl rfl)
theorem dX5_at_16 : decode cX5_at 16 = .ok (.aload_n 0, 1) := dk_42 (dk_at dksX5_at_0 16 rfl rfl)
theorem dX5_at_17 : decode cX5_at 17 = .ok (.iload_n 1, 1) := dk_27 (dk_at dksX5_at_0 17 rfl rfl)
theorem dX5_at_18 : decode cX5_at 18 = .ok (.iload_n 2, 1) := dk_28 (dk_at dksX5_at_0 18 rfl rfl)
theorem dX5_at_19 : decode cX5_at 19 = .ok (.invokevirtual 256, 3) := dk_182 1 0 (dk_at dksX5_at_0 19 rfl rfl)
theorem dX5_at_22 : decode cX5_at 22 = .ok (.goto 5, 3) := dk_167 0 5 (dk_at dksX5_at_1 0 rfl rfl)
theorem dX5_at_25 : decode cX5_at 25 = .ok (.bipush (-2), 2) := dk_16 254 (dk_at dksX5_at_1 3 rfl rfl)
theorem dX5_at_27 : decode cX5_at 27 = .ok (.ireturn, 1) := dk_172 (dk_at dksX5_at_1 5 rfl rfl)
abbrev cX5_atOf : ByteArray := prog_15_method_41_code
def yX5_atOf : MethodName := ⟨RX5, "atOf", "(II)I"⟩
def dkwX5_atOf_0 : List UInt8 := [42, 182, 0, 253, 42, 180, 0, 70, 16, 6, 27, 104, 28, 96, 46, 172]
abbrev dktX5_atOf_0 : List UInt8 := dkwX5_atOf_0 ++ []
theorem dksX5_atOf_0 : cX5_atOf.data.toList.drop 0 = dktX5_atOf_0 := by decide +kernel
theorem dX5_atOf_0 : decode cX5_atOf 0 = .ok (.aload_n 0, 1) := dk_42 (dk_at dksX5_atOf_0 0 rfl rfl)
theorem dX5_atOf_1 : decode cX5_atOf 1 = .ok (.invokevirtual 253, 3) := dk_182 0 253 (dk_at dksX5_atOf_0 1 rfl rfl)
theorem dX5_atOf_4 : decode cX5_atOf 4 = .ok (.aload_n 0, 1) := dk_42 (dk_at dksX5_atOf_0 4 rfl rfl)
theorem dX5_atOf_5 : decode cX5_atOf 5 = .ok (.getfield 70, 3) := dk_180 0 70 (dk_at dksX5_atOf_0 5 rfl rfl)
theorem dX5_atOf_8 : decode cX5_atOf 8 = .ok (.bipush 6, 2) := dk_16 6 (dk_at dksX5_atOf_0 8 rfl rfl)
theorem dX5_atOf_10 : decode cX5_atOf 10 = .ok (.iload_n 1, 1) := dk_27 (dk_at dksX5_atOf_0 10 rfl rfl)
theorem dX5_atOf_11 : decode cX5_atOf 11 = .ok (.imul, 1) := dk_104 (dk_at dksX5_atOf_0 11 rfl rfl)
theorem dX5_atOf_12 : decode cX5_atOf 12 = .ok (.iload_n 2, 1) := dk_28 (dk_at dksX5_atOf_0 12 rfl rfl)
theorem dX5_atOf_13 : decode cX5_atOf 13 = .ok (.iadd, 1) := dk_96 (dk_at dksX5_atOf_0 13 rfl rfl)
theorem dX5_atOf_14 : decode cX5_atOf 14 = .ok (.iaload, 1) := dk_46 (dk_at dksX5_atOf_0 14 rfl rfl)
theorem dX5_atOf_15 : decode cX5_atOf 15 = .ok (.ireturn, 1) := dk_172 (dk_at dksX5_atOf_0 15 rfl rfl)
abbrev cX5_runsTold : ByteArray := prog_15_method_40_code
def yX5_runsTold : MethodName := ⟨RX5, "runsTold", "()V"⟩
def dkwX5_runsTold_0 : List UInt8 := [42, 182, 0, 247, 42, 182, 0, 250, 177]
abbrev dktX5_runsTold_0 : List UInt8 := dkwX5_runsTold_0 ++ []
theorem dksX5_runsTold_0 : cX5_runsTold.data.toList.drop 0 = dktX5_runsTold_0 := by decide +kernel
theorem dX5_runsTold_0 : decode cX5_runsTold 0 = .ok (.aload_n 0, 1) := dk_42 (dk_at dksX5_runsTold_0 0 rfl rfl)
theorem dX5_runsTold_1 : decode cX5_runsTold 1 = .ok (.invokevirtual 247, 3) := dk_182 0 247 (dk_at dksX5_runsTold_0 1 rfl rfl)
theorem dX5_runsTold_4 : decode cX5_runsTold 4 = .ok (.aload_n 0, 1) := dk_42 (dk_at dksX5_runsTold_0 4 rfl rfl)
theorem dX5_runsTold_5 : decode cX5_runsTold 5 = .ok (.invokevirtual 250, 3) := dk_182 0 250 (dk_at dksX5_runsTold_0 5 rfl rfl)
theorem dX5_runsTold_8 : decode cX5_runsTold 8 = .ok (.return_, 1) := dk_177 (dk_at dksX5_runsTold_0 8 rfl rfl)
abbrev cX5_asTold : ByteArray := prog_15_method_30_code
def yX5_asTold : MethodName := ⟨RX5, "asTold", "()V"⟩
def dkwX5_asTold_3 : List UInt8 := [181, 0, 184, 42, 3, 181, 0, 187, 177]
abbrev dktX5_asTold_3 : List UInt8 := dkwX5_asTold_3 ++ []
def dkwX5_asTold_2 : List UInt8 := [180, 0, 49, 27, 42, 180, 0, 31, 27, 46, 79, 132, 1, 1, 167, 255, 209, 42, 42, 180, 0, 110]
abbrev dktX5_asTold_2 : List UInt8 := dkwX5_asTold_2 ++ dktX5_asTold_3
def dkwX5_asTold_1 : List UInt8 := [180, 0, 43, 27, 42, 180, 0, 25, 27, 46, 79, 42, 180, 0, 46, 27, 42, 180, 0, 28, 27, 46, 79, 42]
abbrev dktX5_asTold_1 : List UInt8 := dkwX5_asTold_1 ++ dktX5_asTold_2
def dkwX5_asTold_0 : List UInt8 := [42, 182, 0, 151, 42, 42, 180, 0, 137, 181, 0, 181, 3, 60, 27, 42, 180, 0, 137, 162, 0, 45, 42]
abbrev dktX5_asTold_0 : List UInt8 := dkwX5_asTold_0 ++ dktX5_asTold_1
theorem dksX5_asTold_0 : cX5_asTold.data.toList.drop 0 = dktX5_asTold_0 := by decide +kernel
theorem dksX5_asTold_1 : cX5_asTold.data.toList.drop 23 = dktX5_asTold_1 := dk_seg dksX5_asTold_0 23 rfl rfl
theorem dksX5_asTold_2 : cX5_asTold.data.toList.drop 47 = dktX5_asTold_2 := dk_seg dksX5_asTold_1 24 rfl rfl
theorem dksX5_asTold_3 : cX5_asTold.data.toList.drop 69 = dktX5_asTold_3 := dk_seg dksX5_asTold_2 22 rfl rfl
theorem dX5_asTold_0 : decode cX5_asTold 0 = .ok (.aload_n 0, 1) := dk_42 (dk_at dksX5_asTold_0 0 rfl rfl)
theorem dX5_asTold_1 : decode cX5_asTold 1 = .ok (.invokevirtual 151, 3) := dk_182 0 151 (dk_at dksX5_asTold_0 1 rfl rfl)
theorem dX5_asTold_4 : decode cX5_asTold 4 = .ok (.aload_n 0, 1) := dk_42 (dk_at dksX5_asTold_0 4 rfl rfl)
theorem dX5_asTold_5 : decode cX5_asTold 5 = .ok (.aload_n 0, 1) := dk_42 (dk_at dksX5_asTold_0 5 rfl rfl)
theorem dX5_asTold_6 : decode cX5_asTold 6 = .ok (.getfield 137, 3) := dk_180 0 137 (dk_at dksX5_asTold_0 6 rfl rfl)
theorem dX5_asTold_9 : decode cX5_asTold 9 = .ok (.putfield 181, 3) := dk_181 0 181 (dk_at dksX5_asTold_0 9 rfl rfl)
theorem dX5_asTold_12 : decode cX5_asTold 12 = .ok (.iconst 0, 1) := dk_3 (dk_at dksX5_asTold_0 12 rfl rfl)
theorem dX5_asTold_13 : decode cX5_asTold 13 = .ok (.istore_n 1, 1) := dk_60 (dk_at dksX5_asTold_0 13 rfl rfl)
theorem dX5_asTold_14 : decode cX5_asTold 14 = .ok (.iload_n 1, 1) := dk_27 (dk_at dksX5_asTold_0 14 rfl rfl)
theorem dX5_asTold_15 : decode cX5_asTold 15 = .ok (.aload_n 0, 1) := dk_42 (dk_at dksX5_asTold_0 15 rfl rfl)
theorem dX5_asTold_16 : decode cX5_asTold 16 = .ok (.getfield 137, 3) := dk_180 0 137 (dk_at dksX5_asTold_0 16 rfl rfl)
theorem dX5_asTold_19 : decode cX5_asTold 19 = .ok (.if_icmp .ge 45, 3) := dk_162 0 45 (dk_at dksX5_asTold_0 19 rfl rfl)
theorem dX5_asTold_22 : decode cX5_asTold 22 = .ok (.aload_n 0, 1) := dk_42 (dk_at dksX5_asTold_0 22 rfl rfl)
theorem dX5_asTold_23 : decode cX5_asTold 23 = .ok (.getfield 43, 3) := dk_180 0 43 (dk_at dksX5_asTold_1 0 rfl rfl)
theorem dX5_asTold_26 : decode cX5_asTold 26 = .ok (.iload_n 1, 1) := dk_27 (dk_at dksX5_asTold_1 3 rfl rfl)
theorem dX5_asTold_27 : decode cX5_asTold 27 = .ok (.aload_n 0, 1) := dk_42 (dk_at dksX5_asTold_1 4 rfl rfl)
theorem dX5_asTold_28 : decode cX5_asTold 28 = .ok (.getfield 25, 3) := dk_180 0 25 (dk_at dksX5_asTold_1 5 rfl rfl)
theorem dX5_asTold_31 : decode cX5_asTold 31 = .ok (.iload_n 1, 1) := dk_27 (dk_at dksX5_asTold_1 8 rfl rfl)
theorem dX5_asTold_32 : decode cX5_asTold 32 = .ok (.iaload, 1) := dk_46 (dk_at dksX5_asTold_1 9 rfl rfl)
theorem dX5_asTold_33 : decode cX5_asTold 33 = .ok (.iastore, 1) := dk_79 (dk_at dksX5_asTold_1 10 rfl rfl)
theorem dX5_asTold_34 : decode cX5_asTold 34 = .ok (.aload_n 0, 1) := dk_42 (dk_at dksX5_asTold_1 11 rfl rfl)
theorem dX5_asTold_35 : decode cX5_asTold 35 = .ok (.getfield 46, 3) := dk_180 0 46 (dk_at dksX5_asTold_1 12 rfl rfl)
theorem dX5_asTold_38 : decode cX5_asTold 38 = .ok (.iload_n 1, 1) := dk_27 (dk_at dksX5_asTold_1 15 rfl rfl)
theorem dX5_asTold_39 : decode cX5_asTold 39 = .ok (.aload_n 0, 1) := dk_42 (dk_at dksX5_asTold_1 16 rfl rfl)
theorem dX5_asTold_40 : decode cX5_asTold 40 = .ok (.getfield 28, 3) := dk_180 0 28 (dk_at dksX5_asTold_1 17 rfl rfl)
theorem dX5_asTold_43 : decode cX5_asTold 43 = .ok (.iload_n 1, 1) := dk_27 (dk_at dksX5_asTold_1 20 rfl rfl)
theorem dX5_asTold_44 : decode cX5_asTold 44 = .ok (.iaload, 1) := dk_46 (dk_at dksX5_asTold_1 21 rfl rfl)
theorem dX5_asTold_45 : decode cX5_asTold 45 = .ok (.iastore, 1) := dk_79 (dk_at dksX5_asTold_1 22 rfl rfl)
theorem dX5_asTold_46 : decode cX5_asTold 46 = .ok (.aload_n 0, 1) := dk_42 (dk_at dksX5_asTold_1 23 rfl rfl)
theorem dX5_asTold_47 : decode cX5_asTold 47 = .ok (.getfield 49, 3) := dk_180 0 49 (dk_at dksX5_asTold_2 0 rfl rfl)
theorem dX5_asTold_50 : decode cX5_asTold 50 = .ok (.iload_n 1, 1) := dk_27 (dk_at dksX5_asTold_2 3 rfl rfl)
theorem dX5_asTold_51 : decode cX5_asTold 51 = .ok (.aload_n 0, 1) := dk_42 (dk_at dksX5_asTold_2 4 rfl rfl)
theorem dX5_asTold_52 : decode cX5_asTold 52 = .ok (.getfield 31, 3) := dk_180 0 31 (dk_at dksX5_asTold_2 5 rfl rfl)
theorem dX5_asTold_55 : decode cX5_asTold 55 = .ok (.iload_n 1, 1) := dk_27 (dk_at dksX5_asTold_2 8 rfl rfl)
theorem dX5_asTold_56 : decode cX5_asTold 56 = .ok (.iaload, 1) := dk_46 (dk_at dksX5_asTold_2 9 rfl rfl)
theorem dX5_asTold_57 : decode cX5_asTold 57 = .ok (.iastore, 1) := dk_79 (dk_at dksX5_asTold_2 10 rfl rfl)
theorem dX5_asTold_58 : decode cX5_asTold 58 = .ok (.iinc 1 1, 3) := dk_132 1 1 (dk_at dksX5_asTold_2 11 rfl rfl)
theorem dX5_asTold_61 : decode cX5_asTold 61 = .ok (.goto (-47), 3) := dk_167 255 209 (dk_at dksX5_asTold_2 14 rfl rfl)
theorem dX5_asTold_64 : decode cX5_asTold 64 = .ok (.aload_n 0, 1) := dk_42 (dk_at dksX5_asTold_2 17 rfl rfl)
theorem dX5_asTold_65 : decode cX5_asTold 65 = .ok (.aload_n 0, 1) := dk_42 (dk_at dksX5_asTold_2 18 rfl rfl)
theorem dX5_asTold_66 : decode cX5_asTold 66 = .ok (.getfield 110, 3) := dk_180 0 110 (dk_at dksX5_asTold_2 19 rfl rfl)
theorem dX5_asTold_69 : decode cX5_asTold 69 = .ok (.putfield 184, 3) := dk_181 0 184 (dk_at dksX5_asTold_3 0 rfl rfl)
theorem dX5_asTold_72 : decode cX5_asTold 72 = .ok (.aload_n 0, 1) := dk_42 (dk_at dksX5_asTold_3 3 rfl rfl)
theorem dX5_asTold_73 : decode cX5_asTold 73 = .ok (.iconst 0, 1) := dk_3 (dk_at dksX5_asTold_3 4 rfl rfl)
theorem dX5_asTold_74 : decode cX5_asTold 74 = .ok (.putfield 187, 3) := dk_181 0 187 (dk_at dksX5_asTold_3 5 rfl rfl)
theorem dX5_asTold_77 : decode cX5_asTold 77 = .ok (.return_, 1) := dk_177 (dk_at dksX5_asTold_3 8 rfl rfl)
abbrev cX5_runs : ByteArray := prog_15_method_39_code
def yX5_runs : MethodName := ⟨RX5, "runs", "()V"⟩
def dkwX5_runs_4 : List UInt8 := [16, 24, 162, 0, 14, 42, 27, 182, 0, 244, 132, 1, 1, 167, 255, 242, 177]
abbrev dktX5_runs_4 : List UInt8 := dkwX5_runs_4 ++ []
def dkwX5_runs_3 : List UInt8 := [42, 180, 0, 64, 27, 3, 79, 42, 180, 0, 67, 27, 3, 79, 132, 1, 1, 167, 255, 212, 3, 60, 27]
abbrev dktX5_runs_3 : List UInt8 := dkwX5_runs_3 ++ dktX5_runs_4
def dkwX5_runs_2 : List UInt8 := [162, 0, 44, 42, 180, 0, 55, 27, 3, 79, 42, 180, 0, 58, 27, 3, 79, 42, 180, 0, 61, 27, 2, 79]
abbrev dktX5_runs_2 : List UInt8 := dkwX5_runs_2 ++ dktX5_runs_3
def dkwX5_runs_1 : List UInt8 := [181, 0, 226, 42, 3, 181, 0, 229, 42, 2, 181, 0, 232, 42, 3, 181, 0, 209, 3, 60, 27, 16, 8]
abbrev dktX5_runs_1 : List UInt8 := dkwX5_runs_1 ++ dktX5_runs_2
def dkwX5_runs_0 : List UInt8 := [42, 3, 181, 0, 203, 42, 42, 180, 0, 184, 181, 0, 197, 42, 42, 180, 0, 114, 181, 0, 206, 42, 3]
abbrev dktX5_runs_0 : List UInt8 := dkwX5_runs_0 ++ dktX5_runs_1
theorem dksX5_runs_0 : cX5_runs.data.toList.drop 0 = dktX5_runs_0 := by decide +kernel
theorem dksX5_runs_1 : cX5_runs.data.toList.drop 23 = dktX5_runs_1 := dk_seg dksX5_runs_0 23 rfl rfl
theorem dksX5_runs_2 : cX5_runs.data.toList.drop 46 = dktX5_runs_2 := dk_seg dksX5_runs_1 23 rfl rfl
theorem dksX5_runs_3 : cX5_runs.data.toList.drop 70 = dktX5_runs_3 := dk_seg dksX5_runs_2 24 rfl rfl
theorem dksX5_runs_4 : cX5_runs.data.toList.drop 93 = dktX5_runs_4 := dk_seg dksX5_runs_3 23 rfl rfl
theorem dX5_runs_0 : decode cX5_runs 0 = .ok (.aload_n 0, 1) := dk_42 (dk_at dksX5_runs_0 0 rfl rfl)
theorem dX5_runs_1 : decode cX5_runs 1 = .ok (.iconst 0, 1) := dk_3 (dk_at dksX5_runs_0 1 rfl rfl)
theorem dX5_runs_2 : decode cX5_runs 2 = .ok (.putfield 203, 3) := dk_181 0 203 (dk_at dksX5_runs_0 2 rfl rfl)
theorem dX5_runs_5 : decode cX5_runs 5 = .ok (.aload_n 0, 1) := dk_42 (dk_at dksX5_runs_0 5 rfl rfl)
theorem dX5_runs_6 : decode cX5_runs 6 = .ok (.aload_n 0, 1) := dk_42 (dk_at dksX5_runs_0 6 rfl rfl)
theorem dX5_runs_7 : decode cX5_runs 7 = .ok (.getfield 184, 3) := dk_180 0 184 (dk_at dksX5_runs_0 7 rfl rfl)
theorem dX5_runs_10 : decode cX5_runs 10 = .ok (.putfield 197, 3) := dk_181 0 197 (dk_at dksX5_runs_0 10 rfl rfl)
theorem dX5_runs_13 : decode cX5_runs 13 = .ok (.aload_n 0, 1) := dk_42 (dk_at dksX5_runs_0 13 rfl rfl)
theorem dX5_runs_14 : decode cX5_runs 14 = .ok (.aload_n 0, 1) := dk_42 (dk_at dksX5_runs_0 14 rfl rfl)
theorem dX5_runs_15 : decode cX5_runs 15 = .ok (.getfield 114, 3) := dk_180 0 114 (dk_at dksX5_runs_0 15 rfl rfl)
theorem dX5_runs_18 : decode cX5_runs 18 = .ok (.putfield 206, 3) := dk_181 0 206 (dk_at dksX5_runs_0 18 rfl rfl)
theorem dX5_runs_21 : decode cX5_runs 21 = .ok (.aload_n 0, 1) := dk_42 (dk_at dksX5_runs_0 21 rfl rfl)
theorem dX5_runs_22 : decode cX5_runs 22 = .ok (.iconst 0, 1) := dk_3 (dk_at dksX5_runs_0 22 rfl rfl)
theorem dX5_runs_23 : decode cX5_runs 23 = .ok (.putfield 226, 3) := dk_181 0 226 (dk_at dksX5_runs_1 0 rfl rfl)
theorem dX5_runs_26 : decode cX5_runs 26 = .ok (.aload_n 0, 1) := dk_42 (dk_at dksX5_runs_1 3 rfl rfl)
theorem dX5_runs_27 : decode cX5_runs 27 = .ok (.iconst 0, 1) := dk_3 (dk_at dksX5_runs_1 4 rfl rfl)
theorem dX5_runs_28 : decode cX5_runs 28 = .ok (.putfield 229, 3) := dk_181 0 229 (dk_at dksX5_runs_1 5 rfl rfl)
theorem dX5_runs_31 : decode cX5_runs 31 = .ok (.aload_n 0, 1) := dk_42 (dk_at dksX5_runs_1 8 rfl rfl)
theorem dX5_runs_32 : decode cX5_runs 32 = .ok (.iconst (-1), 1) := dk_2 (dk_at dksX5_runs_1 9 rfl rfl)
theorem dX5_runs_33 : decode cX5_runs 33 = .ok (.putfield 232, 3) := dk_181 0 232 (dk_at dksX5_runs_1 10 rfl rfl)
theorem dX5_runs_36 : decode cX5_runs 36 = .ok (.aload_n 0, 1) := dk_42 (dk_at dksX5_runs_1 13 rfl rfl)
theorem dX5_runs_37 : decode cX5_runs 37 = .ok (.iconst 0, 1) := dk_3 (dk_at dksX5_runs_1 14 rfl rfl)
theorem dX5_runs_38 : decode cX5_runs 38 = .ok (.putfield 209, 3) := dk_181 0 209 (dk_at dksX5_runs_1 15 rfl rfl)
theorem dX5_runs_41 : decode cX5_runs 41 = .ok (.iconst 0, 1) := dk_3 (dk_at dksX5_runs_1 18 rfl rfl)
theorem dX5_runs_42 : decode cX5_runs 42 = .ok (.istore_n 1, 1) := dk_60 (dk_at dksX5_runs_1 19 rfl rfl)
theorem dX5_runs_43 : decode cX5_runs 43 = .ok (.iload_n 1, 1) := dk_27 (dk_at dksX5_runs_1 20 rfl rfl)
theorem dX5_runs_44 : decode cX5_runs 44 = .ok (.bipush 8, 2) := dk_16 8 (dk_at dksX5_runs_1 21 rfl rfl)
theorem dX5_runs_46 : decode cX5_runs 46 = .ok (.if_icmp .ge 44, 3) := dk_162 0 44 (dk_at dksX5_runs_2 0 rfl rfl)
theorem dX5_runs_49 : decode cX5_runs 49 = .ok (.aload_n 0, 1) := dk_42 (dk_at dksX5_runs_2 3 rfl rfl)
theorem dX5_runs_50 : decode cX5_runs 50 = .ok (.getfield 55, 3) := dk_180 0 55 (dk_at dksX5_runs_2 4 rfl rfl)
theorem dX5_runs_53 : decode cX5_runs 53 = .ok (.iload_n 1, 1) := dk_27 (dk_at dksX5_runs_2 7 rfl rfl)
theorem dX5_runs_54 : decode cX5_runs 54 = .ok (.iconst 0, 1) := dk_3 (dk_at dksX5_runs_2 8 rfl rfl)
theorem dX5_runs_55 : decode cX5_runs 55 = .ok (.iastore, 1) := dk_79 (dk_at dksX5_runs_2 9 rfl rfl)
theorem dX5_runs_56 : decode cX5_runs 56 = .ok (.aload_n 0, 1) := dk_42 (dk_at dksX5_runs_2 10 rfl rfl)
theorem dX5_runs_57 : decode cX5_runs 57 = .ok (.getfield 58, 3) := dk_180 0 58 (dk_at dksX5_runs_2 11 rfl rfl)
theorem dX5_runs_60 : decode cX5_runs 60 = .ok (.iload_n 1, 1) := dk_27 (dk_at dksX5_runs_2 14 rfl rfl)
theorem dX5_runs_61 : decode cX5_runs 61 = .ok (.iconst 0, 1) := dk_3 (dk_at dksX5_runs_2 15 rfl rfl)
theorem dX5_runs_62 : decode cX5_runs 62 = .ok (.iastore, 1) := dk_79 (dk_at dksX5_runs_2 16 rfl rfl)
theorem dX5_runs_63 : decode cX5_runs 63 = .ok (.aload_n 0, 1) := dk_42 (dk_at dksX5_runs_2 17 rfl rfl)
theorem dX5_runs_64 : decode cX5_runs 64 = .ok (.getfield 61, 3) := dk_180 0 61 (dk_at dksX5_runs_2 18 rfl rfl)
theorem dX5_runs_67 : decode cX5_runs 67 = .ok (.iload_n 1, 1) := dk_27 (dk_at dksX5_runs_2 21 rfl rfl)
theorem dX5_runs_68 : decode cX5_runs 68 = .ok (.iconst (-1), 1) := dk_2 (dk_at dksX5_runs_2 22 rfl rfl)
theorem dX5_runs_69 : decode cX5_runs 69 = .ok (.iastore, 1) := dk_79 (dk_at dksX5_runs_2 23 rfl rfl)
theorem dX5_runs_70 : decode cX5_runs 70 = .ok (.aload_n 0, 1) := dk_42 (dk_at dksX5_runs_3 0 rfl rfl)
theorem dX5_runs_71 : decode cX5_runs 71 = .ok (.getfield 64, 3) := dk_180 0 64 (dk_at dksX5_runs_3 1 rfl rfl)
theorem dX5_runs_74 : decode cX5_runs 74 = .ok (.iload_n 1, 1) := dk_27 (dk_at dksX5_runs_3 4 rfl rfl)
theorem dX5_runs_75 : decode cX5_runs 75 = .ok (.iconst 0, 1) := dk_3 (dk_at dksX5_runs_3 5 rfl rfl)
theorem dX5_runs_76 : decode cX5_runs 76 = .ok (.iastore, 1) := dk_79 (dk_at dksX5_runs_3 6 rfl rfl)
theorem dX5_runs_77 : decode cX5_runs 77 = .ok (.aload_n 0, 1) := dk_42 (dk_at dksX5_runs_3 7 rfl rfl)
theorem dX5_runs_78 : decode cX5_runs 78 = .ok (.getfield 67, 3) := dk_180 0 67 (dk_at dksX5_runs_3 8 rfl rfl)
theorem dX5_runs_81 : decode cX5_runs 81 = .ok (.iload_n 1, 1) := dk_27 (dk_at dksX5_runs_3 11 rfl rfl)
theorem dX5_runs_82 : decode cX5_runs 82 = .ok (.iconst 0, 1) := dk_3 (dk_at dksX5_runs_3 12 rfl rfl)
theorem dX5_runs_83 : decode cX5_runs 83 = .ok (.iastore, 1) := dk_79 (dk_at dksX5_runs_3 13 rfl rfl)
theorem dX5_runs_84 : decode cX5_runs 84 = .ok (.iinc 1 1, 3) := dk_132 1 1 (dk_at dksX5_runs_3 14 rfl rfl)
theorem dX5_runs_87 : decode cX5_runs 87 = .ok (.goto (-44), 3) := dk_167 255 212 (dk_at dksX5_runs_3 17 rfl rfl)
theorem dX5_runs_90 : decode cX5_runs 90 = .ok (.iconst 0, 1) := dk_3 (dk_at dksX5_runs_3 20 rfl rfl)
theorem dX5_runs_91 : decode cX5_runs 91 = .ok (.istore_n 1, 1) := dk_60 (dk_at dksX5_runs_3 21 rfl rfl)
theorem dX5_runs_92 : decode cX5_runs 92 = .ok (.iload_n 1, 1) := dk_27 (dk_at dksX5_runs_3 22 rfl rfl)
theorem dX5_runs_93 : decode cX5_runs 93 = .ok (.bipush 24, 2) := dk_16 24 (dk_at dksX5_runs_4 0 rfl rfl)
theorem dX5_runs_95 : decode cX5_runs 95 = .ok (.if_icmp .ge 14, 3) := dk_162 0 14 (dk_at dksX5_runs_4 2 rfl rfl)
theorem dX5_runs_98 : decode cX5_runs 98 = .ok (.aload_n 0, 1) := dk_42 (dk_at dksX5_runs_4 5 rfl rfl)
theorem dX5_runs_99 : decode cX5_runs 99 = .ok (.iload_n 1, 1) := dk_27 (dk_at dksX5_runs_4 6 rfl rfl)
theorem dX5_runs_100 : decode cX5_runs 100 = .ok (.invokevirtual 244, 3) := dk_182 0 244 (dk_at dksX5_runs_4 7 rfl rfl)
theorem dX5_runs_103 : decode cX5_runs 103 = .ok (.iinc 1 1, 3) := dk_132 1 1 (dk_at dksX5_runs_4 10 rfl rfl)
theorem dX5_runs_106 : decode cX5_runs 106 = .ok (.goto (-14), 3) := dk_167 255 242 (dk_at dksX5_runs_4 13 rfl rfl)
theorem dX5_runs_109 : decode cX5_runs 109 = .ok (.return_, 1) := dk_177 (dk_at dksX5_runs_4 16 rfl rfl)
abbrev cX5_goesBy : ByteArray := prog_15_method_38_code
def yX5_goesBy : MethodName := ⟨RX5, "goesBy", "(I)V"⟩
def dkwX5_goesBy_15 : List UInt8 := [79, 132, 6, 1, 167, 255, 180, 177]
abbrev dktX5_goesBy_15 : List UInt8 := dkwX5_goesBy_15 ++ []
def dkwX5_goesBy_14 : List UInt8 := [180, 0, 67, 21, 6, 92, 46, 42, 180, 0, 55, 21, 6, 46, 4, 160, 0, 7, 4, 167, 0, 4, 3, 96]
abbrev dktX5_goesBy_14 : List UInt8 := dkwX5_goesBy_14 ++ dktX5_goesBy_15
def dkwX5_goesBy_13 : List UInt8 := [21, 6, 46, 79, 42, 180, 0, 79, 16, 8, 27, 104, 21, 6, 96, 42, 180, 0, 58, 21, 6, 46, 79, 42]
abbrev dktX5_goesBy_13 : List UInt8 := dkwX5_goesBy_13 ++ dktX5_goesBy_14
def dkwX5_goesBy_12 : List UInt8 := [21, 6, 42, 180, 0, 181, 162, 0, 73, 42, 180, 0, 76, 16, 8, 27, 104, 21, 6, 96, 42, 180, 0, 55]
abbrev dktX5_goesBy_12 : List UInt8 := dkwX5_goesBy_12 ++ dktX5_goesBy_13
def dkwX5_goesBy_11 : List UInt8 := [180, 0, 70, 21, 5, 8, 96, 21, 4, 79, 42, 180, 0, 73, 27, 42, 180, 0, 209, 79, 3, 54, 6]
abbrev dktX5_goesBy_11 : List UInt8 := dkwX5_goesBy_11 ++ dktX5_goesBy_12
def dkwX5_goesBy_10 : List UInt8 := [96, 28, 79, 42, 180, 0, 70, 21, 5, 7, 96, 29, 153, 0, 7, 4, 167, 0, 4, 3, 79, 42]
abbrev dktX5_goesBy_10 : List UInt8 := dkwX5_goesBy_10 ++ dktX5_goesBy_11
def dkwX5_goesBy_9 : List UInt8 := [180, 0, 197, 79, 42, 180, 0, 70, 21, 5, 5, 96, 42, 180, 0, 206, 79, 42, 180, 0, 70, 21, 5, 6]
abbrev dktX5_goesBy_9 : List UInt8 := dkwX5_goesBy_9 ++ dktX5_goesBy_10
def dkwX5_goesBy_8 : List UInt8 := [54, 5, 42, 180, 0, 70, 21, 5, 42, 180, 0, 203, 79, 42, 180, 0, 70, 21, 5, 4, 96, 42]
abbrev dktX5_goesBy_8 : List UInt8 := dkwX5_goesBy_8 ++ dktX5_goesBy_9
def dkwX5_goesBy_7 : List UInt8 := [29, 153, 0, 11, 42, 27, 182, 0, 238, 167, 0, 4, 2, 54, 4, 42, 27, 182, 0, 241, 16, 6, 27, 104]
abbrev dktX5_goesBy_7 : List UInt8 := dkwX5_goesBy_7 ++ dktX5_goesBy_8
def dkwX5_goesBy_6 : List UInt8 := [42, 180, 0, 232, 2, 160, 0, 7, 27, 167, 0, 7, 42, 180, 0, 232, 181, 0, 232, 42, 27, 182, 0, 235]
abbrev dktX5_goesBy_6 : List UInt8 := dkwX5_goesBy_6 ++ dktX5_goesBy_7
def dkwX5_goesBy_5 : List UInt8 := [62, 42, 89, 180, 0, 229, 29, 153, 0, 7, 4, 167, 0, 4, 3, 96, 181, 0, 229, 42, 29, 153, 0, 15]
abbrev dktX5_goesBy_5 : List UInt8 := dkwX5_goesBy_5 ++ dktX5_goesBy_6
def dkwX5_goesBy_4 : List UInt8 := [181, 0, 226, 42, 180, 0, 203, 16, 80, 161, 0, 14, 42, 180, 0, 197, 158, 0, 7, 4, 167, 0, 4, 3]
abbrev dktX5_goesBy_4 : List UInt8 := dkwX5_goesBy_4 ++ dktX5_goesBy_5
def dkwX5_goesBy_3 : List UInt8 := [42, 180, 0, 197, 158, 0, 23, 42, 89, 180, 0, 197, 4, 100, 181, 0, 197, 42, 89, 180, 0, 226, 4, 96]
abbrev dktX5_goesBy_3 : List UInt8 := dkwX5_goesBy_3 ++ dktX5_goesBy_4
def dkwX5_goesBy_2 : List UInt8 := [164, 0, 8, 16, 100, 167, 0, 7, 42, 180, 0, 203, 181, 0, 203, 42, 180, 0, 203, 16, 100, 160, 0, 30]
abbrev dktX5_goesBy_2 : List UInt8 := dkwX5_goesBy_2 ++ dktX5_goesBy_3
def dkwX5_goesBy_1 : List UInt8 := [108, 100, 96, 181, 0, 203, 42, 42, 180, 0, 203, 156, 0, 7, 3, 167, 0, 21, 42, 180, 0, 203, 16, 100]
abbrev dktX5_goesBy_1 : List UInt8 := dkwX5_goesBy_1 ++ dktX5_goesBy_2
def dkwX5_goesBy_0 : List UInt8 := [42, 27, 182, 0, 220, 42, 27, 182, 0, 223, 61, 42, 89, 180, 0, 203, 28, 5, 100, 42, 180, 0, 197, 8]
abbrev dktX5_goesBy_0 : List UInt8 := dkwX5_goesBy_0 ++ dktX5_goesBy_1
theorem dksX5_goesBy_0 : cX5_goesBy.data.toList.drop 0 = dktX5_goesBy_0 := by decide +kernel
theorem dksX5_goesBy_1 : cX5_goesBy.data.toList.drop 24 = dktX5_goesBy_1 := dk_seg dksX5_goesBy_0 24 rfl rfl
theorem dksX5_goesBy_2 : cX5_goesBy.data.toList.drop 48 = dktX5_goesBy_2 := dk_seg dksX5_goesBy_1 24 rfl rfl
theorem dksX5_goesBy_3 : cX5_goesBy.data.toList.drop 72 = dktX5_goesBy_3 := dk_seg dksX5_goesBy_2 24 rfl rfl
theorem dksX5_goesBy_4 : cX5_goesBy.data.toList.drop 96 = dktX5_goesBy_4 := dk_seg dksX5_goesBy_3 24 rfl rfl
theorem dksX5_goesBy_5 : cX5_goesBy.data.toList.drop 120 = dktX5_goesBy_5 := dk_seg dksX5_goesBy_4 24 rfl rfl
theorem dksX5_goesBy_6 : cX5_goesBy.data.toList.drop 144 = dktX5_goesBy_6 := dk_seg dksX5_goesBy_5 24 rfl rfl
theorem dksX5_goesBy_7 : cX5_goesBy.data.toList.drop 168 = dktX5_goesBy_7 := dk_seg dksX5_goesBy_6 24 rfl rfl
theorem dksX5_goesBy_8 : cX5_goesBy.data.toList.drop 192 = dktX5_goesBy_8 := dk_seg dksX5_goesBy_7 24 rfl rfl
theorem dksX5_goesBy_9 : cX5_goesBy.data.toList.drop 214 = dktX5_goesBy_9 := dk_seg dksX5_goesBy_8 22 rfl rfl
theorem dksX5_goesBy_10 : cX5_goesBy.data.toList.drop 238 = dktX5_goesBy_10 := dk_seg dksX5_goesBy_9 24 rfl rfl
theorem dksX5_goesBy_11 : cX5_goesBy.data.toList.drop 260 = dktX5_goesBy_11 := dk_seg dksX5_goesBy_10 22 rfl rfl
theorem dksX5_goesBy_12 : cX5_goesBy.data.toList.drop 283 = dktX5_goesBy_12 := dk_seg dksX5_goesBy_11 23 rfl rfl
theorem dksX5_goesBy_13 : cX5_goesBy.data.toList.drop 307 = dktX5_goesBy_13 := dk_seg dksX5_goesBy_12 24 rfl rfl
theorem dksX5_goesBy_14 : cX5_goesBy.data.toList.drop 331 = dktX5_goesBy_14 := dk_seg dksX5_goesBy_13 24 rfl rfl
theorem dksX5_goesBy_15 : cX5_goesBy.data.toList.drop 355 = dktX5_goesBy_15 := dk_seg dksX5_goesBy_14 24 rfl rfl
theorem dX5_goesBy_0 : decode cX5_goesBy 0 = .ok (.aload_n 0, 1) := dk_42 (dk_at dksX5_goesBy_0 0 rfl rfl)
theorem dX5_goesBy_1 : decode cX5_goesBy 1 = .ok (.iload_n 1, 1) := dk_27 (dk_at dksX5_goesBy_0 1 rfl rfl)
theorem dX5_goesBy_2 : decode cX5_goesBy 2 = .ok (.invokevirtual 220, 3) := dk_182 0 220 (dk_at dksX5_goesBy_0 2 rfl rfl)
theorem dX5_goesBy_5 : decode cX5_goesBy 5 = .ok (.aload_n 0, 1) := dk_42 (dk_at dksX5_goesBy_0 5 rfl rfl)
theorem dX5_goesBy_6 : decode cX5_goesBy 6 = .ok (.iload_n 1, 1) := dk_27 (dk_at dksX5_goesBy_0 6 rfl rfl)
theorem dX5_goesBy_7 : decode cX5_goesBy 7 = .ok (.invokevirtual 223, 3) := dk_182 0 223 (dk_at dksX5_goesBy_0 7 rfl rfl)
theorem dX5_goesBy_10 : decode cX5_goesBy 10 = .ok (.istore_n 2, 1) := dk_61 (dk_at dksX5_goesBy_0 10 rfl rfl)
theorem dX5_goesBy_11 : decode cX5_goesBy 11 = .ok (.aload_n 0, 1) := dk_42 (dk_at dksX5_goesBy_0 11 rfl rfl)
theorem dX5_goesBy_12 : decode cX5_goesBy 12 = .ok (.dup, 1) := dk_89 (dk_at dksX5_goesBy_0 12 rfl rfl)
theorem dX5_goesBy_13 : decode cX5_goesBy 13 = .ok (.getfield 203, 3) := dk_180 0 203 (dk_at dksX5_goesBy_0 13 rfl rfl)
theorem dX5_goesBy_16 : decode cX5_goesBy 16 = .ok (.iload_n 2, 1) := dk_28 (dk_at dksX5_goesBy_0 16 rfl rfl)
theorem dX5_goesBy_17 : decode cX5_goesBy 17 = .ok (.iconst 2, 1) := dk_5 (dk_at dksX5_goesBy_0 17 rfl rfl)
theorem dX5_goesBy_18 : decode cX5_goesBy 18 = .ok (.isub, 1) := dk_100 (dk_at dksX5_goesBy_0 18 rfl rfl)
theorem dX5_goesBy_19 : decode cX5_goesBy 19 = .ok (.aload_n 0, 1) := dk_42 (dk_at dksX5_goesBy_0 19 rfl rfl)
theorem dX5_goesBy_20 : decode cX5_goesBy 20 = .ok (.getfield 197, 3) := dk_180 0 197 (dk_at dksX5_goesBy_0 20 rfl rfl)
theorem dX5_goesBy_23 : decode cX5_goesBy 23 = .ok (.iconst 5, 1) := dk_8 (dk_at dksX5_goesBy_0 23 rfl rfl)
theorem dX5_goesBy_24 : decode cX5_goesBy 24 = .ok (.idiv, 1) := dk_108 (dk_at dksX5_goesBy_1 0 rfl rfl)
theorem dX5_goesBy_25 : decode cX5_goesBy 25 = .ok (.isub, 1) := dk_100 (dk_at dksX5_goesBy_1 1 rfl rfl)
theorem dX5_goesBy_26 : decode cX5_goesBy 26 = .ok (.iadd, 1) := dk_96 (dk_at dksX5_goesBy_1 2 rfl rfl)
theorem dX5_goesBy_27 : decode cX5_goesBy 27 = .ok (.putfield 203, 3) := dk_181 0 203 (dk_at dksX5_goesBy_1 3 rfl rfl)
theorem dX5_goesBy_30 : decode cX5_goesBy 30 = .ok (.aload_n 0, 1) := dk_42 (dk_at dksX5_goesBy_1 6 rfl rfl)
theorem dX5_goesBy_31 : decode cX5_goesBy 31 = .ok (.aload_n 0, 1) := dk_42 (dk_at dksX5_goesBy_1 7 rfl rfl)
theorem dX5_goesBy_32 : decode cX5_goesBy 32 = .ok (.getfield 203, 3) := dk_180 0 203 (dk_at dksX5_goesBy_1 8 rfl rfl)
theorem dX5_goesBy_35 : decode cX5_goesBy 35 = .ok (.ifCond .ge 7, 3) := dk_156 0 7 (dk_at dksX5_goesBy_1 11 rfl rfl)
theorem dX5_goesBy_38 : decode cX5_goesBy 38 = .ok (.iconst 0, 1) := dk_3 (dk_at dksX5_goesBy_1 14 rfl rfl)
theorem dX5_goesBy_39 : decode cX5_goesBy 39 = .ok (.goto 21, 3) := dk_167 0 21 (dk_at dksX5_goesBy_1 15 rfl rfl)
theorem dX5_goesBy_42 : decode cX5_goesBy 42 = .ok (.aload_n 0, 1) := dk_42 (dk_at dksX5_goesBy_1 18 rfl rfl)
theorem dX5_goesBy_43 : decode cX5_goesBy 43 = .ok (.getfield 203, 3) := dk_180 0 203 (dk_at dksX5_goesBy_1 19 rfl rfl)
theorem dX5_goesBy_46 : decode cX5_goesBy 46 = .ok (.bipush 100, 2) := dk_16 100 (dk_at dksX5_goesBy_1 22 rfl rfl)
theorem dX5_goesBy_48 : decode cX5_goesBy 48 = .ok (.if_icmp .le 8, 3) := dk_164 0 8 (dk_at dksX5_goesBy_2 0 rfl rfl)
theorem dX5_goesBy_51 : decode cX5_goesBy 51 = .ok (.bipush 100, 2) := dk_16 100 (dk_at dksX5_goesBy_2 3 rfl rfl)
theorem dX5_goesBy_53 : decode cX5_goesBy 53 = .ok (.goto 7, 3) := dk_167 0 7 (dk_at dksX5_goesBy_2 5 rfl rfl)
theorem dX5_goesBy_56 : decode cX5_goesBy 56 = .ok (.aload_n 0, 1) := dk_42 (dk_at dksX5_goesBy_2 8 rfl rfl)
theorem dX5_goesBy_57 : decode cX5_goesBy 57 = .ok (.getfield 203, 3) := dk_180 0 203 (dk_at dksX5_goesBy_2 9 rfl rfl)
theorem dX5_goesBy_60 : decode cX5_goesBy 60 = .ok (.putfield 203, 3) := dk_181 0 203 (dk_at dksX5_goesBy_2 12 rfl rfl)
theorem dX5_goesBy_63 : decode cX5_goesBy 63 = .ok (.aload_n 0, 1) := dk_42 (dk_at dksX5_goesBy_2 15 rfl rfl)
theorem dX5_goesBy_64 : decode cX5_goesBy 64 = .ok (.getfield 203, 3) := dk_180 0 203 (dk_at dksX5_goesBy_2 16 rfl rfl)
theorem dX5_goesBy_67 : decode cX5_goesBy 67 = .ok (.bipush 100, 2) := dk_16 100 (dk_at dksX5_goesBy_2 19 rfl rfl)
theorem dX5_goesBy_69 : decode cX5_goesBy 69 = .ok (.if_icmp .ne 30, 3) := dk_160 0 30 (dk_at dksX5_goesBy_2 21 rfl rfl)
theorem dX5_goesBy_72 : decode cX5_goesBy 72 = .ok (.aload_n 0, 1) := dk_42 (dk_at dksX5_goesBy_3 0 rfl rfl)
theorem dX5_goesBy_73 : decode cX5_goesBy 73 = .ok (.getfield 197, 3) := dk_180 0 197 (dk_at dksX5_goesBy_3 1 rfl rfl)
theorem dX5_goesBy_76 : decode cX5_goesBy 76 = .ok (.ifCond .le 23, 3) := dk_158 0 23 (dk_at dksX5_goesBy_3 4 rfl rfl)
theorem dX5_goesBy_79 : decode cX5_goesBy 79 = .ok (.aload_n 0, 1) := dk_42 (dk_at dksX5_goesBy_3 7 rfl rfl)
theorem dX5_goesBy_80 : decode cX5_goesBy 80 = .ok (.dup, 1) := dk_89 (dk_at dksX5_goesBy_3 8 rfl rfl)
theorem dX5_goesBy_81 : decode cX5_goesBy 81 = .ok (.getfield 197, 3) := dk_180 0 197 (dk_at dksX5_goesBy_3 9 rfl rfl)
theorem dX5_goesBy_84 : decode cX5_goesBy 84 = .ok (.iconst 1, 1) := dk_4 (dk_at dksX5_goesBy_3 12 rfl rfl)
theorem dX5_goesBy_85 : decode cX5_goesBy 85 = .ok (.isub, 1) := dk_100 (dk_at dksX5_goesBy_3 13 rfl rfl)
theorem dX5_goesBy_86 : decode cX5_goesBy 86 = .ok (.putfield 197, 3) := dk_181 0 197 (dk_at dksX5_goesBy_3 14 rfl rfl)
theorem dX5_goesBy_89 : decode cX5_goesBy 89 = .ok (.aload_n 0, 1) := dk_42 (dk_at dksX5_goesBy_3 17 rfl rfl)
theorem dX5_goesBy_90 : decode cX5_goesBy 90 = .ok (.dup, 1) := dk_89 (dk_at dksX5_goesBy_3 18 rfl rfl)
theorem dX5_goesBy_91 : decode cX5_goesBy 91 = .ok (.getfield 226, 3) := dk_180 0 226 (dk_at dksX5_goesBy_3 19 rfl rfl)
theorem dX5_goesBy_94 : decode cX5_goesBy 94 = .ok (.iconst 1, 1) := dk_4 (dk_at dksX5_goesBy_3 22 rfl rfl)
theorem dX5_goesBy_95 : decode cX5_goesBy 95 = .ok (.iadd, 1) := dk_96 (dk_at dksX5_goesBy_3 23 rfl rfl)
theorem dX5_goesBy_96 : decode cX5_goesBy 96 = .ok (.putfield 226, 3) := dk_181 0 226 (dk_at dksX5_goesBy_4 0 rfl rfl)
theorem dX5_goesBy_99 : decode cX5_goesBy 99 = .ok (.aload_n 0, 1) := dk_42 (dk_at dksX5_goesBy_4 3 rfl rfl)
theorem dX5_goesBy_100 : decode cX5_goesBy 100 = .ok (.getfield 203, 3) := dk_180 0 203 (dk_at dksX5_goesBy_4 4 rfl rfl)
theorem dX5_goesBy_103 : decode cX5_goesBy 103 = .ok (.bipush 80, 2) := dk_16 80 (dk_at dksX5_goesBy_4 7 rfl rfl)
theorem dX5_goesBy_105 : decode cX5_goesBy 105 = .ok (.if_icmp .lt 14, 3) := dk_161 0 14 (dk_at dksX5_goesBy_4 9 rfl rfl)
theorem dX5_goesBy_108 : decode cX5_goesBy 108 = .ok (.aload_n 0, 1) := dk_42 (dk_at dksX5_goesBy_4 12 rfl rfl)
theorem dX5_goesBy_109 : decode cX5_goesBy 109 = .ok (.getfield 197, 3) := dk_180 0 197 (dk_at dksX5_goesBy_4 13 rfl rfl)
theorem dX5_goesBy_112 : decode cX5_goesBy 112 = .ok (.ifCond .le 7, 3) := dk_158 0 7 (dk_at dksX5_goesBy_4 16 rfl rfl)
theorem dX5_goesBy_115 : decode cX5_goesBy 115 = .ok (.iconst 1, 1) := dk_4 (dk_at dksX5_goesBy_4 19 rfl rfl)
theorem dX5_goesBy_116 : decode cX5_goesBy 116 = .ok (.goto 4, 3) := dk_167 0 4 (dk_at dksX5_goesBy_4 20 rfl rfl)
theorem dX5_goesBy_119 : decode cX5_goesBy 119 = .ok (.iconst 0, 1) := dk_3 (dk_at dksX5_goesBy_4 23 rfl rfl)
theorem dX5_goesBy_120 : decode cX5_goesBy 120 = .ok (.istore_n 3, 1) := dk_62 (dk_at dksX5_goesBy_5 0 rfl rfl)
theorem dX5_goesBy_121 : decode cX5_goesBy 121 = .ok (.aload_n 0, 1) := dk_42 (dk_at dksX5_goesBy_5 1 rfl rfl)
theorem dX5_goesBy_122 : decode cX5_goesBy 122 = .ok (.dup, 1) := dk_89 (dk_at dksX5_goesBy_5 2 rfl rfl)
theorem dX5_goesBy_123 : decode cX5_goesBy 123 = .ok (.getfield 229, 3) := dk_180 0 229 (dk_at dksX5_goesBy_5 3 rfl rfl)
theorem dX5_goesBy_126 : decode cX5_goesBy 126 = .ok (.iload_n 3, 1) := dk_29 (dk_at dksX5_goesBy_5 6 rfl rfl)
theorem dX5_goesBy_127 : decode cX5_goesBy 127 = .ok (.ifCond .eq 7, 3) := dk_153 0 7 (dk_at dksX5_goesBy_5 7 rfl rfl)
theorem dX5_goesBy_130 : decode cX5_goesBy 130 = .ok (.iconst 1, 1) := dk_4 (dk_at dksX5_goesBy_5 10 rfl rfl)
theorem dX5_goesBy_131 : decode cX5_goesBy 131 = .ok (.goto 4, 3) := dk_167 0 4 (dk_at dksX5_goesBy_5 11 rfl rfl)
theorem dX5_goesBy_134 : decode cX5_goesBy 134 = .ok (.iconst 0, 1) := dk_3 (dk_at dksX5_goesBy_5 14 rfl rfl)
theorem dX5_goesBy_135 : decode cX5_goesBy 135 = .ok (.iadd, 1) := dk_96 (dk_at dksX5_goesBy_5 15 rfl rfl)
theorem dX5_goesBy_136 : decode cX5_goesBy 136 = .ok (.putfield 229, 3) := dk_181 0 229 (dk_at dksX5_goesBy_5 16 rfl rfl)
theorem dX5_goesBy_139 : decode cX5_goesBy 139 = .ok (.aload_n 0, 1) := dk_42 (dk_at dksX5_goesBy_5 19 rfl rfl)
theorem dX5_goesBy_140 : decode cX5_goesBy 140 = .ok (.iload_n 3, 1) := dk_29 (dk_at dksX5_goesBy_5 20 rfl rfl)
theorem dX5_goesBy_141 : decode cX5_goesBy 141 = .ok (.ifCond .eq 15, 3) := dk_153 0 15 (dk_at dksX5_goesBy_5 21 rfl rfl)
theorem dX5_goesBy_144 : decode cX5_goesBy 144 = .ok (.aload_n 0, 1) := dk_42 (dk_at dksX5_goesBy_6 0 rfl rfl)
theorem dX5_goesBy_145 : decode cX5_goesBy 145 = .ok (.getfield 232, 3) := dk_180 0 232 (dk_at dksX5_goesBy_6 1 rfl rfl)
theorem dX5_goesBy_148 : decode cX5_goesBy 148 = .ok (.iconst (-1), 1) := dk_2 (dk_at dksX5_goesBy_6 4 rfl rfl)
theorem dX5_goesBy_149 : decode cX5_goesBy 149 = .ok (.if_icmp .ne 7, 3) := dk_160 0 7 (dk_at dksX5_goesBy_6 5 rfl rfl)
theorem dX5_goesBy_152 : decode cX5_goesBy 152 = .ok (.iload_n 1, 1) := dk_27 (dk_at dksX5_goesBy_6 8 rfl rfl)
theorem dX5_goesBy_153 : decode cX5_goesBy 153 = .ok (.goto 7, 3) := dk_167 0 7 (dk_at dksX5_goesBy_6 9 rfl rfl)
theorem dX5_goesBy_156 : decode cX5_goesBy 156 = .ok (.aload_n 0, 1) := dk_42 (dk_at dksX5_goesBy_6 12 rfl rfl)
theorem dX5_goesBy_157 : decode cX5_goesBy 157 = .ok (.getfield 232, 3) := dk_180 0 232 (dk_at dksX5_goesBy_6 13 rfl rfl)
theorem dX5_goesBy_160 : decode cX5_goesBy 160 = .ok (.putfield 232, 3) := dk_181 0 232 (dk_at dksX5_goesBy_6 16 rfl rfl)
theorem dX5_goesBy_163 : decode cX5_goesBy 163 = .ok (.aload_n 0, 1) := dk_42 (dk_at dksX5_goesBy_6 19 rfl rfl)
theorem dX5_goesBy_164 : decode cX5_goesBy 164 = .ok (.iload_n 1, 1) := dk_27 (dk_at dksX5_goesBy_6 20 rfl rfl)
theorem dX5_goesBy_165 : decode cX5_goesBy 165 = .ok (.invokevirtual 235, 3) := dk_182 0 235 (dk_at dksX5_goesBy_6 21 rfl rfl)
theorem dX5_goesBy_168 : decode cX5_goesBy 168 = .ok (.iload_n 3, 1) := dk_29 (dk_at dksX5_goesBy_7 0 rfl rfl)
theorem dX5_goesBy_169 : decode cX5_goesBy 169 = .ok (.ifCond .eq 11, 3) := dk_153 0 11 (dk_at dksX5_goesBy_7 1 rfl rfl)
theorem dX5_goesBy_172 : decode cX5_goesBy 172 = .ok (.aload_n 0, 1) := dk_42 (dk_at dksX5_goesBy_7 4 rfl rfl)
theorem dX5_goesBy_173 : decode cX5_goesBy 173 = .ok (.iload_n 1, 1) := dk_27 (dk_at dksX5_goesBy_7 5 rfl rfl)
theorem dX5_goesBy_174 : decode cX5_goesBy 174 = .ok (.invokevirtual 238, 3) := dk_182 0 238 (dk_at dksX5_goesBy_7 6 rfl rfl)
theorem dX5_goesBy_177 : decode cX5_goesBy 177 = .ok (.goto 4, 3) := dk_167 0 4 (dk_at dksX5_goesBy_7 9 rfl rfl)
theorem dX5_goesBy_180 : decode cX5_goesBy 180 = .ok (.iconst (-1), 1) := dk_2 (dk_at dksX5_goesBy_7 12 rfl rfl)
theorem dX5_goesBy_181 : decode cX5_goesBy 181 = .ok (.istore 4, 2) := dk_54 4 (dk_at dksX5_goesBy_7 13 rfl rfl)
theorem dX5_goesBy_183 : decode cX5_goesBy 183 = .ok (.aload_n 0, 1) := dk_42 (dk_at dksX5_goesBy_7 15 rfl rfl)
theorem dX5_goesBy_184 : decode cX5_goesBy 184 = .ok (.iload_n 1, 1) := dk_27 (dk_at dksX5_goesBy_7 16 rfl rfl)
theorem dX5_goesBy_185 : decode cX5_goesBy 185 = .ok (.invokevirtual 241, 3) := dk_182 0 241 (dk_at dksX5_goesBy_7 17 rfl rfl)
theorem dX5_goesBy_188 : decode cX5_goesBy 188 = .ok (.bipush 6, 2) := dk_16 6 (dk_at dksX5_goesBy_7 20 rfl rfl)
theorem dX5_goesBy_190 : decode cX5_goesBy 190 = .ok (.iload_n 1, 1) := dk_27 (dk_at dksX5_goesBy_7 22 rfl rfl)
theorem dX5_goesBy_191 : decode cX5_goesBy 191 = .ok (.imul, 1) := dk_104 (dk_at dksX5_goesBy_7 23 rfl rfl)
theorem dX5_goesBy_192 : decode cX5_goesBy 192 = .ok (.istore 5, 2) := dk_54 5 (dk_at dksX5_goesBy_8 0 rfl rfl)
theorem dX5_goesBy_194 : decode cX5_goesBy 194 = .ok (.aload_n 0, 1) := dk_42 (dk_at dksX5_goesBy_8 2 rfl rfl)
theorem dX5_goesBy_195 : decode cX5_goesBy 195 = .ok (.getfield 70, 3) := dk_180 0 70 (dk_at dksX5_goesBy_8 3 rfl rfl)
theorem dX5_goesBy_198 : decode cX5_goesBy 198 = .ok (.iload 5, 2) := dk_21 5 (dk_at dksX5_goesBy_8 6 rfl rfl)
theorem dX5_goesBy_200 : decode cX5_goesBy 200 = .ok (.aload_n 0, 1) := dk_42 (dk_at dksX5_goesBy_8 8 rfl rfl)
theorem dX5_goesBy_201 : decode cX5_goesBy 201 = .ok (.getfield 203, 3) := dk_180 0 203 (dk_at dksX5_goesBy_8 9 rfl rfl)
theorem dX5_goesBy_204 : decode cX5_goesBy 204 = .ok (.iastore, 1) := dk_79 (dk_at dksX5_goesBy_8 12 rfl rfl)
theorem dX5_goesBy_205 : decode cX5_goesBy 205 = .ok (.aload_n 0, 1) := dk_42 (dk_at dksX5_goesBy_8 13 rfl rfl)
theorem dX5_goesBy_206 : decode cX5_goesBy 206 = .ok (.getfield 70, 3) := dk_180 0 70 (dk_at dksX5_goesBy_8 14 rfl rfl)
theorem dX5_goesBy_209 : decode cX5_goesBy 209 = .ok (.iload 5, 2) := dk_21 5 (dk_at dksX5_goesBy_8 17 rfl rfl)
theorem dX5_goesBy_211 : decode cX5_goesBy 211 = .ok (.iconst 1, 1) := dk_4 (dk_at dksX5_goesBy_8 19 rfl rfl)
theorem dX5_goesBy_212 : decode cX5_goesBy 212 = .ok (.iadd, 1) := dk_96 (dk_at dksX5_goesBy_8 20 rfl rfl)
theorem dX5_goesBy_213 : decode cX5_goesBy 213 = .ok (.aload_n 0, 1) := dk_42 (dk_at dksX5_goesBy_8 21 rfl rfl)
theorem dX5_goesBy_214 : decode cX5_goesBy 214 = .ok (.getfield 197, 3) := dk_180 0 197 (dk_at dksX5_goesBy_9 0 rfl rfl)
theorem dX5_goesBy_217 : decode cX5_goesBy 217 = .ok (.iastore, 1) := dk_79 (dk_at dksX5_goesBy_9 3 rfl rfl)
theorem dX5_goesBy_218 : decode cX5_goesBy 218 = .ok (.aload_n 0, 1) := dk_42 (dk_at dksX5_goesBy_9 4 rfl rfl)
theorem dX5_goesBy_219 : decode cX5_goesBy 219 = .ok (.getfield 70, 3) := dk_180 0 70 (dk_at dksX5_goesBy_9 5 rfl rfl)
theorem dX5_goesBy_222 : decode cX5_goesBy 222 = .ok (.iload 5, 2) := dk_21 5 (dk_at dksX5_goesBy_9 8 rfl rfl)
theorem dX5_goesBy_224 : decode cX5_goesBy 224 = .ok (.iconst 2, 1) := dk_5 (dk_at dksX5_goesBy_9 10 rfl rfl)
theorem dX5_goesBy_225 : decode cX5_goesBy 225 = .ok (.iadd, 1) := dk_96 (dk_at dksX5_goesBy_9 11 rfl rfl)
theorem dX5_goesBy_226 : decode cX5_goesBy 226 = .ok (.aload_n 0, 1) := dk_42 (dk_at dksX5_goesBy_9 12 rfl rfl)
theorem dX5_goesBy_227 : decode cX5_goesBy 227 = .ok (.getfield 206, 3) := dk_180 0 206 (dk_at dksX5_goesBy_9 13 rfl rfl)
theorem dX5_goesBy_230 : decode cX5_goesBy 230 = .ok (.iastore, 1) := dk_79 (dk_at dksX5_goesBy_9 16 rfl rfl)
theorem dX5_goesBy_231 : decode cX5_goesBy 231 = .ok (.aload_n 0, 1) := dk_42 (dk_at dksX5_goesBy_9 17 rfl rfl)
theorem dX5_goesBy_232 : decode cX5_goesBy 232 = .ok (.getfield 70, 3) := dk_180 0 70 (dk_at dksX5_goesBy_9 18 rfl rfl)
theorem dX5_goesBy_235 : decode cX5_goesBy 235 = .ok (.iload 5, 2) := dk_21 5 (dk_at dksX5_goesBy_9 21 rfl rfl)
theorem dX5_goesBy_237 : decode cX5_goesBy 237 = .ok (.iconst 3, 1) := dk_6 (dk_at dksX5_goesBy_9 23 rfl rfl)
theorem dX5_goesBy_238 : decode cX5_goesBy 238 = .ok (.iadd, 1) := dk_96 (dk_at dksX5_goesBy_10 0 rfl rfl)
theorem dX5_goesBy_239 : decode cX5_goesBy 239 = .ok (.iload_n 2, 1) := dk_28 (dk_at dksX5_goesBy_10 1 rfl rfl)
theorem dX5_goesBy_240 : decode cX5_goesBy 240 = .ok (.iastore, 1) := dk_79 (dk_at dksX5_goesBy_10 2 rfl rfl)
theorem dX5_goesBy_241 : decode cX5_goesBy 241 = .ok (.aload_n 0, 1) := dk_42 (dk_at dksX5_goesBy_10 3 rfl rfl)
theorem dX5_goesBy_242 : decode cX5_goesBy 242 = .ok (.getfield 70, 3) := dk_180 0 70 (dk_at dksX5_goesBy_10 4 rfl rfl)
theorem dX5_goesBy_245 : decode cX5_goesBy 245 = .ok (.iload 5, 2) := dk_21 5 (dk_at dksX5_goesBy_10 7 rfl rfl)
theorem dX5_goesBy_247 : decode cX5_goesBy 247 = .ok (.iconst 4, 1) := dk_7 (dk_at dksX5_goesBy_10 9 rfl rfl)
theorem dX5_goesBy_248 : decode cX5_goesBy 248 = .ok (.iadd, 1) := dk_96 (dk_at dksX5_goesBy_10 10 rfl rfl)
theorem dX5_goesBy_249 : decode cX5_goesBy 249 = .ok (.iload_n 3, 1) := dk_29 (dk_at dksX5_goesBy_10 11 rfl rfl)
theorem dX5_goesBy_250 : decode cX5_goesBy 250 = .ok (.ifCond .eq 7, 3) := dk_153 0 7 (dk_at dksX5_goesBy_10 12 rfl rfl)
theorem dX5_goesBy_253 : decode cX5_goesBy 253 = .ok (.iconst 1, 1) := dk_4 (dk_at dksX5_goesBy_10 15 rfl rfl)
theorem dX5_goesBy_254 : decode cX5_goesBy 254 = .ok (.goto 4, 3) := dk_167 0 4 (dk_at dksX5_goesBy_10 16 rfl rfl)
theorem dX5_goesBy_257 : decode cX5_goesBy 257 = .ok (.iconst 0, 1) := dk_3 (dk_at dksX5_goesBy_10 19 rfl rfl)
theorem dX5_goesBy_258 : decode cX5_goesBy 258 = .ok (.iastore, 1) := dk_79 (dk_at dksX5_goesBy_10 20 rfl rfl)
theorem dX5_goesBy_259 : decode cX5_goesBy 259 = .ok (.aload_n 0, 1) := dk_42 (dk_at dksX5_goesBy_10 21 rfl rfl)
theorem dX5_goesBy_260 : decode cX5_goesBy 260 = .ok (.getfield 70, 3) := dk_180 0 70 (dk_at dksX5_goesBy_11 0 rfl rfl)
theorem dX5_goesBy_263 : decode cX5_goesBy 263 = .ok (.iload 5, 2) := dk_21 5 (dk_at dksX5_goesBy_11 3 rfl rfl)
theorem dX5_goesBy_265 : decode cX5_goesBy 265 = .ok (.iconst 5, 1) := dk_8 (dk_at dksX5_goesBy_11 5 rfl rfl)
theorem dX5_goesBy_266 : decode cX5_goesBy 266 = .ok (.iadd, 1) := dk_96 (dk_at dksX5_goesBy_11 6 rfl rfl)
theorem dX5_goesBy_267 : decode cX5_goesBy 267 = .ok (.iload 4, 2) := dk_21 4 (dk_at dksX5_goesBy_11 7 rfl rfl)
theorem dX5_goesBy_269 : decode cX5_goesBy 269 = .ok (.iastore, 1) := dk_79 (dk_at dksX5_goesBy_11 9 rfl rfl)
theorem dX5_goesBy_270 : decode cX5_goesBy 270 = .ok (.aload_n 0, 1) := dk_42 (dk_at dksX5_goesBy_11 10 rfl rfl)
theorem dX5_goesBy_271 : decode cX5_goesBy 271 = .ok (.getfield 73, 3) := dk_180 0 73 (dk_at dksX5_goesBy_11 11 rfl rfl)
theorem dX5_goesBy_274 : decode cX5_goesBy 274 = .ok (.iload_n 1, 1) := dk_27 (dk_at dksX5_goesBy_11 14 rfl rfl)
theorem dX5_goesBy_275 : decode cX5_goesBy 275 = .ok (.aload_n 0, 1) := dk_42 (dk_at dksX5_goesBy_11 15 rfl rfl)
theorem dX5_goesBy_276 : decode cX5_goesBy 276 = .ok (.getfield 209, 3) := dk_180 0 209 (dk_at dksX5_goesBy_11 16 rfl rfl)
theorem dX5_goesBy_279 : decode cX5_goesBy 279 = .ok (.iastore, 1) := dk_79 (dk_at dksX5_goesBy_11 19 rfl rfl)
theorem dX5_goesBy_280 : decode cX5_goesBy 280 = .ok (.iconst 0, 1) := dk_3 (dk_at dksX5_goesBy_11 20 rfl rfl)
theorem dX5_goesBy_281 : decode cX5_goesBy 281 = .ok (.istore 6, 2) := dk_54 6 (dk_at dksX5_goesBy_11 21 rfl rfl)
theorem dX5_goesBy_283 : decode cX5_goesBy 283 = .ok (.iload 6, 2) := dk_21 6 (dk_at dksX5_goesBy_12 0 rfl rfl)
theorem dX5_goesBy_285 : decode cX5_goesBy 285 = .ok (.aload_n 0, 1) := dk_42 (dk_at dksX5_goesBy_12 2 rfl rfl)
theorem dX5_goesBy_286 : decode cX5_goesBy 286 = .ok (.getfield 181, 3) := dk_180 0 181 (dk_at dksX5_goesBy_12 3 rfl rfl)
theorem dX5_goesBy_289 : decode cX5_goesBy 289 = .ok (.if_icmp .ge 73, 3) := dk_162 0 73 (dk_at dksX5_goesBy_12 6 rfl rfl)
theorem dX5_goesBy_292 : decode cX5_goesBy 292 = .ok (.aload_n 0, 1) := dk_42 (dk_at dksX5_goesBy_12 9 rfl rfl)
theorem dX5_goesBy_293 : decode cX5_goesBy 293 = .ok (.getfield 76, 3) := dk_180 0 76 (dk_at dksX5_goesBy_12 10 rfl rfl)
theorem dX5_goesBy_296 : decode cX5_goesBy 296 = .ok (.bipush 8, 2) := dk_16 8 (dk_at dksX5_goesBy_12 13 rfl rfl)
theorem dX5_goesBy_298 : decode cX5_goesBy 298 = .ok (.iload_n 1, 1) := dk_27 (dk_at dksX5_goesBy_12 15 rfl rfl)
theorem dX5_goesBy_299 : decode cX5_goesBy 299 = .ok (.imul, 1) := dk_104 (dk_at dksX5_goesBy_12 16 rfl rfl)
theorem dX5_goesBy_300 : decode cX5_goesBy 300 = .ok (.iload 6, 2) := dk_21 6 (dk_at dksX5_goesBy_12 17 rfl rfl)
theorem dX5_goesBy_302 : decode cX5_goesBy 302 = .ok (.iadd, 1) := dk_96 (dk_at dksX5_goesBy_12 19 rfl rfl)
theorem dX5_goesBy_303 : decode cX5_goesBy 303 = .ok (.aload_n 0, 1) := dk_42 (dk_at dksX5_goesBy_12 20 rfl rfl)
theorem dX5_goesBy_304 : decode cX5_goesBy 304 = .ok (.getfield 55, 3) := dk_180 0 55 (dk_at dksX5_goesBy_12 21 rfl rfl)
theorem dX5_goesBy_307 : decode cX5_goesBy 307 = .ok (.iload 6, 2) := dk_21 6 (dk_at dksX5_goesBy_13 0 rfl rfl)
theorem dX5_goesBy_309 : decode cX5_goesBy 309 = .ok (.iaload, 1) := dk_46 (dk_at dksX5_goesBy_13 2 rfl rfl)
theorem dX5_goesBy_310 : decode cX5_goesBy 310 = .ok (.iastore, 1) := dk_79 (dk_at dksX5_goesBy_13 3 rfl rfl)
theorem dX5_goesBy_311 : decode cX5_goesBy 311 = .ok (.aload_n 0, 1) := dk_42 (dk_at dksX5_goesBy_13 4 rfl rfl)
theorem dX5_goesBy_312 : decode cX5_goesBy 312 = .ok (.getfield 79, 3) := dk_180 0 79 (dk_at dksX5_goesBy_13 5 rfl rfl)
theorem dX5_goesBy_315 : decode cX5_goesBy 315 = .ok (.bipush 8, 2) := dk_16 8 (dk_at dksX5_goesBy_13 8 rfl rfl)
theorem dX5_goesBy_317 : decode cX5_goesBy 317 = .ok (.iload_n 1, 1) := dk_27 (dk_at dksX5_goesBy_13 10 rfl rfl)
theorem dX5_goesBy_318 : decode cX5_goesBy 318 = .ok (.imul, 1) := dk_104 (dk_at dksX5_goesBy_13 11 rfl rfl)
theorem dX5_goesBy_319 : decode cX5_goesBy 319 = .ok (.iload 6, 2) := dk_21 6 (dk_at dksX5_goesBy_13 12 rfl rfl)
theorem dX5_goesBy_321 : decode cX5_goesBy 321 = .ok (.iadd, 1) := dk_96 (dk_at dksX5_goesBy_13 14 rfl rfl)
theorem dX5_goesBy_322 : decode cX5_goesBy 322 = .ok (.aload_n 0, 1) := dk_42 (dk_at dksX5_goesBy_13 15 rfl rfl)
theorem dX5_goesBy_323 : decode cX5_goesBy 323 = .ok (.getfield 58, 3) := dk_180 0 58 (dk_at dksX5_goesBy_13 16 rfl rfl)
theorem dX5_goesBy_326 : decode cX5_goesBy 326 = .ok (.iload 6, 2) := dk_21 6 (dk_at dksX5_goesBy_13 19 rfl rfl)
theorem dX5_goesBy_328 : decode cX5_goesBy 328 = .ok (.iaload, 1) := dk_46 (dk_at dksX5_goesBy_13 21 rfl rfl)
theorem dX5_goesBy_329 : decode cX5_goesBy 329 = .ok (.iastore, 1) := dk_79 (dk_at dksX5_goesBy_13 22 rfl rfl)
theorem dX5_goesBy_330 : decode cX5_goesBy 330 = .ok (.aload_n 0, 1) := dk_42 (dk_at dksX5_goesBy_13 23 rfl rfl)
theorem dX5_goesBy_331 : decode cX5_goesBy 331 = .ok (.getfield 67, 3) := dk_180 0 67 (dk_at dksX5_goesBy_14 0 rfl rfl)
theorem dX5_goesBy_334 : decode cX5_goesBy 334 = .ok (.iload 6, 2) := dk_21 6 (dk_at dksX5_goesBy_14 3 rfl rfl)
theorem dX5_goesBy_336 : decode cX5_goesBy 336 = .ok (.dup2, 1) := dk_92 (dk_at dksX5_goesBy_14 5 rfl rfl)
theorem dX5_goesBy_337 : decode cX5_goesBy 337 = .ok (.iaload, 1) := dk_46 (dk_at dksX5_goesBy_14 6 rfl rfl)
theorem dX5_goesBy_338 : decode cX5_goesBy 338 = .ok (.aload_n 0, 1) := dk_42 (dk_at dksX5_goesBy_14 7 rfl rfl)
theorem dX5_goesBy_339 : decode cX5_goesBy 339 = .ok (.getfield 55, 3) := dk_180 0 55 (dk_at dksX5_goesBy_14 8 rfl rfl)
theorem dX5_goesBy_342 : decode cX5_goesBy 342 = .ok (.iload 6, 2) := dk_21 6 (dk_at dksX5_goesBy_14 11 rfl rfl)
theorem dX5_goesBy_344 : decode cX5_goesBy 344 = .ok (.iaload, 1) := dk_46 (dk_at dksX5_goesBy_14 13 rfl rfl)
theorem dX5_goesBy_345 : decode cX5_goesBy 345 = .ok (.iconst 1, 1) := dk_4 (dk_at dksX5_goesBy_14 14 rfl rfl)
theorem dX5_goesBy_346 : decode cX5_goesBy 346 = .ok (.if_icmp .ne 7, 3) := dk_160 0 7 (dk_at dksX5_goesBy_14 15 rfl rfl)
theorem dX5_goesBy_349 : decode cX5_goesBy 349 = .ok (.iconst 1, 1) := dk_4 (dk_at dksX5_goesBy_14 18 rfl rfl)
theorem dX5_goesBy_350 : decode cX5_goesBy 350 = .ok (.goto 4, 3) := dk_167 0 4 (dk_at dksX5_goesBy_14 19 rfl rfl)
theorem dX5_goesBy_353 : decode cX5_goesBy 353 = .ok (.iconst 0, 1) := dk_3 (dk_at dksX5_goesBy_14 22 rfl rfl)
theorem dX5_goesBy_354 : decode cX5_goesBy 354 = .ok (.iadd, 1) := dk_96 (dk_at dksX5_goesBy_14 23 rfl rfl)
theorem dX5_goesBy_355 : decode cX5_goesBy 355 = .ok (.iastore, 1) := dk_79 (dk_at dksX5_goesBy_15 0 rfl rfl)
theorem dX5_goesBy_356 : decode cX5_goesBy 356 = .ok (.iinc 6 1, 3) := dk_132 6 1 (dk_at dksX5_goesBy_15 1 rfl rfl)
theorem dX5_goesBy_359 : decode cX5_goesBy 359 = .ok (.goto (-76), 3) := dk_167 255 180 (dk_at dksX5_goesBy_15 4 rfl rfl)
theorem dX5_goesBy_362 : decode cX5_goesBy 362 = .ok (.return_, 1) := dk_177 (dk_at dksX5_goesBy_15 7 rfl rfl)
abbrev cX5_befalls : ByteArray := prog_15_method_31_code
def yX5_befalls : MethodName := ⟨RX5, "befalls", "(I)V"⟩
def dkwX5_befalls_7 : List UInt8 := [181, 0, 190, 132, 2, 1, 167, 255, 99, 177]
abbrev dktX5_befalls_7 : List UInt8 := dkwX5_befalls_7 ++ []
def dkwX5_befalls_6 : List UInt8 := [181, 0, 206, 42, 42, 180, 0, 34, 28, 46, 5, 160, 0, 7, 4, 167, 0, 7, 42, 180, 0, 190]
abbrev dktX5_befalls_6 : List UInt8 := dkwX5_befalls_6 ++ dktX5_befalls_7
def dkwX5_befalls_5 : List UInt8 := [180, 0, 206, 42, 180, 0, 40, 28, 46, 96, 16, 40, 184, 0, 200, 167, 0, 7, 42, 180, 0, 206]
abbrev dktX5_befalls_5 : List UInt8 := dkwX5_befalls_5 ++ dktX5_befalls_6
def dkwX5_befalls_4 : List UInt8 := [180, 0, 203, 7, 29, 104, 100, 181, 0, 203, 42, 42, 180, 0, 34, 28, 46, 4, 160, 0, 22, 42]
abbrev dktX5_befalls_4 : List UInt8 := dkwX5_befalls_4 ++ dktX5_befalls_5
def dkwX5_befalls_3 : List UInt8 := [180, 0, 197, 29, 96, 181, 0, 197, 42, 42, 180, 0, 203, 7, 29, 104, 162, 0, 7, 3, 167, 0, 11, 42]
abbrev dktX5_befalls_3 : List UInt8 := dkwX5_befalls_3 ++ dktX5_befalls_4
def dkwX5_befalls_2 : List UInt8 := [180, 0, 40, 28, 46, 16, 30, 42, 180, 0, 197, 100, 184, 0, 200, 167, 0, 4, 3, 62, 42, 89]
abbrev dktX5_befalls_2 : List UInt8 := dkwX5_befalls_2 ++ dktX5_befalls_3
def dkwX5_befalls_1 : List UInt8 := [160, 0, 139, 42, 180, 0, 187, 28, 184, 0, 193, 154, 0, 128, 42, 180, 0, 34, 28, 46, 154, 0, 22, 42]
abbrev dktX5_befalls_1 : List UInt8 := dkwX5_befalls_1 ++ dktX5_befalls_2
def dkwX5_befalls_0 : List UInt8 := [42, 3, 181, 0, 190, 3, 61, 28, 42, 180, 0, 169, 162, 0, 155, 42, 180, 0, 37, 28, 46, 27]
abbrev dktX5_befalls_0 : List UInt8 := dkwX5_befalls_0 ++ dktX5_befalls_1
theorem dksX5_befalls_0 : cX5_befalls.data.toList.drop 0 = dktX5_befalls_0 := by decide +kernel
theorem dksX5_befalls_1 : cX5_befalls.data.toList.drop 22 = dktX5_befalls_1 := dk_seg dksX5_befalls_0 22 rfl rfl
theorem dksX5_befalls_2 : cX5_befalls.data.toList.drop 46 = dktX5_befalls_2 := dk_seg dksX5_befalls_1 24 rfl rfl
theorem dksX5_befalls_3 : cX5_befalls.data.toList.drop 68 = dktX5_befalls_3 := dk_seg dksX5_befalls_2 22 rfl rfl
theorem dksX5_befalls_4 : cX5_befalls.data.toList.drop 92 = dktX5_befalls_4 := dk_seg dksX5_befalls_3 24 rfl rfl
theorem dksX5_befalls_5 : cX5_befalls.data.toList.drop 114 = dktX5_befalls_5 := dk_seg dksX5_befalls_4 22 rfl rfl
theorem dksX5_befalls_6 : cX5_befalls.data.toList.drop 136 = dktX5_befalls_6 := dk_seg dksX5_befalls_5 22 rfl rfl
theorem dksX5_befalls_7 : cX5_befalls.data.toList.drop 158 = dktX5_befalls_7 := dk_seg dksX5_befalls_6 22 rfl rfl
theorem dX5_befalls_0 : decode cX5_befalls 0 = .ok (.aload_n 0, 1) := dk_42 (dk_at dksX5_befalls_0 0 rfl rfl)
theorem dX5_befalls_1 : decode cX5_befalls 1 = .ok (.iconst 0, 1) := dk_3 (dk_at dksX5_befalls_0 1 rfl rfl)
theorem dX5_befalls_2 : decode cX5_befalls 2 = .ok (.putfield 190, 3) := dk_181 0 190 (dk_at dksX5_befalls_0 2 rfl rfl)
theorem dX5_befalls_5 : decode cX5_befalls 5 = .ok (.iconst 0, 1) := dk_3 (dk_at dksX5_befalls_0 5 rfl rfl)
theorem dX5_befalls_6 : decode cX5_befalls 6 = .ok (.istore_n 2, 1) := dk_61 (dk_at dksX5_befalls_0 6 rfl rfl)
theorem dX5_befalls_7 : decode cX5_befalls 7 = .ok (.iload_n 2, 1) := dk_28 (dk_at dksX5_befalls_0 7 rfl rfl)
theorem dX5_befalls_8 : decode cX5_befalls 8 = .ok (.aload_n 0, 1) := dk_42 (dk_at dksX5_befalls_0 8 rfl rfl)
theorem dX5_befalls_9 : decode cX5_befalls 9 = .ok (.getfield 169, 3) := dk_180 0 169 (dk_at dksX5_befalls_0 9 rfl rfl)
theorem dX5_befalls_12 : decode cX5_befalls 12 = .ok (.if_icmp .ge 155, 3) := dk_162 0 155 (dk_at dksX5_befalls_0 12 rfl rfl)
theorem dX5_befalls_15 : decode cX5_befalls 15 = .ok (.aload_n 0, 1) := dk_42 (dk_at dksX5_befalls_0 15 rfl rfl)
theorem dX5_befalls_16 : decode cX5_befalls 16 = .ok (.getfield 37, 3) := dk_180 0 37 (dk_at dksX5_befalls_0 16 rfl rfl)
theorem dX5_befalls_19 : decode cX5_befalls 19 = .ok (.iload_n 2, 1) := dk_28 (dk_at dksX5_befalls_0 19 rfl rfl)
theorem dX5_befalls_20 : decode cX5_befalls 20 = .ok (.iaload, 1) := dk_46 (dk_at dksX5_befalls_0 20 rfl rfl)
theorem dX5_befalls_21 : decode cX5_befalls 21 = .ok (.iload_n 1, 1) := dk_27 (dk_at dksX5_befalls_0 21 rfl rfl)
theorem dX5_befalls_22 : decode cX5_befalls 22 = .ok (.if_icmp .ne 139, 3) := dk_160 0 139 (dk_at dksX5_befalls_1 0 rfl rfl)
theorem dX5_befalls_25 : decode cX5_befalls 25 = .ok (.aload_n 0, 1) := dk_42 (dk_at dksX5_befalls_1 3 rfl rfl)
theorem dX5_befalls_26 : decode cX5_befalls 26 = .ok (.getfield 187, 3) := dk_180 0 187 (dk_at dksX5_befalls_1 4 rfl rfl)
theorem dX5_befalls_29 : decode cX5_befalls 29 = .ok (.iload_n 2, 1) := dk_28 (dk_at dksX5_befalls_1 7 rfl rfl)
theorem dX5_befalls_30 : decode cX5_befalls 30 = .ok (.invokestatic 193, 3) := dk_184 0 193 (dk_at dksX5_befalls_1 8 rfl rfl)
theorem dX5_befalls_33 : decode cX5_befalls 33 = .ok (.ifCond .ne 128, 3) := dk_154 0 128 (dk_at dksX5_befalls_1 11 rfl rfl)
theorem dX5_befalls_36 : decode cX5_befalls 36 = .ok (.aload_n 0, 1) := dk_42 (dk_at dksX5_befalls_1 14 rfl rfl)
theorem dX5_befalls_37 : decode cX5_befalls 37 = .ok (.getfield 34, 3) := dk_180 0 34 (dk_at dksX5_befalls_1 15 rfl rfl)
theorem dX5_befalls_40 : decode cX5_befalls 40 = .ok (.iload_n 2, 1) := dk_28 (dk_at dksX5_befalls_1 18 rfl rfl)
theorem dX5_befalls_41 : decode cX5_befalls 41 = .ok (.iaload, 1) := dk_46 (dk_at dksX5_befalls_1 19 rfl rfl)
theorem dX5_befalls_42 : decode cX5_befalls 42 = .ok (.ifCond .ne 22, 3) := dk_154 0 22 (dk_at dksX5_befalls_1 20 rfl rfl)
theorem dX5_befalls_45 : decode cX5_befalls 45 = .ok (.aload_n 0, 1) := dk_42 (dk_at dksX5_befalls_1 23 rfl rfl)
theorem dX5_befalls_46 : decode cX5_befalls 46 = .ok (.getfield 40, 3) := dk_180 0 40 (dk_at dksX5_befalls_2 0 rfl rfl)
theorem dX5_befalls_49 : decode cX5_befalls 49 = .ok (.iload_n 2, 1) := dk_28 (dk_at dksX5_befalls_2 3 rfl rfl)
theorem dX5_befalls_50 : decode cX5_befalls 50 = .ok (.iaload, 1) := dk_46 (dk_at dksX5_befalls_2 4 rfl rfl)
theorem dX5_befalls_51 : decode cX5_befalls 51 = .ok (.bipush 30, 2) := dk_16 30 (dk_at dksX5_befalls_2 5 rfl rfl)
theorem dX5_befalls_53 : decode cX5_befalls 53 = .ok (.aload_n 0, 1) := dk_42 (dk_at dksX5_befalls_2 7 rfl rfl)
theorem dX5_befalls_54 : decode cX5_befalls 54 = .ok (.getfield 197, 3) := dk_180 0 197 (dk_at dksX5_befalls_2 8 rfl rfl)
theorem dX5_befalls_57 : decode cX5_befalls 57 = .ok (.isub, 1) := dk_100 (dk_at dksX5_befalls_2 11 rfl rfl)
theorem dX5_befalls_58 : decode cX5_befalls 58 = .ok (.invokestatic 200, 3) := dk_184 0 200 (dk_at dksX5_befalls_2 12 rfl rfl)
theorem dX5_befalls_61 : decode cX5_befalls 61 = .ok (.goto 4, 3) := dk_167 0 4 (dk_at dksX5_befalls_2 15 rfl rfl)
theorem dX5_befalls_64 : decode cX5_befalls 64 = .ok (.iconst 0, 1) := dk_3 (dk_at dksX5_befalls_2 18 rfl rfl)
theorem dX5_befalls_65 : decode cX5_befalls 65 = .ok (.istore_n 3, 1) := dk_62 (dk_at dksX5_befalls_2 19 rfl rfl)
theorem dX5_befalls_66 : decode cX5_befalls 66 = .ok (.aload_n 0, 1) := dk_42 (dk_at dksX5_befalls_2 20 rfl rfl)
theorem dX5_befalls_67 : decode cX5_befalls 67 = .ok (.dup, 1) := dk_89 (dk_at dksX5_befalls_2 21 rfl rfl)
theorem dX5_befalls_68 : decode cX5_befalls 68 = .ok (.getfield 197, 3) := dk_180 0 197 (dk_at dksX5_befalls_3 0 rfl rfl)
theorem dX5_befalls_71 : decode cX5_befalls 71 = .ok (.iload_n 3, 1) := dk_29 (dk_at dksX5_befalls_3 3 rfl rfl)
theorem dX5_befalls_72 : decode cX5_befalls 72 = .ok (.iadd, 1) := dk_96 (dk_at dksX5_befalls_3 4 rfl rfl)
theorem dX5_befalls_73 : decode cX5_befalls 73 = .ok (.putfield 197, 3) := dk_181 0 197 (dk_at dksX5_befalls_3 5 rfl rfl)
theorem dX5_befalls_76 : decode cX5_befalls 76 = .ok (.aload_n 0, 1) := dk_42 (dk_at dksX5_befalls_3 8 rfl rfl)
theorem dX5_befalls_77 : decode cX5_befalls 77 = .ok (.aload_n 0, 1) := dk_42 (dk_at dksX5_befalls_3 9 rfl rfl)
theorem dX5_befalls_78 : decode cX5_befalls 78 = .ok (.getfield 203, 3) := dk_180 0 203 (dk_at dksX5_befalls_3 10 rfl rfl)
theorem dX5_befalls_81 : decode cX5_befalls 81 = .ok (.iconst 4, 1) := dk_7 (dk_at dksX5_befalls_3 13 rfl rfl)
theorem dX5_befalls_82 : decode cX5_befalls 82 = .ok (.iload_n 3, 1) := dk_29 (dk_at dksX5_befalls_3 14 rfl rfl)
theorem dX5_befalls_83 : decode cX5_befalls 83 = .ok (.imul, 1) := dk_104 (dk_at dksX5_befalls_3 15 rfl rfl)
theorem dX5_befalls_84 : decode cX5_befalls 84 = .ok (.if_icmp .ge 7, 3) := dk_162 0 7 (dk_at dksX5_befalls_3 16 rfl rfl)
theorem dX5_befalls_87 : decode cX5_befalls 87 = .ok (.iconst 0, 1) := dk_3 (dk_at dksX5_befalls_3 19 rfl rfl)
theorem dX5_befalls_88 : decode cX5_befalls 88 = .ok (.goto 11, 3) := dk_167 0 11 (dk_at dksX5_befalls_3 20 rfl rfl)
theorem dX5_befalls_91 : decode cX5_befalls 91 = .ok (.aload_n 0, 1) := dk_42 (dk_at dksX5_befalls_3 23 rfl rfl)
theorem dX5_befalls_92 : decode cX5_befalls 92 = .ok (.getfield 203, 3) := dk_180 0 203 (dk_at dksX5_befalls_4 0 rfl rfl)
theorem dX5_befalls_95 : decode cX5_befalls 95 = .ok (.iconst 4, 1) := dk_7 (dk_at dksX5_befalls_4 3 rfl rfl)
theorem dX5_befalls_96 : decode cX5_befalls 96 = .ok (.iload_n 3, 1) := dk_29 (dk_at dksX5_befalls_4 4 rfl rfl)
theorem dX5_befalls_97 : decode cX5_befalls 97 = .ok (.imul, 1) := dk_104 (dk_at dksX5_befalls_4 5 rfl rfl)
theorem dX5_befalls_98 : decode cX5_befalls 98 = .ok (.isub, 1) := dk_100 (dk_at dksX5_befalls_4 6 rfl rfl)
theorem dX5_befalls_99 : decode cX5_befalls 99 = .ok (.putfield 203, 3) := dk_181 0 203 (dk_at dksX5_befalls_4 7 rfl rfl)
theorem dX5_befalls_102 : decode cX5_befalls 102 = .ok (.aload_n 0, 1) := dk_42 (dk_at dksX5_befalls_4 10 rfl rfl)
theorem dX5_befalls_103 : decode cX5_befalls 103 = .ok (.aload_n 0, 1) := dk_42 (dk_at dksX5_befalls_4 11 rfl rfl)
theorem dX5_befalls_104 : decode cX5_befalls 104 = .ok (.getfield 34, 3) := dk_180 0 34 (dk_at dksX5_befalls_4 12 rfl rfl)
theorem dX5_befalls_107 : decode cX5_befalls 107 = .ok (.iload_n 2, 1) := dk_28 (dk_at dksX5_befalls_4 15 rfl rfl)
theorem dX5_befalls_108 : decode cX5_befalls 108 = .ok (.iaload, 1) := dk_46 (dk_at dksX5_befalls_4 16 rfl rfl)
theorem dX5_befalls_109 : decode cX5_befalls 109 = .ok (.iconst 1, 1) := dk_4 (dk_at dksX5_befalls_4 17 rfl rfl)
theorem dX5_befalls_110 : decode cX5_befalls 110 = .ok (.if_icmp .ne 22, 3) := dk_160 0 22 (dk_at dksX5_befalls_4 18 rfl rfl)
theorem dX5_befalls_113 : decode cX5_befalls 113 = .ok (.aload_n 0, 1) := dk_42 (dk_at dksX5_befalls_4 21 rfl rfl)
theorem dX5_befalls_114 : decode cX5_befalls 114 = .ok (.getfield 206, 3) := dk_180 0 206 (dk_at dksX5_befalls_5 0 rfl rfl)
theorem dX5_befalls_117 : decode cX5_befalls 117 = .ok (.aload_n 0, 1) := dk_42 (dk_at dksX5_befalls_5 3 rfl rfl)
theorem dX5_befalls_118 : decode cX5_befalls 118 = .ok (.getfield 40, 3) := dk_180 0 40 (dk_at dksX5_befalls_5 4 rfl rfl)
theorem dX5_befalls_121 : decode cX5_befalls 121 = .ok (.iload_n 2, 1) := dk_28 (dk_at dksX5_befalls_5 7 rfl rfl)
theorem dX5_befalls_122 : decode cX5_befalls 122 = .ok (.iaload, 1) := dk_46 (dk_at dksX5_befalls_5 8 rfl rfl)
theorem dX5_befalls_123 : decode cX5_befalls 123 = .ok (.iadd, 1) := dk_96 (dk_at dksX5_befalls_5 9 rfl rfl)
theorem dX5_befalls_124 : decode cX5_befalls 124 = .ok (.bipush 40, 2) := dk_16 40 (dk_at dksX5_befalls_5 10 rfl rfl)
theorem dX5_befalls_126 : decode cX5_befalls 126 = .ok (.invokestatic 200, 3) := dk_184 0 200 (dk_at dksX5_befalls_5 12 rfl rfl)
theorem dX5_befalls_129 : decode cX5_befalls 129 = .ok (.goto 7, 3) := dk_167 0 7 (dk_at dksX5_befalls_5 15 rfl rfl)
theorem dX5_befalls_132 : decode cX5_befalls 132 = .ok (.aload_n 0, 1) := dk_42 (dk_at dksX5_befalls_5 18 rfl rfl)
theorem dX5_befalls_133 : decode cX5_befalls 133 = .ok (.getfield 206, 3) := dk_180 0 206 (dk_at dksX5_befalls_5 19 rfl rfl)
theorem dX5_befalls_136 : decode cX5_befalls 136 = .ok (.putfield 206, 3) := dk_181 0 206 (dk_at dksX5_befalls_6 0 rfl rfl)
theorem dX5_befalls_139 : decode cX5_befalls 139 = .ok (.aload_n 0, 1) := dk_42 (dk_at dksX5_befalls_6 3 rfl rfl)
theorem dX5_befalls_140 : decode cX5_befalls 140 = .ok (.aload_n 0, 1) := dk_42 (dk_at dksX5_befalls_6 4 rfl rfl)
theorem dX5_befalls_141 : decode cX5_befalls 141 = .ok (.getfield 34, 3) := dk_180 0 34 (dk_at dksX5_befalls_6 5 rfl rfl)
theorem dX5_befalls_144 : decode cX5_befalls 144 = .ok (.iload_n 2, 1) := dk_28 (dk_at dksX5_befalls_6 8 rfl rfl)
theorem dX5_befalls_145 : decode cX5_befalls 145 = .ok (.iaload, 1) := dk_46 (dk_at dksX5_befalls_6 9 rfl rfl)
theorem dX5_befalls_146 : decode cX5_befalls 146 = .ok (.iconst 2, 1) := dk_5 (dk_at dksX5_befalls_6 10 rfl rfl)
theorem dX5_befalls_147 : decode cX5_befalls 147 = .ok (.if_icmp .ne 7, 3) := dk_160 0 7 (dk_at dksX5_befalls_6 11 rfl rfl)
theorem dX5_befalls_150 : decode cX5_befalls 150 = .ok (.iconst 1, 1) := dk_4 (dk_at dksX5_befalls_6 14 rfl rfl)
theorem dX5_befalls_151 : decode cX5_befalls 151 = .ok (.goto 7, 3) := dk_167 0 7 (dk_at dksX5_befalls_6 15 rfl rfl)
theorem dX5_befalls_154 : decode cX5_befalls 154 = .ok (.aload_n 0, 1) := dk_42 (dk_at dksX5_befalls_6 18 rfl rfl)
theorem dX5_befalls_155 : decode cX5_befalls 155 = .ok (.getfield 190, 3) := dk_180 0 190 (dk_at dksX5_befalls_6 19 rfl rfl)
theorem dX5_befalls_158 : decode cX5_befalls 158 = .ok (.putfield 190, 3) := dk_181 0 190 (dk_at dksX5_befalls_7 0 rfl rfl)
theorem dX5_befalls_161 : decode cX5_befalls 161 = .ok (.iinc 2 1, 3) := dk_132 2 1 (dk_at dksX5_befalls_7 3 rfl rfl)
theorem dX5_befalls_164 : decode cX5_befalls 164 = .ok (.goto (-157), 3) := dk_167 255 99 (dk_at dksX5_befalls_7 6 rfl rfl)
theorem dX5_befalls_167 : decode cX5_befalls 167 = .ok (.return_, 1) := dk_177 (dk_at dksX5_befalls_7 9 rfl rfl)
abbrev cX5_isIn : ByteArray := prog_15_method_4_code
def yX5_isIn : MethodName := ⟨RX5, "isIn", "(II)Z"⟩
def dkwX5_isIn_0 : List UInt8 := [26, 27, 122, 4, 126, 4, 160, 0, 7, 4, 167, 0, 4, 3, 172]
abbrev dktX5_isIn_0 : List UInt8 := dkwX5_isIn_0 ++ []
theorem dksX5_isIn_0 : cX5_isIn.data.toList.drop 0 = dktX5_isIn_0 := by decide +kernel
theorem dX5_isIn_0 : decode cX5_isIn 0 = .ok (.iload_n 0, 1) := dk_26 (dk_at dksX5_isIn_0 0 rfl rfl)
theorem dX5_isIn_1 : decode cX5_isIn 1 = .ok (.iload_n 1, 1) := dk_27 (dk_at dksX5_isIn_0 1 rfl rfl)
theorem dX5_isIn_2 : decode cX5_isIn 2 = .ok (.ishr, 1) := dk_122 (dk_at dksX5_isIn_0 2 rfl rfl)
theorem dX5_isIn_3 : decode cX5_isIn 3 = .ok (.iconst 1, 1) := dk_4 (dk_at dksX5_isIn_0 3 rfl rfl)
theorem dX5_isIn_4 : decode cX5_isIn 4 = .ok (.iand, 1) := dk_126 (dk_at dksX5_isIn_0 4 rfl rfl)
theorem dX5_isIn_5 : decode cX5_isIn 5 = .ok (.iconst 1, 1) := dk_4 (dk_at dksX5_isIn_0 5 rfl rfl)
theorem dX5_isIn_6 : decode cX5_isIn 6 = .ok (.if_icmp .ne 7, 3) := dk_160 0 7 (dk_at dksX5_isIn_0 6 rfl rfl)
theorem dX5_isIn_9 : decode cX5_isIn 9 = .ok (.iconst 1, 1) := dk_4 (dk_at dksX5_isIn_0 9 rfl rfl)
theorem dX5_isIn_10 : decode cX5_isIn 10 = .ok (.goto 4, 3) := dk_167 0 4 (dk_at dksX5_isIn_0 10 rfl rfl)
theorem dX5_isIn_13 : decode cX5_isIn 13 = .ok (.iconst 0, 1) := dk_3 (dk_at dksX5_isIn_0 13 rfl rfl)
theorem dX5_isIn_14 : decode cX5_isIn 14 = .ok (.ireturn, 1) := dk_172 (dk_at dksX5_isIn_0 14 rfl rfl)
abbrev cX5_less : ByteArray := prog_15_method_6_code
def yX5_less : MethodName := ⟨RX5, "less", "(II)I"⟩
def dkwX5_less_0 : List UInt8 := [26, 27, 162, 0, 7, 26, 167, 0, 4, 27, 172]
abbrev dktX5_less_0 : List UInt8 := dkwX5_less_0 ++ []
theorem dksX5_less_0 : cX5_less.data.toList.drop 0 = dktX5_less_0 := by decide +kernel
theorem dX5_less_0 : decode cX5_less 0 = .ok (.iload_n 0, 1) := dk_26 (dk_at dksX5_less_0 0 rfl rfl)
theorem dX5_less_1 : decode cX5_less 1 = .ok (.iload_n 1, 1) := dk_27 (dk_at dksX5_less_0 1 rfl rfl)
theorem dX5_less_2 : decode cX5_less 2 = .ok (.if_icmp .ge 7, 3) := dk_162 0 7 (dk_at dksX5_less_0 2 rfl rfl)
theorem dX5_less_5 : decode cX5_less 5 = .ok (.iload_n 0, 1) := dk_26 (dk_at dksX5_less_0 5 rfl rfl)
theorem dX5_less_6 : decode cX5_less 6 = .ok (.goto 4, 3) := dk_167 0 4 (dk_at dksX5_less_0 6 rfl rfl)
theorem dX5_less_9 : decode cX5_less 9 = .ok (.iload_n 1, 1) := dk_27 (dk_at dksX5_less_0 9 rfl rfl)
theorem dX5_less_10 : decode cX5_less 10 = .ok (.ireturn, 1) := dk_172 (dk_at dksX5_less_0 10 rfl rfl)
abbrev cX5_fireAt : ByteArray := prog_15_method_32_code
def yX5_fireAt : MethodName := ⟨RX5, "fireAt", "(I)I"⟩
def dkwX5_fireAt_5 : List UInt8 := [172]
abbrev dktX5_fireAt_5 : List UInt8 := dkwX5_fireAt_5 ++ []
def dkwX5_fireAt_4 : List UInt8 := [3, 96, 61, 132, 3, 1, 167, 255, 162, 42, 180, 0, 190, 4, 160, 0, 9, 5, 28, 104, 167, 0, 4, 28]
abbrev dktX5_fireAt_4 : List UInt8 := dkwX5_fireAt_4 ++ dktX5_fireAt_5
def dkwX5_fireAt_3 : List UInt8 := [180, 0, 22, 29, 46, 42, 180, 0, 19, 29, 46, 4, 160, 0, 7, 7, 167, 0, 4, 6, 104, 167, 0, 4]
abbrev dktX5_fireAt_3 : List UInt8 := dkwX5_fireAt_3 ++ dktX5_fireAt_4
def dkwX5_fireAt_2 : List UInt8 := [167, 0, 5, 16, 9, 54, 5, 28, 21, 4, 3, 21, 5, 4, 100, 184, 0, 119, 153, 0, 28, 42]
abbrev dktX5_fireAt_2 : List UInt8 := dkwX5_fireAt_2 ++ dktX5_fireAt_3
def dkwX5_fireAt_1 : List UInt8 := [180, 0, 19, 29, 46, 154, 0, 7, 6, 167, 0, 19, 42, 180, 0, 19, 29, 46, 4, 160, 0, 7, 8]
abbrev dktX5_fireAt_1 : List UInt8 := dkwX5_fireAt_1 ++ dktX5_fireAt_2
def dkwX5_fireAt_0 : List UInt8 := [3, 61, 3, 62, 29, 42, 180, 0, 134, 162, 0, 92, 27, 42, 180, 0, 16, 29, 46, 100, 54, 4, 42]
abbrev dktX5_fireAt_0 : List UInt8 := dkwX5_fireAt_0 ++ dktX5_fireAt_1
theorem dksX5_fireAt_0 : cX5_fireAt.data.toList.drop 0 = dktX5_fireAt_0 := by decide +kernel
theorem dksX5_fireAt_1 : cX5_fireAt.data.toList.drop 23 = dktX5_fireAt_1 := dk_seg dksX5_fireAt_0 23 rfl rfl
theorem dksX5_fireAt_2 : cX5_fireAt.data.toList.drop 46 = dktX5_fireAt_2 := dk_seg dksX5_fireAt_1 23 rfl rfl
theorem dksX5_fireAt_3 : cX5_fireAt.data.toList.drop 68 = dktX5_fireAt_3 := dk_seg dksX5_fireAt_2 22 rfl rfl
theorem dksX5_fireAt_4 : cX5_fireAt.data.toList.drop 92 = dktX5_fireAt_4 := dk_seg dksX5_fireAt_3 24 rfl rfl
theorem dksX5_fireAt_5 : cX5_fireAt.data.toList.drop 116 = dktX5_fireAt_5 := dk_seg dksX5_fireAt_4 24 rfl rfl
theorem dX5_fireAt_0 : decode cX5_fireAt 0 = .ok (.iconst 0, 1) := dk_3 (dk_at dksX5_fireAt_0 0 rfl rfl)
theorem dX5_fireAt_1 : decode cX5_fireAt 1 = .ok (.istore_n 2, 1) := dk_61 (dk_at dksX5_fireAt_0 1 rfl rfl)
theorem dX5_fireAt_2 : decode cX5_fireAt 2 = .ok (.iconst 0, 1) := dk_3 (dk_at dksX5_fireAt_0 2 rfl rfl)
theorem dX5_fireAt_3 : decode cX5_fireAt 3 = .ok (.istore_n 3, 1) := dk_62 (dk_at dksX5_fireAt_0 3 rfl rfl)
theorem dX5_fireAt_4 : decode cX5_fireAt 4 = .ok (.iload_n 3, 1) := dk_29 (dk_at dksX5_fireAt_0 4 rfl rfl)
theorem dX5_fireAt_5 : decode cX5_fireAt 5 = .ok (.aload_n 0, 1) := dk_42 (dk_at dksX5_fireAt_0 5 rfl rfl)
theorem dX5_fireAt_6 : decode cX5_fireAt 6 = .ok (.getfield 134, 3) := dk_180 0 134 (dk_at dksX5_fireAt_0 6 rfl rfl)
theorem dX5_fireAt_9 : decode cX5_fireAt 9 = .ok (.if_icmp .ge 92, 3) := dk_162 0 92 (dk_at dksX5_fireAt_0 9 rfl rfl)
theorem dX5_fireAt_12 : decode cX5_fireAt 12 = .ok (.iload_n 1, 1) := dk_27 (dk_at dksX5_fireAt_0 12 rfl rfl)
theorem dX5_fireAt_13 : decode cX5_fireAt 13 = .ok (.aload_n 0, 1) := dk_42 (dk_at dksX5_fireAt_0 13 rfl rfl)
theorem dX5_fireAt_14 : decode cX5_fireAt 14 = .ok (.getfield 16, 3) := dk_180 0 16 (dk_at dksX5_fireAt_0 14 rfl rfl)
theorem dX5_fireAt_17 : decode cX5_fireAt 17 = .ok (.iload_n 3, 1) := dk_29 (dk_at dksX5_fireAt_0 17 rfl rfl)
theorem dX5_fireAt_18 : decode cX5_fireAt 18 = .ok (.iaload, 1) := dk_46 (dk_at dksX5_fireAt_0 18 rfl rfl)
theorem dX5_fireAt_19 : decode cX5_fireAt 19 = .ok (.isub, 1) := dk_100 (dk_at dksX5_fireAt_0 19 rfl rfl)
theorem dX5_fireAt_20 : decode cX5_fireAt 20 = .ok (.istore 4, 2) := dk_54 4 (dk_at dksX5_fireAt_0 20 rfl rfl)
theorem dX5_fireAt_22 : decode cX5_fireAt 22 = .ok (.aload_n 0, 1) := dk_42 (dk_at dksX5_fireAt_0 22 rfl rfl)
theorem dX5_fireAt_23 : decode cX5_fireAt 23 = .ok (.getfield 19, 3) := dk_180 0 19 (dk_at dksX5_fireAt_1 0 rfl rfl)
theorem dX5_fireAt_26 : decode cX5_fireAt 26 = .ok (.iload_n 3, 1) := dk_29 (dk_at dksX5_fireAt_1 3 rfl rfl)
theorem dX5_fireAt_27 : decode cX5_fireAt 27 = .ok (.iaload, 1) := dk_46 (dk_at dksX5_fireAt_1 4 rfl rfl)
theorem dX5_fireAt_28 : decode cX5_fireAt 28 = .ok (.ifCond .ne 7, 3) := dk_154 0 7 (dk_at dksX5_fireAt_1 5 rfl rfl)
theorem dX5_fireAt_31 : decode cX5_fireAt 31 = .ok (.iconst 3, 1) := dk_6 (dk_at dksX5_fireAt_1 8 rfl rfl)
theorem dX5_fireAt_32 : decode cX5_fireAt 32 = .ok (.goto 19, 3) := dk_167 0 19 (dk_at dksX5_fireAt_1 9 rfl rfl)
theorem dX5_fireAt_35 : decode cX5_fireAt 35 = .ok (.aload_n 0, 1) := dk_42 (dk_at dksX5_fireAt_1 12 rfl rfl)
theorem dX5_fireAt_36 : decode cX5_fireAt 36 = .ok (.getfield 19, 3) := dk_180 0 19 (dk_at dksX5_fireAt_1 13 rfl rfl)
theorem dX5_fireAt_39 : decode cX5_fireAt 39 = .ok (.iload_n 3, 1) := dk_29 (dk_at dksX5_fireAt_1 16 rfl rfl)
theorem dX5_fireAt_40 : decode cX5_fireAt 40 = .ok (.iaload, 1) := dk_46 (dk_at dksX5_fireAt_1 17 rfl rfl)
theorem dX5_fireAt_41 : decode cX5_fireAt 41 = .ok (.iconst 1, 1) := dk_4 (dk_at dksX5_fireAt_1 18 rfl rfl)
theorem dX5_fireAt_42 : decode cX5_fireAt 42 = .ok (.if_icmp .ne 7, 3) := dk_160 0 7 (dk_at dksX5_fireAt_1 19 rfl rfl)
theorem dX5_fireAt_45 : decode cX5_fireAt 45 = .ok (.iconst 5, 1) := dk_8 (dk_at dksX5_fireAt_1 22 rfl rfl)
theorem dX5_fireAt_46 : decode cX5_fireAt 46 = .ok (.goto 5, 3) := dk_167 0 5 (dk_at dksX5_fireAt_2 0 rfl rfl)
theorem dX5_fireAt_49 : decode cX5_fireAt 49 = .ok (.bipush 9, 2) := dk_16 9 (dk_at dksX5_fireAt_2 3 rfl rfl)
theorem dX5_fireAt_51 : decode cX5_fireAt 51 = .ok (.istore 5, 2) := dk_54 5 (dk_at dksX5_fireAt_2 5 rfl rfl)
theorem dX5_fireAt_53 : decode cX5_fireAt 53 = .ok (.iload_n 2, 1) := dk_28 (dk_at dksX5_fireAt_2 7 rfl rfl)
theorem dX5_fireAt_54 : decode cX5_fireAt 54 = .ok (.iload 4, 2) := dk_21 4 (dk_at dksX5_fireAt_2 8 rfl rfl)
theorem dX5_fireAt_56 : decode cX5_fireAt 56 = .ok (.iconst 0, 1) := dk_3 (dk_at dksX5_fireAt_2 10 rfl rfl)
theorem dX5_fireAt_57 : decode cX5_fireAt 57 = .ok (.iload 5, 2) := dk_21 5 (dk_at dksX5_fireAt_2 11 rfl rfl)
theorem dX5_fireAt_59 : decode cX5_fireAt 59 = .ok (.iconst 1, 1) := dk_4 (dk_at dksX5_fireAt_2 13 rfl rfl)
theorem dX5_fireAt_60 : decode cX5_fireAt 60 = .ok (.isub, 1) := dk_100 (dk_at dksX5_fireAt_2 14 rfl rfl)
theorem dX5_fireAt_61 : decode cX5_fireAt 61 = .ok (.invokestatic 119, 3) := dk_184 0 119 (dk_at dksX5_fireAt_2 15 rfl rfl)
theorem dX5_fireAt_64 : decode cX5_fireAt 64 = .ok (.ifCond .eq 28, 3) := dk_153 0 28 (dk_at dksX5_fireAt_2 18 rfl rfl)
theorem dX5_fireAt_67 : decode cX5_fireAt 67 = .ok (.aload_n 0, 1) := dk_42 (dk_at dksX5_fireAt_2 21 rfl rfl)
theorem dX5_fireAt_68 : decode cX5_fireAt 68 = .ok (.getfield 22, 3) := dk_180 0 22 (dk_at dksX5_fireAt_3 0 rfl rfl)
theorem dX5_fireAt_71 : decode cX5_fireAt 71 = .ok (.iload_n 3, 1) := dk_29 (dk_at dksX5_fireAt_3 3 rfl rfl)
theorem dX5_fireAt_72 : decode cX5_fireAt 72 = .ok (.iaload, 1) := dk_46 (dk_at dksX5_fireAt_3 4 rfl rfl)
theorem dX5_fireAt_73 : decode cX5_fireAt 73 = .ok (.aload_n 0, 1) := dk_42 (dk_at dksX5_fireAt_3 5 rfl rfl)
theorem dX5_fireAt_74 : decode cX5_fireAt 74 = .ok (.getfield 19, 3) := dk_180 0 19 (dk_at dksX5_fireAt_3 6 rfl rfl)
theorem dX5_fireAt_77 : decode cX5_fireAt 77 = .ok (.iload_n 3, 1) := dk_29 (dk_at dksX5_fireAt_3 9 rfl rfl)
theorem dX5_fireAt_78 : decode cX5_fireAt 78 = .ok (.iaload, 1) := dk_46 (dk_at dksX5_fireAt_3 10 rfl rfl)
theorem dX5_fireAt_79 : decode cX5_fireAt 79 = .ok (.iconst 1, 1) := dk_4 (dk_at dksX5_fireAt_3 11 rfl rfl)
theorem dX5_fireAt_80 : decode cX5_fireAt 80 = .ok (.if_icmp .ne 7, 3) := dk_160 0 7 (dk_at dksX5_fireAt_3 12 rfl rfl)
theorem dX5_fireAt_83 : decode cX5_fireAt 83 = .ok (.iconst 4, 1) := dk_7 (dk_at dksX5_fireAt_3 15 rfl rfl)
theorem dX5_fireAt_84 : decode cX5_fireAt 84 = .ok (.goto 4, 3) := dk_167 0 4 (dk_at dksX5_fireAt_3 16 rfl rfl)
theorem dX5_fireAt_87 : decode cX5_fireAt 87 = .ok (.iconst 3, 1) := dk_6 (dk_at dksX5_fireAt_3 19 rfl rfl)
theorem dX5_fireAt_88 : decode cX5_fireAt 88 = .ok (.imul, 1) := dk_104 (dk_at dksX5_fireAt_3 20 rfl rfl)
theorem dX5_fireAt_89 : decode cX5_fireAt 89 = .ok (.goto 4, 3) := dk_167 0 4 (dk_at dksX5_fireAt_3 21 rfl rfl)
theorem dX5_fireAt_92 : decode cX5_fireAt 92 = .ok (.iconst 0, 1) := dk_3 (dk_at dksX5_fireAt_4 0 rfl rfl)
theorem dX5_fireAt_93 : decode cX5_fireAt 93 = .ok (.iadd, 1) := dk_96 (dk_at dksX5_fireAt_4 1 rfl rfl)
theorem dX5_fireAt_94 : decode cX5_fireAt 94 = .ok (.istore_n 2, 1) := dk_61 (dk_at dksX5_fireAt_4 2 rfl rfl)
theorem dX5_fireAt_95 : decode cX5_fireAt 95 = .ok (.iinc 3 1, 3) := dk_132 3 1 (dk_at dksX5_fireAt_4 3 rfl rfl)
theorem dX5_fireAt_98 : decode cX5_fireAt 98 = .ok (.goto (-94), 3) := dk_167 255 162 (dk_at dksX5_fireAt_4 6 rfl rfl)
theorem dX5_fireAt_101 : decode cX5_fireAt 101 = .ok (.aload_n 0, 1) := dk_42 (dk_at dksX5_fireAt_4 9 rfl rfl)
theorem dX5_fireAt_102 : decode cX5_fireAt 102 = .ok (.getfield 190, 3) := dk_180 0 190 (dk_at dksX5_fireAt_4 10 rfl rfl)
theorem dX5_fireAt_105 : decode cX5_fireAt 105 = .ok (.iconst 1, 1) := dk_4 (dk_at dksX5_fireAt_4 13 rfl rfl)
theorem dX5_fireAt_106 : decode cX5_fireAt 106 = .ok (.if_icmp .ne 9, 3) := dk_160 0 9 (dk_at dksX5_fireAt_4 14 rfl rfl)
theorem dX5_fireAt_109 : decode cX5_fireAt 109 = .ok (.iconst 2, 1) := dk_5 (dk_at dksX5_fireAt_4 17 rfl rfl)
theorem dX5_fireAt_110 : decode cX5_fireAt 110 = .ok (.iload_n 2, 1) := dk_28 (dk_at dksX5_fireAt_4 18 rfl rfl)
theorem dX5_fireAt_111 : decode cX5_fireAt 111 = .ok (.imul, 1) := dk_104 (dk_at dksX5_fireAt_4 19 rfl rfl)
theorem dX5_fireAt_112 : decode cX5_fireAt 112 = .ok (.goto 4, 3) := dk_167 0 4 (dk_at dksX5_fireAt_4 20 rfl rfl)
theorem dX5_fireAt_115 : decode cX5_fireAt 115 = .ok (.iload_n 2, 1) := dk_28 (dk_at dksX5_fireAt_4 23 rfl rfl)
theorem dX5_fireAt_116 : decode cX5_fireAt 116 = .ok (.ireturn, 1) := dk_172 (dk_at dksX5_fireAt_5 0 rfl rfl)
abbrev cX5_comes : ByteArray := prog_15_method_34_code
def yX5_comes : MethodName := ⟨RX5, "comes", "(I)V"⟩
def dkwX5_comes_3 : List UInt8 := [167, 255, 219, 177]
abbrev dktX5_comes_3 : List UInt8 := dkwX5_comes_3 ++ []
def dkwX5_comes_2 : List UInt8 := [46, 5, 160, 0, 19, 42, 180, 0, 61, 28, 46, 27, 160, 0, 9, 42, 28, 27, 182, 0, 212, 132, 2, 1]
abbrev dktX5_comes_2 : List UInt8 := dkwX5_comes_2 ++ dktX5_comes_3
def dkwX5_comes_1 : List UInt8 := [182, 0, 212, 132, 2, 1, 167, 255, 229, 3, 61, 28, 42, 180, 0, 181, 162, 0, 35, 42, 180, 0, 55, 28]
abbrev dktX5_comes_1 : List UInt8 := dkwX5_comes_1 ++ dktX5_comes_2
def dkwX5_comes_0 : List UInt8 := [3, 61, 28, 42, 180, 0, 181, 162, 0, 25, 42, 180, 0, 43, 28, 46, 27, 160, 0, 9, 42, 28, 27]
abbrev dktX5_comes_0 : List UInt8 := dkwX5_comes_0 ++ dktX5_comes_1
theorem dksX5_comes_0 : cX5_comes.data.toList.drop 0 = dktX5_comes_0 := by decide +kernel
theorem dksX5_comes_1 : cX5_comes.data.toList.drop 23 = dktX5_comes_1 := dk_seg dksX5_comes_0 23 rfl rfl
theorem dksX5_comes_2 : cX5_comes.data.toList.drop 47 = dktX5_comes_2 := dk_seg dksX5_comes_1 24 rfl rfl
theorem dksX5_comes_3 : cX5_comes.data.toList.drop 71 = dktX5_comes_3 := dk_seg dksX5_comes_2 24 rfl rfl
theorem dX5_comes_0 : decode cX5_comes 0 = .ok (.iconst 0, 1) := dk_3 (dk_at dksX5_comes_0 0 rfl rfl)
theorem dX5_comes_1 : decode cX5_comes 1 = .ok (.istore_n 2, 1) := dk_61 (dk_at dksX5_comes_0 1 rfl rfl)
theorem dX5_comes_2 : decode cX5_comes 2 = .ok (.iload_n 2, 1) := dk_28 (dk_at dksX5_comes_0 2 rfl rfl)
theorem dX5_comes_3 : decode cX5_comes 3 = .ok (.aload_n 0, 1) := dk_42 (dk_at dksX5_comes_0 3 rfl rfl)
theorem dX5_comes_4 : decode cX5_comes 4 = .ok (.getfield 181, 3) := dk_180 0 181 (dk_at dksX5_comes_0 4 rfl rfl)
theorem dX5_comes_7 : decode cX5_comes 7 = .ok (.if_icmp .ge 25, 3) := dk_162 0 25 (dk_at dksX5_comes_0 7 rfl rfl)
theorem dX5_comes_10 : decode cX5_comes 10 = .ok (.aload_n 0, 1) := dk_42 (dk_at dksX5_comes_0 10 rfl rfl)
theorem dX5_comes_11 : decode cX5_comes 11 = .ok (.getfield 43, 3) := dk_180 0 43 (dk_at dksX5_comes_0 11 rfl rfl)
theorem dX5_comes_14 : decode cX5_comes 14 = .ok (.iload_n 2, 1) := dk_28 (dk_at dksX5_comes_0 14 rfl rfl)
theorem dX5_comes_15 : decode cX5_comes 15 = .ok (.iaload, 1) := dk_46 (dk_at dksX5_comes_0 15 rfl rfl)
theorem dX5_comes_16 : decode cX5_comes 16 = .ok (.iload_n 1, 1) := dk_27 (dk_at dksX5_comes_0 16 rfl rfl)
theorem dX5_comes_17 : decode cX5_comes 17 = .ok (.if_icmp .ne 9, 3) := dk_160 0 9 (dk_at dksX5_comes_0 17 rfl rfl)
theorem dX5_comes_20 : decode cX5_comes 20 = .ok (.aload_n 0, 1) := dk_42 (dk_at dksX5_comes_0 20 rfl rfl)
theorem dX5_comes_21 : decode cX5_comes 21 = .ok (.iload_n 2, 1) := dk_28 (dk_at dksX5_comes_0 21 rfl rfl)
theorem dX5_comes_22 : decode cX5_comes 22 = .ok (.iload_n 1, 1) := dk_27 (dk_at dksX5_comes_0 22 rfl rfl)
theorem dX5_comes_23 : decode cX5_comes 23 = .ok (.invokevirtual 212, 3) := dk_182 0 212 (dk_at dksX5_comes_1 0 rfl rfl)
theorem dX5_comes_26 : decode cX5_comes 26 = .ok (.iinc 2 1, 3) := dk_132 2 1 (dk_at dksX5_comes_1 3 rfl rfl)
theorem dX5_comes_29 : decode cX5_comes 29 = .ok (.goto (-27), 3) := dk_167 255 229 (dk_at dksX5_comes_1 6 rfl rfl)
theorem dX5_comes_32 : decode cX5_comes 32 = .ok (.iconst 0, 1) := dk_3 (dk_at dksX5_comes_1 9 rfl rfl)
theorem dX5_comes_33 : decode cX5_comes 33 = .ok (.istore_n 2, 1) := dk_61 (dk_at dksX5_comes_1 10 rfl rfl)
theorem dX5_comes_34 : decode cX5_comes 34 = .ok (.iload_n 2, 1) := dk_28 (dk_at dksX5_comes_1 11 rfl rfl)
theorem dX5_comes_35 : decode cX5_comes 35 = .ok (.aload_n 0, 1) := dk_42 (dk_at dksX5_comes_1 12 rfl rfl)
theorem dX5_comes_36 : decode cX5_comes 36 = .ok (.getfield 181, 3) := dk_180 0 181 (dk_at dksX5_comes_1 13 rfl rfl)
theorem dX5_comes_39 : decode cX5_comes 39 = .ok (.if_icmp .ge 35, 3) := dk_162 0 35 (dk_at dksX5_comes_1 16 rfl rfl)
theorem dX5_comes_42 : decode cX5_comes 42 = .ok (.aload_n 0, 1) := dk_42 (dk_at dksX5_comes_1 19 rfl rfl)
theorem dX5_comes_43 : decode cX5_comes 43 = .ok (.getfield 55, 3) := dk_180 0 55 (dk_at dksX5_comes_1 20 rfl rfl)
theorem dX5_comes_46 : decode cX5_comes 46 = .ok (.iload_n 2, 1) := dk_28 (dk_at dksX5_comes_1 23 rfl rfl)
theorem dX5_comes_47 : decode cX5_comes 47 = .ok (.iaload, 1) := dk_46 (dk_at dksX5_comes_2 0 rfl rfl)
theorem dX5_comes_48 : decode cX5_comes 48 = .ok (.iconst 2, 1) := dk_5 (dk_at dksX5_comes_2 1 rfl rfl)
theorem dX5_comes_49 : decode cX5_comes 49 = .ok (.if_icmp .ne 19, 3) := dk_160 0 19 (dk_at dksX5_comes_2 2 rfl rfl)
theorem dX5_comes_52 : decode cX5_comes 52 = .ok (.aload_n 0, 1) := dk_42 (dk_at dksX5_comes_2 5 rfl rfl)
theorem dX5_comes_53 : decode cX5_comes 53 = .ok (.getfield 61, 3) := dk_180 0 61 (dk_at dksX5_comes_2 6 rfl rfl)
theorem dX5_comes_56 : decode cX5_comes 56 = .ok (.iload_n 2, 1) := dk_28 (dk_at dksX5_comes_2 9 rfl rfl)
theorem dX5_comes_57 : decode cX5_comes 57 = .ok (.iaload, 1) := dk_46 (dk_at dksX5_comes_2 10 rfl rfl)
theorem dX5_comes_58 : decode cX5_comes 58 = .ok (.iload_n 1, 1) := dk_27 (dk_at dksX5_comes_2 11 rfl rfl)
theorem dX5_comes_59 : decode cX5_comes 59 = .ok (.if_icmp .ne 9, 3) := dk_160 0 9 (dk_at dksX5_comes_2 12 rfl rfl)
theorem dX5_comes_62 : decode cX5_comes 62 = .ok (.aload_n 0, 1) := dk_42 (dk_at dksX5_comes_2 15 rfl rfl)
theorem dX5_comes_63 : decode cX5_comes 63 = .ok (.iload_n 2, 1) := dk_28 (dk_at dksX5_comes_2 16 rfl rfl)
theorem dX5_comes_64 : decode cX5_comes 64 = .ok (.iload_n 1, 1) := dk_27 (dk_at dksX5_comes_2 17 rfl rfl)
theorem dX5_comes_65 : decode cX5_comes 65 = .ok (.invokevirtual 212, 3) := dk_182 0 212 (dk_at dksX5_comes_2 18 rfl rfl)
theorem dX5_comes_68 : decode cX5_comes 68 = .ok (.iinc 2 1, 3) := dk_132 2 1 (dk_at dksX5_comes_2 21 rfl rfl)
theorem dX5_comes_71 : decode cX5_comes 71 = .ok (.goto (-37), 3) := dk_167 255 219 (dk_at dksX5_comes_3 0 rfl rfl)
theorem dX5_comes_74 : decode cX5_comes 74 = .ok (.return_, 1) := dk_177 (dk_at dksX5_comes_3 3 rfl rfl)
abbrev cX5_joins : ByteArray := prog_15_method_33_code
def yX5_joins : MethodName := ⟨RX5, "joins", "(II)V"⟩
def dkwX5_joins_1 : List UInt8 := [27, 4, 79, 42, 180, 0, 64, 27, 28, 79, 177]
abbrev dktX5_joins_1 : List UInt8 := dkwX5_joins_1 ++ []
def dkwX5_joins_0 : List UInt8 := [42, 180, 0, 52, 42, 180, 0, 209, 27, 79, 42, 89, 180, 0, 209, 4, 96, 181, 0, 209, 42, 180, 0, 55]
abbrev dktX5_joins_0 : List UInt8 := dkwX5_joins_0 ++ dktX5_joins_1
theorem dksX5_joins_0 : cX5_joins.data.toList.drop 0 = dktX5_joins_0 := by decide +kernel
theorem dksX5_joins_1 : cX5_joins.data.toList.drop 24 = dktX5_joins_1 := dk_seg dksX5_joins_0 24 rfl rfl
theorem dX5_joins_0 : decode cX5_joins 0 = .ok (.aload_n 0, 1) := dk_42 (dk_at dksX5_joins_0 0 rfl rfl)
theorem dX5_joins_1 : decode cX5_joins 1 = .ok (.getfield 52, 3) := dk_180 0 52 (dk_at dksX5_joins_0 1 rfl rfl)
theorem dX5_joins_4 : decode cX5_joins 4 = .ok (.aload_n 0, 1) := dk_42 (dk_at dksX5_joins_0 4 rfl rfl)
theorem dX5_joins_5 : decode cX5_joins 5 = .ok (.getfield 209, 3) := dk_180 0 209 (dk_at dksX5_joins_0 5 rfl rfl)
theorem dX5_joins_8 : decode cX5_joins 8 = .ok (.iload_n 1, 1) := dk_27 (dk_at dksX5_joins_0 8 rfl rfl)
theorem dX5_joins_9 : decode cX5_joins 9 = .ok (.iastore, 1) := dk_79 (dk_at dksX5_joins_0 9 rfl rfl)
theorem dX5_joins_10 : decode cX5_joins 10 = .ok (.aload_n 0, 1) := dk_42 (dk_at dksX5_joins_0 10 rfl rfl)
theorem dX5_joins_11 : decode cX5_joins 11 = .ok (.dup, 1) := dk_89 (dk_at dksX5_joins_0 11 rfl rfl)
theorem dX5_joins_12 : decode cX5_joins 12 = .ok (.getfield 209, 3) := dk_180 0 209 (dk_at dksX5_joins_0 12 rfl rfl)
theorem dX5_joins_15 : decode cX5_joins 15 = .ok (.iconst 1, 1) := dk_4 (dk_at dksX5_joins_0 15 rfl rfl)
theorem dX5_joins_16 : decode cX5_joins 16 = .ok (.iadd, 1) := dk_96 (dk_at dksX5_joins_0 16 rfl rfl)
theorem dX5_joins_17 : decode cX5_joins 17 = .ok (.putfield 209, 3) := dk_181 0 209 (dk_at dksX5_joins_0 17 rfl rfl)
theorem dX5_joins_20 : decode cX5_joins 20 = .ok (.aload_n 0, 1) := dk_42 (dk_at dksX5_joins_0 20 rfl rfl)
theorem dX5_joins_21 : decode cX5_joins 21 = .ok (.getfield 55, 3) := dk_180 0 55 (dk_at dksX5_joins_0 21 rfl rfl)
theorem dX5_joins_24 : decode cX5_joins 24 = .ok (.iload_n 1, 1) := dk_27 (dk_at dksX5_joins_1 0 rfl rfl)
theorem dX5_joins_25 : decode cX5_joins 25 = .ok (.iconst 1, 1) := dk_4 (dk_at dksX5_joins_1 1 rfl rfl)
theorem dX5_joins_26 : decode cX5_joins 26 = .ok (.iastore, 1) := dk_79 (dk_at dksX5_joins_1 2 rfl rfl)
theorem dX5_joins_27 : decode cX5_joins 27 = .ok (.aload_n 0, 1) := dk_42 (dk_at dksX5_joins_1 3 rfl rfl)
theorem dX5_joins_28 : decode cX5_joins 28 = .ok (.getfield 64, 3) := dk_180 0 64 (dk_at dksX5_joins_1 4 rfl rfl)
theorem dX5_joins_31 : decode cX5_joins 31 = .ok (.iload_n 1, 1) := dk_27 (dk_at dksX5_joins_1 7 rfl rfl)
theorem dX5_joins_32 : decode cX5_joins 32 = .ok (.iload_n 2, 1) := dk_28 (dk_at dksX5_joins_1 8 rfl rfl)
theorem dX5_joins_33 : decode cX5_joins 33 = .ok (.iastore, 1) := dk_79 (dk_at dksX5_joins_1 9 rfl rfl)
theorem dX5_joins_34 : decode cX5_joins 34 = .ok (.return_, 1) := dk_177 (dk_at dksX5_joins_1 10 rfl rfl)
abbrev cX5_serves : ByteArray := prog_15_method_36_code
def yX5_serves : MethodName := ⟨RX5, "serves", "(I)I"⟩
def dkwX5_serves_5 : List UInt8 := [167, 0, 4, 6, 96, 79, 42, 28, 182, 0, 216, 29, 172, 132, 2, 1, 167, 255, 125, 2, 172]
abbrev dktX5_serves_5 : List UInt8 := dkwX5_serves_5 ++ []
def dkwX5_serves_4 : List UInt8 := [167, 0, 4, 5, 79, 42, 180, 0, 61, 29, 27, 42, 180, 0, 46, 29, 46, 4, 160, 0, 7, 7]
abbrev dktX5_serves_4 : List UInt8 := dkwX5_serves_4 ++ dktX5_serves_5
def dkwX5_serves_3 : List UInt8 := [96, 79, 42, 180, 0, 55, 29, 42, 180, 0, 58, 29, 46, 42, 180, 0, 49, 29, 46, 160, 0, 7, 6]
abbrev dktX5_serves_3 : List UInt8 := dkwX5_serves_3 ++ dktX5_serves_4
def dkwX5_serves_2 : List UInt8 := [21, 4, 100, 181, 0, 206, 42, 89, 180, 0, 197, 4, 100, 181, 0, 197, 42, 180, 0, 58, 29, 92, 46, 4]
abbrev dktX5_serves_2 : List UInt8 := dkwX5_serves_2 ++ dktX5_serves_3
def dkwX5_serves_1 : List UInt8 := [160, 0, 7, 6, 167, 0, 4, 4, 54, 4, 42, 180, 0, 206, 21, 4, 161, 0, 90, 42, 89, 180, 0, 206]
abbrev dktX5_serves_1 : List UInt8 := dkwX5_serves_1 ++ dktX5_serves_2
def dkwX5_serves_0 : List UInt8 := [3, 61, 28, 42, 180, 0, 209, 162, 0, 129, 42, 180, 0, 52, 28, 46, 62, 42, 180, 0, 46, 29, 46, 4]
abbrev dktX5_serves_0 : List UInt8 := dkwX5_serves_0 ++ dktX5_serves_1
theorem dksX5_serves_0 : cX5_serves.data.toList.drop 0 = dktX5_serves_0 := by decide +kernel
theorem dksX5_serves_1 : cX5_serves.data.toList.drop 24 = dktX5_serves_1 := dk_seg dksX5_serves_0 24 rfl rfl
theorem dksX5_serves_2 : cX5_serves.data.toList.drop 48 = dktX5_serves_2 := dk_seg dksX5_serves_1 24 rfl rfl
theorem dksX5_serves_3 : cX5_serves.data.toList.drop 72 = dktX5_serves_3 := dk_seg dksX5_serves_2 24 rfl rfl
theorem dksX5_serves_4 : cX5_serves.data.toList.drop 95 = dktX5_serves_4 := dk_seg dksX5_serves_3 23 rfl rfl
theorem dksX5_serves_5 : cX5_serves.data.toList.drop 117 = dktX5_serves_5 := dk_seg dksX5_serves_4 22 rfl rfl
theorem dX5_serves_0 : decode cX5_serves 0 = .ok (.iconst 0, 1) := dk_3 (dk_at dksX5_serves_0 0 rfl rfl)
theorem dX5_serves_1 : decode cX5_serves 1 = .ok (.istore_n 2, 1) := dk_61 (dk_at dksX5_serves_0 1 rfl rfl)
theorem dX5_serves_2 : decode cX5_serves 2 = .ok (.iload_n 2, 1) := dk_28 (dk_at dksX5_serves_0 2 rfl rfl)
theorem dX5_serves_3 : decode cX5_serves 3 = .ok (.aload_n 0, 1) := dk_42 (dk_at dksX5_serves_0 3 rfl rfl)
theorem dX5_serves_4 : decode cX5_serves 4 = .ok (.getfield 209, 3) := dk_180 0 209 (dk_at dksX5_serves_0 4 rfl rfl)
theorem dX5_serves_7 : decode cX5_serves 7 = .ok (.if_icmp .ge 129, 3) := dk_162 0 129 (dk_at dksX5_serves_0 7 rfl rfl)
theorem dX5_serves_10 : decode cX5_serves 10 = .ok (.aload_n 0, 1) := dk_42 (dk_at dksX5_serves_0 10 rfl rfl)
theorem dX5_serves_11 : decode cX5_serves 11 = .ok (.getfield 52, 3) := dk_180 0 52 (dk_at dksX5_serves_0 11 rfl rfl)
theorem dX5_serves_14 : decode cX5_serves 14 = .ok (.iload_n 2, 1) := dk_28 (dk_at dksX5_serves_0 14 rfl rfl)
theorem dX5_serves_15 : decode cX5_serves 15 = .ok (.iaload, 1) := dk_46 (dk_at dksX5_serves_0 15 rfl rfl)
theorem dX5_serves_16 : decode cX5_serves 16 = .ok (.istore_n 3, 1) := dk_62 (dk_at dksX5_serves_0 16 rfl rfl)
theorem dX5_serves_17 : decode cX5_serves 17 = .ok (.aload_n 0, 1) := dk_42 (dk_at dksX5_serves_0 17 rfl rfl)
theorem dX5_serves_18 : decode cX5_serves 18 = .ok (.getfield 46, 3) := dk_180 0 46 (dk_at dksX5_serves_0 18 rfl rfl)
theorem dX5_serves_21 : decode cX5_serves 21 = .ok (.iload_n 3, 1) := dk_29 (dk_at dksX5_serves_0 21 rfl rfl)
theorem dX5_serves_22 : decode cX5_serves 22 = .ok (.iaload, 1) := dk_46 (dk_at dksX5_serves_0 22 rfl rfl)
theorem dX5_serves_23 : decode cX5_serves 23 = .ok (.iconst 1, 1) := dk_4 (dk_at dksX5_serves_0 23 rfl rfl)
theorem dX5_serves_24 : decode cX5_serves 24 = .ok (.if_icmp .ne 7, 3) := dk_160 0 7 (dk_at dksX5_serves_1 0 rfl rfl)
theorem dX5_serves_27 : decode cX5_serves 27 = .ok (.iconst 3, 1) := dk_6 (dk_at dksX5_serves_1 3 rfl rfl)
theorem dX5_serves_28 : decode cX5_serves 28 = .ok (.goto 4, 3) := dk_167 0 4 (dk_at dksX5_serves_1 4 rfl rfl)
theorem dX5_serves_31 : decode cX5_serves 31 = .ok (.iconst 1, 1) := dk_4 (dk_at dksX5_serves_1 7 rfl rfl)
theorem dX5_serves_32 : decode cX5_serves 32 = .ok (.istore 4, 2) := dk_54 4 (dk_at dksX5_serves_1 8 rfl rfl)
theorem dX5_serves_34 : decode cX5_serves 34 = .ok (.aload_n 0, 1) := dk_42 (dk_at dksX5_serves_1 10 rfl rfl)
theorem dX5_serves_35 : decode cX5_serves 35 = .ok (.getfield 206, 3) := dk_180 0 206 (dk_at dksX5_serves_1 11 rfl rfl)
theorem dX5_serves_38 : decode cX5_serves 38 = .ok (.iload 4, 2) := dk_21 4 (dk_at dksX5_serves_1 14 rfl rfl)
theorem dX5_serves_40 : decode cX5_serves 40 = .ok (.if_icmp .lt 90, 3) := dk_161 0 90 (dk_at dksX5_serves_1 16 rfl rfl)
theorem dX5_serves_43 : decode cX5_serves 43 = .ok (.aload_n 0, 1) := dk_42 (dk_at dksX5_serves_1 19 rfl rfl)
theorem dX5_serves_44 : decode cX5_serves 44 = .ok (.dup, 1) := dk_89 (dk_at dksX5_serves_1 20 rfl rfl)
theorem dX5_serves_45 : decode cX5_serves 45 = .ok (.getfield 206, 3) := dk_180 0 206 (dk_at dksX5_serves_1 21 rfl rfl)
theorem dX5_serves_48 : decode cX5_serves 48 = .ok (.iload 4, 2) := dk_21 4 (dk_at dksX5_serves_2 0 rfl rfl)
theorem dX5_serves_50 : decode cX5_serves 50 = .ok (.isub, 1) := dk_100 (dk_at dksX5_serves_2 2 rfl rfl)
theorem dX5_serves_51 : decode cX5_serves 51 = .ok (.putfield 206, 3) := dk_181 0 206 (dk_at dksX5_serves_2 3 rfl rfl)
theorem dX5_serves_54 : decode cX5_serves 54 = .ok (.aload_n 0, 1) := dk_42 (dk_at dksX5_serves_2 6 rfl rfl)
theorem dX5_serves_55 : decode cX5_serves 55 = .ok (.dup, 1) := dk_89 (dk_at dksX5_serves_2 7 rfl rfl)
theorem dX5_serves_56 : decode cX5_serves 56 = .ok (.getfield 197, 3) := dk_180 0 197 (dk_at dksX5_serves_2 8 rfl rfl)
theorem dX5_serves_59 : decode cX5_serves 59 = .ok (.iconst 1, 1) := dk_4 (dk_at dksX5_serves_2 11 rfl rfl)
theorem dX5_serves_60 : decode cX5_serves 60 = .ok (.isub, 1) := dk_100 (dk_at dksX5_serves_2 12 rfl rfl)
theorem dX5_serves_61 : decode cX5_serves 61 = .ok (.putfield 197, 3) := dk_181 0 197 (dk_at dksX5_serves_2 13 rfl rfl)
theorem dX5_serves_64 : decode cX5_serves 64 = .ok (.aload_n 0, 1) := dk_42 (dk_at dksX5_serves_2 16 rfl rfl)
theorem dX5_serves_65 : decode cX5_serves 65 = .ok (.getfield 58, 3) := dk_180 0 58 (dk_at dksX5_serves_2 17 rfl rfl)
theorem dX5_serves_68 : decode cX5_serves 68 = .ok (.iload_n 3, 1) := dk_29 (dk_at dksX5_serves_2 20 rfl rfl)
theorem dX5_serves_69 : decode cX5_serves 69 = .ok (.dup2, 1) := dk_92 (dk_at dksX5_serves_2 21 rfl rfl)
theorem dX5_serves_70 : decode cX5_serves 70 = .ok (.iaload, 1) := dk_46 (dk_at dksX5_serves_2 22 rfl rfl)
theorem dX5_serves_71 : decode cX5_serves 71 = .ok (.iconst 1, 1) := dk_4 (dk_at dksX5_serves_2 23 rfl rfl)
theorem dX5_serves_72 : decode cX5_serves 72 = .ok (.iadd, 1) := dk_96 (dk_at dksX5_serves_3 0 rfl rfl)
theorem dX5_serves_73 : decode cX5_serves 73 = .ok (.iastore, 1) := dk_79 (dk_at dksX5_serves_3 1 rfl rfl)
theorem dX5_serves_74 : decode cX5_serves 74 = .ok (.aload_n 0, 1) := dk_42 (dk_at dksX5_serves_3 2 rfl rfl)
theorem dX5_serves_75 : decode cX5_serves 75 = .ok (.getfield 55, 3) := dk_180 0 55 (dk_at dksX5_serves_3 3 rfl rfl)
theorem dX5_serves_78 : decode cX5_serves 78 = .ok (.iload_n 3, 1) := dk_29 (dk_at dksX5_serves_3 6 rfl rfl)
theorem dX5_serves_79 : decode cX5_serves 79 = .ok (.aload_n 0, 1) := dk_42 (dk_at dksX5_serves_3 7 rfl rfl)
theorem dX5_serves_80 : decode cX5_serves 80 = .ok (.getfield 58, 3) := dk_180 0 58 (dk_at dksX5_serves_3 8 rfl rfl)
theorem dX5_serves_83 : decode cX5_serves 83 = .ok (.iload_n 3, 1) := dk_29 (dk_at dksX5_serves_3 11 rfl rfl)
theorem dX5_serves_84 : decode cX5_serves 84 = .ok (.iaload, 1) := dk_46 (dk_at dksX5_serves_3 12 rfl rfl)
theorem dX5_serves_85 : decode cX5_serves 85 = .ok (.aload_n 0, 1) := dk_42 (dk_at dksX5_serves_3 13 rfl rfl)
theorem dX5_serves_86 : decode cX5_serves 86 = .ok (.getfield 49, 3) := dk_180 0 49 (dk_at dksX5_serves_3 14 rfl rfl)
theorem dX5_serves_89 : decode cX5_serves 89 = .ok (.iload_n 3, 1) := dk_29 (dk_at dksX5_serves_3 17 rfl rfl)
theorem dX5_serves_90 : decode cX5_serves 90 = .ok (.iaload, 1) := dk_46 (dk_at dksX5_serves_3 18 rfl rfl)
theorem dX5_serves_91 : decode cX5_serves 91 = .ok (.if_icmp .ne 7, 3) := dk_160 0 7 (dk_at dksX5_serves_3 19 rfl rfl)
theorem dX5_serves_94 : decode cX5_serves 94 = .ok (.iconst 3, 1) := dk_6 (dk_at dksX5_serves_3 22 rfl rfl)
theorem dX5_serves_95 : decode cX5_serves 95 = .ok (.goto 4, 3) := dk_167 0 4 (dk_at dksX5_serves_4 0 rfl rfl)
theorem dX5_serves_98 : decode cX5_serves 98 = .ok (.iconst 2, 1) := dk_5 (dk_at dksX5_serves_4 3 rfl rfl)
theorem dX5_serves_99 : decode cX5_serves 99 = .ok (.iastore, 1) := dk_79 (dk_at dksX5_serves_4 4 rfl rfl)
theorem dX5_serves_100 : decode cX5_serves 100 = .ok (.aload_n 0, 1) := dk_42 (dk_at dksX5_serves_4 5 rfl rfl)
theorem dX5_serves_101 : decode cX5_serves 101 = .ok (.getfield 61, 3) := dk_180 0 61 (dk_at dksX5_serves_4 6 rfl rfl)
theorem dX5_serves_104 : decode cX5_serves 104 = .ok (.iload_n 3, 1) := dk_29 (dk_at dksX5_serves_4 9 rfl rfl)
theorem dX5_serves_105 : decode cX5_serves 105 = .ok (.iload_n 1, 1) := dk_27 (dk_at dksX5_serves_4 10 rfl rfl)
theorem dX5_serves_106 : decode cX5_serves 106 = .ok (.aload_n 0, 1) := dk_42 (dk_at dksX5_serves_4 11 rfl rfl)
theorem dX5_serves_107 : decode cX5_serves 107 = .ok (.getfield 46, 3) := dk_180 0 46 (dk_at dksX5_serves_4 12 rfl rfl)
theorem dX5_serves_110 : decode cX5_serves 110 = .ok (.iload_n 3, 1) := dk_29 (dk_at dksX5_serves_4 15 rfl rfl)
theorem dX5_serves_111 : decode cX5_serves 111 = .ok (.iaload, 1) := dk_46 (dk_at dksX5_serves_4 16 rfl rfl)
theorem dX5_serves_112 : decode cX5_serves 112 = .ok (.iconst 1, 1) := dk_4 (dk_at dksX5_serves_4 17 rfl rfl)
theorem dX5_serves_113 : decode cX5_serves 113 = .ok (.if_icmp .ne 7, 3) := dk_160 0 7 (dk_at dksX5_serves_4 18 rfl rfl)
theorem dX5_serves_116 : decode cX5_serves 116 = .ok (.iconst 4, 1) := dk_7 (dk_at dksX5_serves_4 21 rfl rfl)
theorem dX5_serves_117 : decode cX5_serves 117 = .ok (.goto 4, 3) := dk_167 0 4 (dk_at dksX5_serves_5 0 rfl rfl)
theorem dX5_serves_120 : decode cX5_serves 120 = .ok (.iconst 3, 1) := dk_6 (dk_at dksX5_serves_5 3 rfl rfl)
theorem dX5_serves_121 : decode cX5_serves 121 = .ok (.iadd, 1) := dk_96 (dk_at dksX5_serves_5 4 rfl rfl)
theorem dX5_serves_122 : decode cX5_serves 122 = .ok (.iastore, 1) := dk_79 (dk_at dksX5_serves_5 5 rfl rfl)
theorem dX5_serves_123 : decode cX5_serves 123 = .ok (.aload_n 0, 1) := dk_42 (dk_at dksX5_serves_5 6 rfl rfl)
theorem dX5_serves_124 : decode cX5_serves 124 = .ok (.iload_n 2, 1) := dk_28 (dk_at dksX5_serves_5 7 rfl rfl)
theorem dX5_serves_125 : decode cX5_serves 125 = .ok (.invokevirtual 216, 3) := dk_182 0 216 (dk_at dksX5_serves_5 8 rfl rfl)
theorem dX5_serves_128 : decode cX5_serves 128 = .ok (.iload_n 3, 1) := dk_29 (dk_at dksX5_serves_5 11 rfl rfl)
theorem dX5_serves_129 : decode cX5_serves 129 = .ok (.ireturn, 1) := dk_172 (dk_at dksX5_serves_5 12 rfl rfl)
theorem dX5_serves_130 : decode cX5_serves 130 = .ok (.iinc 2 1, 3) := dk_132 2 1 (dk_at dksX5_serves_5 13 rfl rfl)
theorem dX5_serves_133 : decode cX5_serves 133 = .ok (.goto (-131), 3) := dk_167 255 125 (dk_at dksX5_serves_5 16 rfl rfl)
theorem dX5_serves_136 : decode cX5_serves 136 = .ok (.iconst (-1), 1) := dk_2 (dk_at dksX5_serves_5 19 rfl rfl)
theorem dX5_serves_137 : decode cX5_serves 137 = .ok (.ireturn, 1) := dk_172 (dk_at dksX5_serves_5 20 rfl rfl)
abbrev cX5_leaves : ByteArray := prog_15_method_35_code
def yX5_leaves : MethodName := ⟨RX5, "leaves", "(I)V"⟩
def dkwX5_leaves_1 : List UInt8 := [46, 79, 132, 2, 1, 167, 255, 229, 42, 89, 180, 0, 209, 4, 100, 181, 0, 209, 177]
abbrev dktX5_leaves_1 : List UInt8 := dkwX5_leaves_1 ++ []
def dkwX5_leaves_0 : List UInt8 := [27, 61, 28, 4, 96, 42, 180, 0, 209, 162, 0, 23, 42, 180, 0, 52, 28, 42, 180, 0, 52, 28, 4, 96]
abbrev dktX5_leaves_0 : List UInt8 := dkwX5_leaves_0 ++ dktX5_leaves_1
theorem dksX5_leaves_0 : cX5_leaves.data.toList.drop 0 = dktX5_leaves_0 := by decide +kernel
theorem dksX5_leaves_1 : cX5_leaves.data.toList.drop 24 = dktX5_leaves_1 := dk_seg dksX5_leaves_0 24 rfl rfl
theorem dX5_leaves_0 : decode cX5_leaves 0 = .ok (.iload_n 1, 1) := dk_27 (dk_at dksX5_leaves_0 0 rfl rfl)
theorem dX5_leaves_1 : decode cX5_leaves 1 = .ok (.istore_n 2, 1) := dk_61 (dk_at dksX5_leaves_0 1 rfl rfl)
theorem dX5_leaves_2 : decode cX5_leaves 2 = .ok (.iload_n 2, 1) := dk_28 (dk_at dksX5_leaves_0 2 rfl rfl)
theorem dX5_leaves_3 : decode cX5_leaves 3 = .ok (.iconst 1, 1) := dk_4 (dk_at dksX5_leaves_0 3 rfl rfl)
theorem dX5_leaves_4 : decode cX5_leaves 4 = .ok (.iadd, 1) := dk_96 (dk_at dksX5_leaves_0 4 rfl rfl)
theorem dX5_leaves_5 : decode cX5_leaves 5 = .ok (.aload_n 0, 1) := dk_42 (dk_at dksX5_leaves_0 5 rfl rfl)
theorem dX5_leaves_6 : decode cX5_leaves 6 = .ok (.getfield 209, 3) := dk_180 0 209 (dk_at dksX5_leaves_0 6 rfl rfl)
theorem dX5_leaves_9 : decode cX5_leaves 9 = .ok (.if_icmp .ge 23, 3) := dk_162 0 23 (dk_at dksX5_leaves_0 9 rfl rfl)
theorem dX5_leaves_12 : decode cX5_leaves 12 = .ok (.aload_n 0, 1) := dk_42 (dk_at dksX5_leaves_0 12 rfl rfl)
theorem dX5_leaves_13 : decode cX5_leaves 13 = .ok (.getfield 52, 3) := dk_180 0 52 (dk_at dksX5_leaves_0 13 rfl rfl)
theorem dX5_leaves_16 : decode cX5_leaves 16 = .ok (.iload_n 2, 1) := dk_28 (dk_at dksX5_leaves_0 16 rfl rfl)
theorem dX5_leaves_17 : decode cX5_leaves 17 = .ok (.aload_n 0, 1) := dk_42 (dk_at dksX5_leaves_0 17 rfl rfl)
theorem dX5_leaves_18 : decode cX5_leaves 18 = .ok (.getfield 52, 3) := dk_180 0 52 (dk_at dksX5_leaves_0 18 rfl rfl)
theorem dX5_leaves_21 : decode cX5_leaves 21 = .ok (.iload_n 2, 1) := dk_28 (dk_at dksX5_leaves_0 21 rfl rfl)
theorem dX5_leaves_22 : decode cX5_leaves 22 = .ok (.iconst 1, 1) := dk_4 (dk_at dksX5_leaves_0 22 rfl rfl)
theorem dX5_leaves_23 : decode cX5_leaves 23 = .ok (.iadd, 1) := dk_96 (dk_at dksX5_leaves_0 23 rfl rfl)
theorem dX5_leaves_24 : decode cX5_leaves 24 = .ok (.iaload, 1) := dk_46 (dk_at dksX5_leaves_1 0 rfl rfl)
theorem dX5_leaves_25 : decode cX5_leaves 25 = .ok (.iastore, 1) := dk_79 (dk_at dksX5_leaves_1 1 rfl rfl)
theorem dX5_leaves_26 : decode cX5_leaves 26 = .ok (.iinc 2 1, 3) := dk_132 2 1 (dk_at dksX5_leaves_1 2 rfl rfl)
theorem dX5_leaves_29 : decode cX5_leaves 29 = .ok (.goto (-27), 3) := dk_167 255 229 (dk_at dksX5_leaves_1 5 rfl rfl)
theorem dX5_leaves_32 : decode cX5_leaves 32 = .ok (.aload_n 0, 1) := dk_42 (dk_at dksX5_leaves_1 8 rfl rfl)
theorem dX5_leaves_33 : decode cX5_leaves 33 = .ok (.dup, 1) := dk_89 (dk_at dksX5_leaves_1 9 rfl rfl)
theorem dX5_leaves_34 : decode cX5_leaves 34 = .ok (.getfield 209, 3) := dk_180 0 209 (dk_at dksX5_leaves_1 10 rfl rfl)
theorem dX5_leaves_37 : decode cX5_leaves 37 = .ok (.iconst 1, 1) := dk_4 (dk_at dksX5_leaves_1 13 rfl rfl)
theorem dX5_leaves_38 : decode cX5_leaves 38 = .ok (.isub, 1) := dk_100 (dk_at dksX5_leaves_1 14 rfl rfl)
theorem dX5_leaves_39 : decode cX5_leaves 39 = .ok (.putfield 209, 3) := dk_181 0 209 (dk_at dksX5_leaves_1 15 rfl rfl)
theorem dX5_leaves_42 : decode cX5_leaves 42 = .ok (.return_, 1) := dk_177 (dk_at dksX5_leaves_1 18 rfl rfl)
abbrev cX5_goAway : ByteArray := prog_15_method_37_code
def yX5_goAway : MethodName := ⟨RX5, "goAway", "(I)V"⟩
def dkwX5_goAway_2 : List UInt8 := [177]
abbrev dktX5_goAway_2 : List UInt8 := dkwX5_goAway_2 ++ []
def dkwX5_goAway_1 : List UInt8 := [46, 100, 8, 161, 0, 15, 42, 180, 0, 55, 29, 7, 79, 42, 28, 182, 0, 216, 132, 2, 255, 167, 255, 218]
abbrev dktX5_goAway_1 : List UInt8 := dkwX5_goAway_1 ++ dktX5_goAway_2
def dkwX5_goAway_0 : List UInt8 := [42, 180, 0, 209, 4, 100, 61, 28, 155, 0, 40, 42, 180, 0, 52, 28, 46, 62, 27, 42, 180, 0, 64, 29]
abbrev dktX5_goAway_0 : List UInt8 := dkwX5_goAway_0 ++ dktX5_goAway_1
theorem dksX5_goAway_0 : cX5_goAway.data.toList.drop 0 = dktX5_goAway_0 := by decide +kernel
theorem dksX5_goAway_1 : cX5_goAway.data.toList.drop 24 = dktX5_goAway_1 := dk_seg dksX5_goAway_0 24 rfl rfl
theorem dksX5_goAway_2 : cX5_goAway.data.toList.drop 48 = dktX5_goAway_2 := dk_seg dksX5_goAway_1 24 rfl rfl
theorem dX5_goAway_0 : decode cX5_goAway 0 = .ok (.aload_n 0, 1) := dk_42 (dk_at dksX5_goAway_0 0 rfl rfl)
theorem dX5_goAway_1 : decode cX5_goAway 1 = .ok (.getfield 209, 3) := dk_180 0 209 (dk_at dksX5_goAway_0 1 rfl rfl)
theorem dX5_goAway_4 : decode cX5_goAway 4 = .ok (.iconst 1, 1) := dk_4 (dk_at dksX5_goAway_0 4 rfl rfl)
theorem dX5_goAway_5 : decode cX5_goAway 5 = .ok (.isub, 1) := dk_100 (dk_at dksX5_goAway_0 5 rfl rfl)
theorem dX5_goAway_6 : decode cX5_goAway 6 = .ok (.istore_n 2, 1) := dk_61 (dk_at dksX5_goAway_0 6 rfl rfl)
theorem dX5_goAway_7 : decode cX5_goAway 7 = .ok (.iload_n 2, 1) := dk_28 (dk_at dksX5_goAway_0 7 rfl rfl)
theorem dX5_goAway_8 : decode cX5_goAway 8 = .ok (.ifCond .lt 40, 3) := dk_155 0 40 (dk_at dksX5_goAway_0 8 rfl rfl)
theorem dX5_goAway_11 : decode cX5_goAway 11 = .ok (.aload_n 0, 1) := dk_42 (dk_at dksX5_goAway_0 11 rfl rfl)
theorem dX5_goAway_12 : decode cX5_goAway 12 = .ok (.getfield 52, 3) := dk_180 0 52 (dk_at dksX5_goAway_0 12 rfl rfl)
theorem dX5_goAway_15 : decode cX5_goAway 15 = .ok (.iload_n 2, 1) := dk_28 (dk_at dksX5_goAway_0 15 rfl rfl)
theorem dX5_goAway_16 : decode cX5_goAway 16 = .ok (.iaload, 1) := dk_46 (dk_at dksX5_goAway_0 16 rfl rfl)
theorem dX5_goAway_17 : decode cX5_goAway 17 = .ok (.istore_n 3, 1) := dk_62 (dk_at dksX5_goAway_0 17 rfl rfl)
theorem dX5_goAway_18 : decode cX5_goAway 18 = .ok (.iload_n 1, 1) := dk_27 (dk_at dksX5_goAway_0 18 rfl rfl)
theorem dX5_goAway_19 : decode cX5_goAway 19 = .ok (.aload_n 0, 1) := dk_42 (dk_at dksX5_goAway_0 19 rfl rfl)
theorem dX5_goAway_20 : decode cX5_goAway 20 = .ok (.getfield 64, 3) := dk_180 0 64 (dk_at dksX5_goAway_0 20 rfl rfl)
theorem dX5_goAway_23 : decode cX5_goAway 23 = .ok (.iload_n 3, 1) := dk_29 (dk_at dksX5_goAway_0 23 rfl rfl)
theorem dX5_goAway_24 : decode cX5_goAway 24 = .ok (.iaload, 1) := dk_46 (dk_at dksX5_goAway_1 0 rfl rfl)
theorem dX5_goAway_25 : decode cX5_goAway 25 = .ok (.isub, 1) := dk_100 (dk_at dksX5_goAway_1 1 rfl rfl)
theorem dX5_goAway_26 : decode cX5_goAway 26 = .ok (.iconst 5, 1) := dk_8 (dk_at dksX5_goAway_1 2 rfl rfl)
theorem dX5_goAway_27 : decode cX5_goAway 27 = .ok (.if_icmp .lt 15, 3) := dk_161 0 15 (dk_at dksX5_goAway_1 3 rfl rfl)
theorem dX5_goAway_30 : decode cX5_goAway 30 = .ok (.aload_n 0, 1) := dk_42 (dk_at dksX5_goAway_1 6 rfl rfl)
theorem dX5_goAway_31 : decode cX5_goAway 31 = .ok (.getfield 55, 3) := dk_180 0 55 (dk_at dksX5_goAway_1 7 rfl rfl)
theorem dX5_goAway_34 : decode cX5_goAway 34 = .ok (.iload_n 3, 1) := dk_29 (dk_at dksX5_goAway_1 10 rfl rfl)
theorem dX5_goAway_35 : decode cX5_goAway 35 = .ok (.iconst 4, 1) := dk_7 (dk_at dksX5_goAway_1 11 rfl rfl)
theorem dX5_goAway_36 : decode cX5_goAway 36 = .ok (.iastore, 1) := dk_79 (dk_at dksX5_goAway_1 12 rfl rfl)
theorem dX5_goAway_37 : decode cX5_goAway 37 = .ok (.aload_n 0, 1) := dk_42 (dk_at dksX5_goAway_1 13 rfl rfl)
theorem dX5_goAway_38 : decode cX5_goAway 38 = .ok (.iload_n 2, 1) := dk_28 (dk_at dksX5_goAway_1 14 rfl rfl)
theorem dX5_goAway_39 : decode cX5_goAway 39 = .ok (.invokevirtual 216, 3) := dk_182 0 216 (dk_at dksX5_goAway_1 15 rfl rfl)
theorem dX5_goAway_42 : decode cX5_goAway 42 = .ok (.iinc 2 (-1), 3) := dk_132 2 255 (dk_at dksX5_goAway_1 18 rfl rfl)
theorem dX5_goAway_45 : decode cX5_goAway 45 = .ok (.goto (-38), 3) := dk_167 255 218 (dk_at dksX5_goAway_1 21 rfl rfl)
theorem dX5_goAway_48 : decode cX5_goAway 48 = .ok (.return_, 1) := dk_177 (dk_at dksX5_goAway_2 0 rfl rfl)
abbrev cX5_is : ByteArray := prog_15_method_44_code
def yX5_is : MethodName := ⟨RX5, "is", "(III)I"⟩
def dkwX5_is_1 : List UInt8 := [28, 29, 182, 1, 3, 167, 0, 5, 16, 254, 172]
abbrev dktX5_is_1 : List UInt8 := dkwX5_is_1 ++ []
def dkwX5_is_0 : List UInt8 := [27, 184, 0, 131, 153, 0, 28, 42, 28, 182, 0, 163, 153, 0, 20, 29, 184, 0, 123, 153, 0, 13, 42, 27]
abbrev dktX5_is_0 : List UInt8 := dkwX5_is_0 ++ dktX5_is_1
theorem dksX5_is_0 : cX5_is.data.toList.drop 0 = dktX5_is_0 := by decide +kernel
theorem dksX5_is_1 : cX5_is.data.toList.drop 24 = dktX5_is_1 := dk_seg dksX5_is_0 24 rfl rfl
theorem dX5_is_0 : decode cX5_is 0 = .ok (.iload_n 1, 1) := dk_27 (dk_at dksX5_is_0 0 rfl rfl)
theorem dX5_is_1 : decode cX5_is 1 = .ok (.invokestatic 131, 3) := dk_184 0 131 (dk_at dksX5_is_0 1 rfl rfl)
theorem dX5_is_4 : decode cX5_is 4 = .ok (.ifCond .eq 28, 3) := dk_153 0 28 (dk_at dksX5_is_0 4 rfl rfl)
theorem dX5_is_7 : decode cX5_is 7 = .ok (.aload_n 0, 1) := dk_42 (dk_at dksX5_is_0 7 rfl rfl)
theorem dX5_is_8 : decode cX5_is 8 = .ok (.iload_n 2, 1) := dk_28 (dk_at dksX5_is_0 8 rfl rfl)
theorem dX5_is_9 : decode cX5_is 9 = .ok (.invokevirtual 163, 3) := dk_182 0 163 (dk_at dksX5_is_0 9 rfl rfl)
theorem dX5_is_12 : decode cX5_is 12 = .ok (.ifCond .eq 20, 3) := dk_153 0 20 (dk_at dksX5_is_0 12 rfl rfl)
theorem dX5_is_15 : decode cX5_is 15 = .ok (.iload_n 3, 1) := dk_29 (dk_at dksX5_is_0 15 rfl rfl)
theorem dX5_is_16 : decode cX5_is 16 = .ok (.invokestatic 123, 3) := dk_184 0 123 (dk_at dksX5_is_0 16 rfl rfl)
theorem dX5_is_19 : decode cX5_is 19 = .ok (.ifCond .eq 13, 3) := dk_153 0 13 (dk_at dksX5_is_0 19 rfl rfl)
theorem dX5_is_22 : decode cX5_is 22 = .ok (.aload_n 0, 1) := dk_42 (dk_at dksX5_is_0 22 rfl rfl)
theorem dX5_is_23 : decode cX5_is 23 = .ok (.iload_n 1, 1) := dk_27 (dk_at dksX5_is_0 23 rfl rfl)
theorem dX5_is_24 : decode cX5_is 24 = .ok (.iload_n 2, 1) := dk_28 (dk_at dksX5_is_1 0 rfl rfl)
theorem dX5_is_25 : decode cX5_is 25 = .ok (.iload_n 3, 1) := dk_29 (dk_at dksX5_is_1 1 rfl rfl)
theorem dX5_is_26 : decode cX5_is 26 = .ok (.invokevirtual 259, 3) := dk_182 1 3 (dk_at dksX5_is_1 2 rfl rfl)
theorem dX5_is_29 : decode cX5_is 29 = .ok (.goto 5, 3) := dk_167 0 5 (dk_at dksX5_is_1 5 rfl rfl)
theorem dX5_is_32 : decode cX5_is 32 = .ok (.bipush (-2), 2) := dk_16 254 (dk_at dksX5_is_1 8 rfl rfl)
theorem dX5_is_34 : decode cX5_is 34 = .ok (.ireturn, 1) := dk_172 (dk_at dksX5_is_1 10 rfl rfl)
abbrev cX5_isOf : ByteArray := prog_15_method_43_code
def yX5_isOf : MethodName := ⟨RX5, "isOf", "(III)I"⟩
def dkwX5_isOf_1 : List UInt8 := [180, 0, 79, 16, 8, 27, 104, 28, 96, 46, 172]
abbrev dktX5_isOf_1 : List UInt8 := dkwX5_isOf_1 ++ []
def dkwX5_isOf_0 : List UInt8 := [42, 182, 0, 253, 29, 154, 0, 17, 42, 180, 0, 76, 16, 8, 27, 104, 28, 96, 46, 167, 0, 14, 42]
abbrev dktX5_isOf_0 : List UInt8 := dkwX5_isOf_0 ++ dktX5_isOf_1
theorem dksX5_isOf_0 : cX5_isOf.data.toList.drop 0 = dktX5_isOf_0 := by decide +kernel
theorem dksX5_isOf_1 : cX5_isOf.data.toList.drop 23 = dktX5_isOf_1 := dk_seg dksX5_isOf_0 23 rfl rfl
theorem dX5_isOf_0 : decode cX5_isOf 0 = .ok (.aload_n 0, 1) := dk_42 (dk_at dksX5_isOf_0 0 rfl rfl)
theorem dX5_isOf_1 : decode cX5_isOf 1 = .ok (.invokevirtual 253, 3) := dk_182 0 253 (dk_at dksX5_isOf_0 1 rfl rfl)
theorem dX5_isOf_4 : decode cX5_isOf 4 = .ok (.iload_n 3, 1) := dk_29 (dk_at dksX5_isOf_0 4 rfl rfl)
theorem dX5_isOf_5 : decode cX5_isOf 5 = .ok (.ifCond .ne 17, 3) := dk_154 0 17 (dk_at dksX5_isOf_0 5 rfl rfl)
theorem dX5_isOf_8 : decode cX5_isOf 8 = .ok (.aload_n 0, 1) := dk_42 (dk_at dksX5_isOf_0 8 rfl rfl)
theorem dX5_isOf_9 : decode cX5_isOf 9 = .ok (.getfield 76, 3) := dk_180 0 76 (dk_at dksX5_isOf_0 9 rfl rfl)
theorem dX5_isOf_12 : decode cX5_isOf 12 = .ok (.bipush 8, 2) := dk_16 8 (dk_at dksX5_isOf_0 12 rfl rfl)
theorem dX5_isOf_14 : decode cX5_isOf 14 = .ok (.iload_n 1, 1) := dk_27 (dk_at dksX5_isOf_0 14 rfl rfl)
theorem dX5_isOf_15 : decode cX5_isOf 15 = .ok (.imul, 1) := dk_104 (dk_at dksX5_isOf_0 15 rfl rfl)
theorem dX5_isOf_16 : decode cX5_isOf 16 = .ok (.iload_n 2, 1) := dk_28 (dk_at dksX5_isOf_0 16 rfl rfl)
theorem dX5_isOf_17 : decode cX5_isOf 17 = .ok (.iadd, 1) := dk_96 (dk_at dksX5_isOf_0 17 rfl rfl)
theorem dX5_isOf_18 : decode cX5_isOf 18 = .ok (.iaload, 1) := dk_46 (dk_at dksX5_isOf_0 18 rfl rfl)
theorem dX5_isOf_19 : decode cX5_isOf 19 = .ok (.goto 14, 3) := dk_167 0 14 (dk_at dksX5_isOf_0 19 rfl rfl)
theorem dX5_isOf_22 : decode cX5_isOf 22 = .ok (.aload_n 0, 1) := dk_42 (dk_at dksX5_isOf_0 22 rfl rfl)
theorem dX5_isOf_23 : decode cX5_isOf 23 = .ok (.getfield 79, 3) := dk_180 0 79 (dk_at dksX5_isOf_1 0 rfl rfl)
theorem dX5_isOf_26 : decode cX5_isOf 26 = .ok (.bipush 8, 2) := dk_16 8 (dk_at dksX5_isOf_1 3 rfl rfl)
theorem dX5_isOf_28 : decode cX5_isOf 28 = .ok (.iload_n 1, 1) := dk_27 (dk_at dksX5_isOf_1 5 rfl rfl)
theorem dX5_isOf_29 : decode cX5_isOf 29 = .ok (.imul, 1) := dk_104 (dk_at dksX5_isOf_1 6 rfl rfl)
theorem dX5_isOf_30 : decode cX5_isOf 30 = .ok (.iload_n 2, 1) := dk_28 (dk_at dksX5_isOf_1 7 rfl rfl)
theorem dX5_isOf_31 : decode cX5_isOf 31 = .ok (.iadd, 1) := dk_96 (dk_at dksX5_isOf_1 8 rfl rfl)
theorem dX5_isOf_32 : decode cX5_isOf 32 = .ok (.iaload, 1) := dk_46 (dk_at dksX5_isOf_1 9 rfl rfl)
theorem dX5_isOf_33 : decode cX5_isOf 33 = .ok (.ireturn, 1) := dk_172 (dk_at dksX5_isOf_1 10 rfl rfl)
abbrev cX5_line : ByteArray := prog_15_method_46_code
def yX5_line : MethodName := ⟨RX5, "line", "(I)I"⟩
def dkwX5_line_0 : List UInt8 := [27, 184, 0, 131, 153, 0, 11, 42, 27, 182, 1, 6, 167, 0, 5, 16, 254, 172]
abbrev dktX5_line_0 : List UInt8 := dkwX5_line_0 ++ []
theorem dksX5_line_0 : cX5_line.data.toList.drop 0 = dktX5_line_0 := by decide +kernel
theorem dX5_line_0 : decode cX5_line 0 = .ok (.iload_n 1, 1) := dk_27 (dk_at dksX5_line_0 0 rfl rfl)
theorem dX5_line_1 : decode cX5_line 1 = .ok (.invokestatic 131, 3) := dk_184 0 131 (dk_at dksX5_line_0 1 rfl rfl)
theorem dX5_line_4 : decode cX5_line 4 = .ok (.ifCond .eq 11, 3) := dk_153 0 11 (dk_at dksX5_line_0 4 rfl rfl)
theorem dX5_line_7 : decode cX5_line 7 = .ok (.aload_n 0, 1) := dk_42 (dk_at dksX5_line_0 7 rfl rfl)
theorem dX5_line_8 : decode cX5_line 8 = .ok (.iload_n 1, 1) := dk_27 (dk_at dksX5_line_0 8 rfl rfl)
theorem dX5_line_9 : decode cX5_line 9 = .ok (.invokevirtual 262, 3) := dk_182 1 6 (dk_at dksX5_line_0 9 rfl rfl)
theorem dX5_line_12 : decode cX5_line 12 = .ok (.goto 5, 3) := dk_167 0 5 (dk_at dksX5_line_0 12 rfl rfl)
theorem dX5_line_15 : decode cX5_line 15 = .ok (.bipush (-2), 2) := dk_16 254 (dk_at dksX5_line_0 15 rfl rfl)
theorem dX5_line_17 : decode cX5_line 17 = .ok (.ireturn, 1) := dk_172 (dk_at dksX5_line_0 17 rfl rfl)
abbrev cX5_lineOf : ByteArray := prog_15_method_45_code
def yX5_lineOf : MethodName := ⟨RX5, "lineOf", "(I)I"⟩
def dkwX5_lineOf_0 : List UInt8 := [42, 182, 0, 253, 42, 180, 0, 73, 27, 46, 172]
abbrev dktX5_lineOf_0 : List UInt8 := dkwX5_lineOf_0 ++ []
theorem dksX5_lineOf_0 : cX5_lineOf.data.toList.drop 0 = dktX5_lineOf_0 := by decide +kernel
theorem dX5_lineOf_0 : decode cX5_lineOf 0 = .ok (.aload_n 0, 1) := dk_42 (dk_at dksX5_lineOf_0 0 rfl rfl)
theorem dX5_lineOf_1 : decode cX5_lineOf 1 = .ok (.invokevirtual 253, 3) := dk_182 0 253 (dk_at dksX5_lineOf_0 1 rfl rfl)
theorem dX5_lineOf_4 : decode cX5_lineOf 4 = .ok (.aload_n 0, 1) := dk_42 (dk_at dksX5_lineOf_0 4 rfl rfl)
theorem dX5_lineOf_5 : decode cX5_lineOf 5 = .ok (.getfield 73, 3) := dk_180 0 73 (dk_at dksX5_lineOf_0 5 rfl rfl)
theorem dX5_lineOf_8 : decode cX5_lineOf 8 = .ok (.iload_n 1, 1) := dk_27 (dk_at dksX5_lineOf_0 8 rfl rfl)
theorem dX5_lineOf_9 : decode cX5_lineOf 9 = .ok (.iaload, 1) := dk_46 (dk_at dksX5_lineOf_0 9 rfl rfl)
theorem dX5_lineOf_10 : decode cX5_lineOf 10 = .ok (.ireturn, 1) := dk_172 (dk_at dksX5_lineOf_0 10 rfl rfl)
abbrev cX5_sum : ByteArray := prog_15_method_50_code
def yX5_sum : MethodName := ⟨RX5, "sum", "(I)I"⟩
def dkwX5_sum_0 : List UInt8 := [27, 3, 7, 184, 0, 119, 153, 0, 11, 42, 27, 182, 1, 16, 167, 0, 5, 16, 254, 172]
abbrev dktX5_sum_0 : List UInt8 := dkwX5_sum_0 ++ []
theorem dksX5_sum_0 : cX5_sum.data.toList.drop 0 = dktX5_sum_0 := by decide +kernel
theorem dX5_sum_0 : decode cX5_sum 0 = .ok (.iload_n 1, 1) := dk_27 (dk_at dksX5_sum_0 0 rfl rfl)
theorem dX5_sum_1 : decode cX5_sum 1 = .ok (.iconst 0, 1) := dk_3 (dk_at dksX5_sum_0 1 rfl rfl)
theorem dX5_sum_2 : decode cX5_sum 2 = .ok (.iconst 4, 1) := dk_7 (dk_at dksX5_sum_0 2 rfl rfl)
theorem dX5_sum_3 : decode cX5_sum 3 = .ok (.invokestatic 119, 3) := dk_184 0 119 (dk_at dksX5_sum_0 3 rfl rfl)
theorem dX5_sum_6 : decode cX5_sum 6 = .ok (.ifCond .eq 11, 3) := dk_153 0 11 (dk_at dksX5_sum_0 6 rfl rfl)
theorem dX5_sum_9 : decode cX5_sum 9 = .ok (.aload_n 0, 1) := dk_42 (dk_at dksX5_sum_0 9 rfl rfl)
theorem dX5_sum_10 : decode cX5_sum 10 = .ok (.iload_n 1, 1) := dk_27 (dk_at dksX5_sum_0 10 rfl rfl)
theorem dX5_sum_11 : decode cX5_sum 11 = .ok (.invokevirtual 272, 3) := dk_182 1 16 (dk_at dksX5_sum_0 11 rfl rfl)
theorem dX5_sum_14 : decode cX5_sum 14 = .ok (.goto 5, 3) := dk_167 0 5 (dk_at dksX5_sum_0 14 rfl rfl)
theorem dX5_sum_17 : decode cX5_sum 17 = .ok (.bipush (-2), 2) := dk_16 254 (dk_at dksX5_sum_0 17 rfl rfl)
theorem dX5_sum_19 : decode cX5_sum 19 = .ok (.ireturn, 1) := dk_172 (dk_at dksX5_sum_0 19 rfl rfl)
abbrev cX5_sumOf : ByteArray := prog_15_method_49_code
def yX5_sumOf : MethodName := ⟨RX5, "sumOf", "(I)I"⟩
def dkwX5_sumOf_3 : List UInt8 := [180, 0, 229, 172]
abbrev dktX5_sumOf_3 : List UInt8 := dkwX5_sumOf_3 ++ []
def dkwX5_sumOf_2 : List UInt8 := [42, 182, 1, 9, 172, 42, 6, 182, 1, 13, 172, 42, 7, 182, 1, 13, 172, 42, 180, 0, 226, 172, 42]
abbrev dktX5_sumOf_2 : List UInt8 := dkwX5_sumOf_2 ++ dktX5_sumOf_3
def dkwX5_sumOf_1 : List UInt8 := [170, 0, 0, 0, 0, 0, 53, 0, 0, 0, 0, 0, 0, 0, 3, 0, 0, 0, 31, 0, 0, 0, 36, 0, 0, 0, 42, 0, 0, 0, 48]
abbrev dktX5_sumOf_1 : List UInt8 := dkwX5_sumOf_1 ++ dktX5_sumOf_2
def dkwX5_sumOf_0 : List UInt8 := [42, 182, 0, 253, 27]
abbrev dktX5_sumOf_0 : List UInt8 := dkwX5_sumOf_0 ++ dktX5_sumOf_1
theorem dksX5_sumOf_0 : cX5_sumOf.data.toList.drop 0 = dktX5_sumOf_0 := by decide +kernel
theorem dksX5_sumOf_1 : cX5_sumOf.data.toList.drop 5 = dktX5_sumOf_1 := dk_seg dksX5_sumOf_0 5 rfl rfl
theorem dksX5_sumOf_2 : cX5_sumOf.data.toList.drop 36 = dktX5_sumOf_2 := dk_seg dksX5_sumOf_1 31 rfl rfl
theorem dksX5_sumOf_3 : cX5_sumOf.data.toList.drop 59 = dktX5_sumOf_3 := dk_seg dksX5_sumOf_2 23 rfl rfl
theorem dX5_sumOf_0 : decode cX5_sumOf 0 = .ok (.aload_n 0, 1) := dk_42 (dk_at dksX5_sumOf_0 0 rfl rfl)
theorem dX5_sumOf_1 : decode cX5_sumOf 1 = .ok (.invokevirtual 253, 3) := dk_182 0 253 (dk_at dksX5_sumOf_0 1 rfl rfl)
theorem dX5_sumOf_4 : decode cX5_sumOf 4 = .ok (.iload_n 1, 1) := dk_27 (dk_at dksX5_sumOf_0 4 rfl rfl)
theorem dX5_sumOf_5 : decode cX5_sumOf 5 = .ok (.tableswitch 53 0 3 #[31, 36, 42, 48], 31) := by decide +kernel
theorem dX5_sumOf_36 : decode cX5_sumOf 36 = .ok (.aload_n 0, 1) := dk_42 (dk_at dksX5_sumOf_2 0 rfl rfl)
theorem dX5_sumOf_37 : decode cX5_sumOf 37 = .ok (.invokevirtual 265, 3) := dk_182 1 9 (dk_at dksX5_sumOf_2 1 rfl rfl)
theorem dX5_sumOf_40 : decode cX5_sumOf 40 = .ok (.ireturn, 1) := dk_172 (dk_at dksX5_sumOf_2 4 rfl rfl)
theorem dX5_sumOf_41 : decode cX5_sumOf 41 = .ok (.aload_n 0, 1) := dk_42 (dk_at dksX5_sumOf_2 5 rfl rfl)
theorem dX5_sumOf_42 : decode cX5_sumOf 42 = .ok (.iconst 3, 1) := dk_6 (dk_at dksX5_sumOf_2 6 rfl rfl)
theorem dX5_sumOf_43 : decode cX5_sumOf 43 = .ok (.invokevirtual 269, 3) := dk_182 1 13 (dk_at dksX5_sumOf_2 7 rfl rfl)
theorem dX5_sumOf_46 : decode cX5_sumOf 46 = .ok (.ireturn, 1) := dk_172 (dk_at dksX5_sumOf_2 10 rfl rfl)
theorem dX5_sumOf_47 : decode cX5_sumOf 47 = .ok (.aload_n 0, 1) := dk_42 (dk_at dksX5_sumOf_2 11 rfl rfl)
theorem dX5_sumOf_48 : decode cX5_sumOf 48 = .ok (.iconst 4, 1) := dk_7 (dk_at dksX5_sumOf_2 12 rfl rfl)
theorem dX5_sumOf_49 : decode cX5_sumOf 49 = .ok (.invokevirtual 269, 3) := dk_182 1 13 (dk_at dksX5_sumOf_2 13 rfl rfl)
theorem dX5_sumOf_52 : decode cX5_sumOf 52 = .ok (.ireturn, 1) := dk_172 (dk_at dksX5_sumOf_2 16 rfl rfl)
theorem dX5_sumOf_53 : decode cX5_sumOf 53 = .ok (.aload_n 0, 1) := dk_42 (dk_at dksX5_sumOf_2 17 rfl rfl)
theorem dX5_sumOf_54 : decode cX5_sumOf 54 = .ok (.getfield 226, 3) := dk_180 0 226 (dk_at dksX5_sumOf_2 18 rfl rfl)
theorem dX5_sumOf_57 : decode cX5_sumOf 57 = .ok (.ireturn, 1) := dk_172 (dk_at dksX5_sumOf_2 21 rfl rfl)
theorem dX5_sumOf_58 : decode cX5_sumOf 58 = .ok (.aload_n 0, 1) := dk_42 (dk_at dksX5_sumOf_2 22 rfl rfl)
theorem dX5_sumOf_59 : decode cX5_sumOf 59 = .ok (.getfield 229, 3) := dk_180 0 229 (dk_at dksX5_sumOf_3 0 rfl rfl)
theorem dX5_sumOf_62 : decode cX5_sumOf 62 = .ok (.ireturn, 1) := dk_172 (dk_at dksX5_sumOf_3 3 rfl rfl)
abbrev cX5_drunkNow : ByteArray := prog_15_method_47_code
def yX5_drunkNow : MethodName := ⟨RX5, "drunkNow", "()I"⟩
def dkwX5_drunkNow_1 : List UInt8 := [167, 255, 236, 27, 172]
abbrev dktX5_drunkNow_1 : List UInt8 := dkwX5_drunkNow_1 ++ []
def dkwX5_drunkNow_0 : List UInt8 := [3, 60, 3, 61, 28, 42, 180, 0, 181, 162, 0, 18, 27, 42, 180, 0, 58, 28, 46, 96, 60, 132, 2, 1]
abbrev dktX5_drunkNow_0 : List UInt8 := dkwX5_drunkNow_0 ++ dktX5_drunkNow_1
theorem dksX5_drunkNow_0 : cX5_drunkNow.data.toList.drop 0 = dktX5_drunkNow_0 := by decide +kernel
theorem dksX5_drunkNow_1 : cX5_drunkNow.data.toList.drop 24 = dktX5_drunkNow_1 := dk_seg dksX5_drunkNow_0 24 rfl rfl
theorem dX5_drunkNow_0 : decode cX5_drunkNow 0 = .ok (.iconst 0, 1) := dk_3 (dk_at dksX5_drunkNow_0 0 rfl rfl)
theorem dX5_drunkNow_1 : decode cX5_drunkNow 1 = .ok (.istore_n 1, 1) := dk_60 (dk_at dksX5_drunkNow_0 1 rfl rfl)
theorem dX5_drunkNow_2 : decode cX5_drunkNow 2 = .ok (.iconst 0, 1) := dk_3 (dk_at dksX5_drunkNow_0 2 rfl rfl)
theorem dX5_drunkNow_3 : decode cX5_drunkNow 3 = .ok (.istore_n 2, 1) := dk_61 (dk_at dksX5_drunkNow_0 3 rfl rfl)
theorem dX5_drunkNow_4 : decode cX5_drunkNow 4 = .ok (.iload_n 2, 1) := dk_28 (dk_at dksX5_drunkNow_0 4 rfl rfl)
theorem dX5_drunkNow_5 : decode cX5_drunkNow 5 = .ok (.aload_n 0, 1) := dk_42 (dk_at dksX5_drunkNow_0 5 rfl rfl)
theorem dX5_drunkNow_6 : decode cX5_drunkNow 6 = .ok (.getfield 181, 3) := dk_180 0 181 (dk_at dksX5_drunkNow_0 6 rfl rfl)
theorem dX5_drunkNow_9 : decode cX5_drunkNow 9 = .ok (.if_icmp .ge 18, 3) := dk_162 0 18 (dk_at dksX5_drunkNow_0 9 rfl rfl)
theorem dX5_drunkNow_12 : decode cX5_drunkNow 12 = .ok (.iload_n 1, 1) := dk_27 (dk_at dksX5_drunkNow_0 12 rfl rfl)
theorem dX5_drunkNow_13 : decode cX5_drunkNow 13 = .ok (.aload_n 0, 1) := dk_42 (dk_at dksX5_drunkNow_0 13 rfl rfl)
theorem dX5_drunkNow_14 : decode cX5_drunkNow 14 = .ok (.getfield 58, 3) := dk_180 0 58 (dk_at dksX5_drunkNow_0 14 rfl rfl)
theorem dX5_drunkNow_17 : decode cX5_drunkNow 17 = .ok (.iload_n 2, 1) := dk_28 (dk_at dksX5_drunkNow_0 17 rfl rfl)
theorem dX5_drunkNow_18 : decode cX5_drunkNow 18 = .ok (.iaload, 1) := dk_46 (dk_at dksX5_drunkNow_0 18 rfl rfl)
theorem dX5_drunkNow_19 : decode cX5_drunkNow 19 = .ok (.iadd, 1) := dk_96 (dk_at dksX5_drunkNow_0 19 rfl rfl)
theorem dX5_drunkNow_20 : decode cX5_drunkNow 20 = .ok (.istore_n 1, 1) := dk_60 (dk_at dksX5_drunkNow_0 20 rfl rfl)
theorem dX5_drunkNow_21 : decode cX5_drunkNow 21 = .ok (.iinc 2 1, 3) := dk_132 2 1 (dk_at dksX5_drunkNow_0 21 rfl rfl)
theorem dX5_drunkNow_24 : decode cX5_drunkNow 24 = .ok (.goto (-20), 3) := dk_167 255 236 (dk_at dksX5_drunkNow_1 0 rfl rfl)
theorem dX5_drunkNow_27 : decode cX5_drunkNow 27 = .ok (.iload_n 1, 1) := dk_27 (dk_at dksX5_drunkNow_1 3 rfl rfl)
theorem dX5_drunkNow_28 : decode cX5_drunkNow 28 = .ok (.ireturn, 1) := dk_172 (dk_at dksX5_drunkNow_1 4 rfl rfl)
abbrev cX5_manyOf : ByteArray := prog_15_method_48_code
def yX5_manyOf : MethodName := ⟨RX5, "manyOf", "(I)I"⟩
def dkwX5_manyOf_1 : List UInt8 := [167, 0, 4, 3, 96, 61, 132, 3, 1, 167, 255, 227, 28, 172]
abbrev dktX5_manyOf_1 : List UInt8 := dkwX5_manyOf_1 ++ []
def dkwX5_manyOf_0 : List UInt8 := [3, 61, 3, 62, 29, 42, 180, 0, 181, 162, 0, 27, 28, 42, 180, 0, 55, 29, 46, 27, 160, 0, 7, 4]
abbrev dktX5_manyOf_0 : List UInt8 := dkwX5_manyOf_0 ++ dktX5_manyOf_1
theorem dksX5_manyOf_0 : cX5_manyOf.data.toList.drop 0 = dktX5_manyOf_0 := by decide +kernel
theorem dksX5_manyOf_1 : cX5_manyOf.data.toList.drop 24 = dktX5_manyOf_1 := dk_seg dksX5_manyOf_0 24 rfl rfl
theorem dX5_manyOf_0 : decode cX5_manyOf 0 = .ok (.iconst 0, 1) := dk_3 (dk_at dksX5_manyOf_0 0 rfl rfl)
theorem dX5_manyOf_1 : decode cX5_manyOf 1 = .ok (.istore_n 2, 1) := dk_61 (dk_at dksX5_manyOf_0 1 rfl rfl)
theorem dX5_manyOf_2 : decode cX5_manyOf 2 = .ok (.iconst 0, 1) := dk_3 (dk_at dksX5_manyOf_0 2 rfl rfl)
theorem dX5_manyOf_3 : decode cX5_manyOf 3 = .ok (.istore_n 3, 1) := dk_62 (dk_at dksX5_manyOf_0 3 rfl rfl)
theorem dX5_manyOf_4 : decode cX5_manyOf 4 = .ok (.iload_n 3, 1) := dk_29 (dk_at dksX5_manyOf_0 4 rfl rfl)
theorem dX5_manyOf_5 : decode cX5_manyOf 5 = .ok (.aload_n 0, 1) := dk_42 (dk_at dksX5_manyOf_0 5 rfl rfl)
theorem dX5_manyOf_6 : decode cX5_manyOf 6 = .ok (.getfield 181, 3) := dk_180 0 181 (dk_at dksX5_manyOf_0 6 rfl rfl)
theorem dX5_manyOf_9 : decode cX5_manyOf 9 = .ok (.if_icmp .ge 27, 3) := dk_162 0 27 (dk_at dksX5_manyOf_0 9 rfl rfl)
theorem dX5_manyOf_12 : decode cX5_manyOf 12 = .ok (.iload_n 2, 1) := dk_28 (dk_at dksX5_manyOf_0 12 rfl rfl)
theorem dX5_manyOf_13 : decode cX5_manyOf 13 = .ok (.aload_n 0, 1) := dk_42 (dk_at dksX5_manyOf_0 13 rfl rfl)
theorem dX5_manyOf_14 : decode cX5_manyOf 14 = .ok (.getfield 55, 3) := dk_180 0 55 (dk_at dksX5_manyOf_0 14 rfl rfl)
theorem dX5_manyOf_17 : decode cX5_manyOf 17 = .ok (.iload_n 3, 1) := dk_29 (dk_at dksX5_manyOf_0 17 rfl rfl)
theorem dX5_manyOf_18 : decode cX5_manyOf 18 = .ok (.iaload, 1) := dk_46 (dk_at dksX5_manyOf_0 18 rfl rfl)
theorem dX5_manyOf_19 : decode cX5_manyOf 19 = .ok (.iload_n 1, 1) := dk_27 (dk_at dksX5_manyOf_0 19 rfl rfl)
theorem dX5_manyOf_20 : decode cX5_manyOf 20 = .ok (.if_icmp .ne 7, 3) := dk_160 0 7 (dk_at dksX5_manyOf_0 20 rfl rfl)
theorem dX5_manyOf_23 : decode cX5_manyOf 23 = .ok (.iconst 1, 1) := dk_4 (dk_at dksX5_manyOf_0 23 rfl rfl)
theorem dX5_manyOf_24 : decode cX5_manyOf 24 = .ok (.goto 4, 3) := dk_167 0 4 (dk_at dksX5_manyOf_1 0 rfl rfl)
theorem dX5_manyOf_27 : decode cX5_manyOf 27 = .ok (.iconst 0, 1) := dk_3 (dk_at dksX5_manyOf_1 3 rfl rfl)
theorem dX5_manyOf_28 : decode cX5_manyOf 28 = .ok (.iadd, 1) := dk_96 (dk_at dksX5_manyOf_1 4 rfl rfl)
theorem dX5_manyOf_29 : decode cX5_manyOf 29 = .ok (.istore_n 2, 1) := dk_61 (dk_at dksX5_manyOf_1 5 rfl rfl)
theorem dX5_manyOf_30 : decode cX5_manyOf 30 = .ok (.iinc 3 1, 3) := dk_132 3 1 (dk_at dksX5_manyOf_1 6 rfl rfl)
theorem dX5_manyOf_33 : decode cX5_manyOf 33 = .ok (.goto (-29), 3) := dk_167 255 227 (dk_at dksX5_manyOf_1 9 rfl rfl)
theorem dX5_manyOf_36 : decode cX5_manyOf 36 = .ok (.iload_n 2, 1) := dk_28 (dk_at dksX5_manyOf_1 12 rfl rfl)
theorem dX5_manyOf_37 : decode cX5_manyOf 37 = .ok (.ireturn, 1) := dk_172 (dk_at dksX5_manyOf_1 13 rfl rfl)
abbrev cX5_first : ByteArray := prog_15_method_52_code
def yX5_first : MethodName := ⟨RX5, "first", "()I"⟩
theorem dX5_first_0 : decode cX5_first 0 = .ok (.aload_n 0, 1) := by decide +kernel
theorem dX5_first_1 : decode cX5_first 1 = .ok (.invokevirtual 275, 3) := by decide +kernel
theorem dX5_first_4 : decode cX5_first 4 = .ok (.ireturn, 1) := by decide +kernel
abbrev cX5_firstOf : ByteArray := prog_15_method_51_code
def yX5_firstOf : MethodName := ⟨RX5, "firstOf", "()I"⟩
def dkwX5_firstOf_0 : List UInt8 := [42, 182, 0, 253, 42, 180, 0, 232, 172]
abbrev dktX5_firstOf_0 : List UInt8 := dkwX5_firstOf_0 ++ []
theorem dksX5_firstOf_0 : cX5_firstOf.data.toList.drop 0 = dktX5_firstOf_0 := by decide +kernel
theorem dX5_firstOf_0 : decode cX5_firstOf 0 = .ok (.aload_n 0, 1) := dk_42 (dk_at dksX5_firstOf_0 0 rfl rfl)
theorem dX5_firstOf_1 : decode cX5_firstOf 1 = .ok (.invokevirtual 253, 3) := dk_182 0 253 (dk_at dksX5_firstOf_0 1 rfl rfl)
theorem dX5_firstOf_4 : decode cX5_firstOf 4 = .ok (.aload_n 0, 1) := dk_42 (dk_at dksX5_firstOf_0 4 rfl rfl)
theorem dX5_firstOf_5 : decode cX5_firstOf 5 = .ok (.getfield 232, 3) := dk_180 0 232 (dk_at dksX5_firstOf_0 5 rfl rfl)
theorem dX5_firstOf_8 : decode cX5_firstOf 8 = .ok (.ireturn, 1) := dk_172 (dk_at dksX5_firstOf_0 8 rfl rfl)
abbrev cX5_hottest : ByteArray := prog_15_method_54_code
def yX5_hottest : MethodName := ⟨RX5, "hottest", "(I)I"⟩
def dkwX5_hottest_0 : List UInt8 := [27, 184, 0, 123, 153, 0, 11, 42, 27, 182, 1, 22, 167, 0, 5, 16, 254, 172]
abbrev dktX5_hottest_0 : List UInt8 := dkwX5_hottest_0 ++ []
theorem dksX5_hottest_0 : cX5_hottest.data.toList.drop 0 = dktX5_hottest_0 := by decide +kernel
theorem dX5_hottest_0 : decode cX5_hottest 0 = .ok (.iload_n 1, 1) := dk_27 (dk_at dksX5_hottest_0 0 rfl rfl)
theorem dX5_hottest_1 : decode cX5_hottest 1 = .ok (.invokestatic 123, 3) := dk_184 0 123 (dk_at dksX5_hottest_0 1 rfl rfl)
theorem dX5_hottest_4 : decode cX5_hottest 4 = .ok (.ifCond .eq 11, 3) := dk_153 0 11 (dk_at dksX5_hottest_0 4 rfl rfl)
theorem dX5_hottest_7 : decode cX5_hottest 7 = .ok (.aload_n 0, 1) := dk_42 (dk_at dksX5_hottest_0 7 rfl rfl)
theorem dX5_hottest_8 : decode cX5_hottest 8 = .ok (.iload_n 1, 1) := dk_27 (dk_at dksX5_hottest_0 8 rfl rfl)
theorem dX5_hottest_9 : decode cX5_hottest 9 = .ok (.invokevirtual 278, 3) := dk_182 1 22 (dk_at dksX5_hottest_0 9 rfl rfl)
theorem dX5_hottest_12 : decode cX5_hottest 12 = .ok (.goto 5, 3) := dk_167 0 5 (dk_at dksX5_hottest_0 12 rfl rfl)
theorem dX5_hottest_15 : decode cX5_hottest 15 = .ok (.bipush (-2), 2) := dk_16 254 (dk_at dksX5_hottest_0 15 rfl rfl)
theorem dX5_hottest_17 : decode cX5_hottest 17 = .ok (.ireturn, 1) := dk_172 (dk_at dksX5_hottest_0 17 rfl rfl)
abbrev cX5_hottestOf : ByteArray := prog_15_method_53_code
def yX5_hottestOf : MethodName := ⟨RX5, "hottestOf", "(I)I"⟩
def dkwX5_hottestOf_2 : List UInt8 := [154, 0, 7, 28, 167, 0, 12, 42, 180, 0, 70, 16, 6, 28, 104, 46, 172]
abbrev dktX5_hottestOf_2 : List UInt8 := dkwX5_hottestOf_2 ++ []
def dkwX5_hottestOf_1 : List UInt8 := [180, 0, 70, 16, 6, 28, 104, 46, 164, 0, 7, 29, 167, 0, 4, 28, 61, 132, 3, 1, 167, 255, 220, 27]
abbrev dktX5_hottestOf_1 : List UInt8 := dkwX5_hottestOf_1 ++ dktX5_hottestOf_2
def dkwX5_hottestOf_0 : List UInt8 := [42, 182, 0, 253, 3, 61, 4, 62, 29, 16, 24, 162, 0, 36, 42, 180, 0, 70, 16, 6, 29, 104, 46, 42]
abbrev dktX5_hottestOf_0 : List UInt8 := dkwX5_hottestOf_0 ++ dktX5_hottestOf_1
theorem dksX5_hottestOf_0 : cX5_hottestOf.data.toList.drop 0 = dktX5_hottestOf_0 := by decide +kernel
theorem dksX5_hottestOf_1 : cX5_hottestOf.data.toList.drop 24 = dktX5_hottestOf_1 := dk_seg dksX5_hottestOf_0 24 rfl rfl
theorem dksX5_hottestOf_2 : cX5_hottestOf.data.toList.drop 48 = dktX5_hottestOf_2 := dk_seg dksX5_hottestOf_1 24 rfl rfl
theorem dX5_hottestOf_0 : decode cX5_hottestOf 0 = .ok (.aload_n 0, 1) := dk_42 (dk_at dksX5_hottestOf_0 0 rfl rfl)
theorem dX5_hottestOf_1 : decode cX5_hottestOf 1 = .ok (.invokevirtual 253, 3) := dk_182 0 253 (dk_at dksX5_hottestOf_0 1 rfl rfl)
theorem dX5_hottestOf_4 : decode cX5_hottestOf 4 = .ok (.iconst 0, 1) := dk_3 (dk_at dksX5_hottestOf_0 4 rfl rfl)
theorem dX5_hottestOf_5 : decode cX5_hottestOf 5 = .ok (.istore_n 2, 1) := dk_61 (dk_at dksX5_hottestOf_0 5 rfl rfl)
theorem dX5_hottestOf_6 : decode cX5_hottestOf 6 = .ok (.iconst 1, 1) := dk_4 (dk_at dksX5_hottestOf_0 6 rfl rfl)
theorem dX5_hottestOf_7 : decode cX5_hottestOf 7 = .ok (.istore_n 3, 1) := dk_62 (dk_at dksX5_hottestOf_0 7 rfl rfl)
theorem dX5_hottestOf_8 : decode cX5_hottestOf 8 = .ok (.iload_n 3, 1) := dk_29 (dk_at dksX5_hottestOf_0 8 rfl rfl)
theorem dX5_hottestOf_9 : decode cX5_hottestOf 9 = .ok (.bipush 24, 2) := dk_16 24 (dk_at dksX5_hottestOf_0 9 rfl rfl)
theorem dX5_hottestOf_11 : decode cX5_hottestOf 11 = .ok (.if_icmp .ge 36, 3) := dk_162 0 36 (dk_at dksX5_hottestOf_0 11 rfl rfl)
theorem dX5_hottestOf_14 : decode cX5_hottestOf 14 = .ok (.aload_n 0, 1) := dk_42 (dk_at dksX5_hottestOf_0 14 rfl rfl)
theorem dX5_hottestOf_15 : decode cX5_hottestOf 15 = .ok (.getfield 70, 3) := dk_180 0 70 (dk_at dksX5_hottestOf_0 15 rfl rfl)
theorem dX5_hottestOf_18 : decode cX5_hottestOf 18 = .ok (.bipush 6, 2) := dk_16 6 (dk_at dksX5_hottestOf_0 18 rfl rfl)
theorem dX5_hottestOf_20 : decode cX5_hottestOf 20 = .ok (.iload_n 3, 1) := dk_29 (dk_at dksX5_hottestOf_0 20 rfl rfl)
theorem dX5_hottestOf_21 : decode cX5_hottestOf 21 = .ok (.imul, 1) := dk_104 (dk_at dksX5_hottestOf_0 21 rfl rfl)
theorem dX5_hottestOf_22 : decode cX5_hottestOf 22 = .ok (.iaload, 1) := dk_46 (dk_at dksX5_hottestOf_0 22 rfl rfl)
theorem dX5_hottestOf_23 : decode cX5_hottestOf 23 = .ok (.aload_n 0, 1) := dk_42 (dk_at dksX5_hottestOf_0 23 rfl rfl)
theorem dX5_hottestOf_24 : decode cX5_hottestOf 24 = .ok (.getfield 70, 3) := dk_180 0 70 (dk_at dksX5_hottestOf_1 0 rfl rfl)
theorem dX5_hottestOf_27 : decode cX5_hottestOf 27 = .ok (.bipush 6, 2) := dk_16 6 (dk_at dksX5_hottestOf_1 3 rfl rfl)
theorem dX5_hottestOf_29 : decode cX5_hottestOf 29 = .ok (.iload_n 2, 1) := dk_28 (dk_at dksX5_hottestOf_1 5 rfl rfl)
theorem dX5_hottestOf_30 : decode cX5_hottestOf 30 = .ok (.imul, 1) := dk_104 (dk_at dksX5_hottestOf_1 6 rfl rfl)
theorem dX5_hottestOf_31 : decode cX5_hottestOf 31 = .ok (.iaload, 1) := dk_46 (dk_at dksX5_hottestOf_1 7 rfl rfl)
theorem dX5_hottestOf_32 : decode cX5_hottestOf 32 = .ok (.if_icmp .le 7, 3) := dk_164 0 7 (dk_at dksX5_hottestOf_1 8 rfl rfl)
theorem dX5_hottestOf_35 : decode cX5_hottestOf 35 = .ok (.iload_n 3, 1) := dk_29 (dk_at dksX5_hottestOf_1 11 rfl rfl)
theorem dX5_hottestOf_36 : decode cX5_hottestOf 36 = .ok (.goto 4, 3) := dk_167 0 4 (dk_at dksX5_hottestOf_1 12 rfl rfl)
theorem dX5_hottestOf_39 : decode cX5_hottestOf 39 = .ok (.iload_n 2, 1) := dk_28 (dk_at dksX5_hottestOf_1 15 rfl rfl)
theorem dX5_hottestOf_40 : decode cX5_hottestOf 40 = .ok (.istore_n 2, 1) := dk_61 (dk_at dksX5_hottestOf_1 16 rfl rfl)
theorem dX5_hottestOf_41 : decode cX5_hottestOf 41 = .ok (.iinc 3 1, 3) := dk_132 3 1 (dk_at dksX5_hottestOf_1 17 rfl rfl)
theorem dX5_hottestOf_44 : decode cX5_hottestOf 44 = .ok (.goto (-36), 3) := dk_167 255 220 (dk_at dksX5_hottestOf_1 20 rfl rfl)
theorem dX5_hottestOf_47 : decode cX5_hottestOf 47 = .ok (.iload_n 1, 1) := dk_27 (dk_at dksX5_hottestOf_1 23 rfl rfl)
theorem dX5_hottestOf_48 : decode cX5_hottestOf 48 = .ok (.ifCond .ne 7, 3) := dk_154 0 7 (dk_at dksX5_hottestOf_2 0 rfl rfl)
theorem dX5_hottestOf_51 : decode cX5_hottestOf 51 = .ok (.iload_n 2, 1) := dk_28 (dk_at dksX5_hottestOf_2 3 rfl rfl)
theorem dX5_hottestOf_52 : decode cX5_hottestOf 52 = .ok (.goto 12, 3) := dk_167 0 12 (dk_at dksX5_hottestOf_2 4 rfl rfl)
theorem dX5_hottestOf_55 : decode cX5_hottestOf 55 = .ok (.aload_n 0, 1) := dk_42 (dk_at dksX5_hottestOf_2 7 rfl rfl)
theorem dX5_hottestOf_56 : decode cX5_hottestOf 56 = .ok (.getfield 70, 3) := dk_180 0 70 (dk_at dksX5_hottestOf_2 8 rfl rfl)
theorem dX5_hottestOf_59 : decode cX5_hottestOf 59 = .ok (.bipush 6, 2) := dk_16 6 (dk_at dksX5_hottestOf_2 11 rfl rfl)
theorem dX5_hottestOf_61 : decode cX5_hottestOf 61 = .ok (.iload_n 2, 1) := dk_28 (dk_at dksX5_hottestOf_2 13 rfl rfl)
theorem dX5_hottestOf_62 : decode cX5_hottestOf 62 = .ok (.imul, 1) := dk_104 (dk_at dksX5_hottestOf_2 14 rfl rfl)
theorem dX5_hottestOf_63 : decode cX5_hottestOf 63 = .ok (.iaload, 1) := dk_46 (dk_at dksX5_hottestOf_2 15 rfl rfl)
theorem dX5_hottestOf_64 : decode cX5_hottestOf 64 = .ok (.ireturn, 1) := dk_172 (dk_at dksX5_hottestOf_2 16 rfl rfl)
abbrev cX5_waited : ByteArray := prog_15_method_56_code
def yX5_waited : MethodName := ⟨RX5, "waited", "(I)I"⟩
def dkwX5_waited_0 : List UInt8 := [42, 27, 182, 0, 163, 153, 0, 11, 42, 27, 182, 1, 25, 167, 0, 5, 16, 254, 172]
abbrev dktX5_waited_0 : List UInt8 := dkwX5_waited_0 ++ []
theorem dksX5_waited_0 : cX5_waited.data.toList.drop 0 = dktX5_waited_0 := by decide +kernel
theorem dX5_waited_0 : decode cX5_waited 0 = .ok (.aload_n 0, 1) := dk_42 (dk_at dksX5_waited_0 0 rfl rfl)
theorem dX5_waited_1 : decode cX5_waited 1 = .ok (.iload_n 1, 1) := dk_27 (dk_at dksX5_waited_0 1 rfl rfl)
theorem dX5_waited_2 : decode cX5_waited 2 = .ok (.invokevirtual 163, 3) := dk_182 0 163 (dk_at dksX5_waited_0 2 rfl rfl)
theorem dX5_waited_5 : decode cX5_waited 5 = .ok (.ifCond .eq 11, 3) := dk_153 0 11 (dk_at dksX5_waited_0 5 rfl rfl)
theorem dX5_waited_8 : decode cX5_waited 8 = .ok (.aload_n 0, 1) := dk_42 (dk_at dksX5_waited_0 8 rfl rfl)
theorem dX5_waited_9 : decode cX5_waited 9 = .ok (.iload_n 1, 1) := dk_27 (dk_at dksX5_waited_0 9 rfl rfl)
theorem dX5_waited_10 : decode cX5_waited 10 = .ok (.invokevirtual 281, 3) := dk_182 1 25 (dk_at dksX5_waited_0 10 rfl rfl)
theorem dX5_waited_13 : decode cX5_waited 13 = .ok (.goto 5, 3) := dk_167 0 5 (dk_at dksX5_waited_0 13 rfl rfl)
theorem dX5_waited_16 : decode cX5_waited 16 = .ok (.bipush (-2), 2) := dk_16 254 (dk_at dksX5_waited_0 16 rfl rfl)
theorem dX5_waited_18 : decode cX5_waited 18 = .ok (.ireturn, 1) := dk_172 (dk_at dksX5_waited_0 18 rfl rfl)
abbrev cX5_waitedOf : ByteArray := prog_15_method_55_code
def yX5_waitedOf : MethodName := ⟨RX5, "waitedOf", "(I)I"⟩
def dkwX5_waitedOf_0 : List UInt8 := [42, 182, 0, 253, 42, 180, 0, 67, 27, 46, 172]
abbrev dktX5_waitedOf_0 : List UInt8 := dkwX5_waitedOf_0 ++ []
theorem dksX5_waitedOf_0 : cX5_waitedOf.data.toList.drop 0 = dktX5_waitedOf_0 := by decide +kernel
theorem dX5_waitedOf_0 : decode cX5_waitedOf 0 = .ok (.aload_n 0, 1) := dk_42 (dk_at dksX5_waitedOf_0 0 rfl rfl)
theorem dX5_waitedOf_1 : decode cX5_waitedOf 1 = .ok (.invokevirtual 253, 3) := dk_182 0 253 (dk_at dksX5_waitedOf_0 1 rfl rfl)
theorem dX5_waitedOf_4 : decode cX5_waitedOf 4 = .ok (.aload_n 0, 1) := dk_42 (dk_at dksX5_waitedOf_0 4 rfl rfl)
theorem dX5_waitedOf_5 : decode cX5_waitedOf 5 = .ok (.getfield 67, 3) := dk_180 0 67 (dk_at dksX5_waitedOf_0 5 rfl rfl)
theorem dX5_waitedOf_8 : decode cX5_waitedOf 8 = .ok (.iload_n 1, 1) := dk_27 (dk_at dksX5_waitedOf_0 8 rfl rfl)
theorem dX5_waitedOf_9 : decode cX5_waitedOf 9 = .ok (.iaload, 1) := dk_46 (dk_at dksX5_waitedOf_0 9 rfl rfl)
theorem dX5_waitedOf_10 : decode cX5_waitedOf 10 = .ok (.ireturn, 1) := dk_172 (dk_at dksX5_waitedOf_0 10 rfl rfl)
abbrev cX5_thirst : ByteArray := prog_15_method_58_code
def yX5_thirst : MethodName := ⟨RX5, "thirst", "()I"⟩
theorem dX5_thirst_0 : decode cX5_thirst 0 = .ok (.aload_n 0, 1) := by decide +kernel
theorem dX5_thirst_1 : decode cX5_thirst 1 = .ok (.invokevirtual 284, 3) := by decide +kernel
theorem dX5_thirst_4 : decode cX5_thirst 4 = .ok (.ireturn, 1) := by decide +kernel
abbrev cX5_thirstOf : ByteArray := prog_15_method_57_code
def yX5_thirstOf : MethodName := ⟨RX5, "thirstOf", "()I"⟩
def dkwX5_thirstOf_2 : List UInt8 := [172]
abbrev dktX5_thirstOf_2 : List UInt8 := dkwX5_thirstOf_2 ++ []
def dkwX5_thirstOf_1 : List UInt8 := [180, 0, 31, 28, 46, 162, 0, 9, 4, 28, 120, 167, 0, 4, 3, 128, 60, 132, 2, 1, 167, 255, 220, 27]
abbrev dktX5_thirstOf_1 : List UInt8 := dkwX5_thirstOf_1 ++ dktX5_thirstOf_2
def dkwX5_thirstOf_0 : List UInt8 := [42, 182, 0, 253, 3, 60, 3, 61, 28, 42, 180, 0, 137, 162, 0, 34, 27, 42, 180, 0, 58, 28, 46, 42]
abbrev dktX5_thirstOf_0 : List UInt8 := dkwX5_thirstOf_0 ++ dktX5_thirstOf_1
theorem dksX5_thirstOf_0 : cX5_thirstOf.data.toList.drop 0 = dktX5_thirstOf_0 := by decide +kernel
theorem dksX5_thirstOf_1 : cX5_thirstOf.data.toList.drop 24 = dktX5_thirstOf_1 := dk_seg dksX5_thirstOf_0 24 rfl rfl
theorem dksX5_thirstOf_2 : cX5_thirstOf.data.toList.drop 48 = dktX5_thirstOf_2 := dk_seg dksX5_thirstOf_1 24 rfl rfl
theorem dX5_thirstOf_0 : decode cX5_thirstOf 0 = .ok (.aload_n 0, 1) := dk_42 (dk_at dksX5_thirstOf_0 0 rfl rfl)
theorem dX5_thirstOf_1 : decode cX5_thirstOf 1 = .ok (.invokevirtual 253, 3) := dk_182 0 253 (dk_at dksX5_thirstOf_0 1 rfl rfl)
theorem dX5_thirstOf_4 : decode cX5_thirstOf 4 = .ok (.iconst 0, 1) := dk_3 (dk_at dksX5_thirstOf_0 4 rfl rfl)
theorem dX5_thirstOf_5 : decode cX5_thirstOf 5 = .ok (.istore_n 1, 1) := dk_60 (dk_at dksX5_thirstOf_0 5 rfl rfl)
theorem dX5_thirstOf_6 : decode cX5_thirstOf 6 = .ok (.iconst 0, 1) := dk_3 (dk_at dksX5_thirstOf_0 6 rfl rfl)
theorem dX5_thirstOf_7 : decode cX5_thirstOf 7 = .ok (.istore_n 2, 1) := dk_61 (dk_at dksX5_thirstOf_0 7 rfl rfl)
theorem dX5_thirstOf_8 : decode cX5_thirstOf 8 = .ok (.iload_n 2, 1) := dk_28 (dk_at dksX5_thirstOf_0 8 rfl rfl)
theorem dX5_thirstOf_9 : decode cX5_thirstOf 9 = .ok (.aload_n 0, 1) := dk_42 (dk_at dksX5_thirstOf_0 9 rfl rfl)
theorem dX5_thirstOf_10 : decode cX5_thirstOf 10 = .ok (.getfield 137, 3) := dk_180 0 137 (dk_at dksX5_thirstOf_0 10 rfl rfl)
theorem dX5_thirstOf_13 : decode cX5_thirstOf 13 = .ok (.if_icmp .ge 34, 3) := dk_162 0 34 (dk_at dksX5_thirstOf_0 13 rfl rfl)
theorem dX5_thirstOf_16 : decode cX5_thirstOf 16 = .ok (.iload_n 1, 1) := dk_27 (dk_at dksX5_thirstOf_0 16 rfl rfl)
theorem dX5_thirstOf_17 : decode cX5_thirstOf 17 = .ok (.aload_n 0, 1) := dk_42 (dk_at dksX5_thirstOf_0 17 rfl rfl)
theorem dX5_thirstOf_18 : decode cX5_thirstOf 18 = .ok (.getfield 58, 3) := dk_180 0 58 (dk_at dksX5_thirstOf_0 18 rfl rfl)
theorem dX5_thirstOf_21 : decode cX5_thirstOf 21 = .ok (.iload_n 2, 1) := dk_28 (dk_at dksX5_thirstOf_0 21 rfl rfl)
theorem dX5_thirstOf_22 : decode cX5_thirstOf 22 = .ok (.iaload, 1) := dk_46 (dk_at dksX5_thirstOf_0 22 rfl rfl)
theorem dX5_thirstOf_23 : decode cX5_thirstOf 23 = .ok (.aload_n 0, 1) := dk_42 (dk_at dksX5_thirstOf_0 23 rfl rfl)
theorem dX5_thirstOf_24 : decode cX5_thirstOf 24 = .ok (.getfield 31, 3) := dk_180 0 31 (dk_at dksX5_thirstOf_1 0 rfl rfl)
theorem dX5_thirstOf_27 : decode cX5_thirstOf 27 = .ok (.iload_n 2, 1) := dk_28 (dk_at dksX5_thirstOf_1 3 rfl rfl)
theorem dX5_thirstOf_28 : decode cX5_thirstOf 28 = .ok (.iaload, 1) := dk_46 (dk_at dksX5_thirstOf_1 4 rfl rfl)
theorem dX5_thirstOf_29 : decode cX5_thirstOf 29 = .ok (.if_icmp .ge 9, 3) := dk_162 0 9 (dk_at dksX5_thirstOf_1 5 rfl rfl)
theorem dX5_thirstOf_32 : decode cX5_thirstOf 32 = .ok (.iconst 1, 1) := dk_4 (dk_at dksX5_thirstOf_1 8 rfl rfl)
theorem dX5_thirstOf_33 : decode cX5_thirstOf 33 = .ok (.iload_n 2, 1) := dk_28 (dk_at dksX5_thirstOf_1 9 rfl rfl)
theorem dX5_thirstOf_34 : decode cX5_thirstOf 34 = .ok (.ishl, 1) := dk_120 (dk_at dksX5_thirstOf_1 10 rfl rfl)
theorem dX5_thirstOf_35 : decode cX5_thirstOf 35 = .ok (.goto 4, 3) := dk_167 0 4 (dk_at dksX5_thirstOf_1 11 rfl rfl)
theorem dX5_thirstOf_38 : decode cX5_thirstOf 38 = .ok (.iconst 0, 1) := dk_3 (dk_at dksX5_thirstOf_1 14 rfl rfl)
theorem dX5_thirstOf_39 : decode cX5_thirstOf 39 = .ok (.ior, 1) := dk_128 (dk_at dksX5_thirstOf_1 15 rfl rfl)
theorem dX5_thirstOf_40 : decode cX5_thirstOf 40 = .ok (.istore_n 1, 1) := dk_60 (dk_at dksX5_thirstOf_1 16 rfl rfl)
theorem dX5_thirstOf_41 : decode cX5_thirstOf 41 = .ok (.iinc 2 1, 3) := dk_132 2 1 (dk_at dksX5_thirstOf_1 17 rfl rfl)
theorem dX5_thirstOf_44 : decode cX5_thirstOf 44 = .ok (.goto (-36), 3) := dk_167 255 220 (dk_at dksX5_thirstOf_1 20 rfl rfl)
theorem dX5_thirstOf_47 : decode cX5_thirstOf 47 = .ok (.iload_n 1, 1) := dk_27 (dk_at dksX5_thirstOf_1 23 rfl rfl)
theorem dX5_thirstOf_48 : decode cX5_thirstOf 48 = .ok (.ireturn, 1) := dk_172 (dk_at dksX5_thirstOf_2 0 rfl rfl)
abbrev cX5_better : ByteArray := prog_15_method_62_code
def yX5_better : MethodName := ⟨RX5, "better", "(II)I"⟩
def dkwX5_better_1 : List UInt8 := [16, 254, 172]
abbrev dktX5_better_1 : List UInt8 := dkwX5_better_1 ++ []
def dkwX5_better_0 : List UInt8 := [42, 27, 182, 0, 154, 153, 0, 19, 28, 184, 0, 123, 153, 0, 12, 42, 27, 28, 182, 1, 43, 167, 0, 5]
abbrev dktX5_better_0 : List UInt8 := dkwX5_better_0 ++ dktX5_better_1
theorem dksX5_better_0 : cX5_better.data.toList.drop 0 = dktX5_better_0 := by decide +kernel
theorem dksX5_better_1 : cX5_better.data.toList.drop 24 = dktX5_better_1 := dk_seg dksX5_better_0 24 rfl rfl
theorem dX5_better_0 : decode cX5_better 0 = .ok (.aload_n 0, 1) := dk_42 (dk_at dksX5_better_0 0 rfl rfl)
theorem dX5_better_1 : decode cX5_better 1 = .ok (.iload_n 1, 1) := dk_27 (dk_at dksX5_better_0 1 rfl rfl)
theorem dX5_better_2 : decode cX5_better 2 = .ok (.invokevirtual 154, 3) := dk_182 0 154 (dk_at dksX5_better_0 2 rfl rfl)
theorem dX5_better_5 : decode cX5_better 5 = .ok (.ifCond .eq 19, 3) := dk_153 0 19 (dk_at dksX5_better_0 5 rfl rfl)
theorem dX5_better_8 : decode cX5_better 8 = .ok (.iload_n 2, 1) := dk_28 (dk_at dksX5_better_0 8 rfl rfl)
theorem dX5_better_9 : decode cX5_better 9 = .ok (.invokestatic 123, 3) := dk_184 0 123 (dk_at dksX5_better_0 9 rfl rfl)
theorem dX5_better_12 : decode cX5_better 12 = .ok (.ifCond .eq 12, 3) := dk_153 0 12 (dk_at dksX5_better_0 12 rfl rfl)
theorem dX5_better_15 : decode cX5_better 15 = .ok (.aload_n 0, 1) := dk_42 (dk_at dksX5_better_0 15 rfl rfl)
theorem dX5_better_16 : decode cX5_better 16 = .ok (.iload_n 1, 1) := dk_27 (dk_at dksX5_better_0 16 rfl rfl)
theorem dX5_better_17 : decode cX5_better 17 = .ok (.iload_n 2, 1) := dk_28 (dk_at dksX5_better_0 17 rfl rfl)
theorem dX5_better_18 : decode cX5_better 18 = .ok (.invokevirtual 299, 3) := dk_182 1 43 (dk_at dksX5_better_0 18 rfl rfl)
theorem dX5_better_21 : decode cX5_better 21 = .ok (.goto 5, 3) := dk_167 0 5 (dk_at dksX5_better_0 21 rfl rfl)
theorem dX5_better_24 : decode cX5_better 24 = .ok (.bipush (-2), 2) := dk_16 254 (dk_at dksX5_better_1 0 rfl rfl)
theorem dX5_better_26 : decode cX5_better 26 = .ok (.ireturn, 1) := dk_172 (dk_at dksX5_better_1 2 rfl rfl)
abbrev cX5_betterOf : ByteArray := prog_15_method_61_code
def yX5_betterOf : MethodName := ⟨RX5, "betterOf", "(II)I"⟩
def dkwX5_betterOf_2 : List UInt8 := [154, 0, 10, 42, 180, 1, 31, 167, 0, 7, 42, 180, 1, 34, 172]
abbrev dktX5_betterOf_2 : List UInt8 := dkwX5_betterOf_2 ++ []
def dkwX5_betterOf_1 : List UInt8 := [27, 21, 4, 79, 42, 21, 4, 182, 1, 40, 132, 4, 1, 167, 255, 233, 42, 180, 0, 19, 27, 29, 79, 28]
abbrev dktX5_betterOf_1 : List UInt8 := dkwX5_betterOf_1 ++ dktX5_betterOf_2
def dkwX5_betterOf_0 : List UInt8 := [42, 182, 1, 37, 42, 180, 0, 19, 27, 46, 62, 3, 54, 4, 21, 4, 6, 162, 0, 23, 42, 180, 0, 19]
abbrev dktX5_betterOf_0 : List UInt8 := dkwX5_betterOf_0 ++ dktX5_betterOf_1
theorem dksX5_betterOf_0 : cX5_betterOf.data.toList.drop 0 = dktX5_betterOf_0 := by decide +kernel
theorem dksX5_betterOf_1 : cX5_betterOf.data.toList.drop 24 = dktX5_betterOf_1 := dk_seg dksX5_betterOf_0 24 rfl rfl
theorem dksX5_betterOf_2 : cX5_betterOf.data.toList.drop 48 = dktX5_betterOf_2 := dk_seg dksX5_betterOf_1 24 rfl rfl
theorem dX5_betterOf_0 : decode cX5_betterOf 0 = .ok (.aload_n 0, 1) := dk_42 (dk_at dksX5_betterOf_0 0 rfl rfl)
theorem dX5_betterOf_1 : decode cX5_betterOf 1 = .ok (.invokevirtual 293, 3) := dk_182 1 37 (dk_at dksX5_betterOf_0 1 rfl rfl)
theorem dX5_betterOf_4 : decode cX5_betterOf 4 = .ok (.aload_n 0, 1) := dk_42 (dk_at dksX5_betterOf_0 4 rfl rfl)
theorem dX5_betterOf_5 : decode cX5_betterOf 5 = .ok (.getfield 19, 3) := dk_180 0 19 (dk_at dksX5_betterOf_0 5 rfl rfl)
theorem dX5_betterOf_8 : decode cX5_betterOf 8 = .ok (.iload_n 1, 1) := dk_27 (dk_at dksX5_betterOf_0 8 rfl rfl)
theorem dX5_betterOf_9 : decode cX5_betterOf 9 = .ok (.iaload, 1) := dk_46 (dk_at dksX5_betterOf_0 9 rfl rfl)
theorem dX5_betterOf_10 : decode cX5_betterOf 10 = .ok (.istore_n 3, 1) := dk_62 (dk_at dksX5_betterOf_0 10 rfl rfl)
theorem dX5_betterOf_11 : decode cX5_betterOf 11 = .ok (.iconst 0, 1) := dk_3 (dk_at dksX5_betterOf_0 11 rfl rfl)
theorem dX5_betterOf_12 : decode cX5_betterOf 12 = .ok (.istore 4, 2) := dk_54 4 (dk_at dksX5_betterOf_0 12 rfl rfl)
theorem dX5_betterOf_14 : decode cX5_betterOf 14 = .ok (.iload 4, 2) := dk_21 4 (dk_at dksX5_betterOf_0 14 rfl rfl)
theorem dX5_betterOf_16 : decode cX5_betterOf 16 = .ok (.iconst 3, 1) := dk_6 (dk_at dksX5_betterOf_0 16 rfl rfl)
theorem dX5_betterOf_17 : decode cX5_betterOf 17 = .ok (.if_icmp .ge 23, 3) := dk_162 0 23 (dk_at dksX5_betterOf_0 17 rfl rfl)
theorem dX5_betterOf_20 : decode cX5_betterOf 20 = .ok (.aload_n 0, 1) := dk_42 (dk_at dksX5_betterOf_0 20 rfl rfl)
theorem dX5_betterOf_21 : decode cX5_betterOf 21 = .ok (.getfield 19, 3) := dk_180 0 19 (dk_at dksX5_betterOf_0 21 rfl rfl)
theorem dX5_betterOf_24 : decode cX5_betterOf 24 = .ok (.iload_n 1, 1) := dk_27 (dk_at dksX5_betterOf_1 0 rfl rfl)
theorem dX5_betterOf_25 : decode cX5_betterOf 25 = .ok (.iload 4, 2) := dk_21 4 (dk_at dksX5_betterOf_1 1 rfl rfl)
theorem dX5_betterOf_27 : decode cX5_betterOf 27 = .ok (.iastore, 1) := dk_79 (dk_at dksX5_betterOf_1 3 rfl rfl)
theorem dX5_betterOf_28 : decode cX5_betterOf 28 = .ok (.aload_n 0, 1) := dk_42 (dk_at dksX5_betterOf_1 4 rfl rfl)
theorem dX5_betterOf_29 : decode cX5_betterOf 29 = .ok (.iload 4, 2) := dk_21 4 (dk_at dksX5_betterOf_1 5 rfl rfl)
theorem dX5_betterOf_31 : decode cX5_betterOf 31 = .ok (.invokevirtual 296, 3) := dk_182 1 40 (dk_at dksX5_betterOf_1 7 rfl rfl)
theorem dX5_betterOf_34 : decode cX5_betterOf 34 = .ok (.iinc 4 1, 3) := dk_132 4 1 (dk_at dksX5_betterOf_1 10 rfl rfl)
theorem dX5_betterOf_37 : decode cX5_betterOf 37 = .ok (.goto (-23), 3) := dk_167 255 233 (dk_at dksX5_betterOf_1 13 rfl rfl)
theorem dX5_betterOf_40 : decode cX5_betterOf 40 = .ok (.aload_n 0, 1) := dk_42 (dk_at dksX5_betterOf_1 16 rfl rfl)
theorem dX5_betterOf_41 : decode cX5_betterOf 41 = .ok (.getfield 19, 3) := dk_180 0 19 (dk_at dksX5_betterOf_1 17 rfl rfl)
theorem dX5_betterOf_44 : decode cX5_betterOf 44 = .ok (.iload_n 1, 1) := dk_27 (dk_at dksX5_betterOf_1 20 rfl rfl)
theorem dX5_betterOf_45 : decode cX5_betterOf 45 = .ok (.iload_n 3, 1) := dk_29 (dk_at dksX5_betterOf_1 21 rfl rfl)
theorem dX5_betterOf_46 : decode cX5_betterOf 46 = .ok (.iastore, 1) := dk_79 (dk_at dksX5_betterOf_1 22 rfl rfl)
theorem dX5_betterOf_47 : decode cX5_betterOf 47 = .ok (.iload_n 2, 1) := dk_28 (dk_at dksX5_betterOf_1 23 rfl rfl)
theorem dX5_betterOf_48 : decode cX5_betterOf 48 = .ok (.ifCond .ne 10, 3) := dk_154 0 10 (dk_at dksX5_betterOf_2 0 rfl rfl)
theorem dX5_betterOf_51 : decode cX5_betterOf 51 = .ok (.aload_n 0, 1) := dk_42 (dk_at dksX5_betterOf_2 3 rfl rfl)
theorem dX5_betterOf_52 : decode cX5_betterOf 52 = .ok (.getfield 287, 3) := dk_180 1 31 (dk_at dksX5_betterOf_2 4 rfl rfl)
theorem dX5_betterOf_55 : decode cX5_betterOf 55 = .ok (.goto 7, 3) := dk_167 0 7 (dk_at dksX5_betterOf_2 7 rfl rfl)
theorem dX5_betterOf_58 : decode cX5_betterOf 58 = .ok (.aload_n 0, 1) := dk_42 (dk_at dksX5_betterOf_2 10 rfl rfl)
theorem dX5_betterOf_59 : decode cX5_betterOf 59 = .ok (.getfield 290, 3) := dk_180 1 34 (dk_at dksX5_betterOf_2 11 rfl rfl)
theorem dX5_betterOf_62 : decode cX5_betterOf 62 = .ok (.ireturn, 1) := dk_172 (dk_at dksX5_betterOf_2 14 rfl rfl)
abbrev cX5_starts : ByteArray := prog_15_method_59_code
def yX5_starts : MethodName := ⟨RX5, "starts", "()V"⟩
def dkwX5_starts_0 : List UInt8 := [42, 182, 0, 247, 42, 2, 181, 1, 31, 42, 2, 181, 1, 34, 177]
abbrev dktX5_starts_0 : List UInt8 := dkwX5_starts_0 ++ []
theorem dksX5_starts_0 : cX5_starts.data.toList.drop 0 = dktX5_starts_0 := by decide +kernel
theorem dX5_starts_0 : decode cX5_starts 0 = .ok (.aload_n 0, 1) := dk_42 (dk_at dksX5_starts_0 0 rfl rfl)
theorem dX5_starts_1 : decode cX5_starts 1 = .ok (.invokevirtual 247, 3) := dk_182 0 247 (dk_at dksX5_starts_0 1 rfl rfl)
theorem dX5_starts_4 : decode cX5_starts 4 = .ok (.aload_n 0, 1) := dk_42 (dk_at dksX5_starts_0 4 rfl rfl)
theorem dX5_starts_5 : decode cX5_starts 5 = .ok (.iconst (-1), 1) := dk_2 (dk_at dksX5_starts_0 5 rfl rfl)
theorem dX5_starts_6 : decode cX5_starts 6 = .ok (.putfield 287, 3) := dk_181 1 31 (dk_at dksX5_starts_0 6 rfl rfl)
theorem dX5_starts_9 : decode cX5_starts 9 = .ok (.aload_n 0, 1) := dk_42 (dk_at dksX5_starts_0 9 rfl rfl)
theorem dX5_starts_10 : decode cX5_starts 10 = .ok (.iconst (-1), 1) := dk_2 (dk_at dksX5_starts_0 10 rfl rfl)
theorem dX5_starts_11 : decode cX5_starts 11 = .ok (.putfield 290, 3) := dk_181 1 34 (dk_at dksX5_starts_0 11 rfl rfl)
theorem dX5_starts_14 : decode cX5_starts 14 = .ok (.return_, 1) := dk_177 (dk_at dksX5_starts_0 14 rfl rfl)
abbrev cX5_tries : ByteArray := prog_15_method_60_code
def yX5_tries : MethodName := ⟨RX5, "tries", "(I)V"⟩
def dkwX5_tries_2 : List UInt8 := [181, 1, 34, 177]
abbrev dktX5_tries_2 : List UInt8 := dkwX5_tries_2 ++ []
def dkwX5_tries_1 : List UInt8 := [180, 1, 31, 181, 1, 31, 42, 28, 42, 180, 1, 34, 164, 0, 7, 28, 167, 0, 7, 42, 180, 1, 34]
abbrev dktX5_tries_1 : List UInt8 := dkwX5_tries_1 ++ dktX5_tries_2
def dkwX5_tries_0 : List UInt8 := [42, 182, 0, 250, 42, 182, 1, 9, 61, 42, 28, 42, 180, 1, 34, 164, 0, 7, 27, 167, 0, 7, 42]
abbrev dktX5_tries_0 : List UInt8 := dkwX5_tries_0 ++ dktX5_tries_1
theorem dksX5_tries_0 : cX5_tries.data.toList.drop 0 = dktX5_tries_0 := by decide +kernel
theorem dksX5_tries_1 : cX5_tries.data.toList.drop 23 = dktX5_tries_1 := dk_seg dksX5_tries_0 23 rfl rfl
theorem dksX5_tries_2 : cX5_tries.data.toList.drop 46 = dktX5_tries_2 := dk_seg dksX5_tries_1 23 rfl rfl
theorem dX5_tries_0 : decode cX5_tries 0 = .ok (.aload_n 0, 1) := dk_42 (dk_at dksX5_tries_0 0 rfl rfl)
theorem dX5_tries_1 : decode cX5_tries 1 = .ok (.invokevirtual 250, 3) := dk_182 0 250 (dk_at dksX5_tries_0 1 rfl rfl)
theorem dX5_tries_4 : decode cX5_tries 4 = .ok (.aload_n 0, 1) := dk_42 (dk_at dksX5_tries_0 4 rfl rfl)
theorem dX5_tries_5 : decode cX5_tries 5 = .ok (.invokevirtual 265, 3) := dk_182 1 9 (dk_at dksX5_tries_0 5 rfl rfl)
theorem dX5_tries_8 : decode cX5_tries 8 = .ok (.istore_n 2, 1) := dk_61 (dk_at dksX5_tries_0 8 rfl rfl)
theorem dX5_tries_9 : decode cX5_tries 9 = .ok (.aload_n 0, 1) := dk_42 (dk_at dksX5_tries_0 9 rfl rfl)
theorem dX5_tries_10 : decode cX5_tries 10 = .ok (.iload_n 2, 1) := dk_28 (dk_at dksX5_tries_0 10 rfl rfl)
theorem dX5_tries_11 : decode cX5_tries 11 = .ok (.aload_n 0, 1) := dk_42 (dk_at dksX5_tries_0 11 rfl rfl)
theorem dX5_tries_12 : decode cX5_tries 12 = .ok (.getfield 290, 3) := dk_180 1 34 (dk_at dksX5_tries_0 12 rfl rfl)
theorem dX5_tries_15 : decode cX5_tries 15 = .ok (.if_icmp .le 7, 3) := dk_164 0 7 (dk_at dksX5_tries_0 15 rfl rfl)
theorem dX5_tries_18 : decode cX5_tries 18 = .ok (.iload_n 1, 1) := dk_27 (dk_at dksX5_tries_0 18 rfl rfl)
theorem dX5_tries_19 : decode cX5_tries 19 = .ok (.goto 7, 3) := dk_167 0 7 (dk_at dksX5_tries_0 19 rfl rfl)
theorem dX5_tries_22 : decode cX5_tries 22 = .ok (.aload_n 0, 1) := dk_42 (dk_at dksX5_tries_0 22 rfl rfl)
theorem dX5_tries_23 : decode cX5_tries 23 = .ok (.getfield 287, 3) := dk_180 1 31 (dk_at dksX5_tries_1 0 rfl rfl)
theorem dX5_tries_26 : decode cX5_tries 26 = .ok (.putfield 287, 3) := dk_181 1 31 (dk_at dksX5_tries_1 3 rfl rfl)
theorem dX5_tries_29 : decode cX5_tries 29 = .ok (.aload_n 0, 1) := dk_42 (dk_at dksX5_tries_1 6 rfl rfl)
theorem dX5_tries_30 : decode cX5_tries 30 = .ok (.iload_n 2, 1) := dk_28 (dk_at dksX5_tries_1 7 rfl rfl)
theorem dX5_tries_31 : decode cX5_tries 31 = .ok (.aload_n 0, 1) := dk_42 (dk_at dksX5_tries_1 8 rfl rfl)
theorem dX5_tries_32 : decode cX5_tries 32 = .ok (.getfield 290, 3) := dk_180 1 34 (dk_at dksX5_tries_1 9 rfl rfl)
theorem dX5_tries_35 : decode cX5_tries 35 = .ok (.if_icmp .le 7, 3) := dk_164 0 7 (dk_at dksX5_tries_1 12 rfl rfl)
theorem dX5_tries_38 : decode cX5_tries 38 = .ok (.iload_n 2, 1) := dk_28 (dk_at dksX5_tries_1 15 rfl rfl)
theorem dX5_tries_39 : decode cX5_tries 39 = .ok (.goto 7, 3) := dk_167 0 7 (dk_at dksX5_tries_1 16 rfl rfl)
theorem dX5_tries_42 : decode cX5_tries 42 = .ok (.aload_n 0, 1) := dk_42 (dk_at dksX5_tries_1 19 rfl rfl)
theorem dX5_tries_43 : decode cX5_tries 43 = .ok (.getfield 290, 3) := dk_180 1 34 (dk_at dksX5_tries_1 20 rfl rfl)
theorem dX5_tries_46 : decode cX5_tries 46 = .ok (.putfield 290, 3) := dk_181 1 34 (dk_at dksX5_tries_2 0 rfl rfl)
theorem dX5_tries_49 : decode cX5_tries 49 = .ok (.return_, 1) := dk_177 (dk_at dksX5_tries_2 3 rfl rfl)
abbrev cX5_fill : ByteArray := prog_15_method_64_code
def yX5_fill : MethodName := ⟨RX5, "fill", "(I)I"⟩
def dkwX5_fill_0 : List UInt8 := [27, 184, 0, 123, 153, 0, 11, 42, 27, 182, 1, 46, 167, 0, 5, 16, 254, 172]
abbrev dktX5_fill_0 : List UInt8 := dkwX5_fill_0 ++ []
theorem dksX5_fill_0 : cX5_fill.data.toList.drop 0 = dktX5_fill_0 := by decide +kernel
theorem dX5_fill_0 : decode cX5_fill 0 = .ok (.iload_n 1, 1) := dk_27 (dk_at dksX5_fill_0 0 rfl rfl)
theorem dX5_fill_1 : decode cX5_fill 1 = .ok (.invokestatic 123, 3) := dk_184 0 123 (dk_at dksX5_fill_0 1 rfl rfl)
theorem dX5_fill_4 : decode cX5_fill 4 = .ok (.ifCond .eq 11, 3) := dk_153 0 11 (dk_at dksX5_fill_0 4 rfl rfl)
theorem dX5_fill_7 : decode cX5_fill 7 = .ok (.aload_n 0, 1) := dk_42 (dk_at dksX5_fill_0 7 rfl rfl)
theorem dX5_fill_8 : decode cX5_fill 8 = .ok (.iload_n 1, 1) := dk_27 (dk_at dksX5_fill_0 8 rfl rfl)
theorem dX5_fill_9 : decode cX5_fill 9 = .ok (.invokevirtual 302, 3) := dk_182 1 46 (dk_at dksX5_fill_0 9 rfl rfl)
theorem dX5_fill_12 : decode cX5_fill 12 = .ok (.goto 5, 3) := dk_167 0 5 (dk_at dksX5_fill_0 12 rfl rfl)
theorem dX5_fill_15 : decode cX5_fill 15 = .ok (.bipush (-2), 2) := dk_16 254 (dk_at dksX5_fill_0 15 rfl rfl)
theorem dX5_fill_17 : decode cX5_fill 17 = .ok (.ireturn, 1) := dk_172 (dk_at dksX5_fill_0 17 rfl rfl)
abbrev cX5_fillOf : ByteArray := prog_15_method_63_code
def yX5_fillOf : MethodName := ⟨RX5, "fillOf", "(I)I"⟩
def dkwX5_fillOf_1 : List UInt8 := [132, 2, 1, 167, 255, 237, 27, 154, 0, 10, 42, 180, 1, 31, 167, 0, 7, 42, 180, 1, 34, 172]
abbrev dktX5_fillOf_1 : List UInt8 := dkwX5_fillOf_1 ++ []
def dkwX5_fillOf_0 : List UInt8 := [42, 182, 1, 37, 3, 61, 28, 16, 30, 163, 0, 19, 42, 28, 181, 0, 184, 42, 28, 182, 1, 40]
abbrev dktX5_fillOf_0 : List UInt8 := dkwX5_fillOf_0 ++ dktX5_fillOf_1
theorem dksX5_fillOf_0 : cX5_fillOf.data.toList.drop 0 = dktX5_fillOf_0 := by decide +kernel
theorem dksX5_fillOf_1 : cX5_fillOf.data.toList.drop 22 = dktX5_fillOf_1 := dk_seg dksX5_fillOf_0 22 rfl rfl
theorem dX5_fillOf_0 : decode cX5_fillOf 0 = .ok (.aload_n 0, 1) := dk_42 (dk_at dksX5_fillOf_0 0 rfl rfl)
theorem dX5_fillOf_1 : decode cX5_fillOf 1 = .ok (.invokevirtual 293, 3) := dk_182 1 37 (dk_at dksX5_fillOf_0 1 rfl rfl)
theorem dX5_fillOf_4 : decode cX5_fillOf 4 = .ok (.iconst 0, 1) := dk_3 (dk_at dksX5_fillOf_0 4 rfl rfl)
theorem dX5_fillOf_5 : decode cX5_fillOf 5 = .ok (.istore_n 2, 1) := dk_61 (dk_at dksX5_fillOf_0 5 rfl rfl)
theorem dX5_fillOf_6 : decode cX5_fillOf 6 = .ok (.iload_n 2, 1) := dk_28 (dk_at dksX5_fillOf_0 6 rfl rfl)
theorem dX5_fillOf_7 : decode cX5_fillOf 7 = .ok (.bipush 30, 2) := dk_16 30 (dk_at dksX5_fillOf_0 7 rfl rfl)
theorem dX5_fillOf_9 : decode cX5_fillOf 9 = .ok (.if_icmp .gt 19, 3) := dk_163 0 19 (dk_at dksX5_fillOf_0 9 rfl rfl)
theorem dX5_fillOf_12 : decode cX5_fillOf 12 = .ok (.aload_n 0, 1) := dk_42 (dk_at dksX5_fillOf_0 12 rfl rfl)
theorem dX5_fillOf_13 : decode cX5_fillOf 13 = .ok (.iload_n 2, 1) := dk_28 (dk_at dksX5_fillOf_0 13 rfl rfl)
theorem dX5_fillOf_14 : decode cX5_fillOf 14 = .ok (.putfield 184, 3) := dk_181 0 184 (dk_at dksX5_fillOf_0 14 rfl rfl)
theorem dX5_fillOf_17 : decode cX5_fillOf 17 = .ok (.aload_n 0, 1) := dk_42 (dk_at dksX5_fillOf_0 17 rfl rfl)
theorem dX5_fillOf_18 : decode cX5_fillOf 18 = .ok (.iload_n 2, 1) := dk_28 (dk_at dksX5_fillOf_0 18 rfl rfl)
theorem dX5_fillOf_19 : decode cX5_fillOf 19 = .ok (.invokevirtual 296, 3) := dk_182 1 40 (dk_at dksX5_fillOf_0 19 rfl rfl)
theorem dX5_fillOf_22 : decode cX5_fillOf 22 = .ok (.iinc 2 1, 3) := dk_132 2 1 (dk_at dksX5_fillOf_1 0 rfl rfl)
theorem dX5_fillOf_25 : decode cX5_fillOf 25 = .ok (.goto (-19), 3) := dk_167 255 237 (dk_at dksX5_fillOf_1 3 rfl rfl)
theorem dX5_fillOf_28 : decode cX5_fillOf 28 = .ok (.iload_n 1, 1) := dk_27 (dk_at dksX5_fillOf_1 6 rfl rfl)
theorem dX5_fillOf_29 : decode cX5_fillOf 29 = .ok (.ifCond .ne 10, 3) := dk_154 0 10 (dk_at dksX5_fillOf_1 7 rfl rfl)
theorem dX5_fillOf_32 : decode cX5_fillOf 32 = .ok (.aload_n 0, 1) := dk_42 (dk_at dksX5_fillOf_1 10 rfl rfl)
theorem dX5_fillOf_33 : decode cX5_fillOf 33 = .ok (.getfield 287, 3) := dk_180 1 31 (dk_at dksX5_fillOf_1 11 rfl rfl)
theorem dX5_fillOf_36 : decode cX5_fillOf 36 = .ok (.goto 7, 3) := dk_167 0 7 (dk_at dksX5_fillOf_1 14 rfl rfl)
theorem dX5_fillOf_39 : decode cX5_fillOf 39 = .ok (.aload_n 0, 1) := dk_42 (dk_at dksX5_fillOf_1 17 rfl rfl)
theorem dX5_fillOf_40 : decode cX5_fillOf 40 = .ok (.getfield 290, 3) := dk_180 1 34 (dk_at dksX5_fillOf_1 18 rfl rfl)
theorem dX5_fillOf_43 : decode cX5_fillOf 43 = .ok (.ireturn, 1) := dk_172 (dk_at dksX5_fillOf_1 21 rfl rfl)
abbrev cX5_come : ByteArray := prog_15_method_66_code
def yX5_come : MethodName := ⟨RX5, "come", "(II)I"⟩
def dkwX5_come_1 : List UInt8 := [16, 254, 172]
abbrev dktX5_come_1 : List UInt8 := dkwX5_come_1 ++ []
def dkwX5_come_0 : List UInt8 := [42, 27, 182, 0, 163, 153, 0, 19, 28, 184, 0, 123, 153, 0, 12, 42, 27, 28, 182, 1, 49, 167, 0, 5]
abbrev dktX5_come_0 : List UInt8 := dkwX5_come_0 ++ dktX5_come_1
theorem dksX5_come_0 : cX5_come.data.toList.drop 0 = dktX5_come_0 := by decide +kernel
theorem dksX5_come_1 : cX5_come.data.toList.drop 24 = dktX5_come_1 := dk_seg dksX5_come_0 24 rfl rfl
theorem dX5_come_0 : decode cX5_come 0 = .ok (.aload_n 0, 1) := dk_42 (dk_at dksX5_come_0 0 rfl rfl)
theorem dX5_come_1 : decode cX5_come 1 = .ok (.iload_n 1, 1) := dk_27 (dk_at dksX5_come_0 1 rfl rfl)
theorem dX5_come_2 : decode cX5_come 2 = .ok (.invokevirtual 163, 3) := dk_182 0 163 (dk_at dksX5_come_0 2 rfl rfl)
theorem dX5_come_5 : decode cX5_come 5 = .ok (.ifCond .eq 19, 3) := dk_153 0 19 (dk_at dksX5_come_0 5 rfl rfl)
theorem dX5_come_8 : decode cX5_come 8 = .ok (.iload_n 2, 1) := dk_28 (dk_at dksX5_come_0 8 rfl rfl)
theorem dX5_come_9 : decode cX5_come 9 = .ok (.invokestatic 123, 3) := dk_184 0 123 (dk_at dksX5_come_0 9 rfl rfl)
theorem dX5_come_12 : decode cX5_come 12 = .ok (.ifCond .eq 12, 3) := dk_153 0 12 (dk_at dksX5_come_0 12 rfl rfl)
theorem dX5_come_15 : decode cX5_come 15 = .ok (.aload_n 0, 1) := dk_42 (dk_at dksX5_come_0 15 rfl rfl)
theorem dX5_come_16 : decode cX5_come 16 = .ok (.iload_n 1, 1) := dk_27 (dk_at dksX5_come_0 16 rfl rfl)
theorem dX5_come_17 : decode cX5_come 17 = .ok (.iload_n 2, 1) := dk_28 (dk_at dksX5_come_0 17 rfl rfl)
theorem dX5_come_18 : decode cX5_come 18 = .ok (.invokevirtual 305, 3) := dk_182 1 49 (dk_at dksX5_come_0 18 rfl rfl)
theorem dX5_come_21 : decode cX5_come 21 = .ok (.goto 5, 3) := dk_167 0 5 (dk_at dksX5_come_0 21 rfl rfl)
theorem dX5_come_24 : decode cX5_come 24 = .ok (.bipush (-2), 2) := dk_16 254 (dk_at dksX5_come_1 0 rfl rfl)
theorem dX5_come_26 : decode cX5_come 26 = .ok (.ireturn, 1) := dk_172 (dk_at dksX5_come_1 2 rfl rfl)
abbrev cX5_comeOf : ByteArray := prog_15_method_65_code
def yX5_comeOf : MethodName := ⟨RX5, "comeOf", "(II)I"⟩
def dkwX5_comeOf_1 : List UInt8 := [132, 3, 1, 167, 255, 235, 28, 154, 0, 10, 42, 180, 1, 31, 167, 0, 7, 42, 180, 1, 34, 172]
abbrev dktX5_comeOf_1 : List UInt8 := dkwX5_comeOf_1 ++ []
def dkwX5_comeOf_0 : List UInt8 := [42, 182, 1, 37, 3, 62, 29, 16, 24, 162, 0, 21, 42, 180, 0, 43, 27, 29, 79, 42, 29, 182, 1, 40]
abbrev dktX5_comeOf_0 : List UInt8 := dkwX5_comeOf_0 ++ dktX5_comeOf_1
theorem dksX5_comeOf_0 : cX5_comeOf.data.toList.drop 0 = dktX5_comeOf_0 := by decide +kernel
theorem dksX5_comeOf_1 : cX5_comeOf.data.toList.drop 24 = dktX5_comeOf_1 := dk_seg dksX5_comeOf_0 24 rfl rfl
theorem dX5_comeOf_0 : decode cX5_comeOf 0 = .ok (.aload_n 0, 1) := dk_42 (dk_at dksX5_comeOf_0 0 rfl rfl)
theorem dX5_comeOf_1 : decode cX5_comeOf 1 = .ok (.invokevirtual 293, 3) := dk_182 1 37 (dk_at dksX5_comeOf_0 1 rfl rfl)
theorem dX5_comeOf_4 : decode cX5_comeOf 4 = .ok (.iconst 0, 1) := dk_3 (dk_at dksX5_comeOf_0 4 rfl rfl)
theorem dX5_comeOf_5 : decode cX5_comeOf 5 = .ok (.istore_n 3, 1) := dk_62 (dk_at dksX5_comeOf_0 5 rfl rfl)
theorem dX5_comeOf_6 : decode cX5_comeOf 6 = .ok (.iload_n 3, 1) := dk_29 (dk_at dksX5_comeOf_0 6 rfl rfl)
theorem dX5_comeOf_7 : decode cX5_comeOf 7 = .ok (.bipush 24, 2) := dk_16 24 (dk_at dksX5_comeOf_0 7 rfl rfl)
theorem dX5_comeOf_9 : decode cX5_comeOf 9 = .ok (.if_icmp .ge 21, 3) := dk_162 0 21 (dk_at dksX5_comeOf_0 9 rfl rfl)
theorem dX5_comeOf_12 : decode cX5_comeOf 12 = .ok (.aload_n 0, 1) := dk_42 (dk_at dksX5_comeOf_0 12 rfl rfl)
theorem dX5_comeOf_13 : decode cX5_comeOf 13 = .ok (.getfield 43, 3) := dk_180 0 43 (dk_at dksX5_comeOf_0 13 rfl rfl)
theorem dX5_comeOf_16 : decode cX5_comeOf 16 = .ok (.iload_n 1, 1) := dk_27 (dk_at dksX5_comeOf_0 16 rfl rfl)
theorem dX5_comeOf_17 : decode cX5_comeOf 17 = .ok (.iload_n 3, 1) := dk_29 (dk_at dksX5_comeOf_0 17 rfl rfl)
theorem dX5_comeOf_18 : decode cX5_comeOf 18 = .ok (.iastore, 1) := dk_79 (dk_at dksX5_comeOf_0 18 rfl rfl)
theorem dX5_comeOf_19 : decode cX5_comeOf 19 = .ok (.aload_n 0, 1) := dk_42 (dk_at dksX5_comeOf_0 19 rfl rfl)
theorem dX5_comeOf_20 : decode cX5_comeOf 20 = .ok (.iload_n 3, 1) := dk_29 (dk_at dksX5_comeOf_0 20 rfl rfl)
theorem dX5_comeOf_21 : decode cX5_comeOf 21 = .ok (.invokevirtual 296, 3) := dk_182 1 40 (dk_at dksX5_comeOf_0 21 rfl rfl)
theorem dX5_comeOf_24 : decode cX5_comeOf 24 = .ok (.iinc 3 1, 3) := dk_132 3 1 (dk_at dksX5_comeOf_1 0 rfl rfl)
theorem dX5_comeOf_27 : decode cX5_comeOf 27 = .ok (.goto (-21), 3) := dk_167 255 235 (dk_at dksX5_comeOf_1 3 rfl rfl)
theorem dX5_comeOf_30 : decode cX5_comeOf 30 = .ok (.iload_n 2, 1) := dk_28 (dk_at dksX5_comeOf_1 6 rfl rfl)
theorem dX5_comeOf_31 : decode cX5_comeOf 31 = .ok (.ifCond .ne 10, 3) := dk_154 0 10 (dk_at dksX5_comeOf_1 7 rfl rfl)
theorem dX5_comeOf_34 : decode cX5_comeOf 34 = .ok (.aload_n 0, 1) := dk_42 (dk_at dksX5_comeOf_1 10 rfl rfl)
theorem dX5_comeOf_35 : decode cX5_comeOf 35 = .ok (.getfield 287, 3) := dk_180 1 31 (dk_at dksX5_comeOf_1 11 rfl rfl)
theorem dX5_comeOf_38 : decode cX5_comeOf 38 = .ok (.goto 7, 3) := dk_167 0 7 (dk_at dksX5_comeOf_1 14 rfl rfl)
theorem dX5_comeOf_41 : decode cX5_comeOf 41 = .ok (.aload_n 0, 1) := dk_42 (dk_at dksX5_comeOf_1 17 rfl rfl)
theorem dX5_comeOf_42 : decode cX5_comeOf 42 = .ok (.getfield 290, 3) := dk_180 1 34 (dk_at dksX5_comeOf_1 18 rfl rfl)
theorem dX5_comeOf_45 : decode cX5_comeOf 45 = .ok (.ireturn, 1) := dk_172 (dk_at dksX5_comeOf_1 21 rfl rfl)
abbrev cX5_spare : ByteArray := prog_15_method_70_code
def yX5_spare : MethodName := ⟨RX5, "spare", "(I)I"⟩
def dkwX5_spare_0 : List UInt8 := [27, 2, 4, 184, 0, 119, 153, 0, 15, 42, 42, 182, 1, 55, 27, 182, 1, 58, 167, 0, 5, 16, 254, 172]
abbrev dktX5_spare_0 : List UInt8 := dkwX5_spare_0 ++ []
theorem dksX5_spare_0 : cX5_spare.data.toList.drop 0 = dktX5_spare_0 := by decide +kernel
theorem dX5_spare_0 : decode cX5_spare 0 = .ok (.iload_n 1, 1) := dk_27 (dk_at dksX5_spare_0 0 rfl rfl)
theorem dX5_spare_1 : decode cX5_spare 1 = .ok (.iconst (-1), 1) := dk_2 (dk_at dksX5_spare_0 1 rfl rfl)
theorem dX5_spare_2 : decode cX5_spare 2 = .ok (.iconst 1, 1) := dk_4 (dk_at dksX5_spare_0 2 rfl rfl)
theorem dX5_spare_3 : decode cX5_spare 3 = .ok (.invokestatic 119, 3) := dk_184 0 119 (dk_at dksX5_spare_0 3 rfl rfl)
theorem dX5_spare_6 : decode cX5_spare 6 = .ok (.ifCond .eq 15, 3) := dk_153 0 15 (dk_at dksX5_spare_0 6 rfl rfl)
theorem dX5_spare_9 : decode cX5_spare 9 = .ok (.aload_n 0, 1) := dk_42 (dk_at dksX5_spare_0 9 rfl rfl)
theorem dX5_spare_10 : decode cX5_spare 10 = .ok (.aload_n 0, 1) := dk_42 (dk_at dksX5_spare_0 10 rfl rfl)
theorem dX5_spare_11 : decode cX5_spare 11 = .ok (.invokevirtual 311, 3) := dk_182 1 55 (dk_at dksX5_spare_0 11 rfl rfl)
theorem dX5_spare_14 : decode cX5_spare 14 = .ok (.iload_n 1, 1) := dk_27 (dk_at dksX5_spare_0 14 rfl rfl)
theorem dX5_spare_15 : decode cX5_spare 15 = .ok (.invokevirtual 314, 3) := dk_182 1 58 (dk_at dksX5_spare_0 15 rfl rfl)
theorem dX5_spare_18 : decode cX5_spare 18 = .ok (.goto 5, 3) := dk_167 0 5 (dk_at dksX5_spare_0 18 rfl rfl)
theorem dX5_spare_21 : decode cX5_spare 21 = .ok (.bipush (-2), 2) := dk_16 254 (dk_at dksX5_spare_0 21 rfl rfl)
theorem dX5_spare_23 : decode cX5_spare 23 = .ok (.ireturn, 1) := dk_172 (dk_at dksX5_spare_0 23 rfl rfl)
abbrev cX5_spareBy : ByteArray := prog_15_method_68_code
def yX5_spareBy : MethodName := ⟨RX5, "spareBy", "()I"⟩
def dkwX5_spareBy_4 : List UInt8 := [128, 182, 1, 52, 153, 0, 5, 5, 172, 132, 2, 1, 167, 255, 215, 132, 1, 1, 167, 255, 197, 2, 172]
abbrev dktX5_spareBy_4 : List UInt8 := dkwX5_spareBy_4 ++ []
def dkwX5_spareBy_3 : List UInt8 := [162, 0, 39, 42, 180, 0, 82, 3, 27, 79, 42, 180, 0, 82, 4, 28, 79, 42, 4, 27, 120, 4, 28, 120]
abbrev dktX5_spareBy_3 : List UInt8 := dkwX5_spareBy_3 ++ dktX5_spareBy_4
def dkwX5_spareBy_2 : List UInt8 := [167, 255, 226, 3, 60, 27, 42, 180, 0, 169, 162, 0, 57, 27, 4, 96, 61, 28, 42, 180, 0, 169]
abbrev dktX5_spareBy_2 : List UInt8 := dkwX5_spareBy_2 ++ dktX5_spareBy_3
def dkwX5_spareBy_1 : List UInt8 := [42, 180, 0, 82, 3, 27, 79, 42, 4, 27, 120, 182, 1, 52, 153, 0, 5, 4, 172, 132, 1, 1]
abbrev dktX5_spareBy_1 : List UInt8 := dkwX5_spareBy_1 ++ dktX5_spareBy_2
def dkwX5_spareBy_0 : List UInt8 := [42, 182, 0, 247, 42, 3, 182, 1, 52, 153, 0, 5, 3, 172, 3, 60, 27, 42, 180, 0, 169, 162, 0, 28]
abbrev dktX5_spareBy_0 : List UInt8 := dkwX5_spareBy_0 ++ dktX5_spareBy_1
theorem dksX5_spareBy_0 : cX5_spareBy.data.toList.drop 0 = dktX5_spareBy_0 := by decide +kernel
theorem dksX5_spareBy_1 : cX5_spareBy.data.toList.drop 24 = dktX5_spareBy_1 := dk_seg dksX5_spareBy_0 24 rfl rfl
theorem dksX5_spareBy_2 : cX5_spareBy.data.toList.drop 46 = dktX5_spareBy_2 := dk_seg dksX5_spareBy_1 22 rfl rfl
theorem dksX5_spareBy_3 : cX5_spareBy.data.toList.drop 68 = dktX5_spareBy_3 := dk_seg dksX5_spareBy_2 22 rfl rfl
theorem dksX5_spareBy_4 : cX5_spareBy.data.toList.drop 92 = dktX5_spareBy_4 := dk_seg dksX5_spareBy_3 24 rfl rfl
theorem dX5_spareBy_0 : decode cX5_spareBy 0 = .ok (.aload_n 0, 1) := dk_42 (dk_at dksX5_spareBy_0 0 rfl rfl)
theorem dX5_spareBy_1 : decode cX5_spareBy 1 = .ok (.invokevirtual 247, 3) := dk_182 0 247 (dk_at dksX5_spareBy_0 1 rfl rfl)
theorem dX5_spareBy_4 : decode cX5_spareBy 4 = .ok (.aload_n 0, 1) := dk_42 (dk_at dksX5_spareBy_0 4 rfl rfl)
theorem dX5_spareBy_5 : decode cX5_spareBy 5 = .ok (.iconst 0, 1) := dk_3 (dk_at dksX5_spareBy_0 5 rfl rfl)
theorem dX5_spareBy_6 : decode cX5_spareBy 6 = .ok (.invokevirtual 308, 3) := dk_182 1 52 (dk_at dksX5_spareBy_0 6 rfl rfl)
theorem dX5_spareBy_9 : decode cX5_spareBy 9 = .ok (.ifCond .eq 5, 3) := dk_153 0 5 (dk_at dksX5_spareBy_0 9 rfl rfl)
theorem dX5_spareBy_12 : decode cX5_spareBy 12 = .ok (.iconst 0, 1) := dk_3 (dk_at dksX5_spareBy_0 12 rfl rfl)
theorem dX5_spareBy_13 : decode cX5_spareBy 13 = .ok (.ireturn, 1) := dk_172 (dk_at dksX5_spareBy_0 13 rfl rfl)
theorem dX5_spareBy_14 : decode cX5_spareBy 14 = .ok (.iconst 0, 1) := dk_3 (dk_at dksX5_spareBy_0 14 rfl rfl)
theorem dX5_spareBy_15 : decode cX5_spareBy 15 = .ok (.istore_n 1, 1) := dk_60 (dk_at dksX5_spareBy_0 15 rfl rfl)
theorem dX5_spareBy_16 : decode cX5_spareBy 16 = .ok (.iload_n 1, 1) := dk_27 (dk_at dksX5_spareBy_0 16 rfl rfl)
theorem dX5_spareBy_17 : decode cX5_spareBy 17 = .ok (.aload_n 0, 1) := dk_42 (dk_at dksX5_spareBy_0 17 rfl rfl)
theorem dX5_spareBy_18 : decode cX5_spareBy 18 = .ok (.getfield 169, 3) := dk_180 0 169 (dk_at dksX5_spareBy_0 18 rfl rfl)
theorem dX5_spareBy_21 : decode cX5_spareBy 21 = .ok (.if_icmp .ge 28, 3) := dk_162 0 28 (dk_at dksX5_spareBy_0 21 rfl rfl)
theorem dX5_spareBy_24 : decode cX5_spareBy 24 = .ok (.aload_n 0, 1) := dk_42 (dk_at dksX5_spareBy_1 0 rfl rfl)
theorem dX5_spareBy_25 : decode cX5_spareBy 25 = .ok (.getfield 82, 3) := dk_180 0 82 (dk_at dksX5_spareBy_1 1 rfl rfl)
theorem dX5_spareBy_28 : decode cX5_spareBy 28 = .ok (.iconst 0, 1) := dk_3 (dk_at dksX5_spareBy_1 4 rfl rfl)
theorem dX5_spareBy_29 : decode cX5_spareBy 29 = .ok (.iload_n 1, 1) := dk_27 (dk_at dksX5_spareBy_1 5 rfl rfl)
theorem dX5_spareBy_30 : decode cX5_spareBy 30 = .ok (.iastore, 1) := dk_79 (dk_at dksX5_spareBy_1 6 rfl rfl)
theorem dX5_spareBy_31 : decode cX5_spareBy 31 = .ok (.aload_n 0, 1) := dk_42 (dk_at dksX5_spareBy_1 7 rfl rfl)
theorem dX5_spareBy_32 : decode cX5_spareBy 32 = .ok (.iconst 1, 1) := dk_4 (dk_at dksX5_spareBy_1 8 rfl rfl)
theorem dX5_spareBy_33 : decode cX5_spareBy 33 = .ok (.iload_n 1, 1) := dk_27 (dk_at dksX5_spareBy_1 9 rfl rfl)
theorem dX5_spareBy_34 : decode cX5_spareBy 34 = .ok (.ishl, 1) := dk_120 (dk_at dksX5_spareBy_1 10 rfl rfl)
theorem dX5_spareBy_35 : decode cX5_spareBy 35 = .ok (.invokevirtual 308, 3) := dk_182 1 52 (dk_at dksX5_spareBy_1 11 rfl rfl)
theorem dX5_spareBy_38 : decode cX5_spareBy 38 = .ok (.ifCond .eq 5, 3) := dk_153 0 5 (dk_at dksX5_spareBy_1 14 rfl rfl)
theorem dX5_spareBy_41 : decode cX5_spareBy 41 = .ok (.iconst 1, 1) := dk_4 (dk_at dksX5_spareBy_1 17 rfl rfl)
theorem dX5_spareBy_42 : decode cX5_spareBy 42 = .ok (.ireturn, 1) := dk_172 (dk_at dksX5_spareBy_1 18 rfl rfl)
theorem dX5_spareBy_43 : decode cX5_spareBy 43 = .ok (.iinc 1 1, 3) := dk_132 1 1 (dk_at dksX5_spareBy_1 19 rfl rfl)
theorem dX5_spareBy_46 : decode cX5_spareBy 46 = .ok (.goto (-30), 3) := dk_167 255 226 (dk_at dksX5_spareBy_2 0 rfl rfl)
theorem dX5_spareBy_49 : decode cX5_spareBy 49 = .ok (.iconst 0, 1) := dk_3 (dk_at dksX5_spareBy_2 3 rfl rfl)
theorem dX5_spareBy_50 : decode cX5_spareBy 50 = .ok (.istore_n 1, 1) := dk_60 (dk_at dksX5_spareBy_2 4 rfl rfl)
theorem dX5_spareBy_51 : decode cX5_spareBy 51 = .ok (.iload_n 1, 1) := dk_27 (dk_at dksX5_spareBy_2 5 rfl rfl)
theorem dX5_spareBy_52 : decode cX5_spareBy 52 = .ok (.aload_n 0, 1) := dk_42 (dk_at dksX5_spareBy_2 6 rfl rfl)
theorem dX5_spareBy_53 : decode cX5_spareBy 53 = .ok (.getfield 169, 3) := dk_180 0 169 (dk_at dksX5_spareBy_2 7 rfl rfl)
theorem dX5_spareBy_56 : decode cX5_spareBy 56 = .ok (.if_icmp .ge 57, 3) := dk_162 0 57 (dk_at dksX5_spareBy_2 10 rfl rfl)
theorem dX5_spareBy_59 : decode cX5_spareBy 59 = .ok (.iload_n 1, 1) := dk_27 (dk_at dksX5_spareBy_2 13 rfl rfl)
theorem dX5_spareBy_60 : decode cX5_spareBy 60 = .ok (.iconst 1, 1) := dk_4 (dk_at dksX5_spareBy_2 14 rfl rfl)
theorem dX5_spareBy_61 : decode cX5_spareBy 61 = .ok (.iadd, 1) := dk_96 (dk_at dksX5_spareBy_2 15 rfl rfl)
theorem dX5_spareBy_62 : decode cX5_spareBy 62 = .ok (.istore_n 2, 1) := dk_61 (dk_at dksX5_spareBy_2 16 rfl rfl)
theorem dX5_spareBy_63 : decode cX5_spareBy 63 = .ok (.iload_n 2, 1) := dk_28 (dk_at dksX5_spareBy_2 17 rfl rfl)
theorem dX5_spareBy_64 : decode cX5_spareBy 64 = .ok (.aload_n 0, 1) := dk_42 (dk_at dksX5_spareBy_2 18 rfl rfl)
theorem dX5_spareBy_65 : decode cX5_spareBy 65 = .ok (.getfield 169, 3) := dk_180 0 169 (dk_at dksX5_spareBy_2 19 rfl rfl)
theorem dX5_spareBy_68 : decode cX5_spareBy 68 = .ok (.if_icmp .ge 39, 3) := dk_162 0 39 (dk_at dksX5_spareBy_3 0 rfl rfl)
theorem dX5_spareBy_71 : decode cX5_spareBy 71 = .ok (.aload_n 0, 1) := dk_42 (dk_at dksX5_spareBy_3 3 rfl rfl)
theorem dX5_spareBy_72 : decode cX5_spareBy 72 = .ok (.getfield 82, 3) := dk_180 0 82 (dk_at dksX5_spareBy_3 4 rfl rfl)
theorem dX5_spareBy_75 : decode cX5_spareBy 75 = .ok (.iconst 0, 1) := dk_3 (dk_at dksX5_spareBy_3 7 rfl rfl)
theorem dX5_spareBy_76 : decode cX5_spareBy 76 = .ok (.iload_n 1, 1) := dk_27 (dk_at dksX5_spareBy_3 8 rfl rfl)
theorem dX5_spareBy_77 : decode cX5_spareBy 77 = .ok (.iastore, 1) := dk_79 (dk_at dksX5_spareBy_3 9 rfl rfl)
theorem dX5_spareBy_78 : decode cX5_spareBy 78 = .ok (.aload_n 0, 1) := dk_42 (dk_at dksX5_spareBy_3 10 rfl rfl)
theorem dX5_spareBy_79 : decode cX5_spareBy 79 = .ok (.getfield 82, 3) := dk_180 0 82 (dk_at dksX5_spareBy_3 11 rfl rfl)
theorem dX5_spareBy_82 : decode cX5_spareBy 82 = .ok (.iconst 1, 1) := dk_4 (dk_at dksX5_spareBy_3 14 rfl rfl)
theorem dX5_spareBy_83 : decode cX5_spareBy 83 = .ok (.iload_n 2, 1) := dk_28 (dk_at dksX5_spareBy_3 15 rfl rfl)
theorem dX5_spareBy_84 : decode cX5_spareBy 84 = .ok (.iastore, 1) := dk_79 (dk_at dksX5_spareBy_3 16 rfl rfl)
theorem dX5_spareBy_85 : decode cX5_spareBy 85 = .ok (.aload_n 0, 1) := dk_42 (dk_at dksX5_spareBy_3 17 rfl rfl)
theorem dX5_spareBy_86 : decode cX5_spareBy 86 = .ok (.iconst 1, 1) := dk_4 (dk_at dksX5_spareBy_3 18 rfl rfl)
theorem dX5_spareBy_87 : decode cX5_spareBy 87 = .ok (.iload_n 1, 1) := dk_27 (dk_at dksX5_spareBy_3 19 rfl rfl)
theorem dX5_spareBy_88 : decode cX5_spareBy 88 = .ok (.ishl, 1) := dk_120 (dk_at dksX5_spareBy_3 20 rfl rfl)
theorem dX5_spareBy_89 : decode cX5_spareBy 89 = .ok (.iconst 1, 1) := dk_4 (dk_at dksX5_spareBy_3 21 rfl rfl)
theorem dX5_spareBy_90 : decode cX5_spareBy 90 = .ok (.iload_n 2, 1) := dk_28 (dk_at dksX5_spareBy_3 22 rfl rfl)
theorem dX5_spareBy_91 : decode cX5_spareBy 91 = .ok (.ishl, 1) := dk_120 (dk_at dksX5_spareBy_3 23 rfl rfl)
theorem dX5_spareBy_92 : decode cX5_spareBy 92 = .ok (.ior, 1) := dk_128 (dk_at dksX5_spareBy_4 0 rfl rfl)
theorem dX5_spareBy_93 : decode cX5_spareBy 93 = .ok (.invokevirtual 308, 3) := dk_182 1 52 (dk_at dksX5_spareBy_4 1 rfl rfl)
theorem dX5_spareBy_96 : decode cX5_spareBy 96 = .ok (.ifCond .eq 5, 3) := dk_153 0 5 (dk_at dksX5_spareBy_4 4 rfl rfl)
theorem dX5_spareBy_99 : decode cX5_spareBy 99 = .ok (.iconst 2, 1) := dk_5 (dk_at dksX5_spareBy_4 7 rfl rfl)
theorem dX5_spareBy_100 : decode cX5_spareBy 100 = .ok (.ireturn, 1) := dk_172 (dk_at dksX5_spareBy_4 8 rfl rfl)
theorem dX5_spareBy_101 : decode cX5_spareBy 101 = .ok (.iinc 2 1, 3) := dk_132 2 1 (dk_at dksX5_spareBy_4 9 rfl rfl)
theorem dX5_spareBy_104 : decode cX5_spareBy 104 = .ok (.goto (-41), 3) := dk_167 255 215 (dk_at dksX5_spareBy_4 12 rfl rfl)
theorem dX5_spareBy_107 : decode cX5_spareBy 107 = .ok (.iinc 1 1, 3) := dk_132 1 1 (dk_at dksX5_spareBy_4 15 rfl rfl)
theorem dX5_spareBy_110 : decode cX5_spareBy 110 = .ok (.goto (-59), 3) := dk_167 255 197 (dk_at dksX5_spareBy_4 18 rfl rfl)
theorem dX5_spareBy_113 : decode cX5_spareBy 113 = .ok (.iconst (-1), 1) := dk_2 (dk_at dksX5_spareBy_4 21 rfl rfl)
theorem dX5_spareBy_114 : decode cX5_spareBy 114 = .ok (.ireturn, 1) := dk_172 (dk_at dksX5_spareBy_4 22 rfl rfl)
abbrev cX5_isSpared : ByteArray := prog_15_method_67_code
def yX5_isSpared : MethodName := ⟨RX5, "isSpared", "(I)Z"⟩
def dkwX5_isSpared_0 : List UInt8 := [42, 27, 181, 0, 187, 42, 182, 0, 250, 42, 7, 182, 1, 13, 154, 0, 7, 4, 167, 0, 4, 3, 172]
abbrev dktX5_isSpared_0 : List UInt8 := dkwX5_isSpared_0 ++ []
theorem dksX5_isSpared_0 : cX5_isSpared.data.toList.drop 0 = dktX5_isSpared_0 := by decide +kernel
theorem dX5_isSpared_0 : decode cX5_isSpared 0 = .ok (.aload_n 0, 1) := dk_42 (dk_at dksX5_isSpared_0 0 rfl rfl)
theorem dX5_isSpared_1 : decode cX5_isSpared 1 = .ok (.iload_n 1, 1) := dk_27 (dk_at dksX5_isSpared_0 1 rfl rfl)
theorem dX5_isSpared_2 : decode cX5_isSpared 2 = .ok (.putfield 187, 3) := dk_181 0 187 (dk_at dksX5_isSpared_0 2 rfl rfl)
theorem dX5_isSpared_5 : decode cX5_isSpared 5 = .ok (.aload_n 0, 1) := dk_42 (dk_at dksX5_isSpared_0 5 rfl rfl)
theorem dX5_isSpared_6 : decode cX5_isSpared 6 = .ok (.invokevirtual 250, 3) := dk_182 0 250 (dk_at dksX5_isSpared_0 6 rfl rfl)
theorem dX5_isSpared_9 : decode cX5_isSpared 9 = .ok (.aload_n 0, 1) := dk_42 (dk_at dksX5_isSpared_0 9 rfl rfl)
theorem dX5_isSpared_10 : decode cX5_isSpared 10 = .ok (.iconst 4, 1) := dk_7 (dk_at dksX5_isSpared_0 10 rfl rfl)
theorem dX5_isSpared_11 : decode cX5_isSpared 11 = .ok (.invokevirtual 269, 3) := dk_182 1 13 (dk_at dksX5_isSpared_0 11 rfl rfl)
theorem dX5_isSpared_14 : decode cX5_isSpared 14 = .ok (.ifCond .ne 7, 3) := dk_154 0 7 (dk_at dksX5_isSpared_0 14 rfl rfl)
theorem dX5_isSpared_17 : decode cX5_isSpared 17 = .ok (.iconst 1, 1) := dk_4 (dk_at dksX5_isSpared_0 17 rfl rfl)
theorem dX5_isSpared_18 : decode cX5_isSpared 18 = .ok (.goto 4, 3) := dk_167 0 4 (dk_at dksX5_isSpared_0 18 rfl rfl)
theorem dX5_isSpared_21 : decode cX5_isSpared 21 = .ok (.iconst 0, 1) := dk_3 (dk_at dksX5_isSpared_0 21 rfl rfl)
theorem dX5_isSpared_22 : decode cX5_isSpared 22 = .ok (.ireturn, 1) := dk_172 (dk_at dksX5_isSpared_0 22 rfl rfl)
abbrev cX5_ofRow : ByteArray := prog_15_method_69_code
def yX5_ofRow : MethodName := ⟨RX5, "ofRow", "(II)I"⟩
def dkwX5_ofRow_1 : List UInt8 := [172]
abbrev dktX5_ofRow_1 : List UInt8 := dkwX5_ofRow_1 ++ []
def dkwX5_ofRow_0 : List UInt8 := [28, 2, 160, 0, 7, 27, 167, 0, 18, 28, 27, 162, 0, 12, 42, 180, 0, 82, 28, 46, 167, 0, 4, 2]
abbrev dktX5_ofRow_0 : List UInt8 := dkwX5_ofRow_0 ++ dktX5_ofRow_1
theorem dksX5_ofRow_0 : cX5_ofRow.data.toList.drop 0 = dktX5_ofRow_0 := by decide +kernel
theorem dksX5_ofRow_1 : cX5_ofRow.data.toList.drop 24 = dktX5_ofRow_1 := dk_seg dksX5_ofRow_0 24 rfl rfl
theorem dX5_ofRow_0 : decode cX5_ofRow 0 = .ok (.iload_n 2, 1) := dk_28 (dk_at dksX5_ofRow_0 0 rfl rfl)
theorem dX5_ofRow_1 : decode cX5_ofRow 1 = .ok (.iconst (-1), 1) := dk_2 (dk_at dksX5_ofRow_0 1 rfl rfl)
theorem dX5_ofRow_2 : decode cX5_ofRow 2 = .ok (.if_icmp .ne 7, 3) := dk_160 0 7 (dk_at dksX5_ofRow_0 2 rfl rfl)
theorem dX5_ofRow_5 : decode cX5_ofRow 5 = .ok (.iload_n 1, 1) := dk_27 (dk_at dksX5_ofRow_0 5 rfl rfl)
theorem dX5_ofRow_6 : decode cX5_ofRow 6 = .ok (.goto 18, 3) := dk_167 0 18 (dk_at dksX5_ofRow_0 6 rfl rfl)
theorem dX5_ofRow_9 : decode cX5_ofRow 9 = .ok (.iload_n 2, 1) := dk_28 (dk_at dksX5_ofRow_0 9 rfl rfl)
theorem dX5_ofRow_10 : decode cX5_ofRow 10 = .ok (.iload_n 1, 1) := dk_27 (dk_at dksX5_ofRow_0 10 rfl rfl)
theorem dX5_ofRow_11 : decode cX5_ofRow 11 = .ok (.if_icmp .ge 12, 3) := dk_162 0 12 (dk_at dksX5_ofRow_0 11 rfl rfl)
theorem dX5_ofRow_14 : decode cX5_ofRow 14 = .ok (.aload_n 0, 1) := dk_42 (dk_at dksX5_ofRow_0 14 rfl rfl)
theorem dX5_ofRow_15 : decode cX5_ofRow 15 = .ok (.getfield 82, 3) := dk_180 0 82 (dk_at dksX5_ofRow_0 15 rfl rfl)
theorem dX5_ofRow_18 : decode cX5_ofRow 18 = .ok (.iload_n 2, 1) := dk_28 (dk_at dksX5_ofRow_0 18 rfl rfl)
theorem dX5_ofRow_19 : decode cX5_ofRow 19 = .ok (.iaload, 1) := dk_46 (dk_at dksX5_ofRow_0 19 rfl rfl)
theorem dX5_ofRow_20 : decode cX5_ofRow 20 = .ok (.goto 4, 3) := dk_167 0 4 (dk_at dksX5_ofRow_0 20 rfl rfl)
theorem dX5_ofRow_23 : decode cX5_ofRow 23 = .ok (.iconst (-1), 1) := dk_2 (dk_at dksX5_ofRow_0 23 rfl rfl)
theorem dX5_ofRow_24 : decode cX5_ofRow 24 = .ok (.ireturn, 1) := dk_172 (dk_at dksX5_ofRow_1 0 rfl rfl)
abbrev cX5_seen : ByteArray := prog_15_method_71_code
def yX5_seen : MethodName := ⟨RX5, "seen", "(II)I"⟩
def dkwX5_seen_2 : List UInt8 := [28, 79, 42, 89, 180, 1, 61, 4, 96, 181, 1, 61, 42, 180, 1, 61, 172]
abbrev dktX5_seen_2 : List UInt8 := dkwX5_seen_2 ++ []
def dkwX5_seen_1 : List UInt8 := [160, 0, 6, 16, 252, 172, 42, 180, 0, 85, 42, 180, 1, 61, 27, 79, 42, 180, 0, 88, 42, 180, 1, 61]
abbrev dktX5_seen_1 : List UInt8 := dkwX5_seen_1 ++ dktX5_seen_2
def dkwX5_seen_0 : List UInt8 := [27, 184, 0, 131, 153, 0, 10, 28, 184, 0, 123, 154, 0, 6, 16, 254, 172, 42, 180, 1, 61, 16, 8]
abbrev dktX5_seen_0 : List UInt8 := dkwX5_seen_0 ++ dktX5_seen_1
theorem dksX5_seen_0 : cX5_seen.data.toList.drop 0 = dktX5_seen_0 := by decide +kernel
theorem dksX5_seen_1 : cX5_seen.data.toList.drop 23 = dktX5_seen_1 := dk_seg dksX5_seen_0 23 rfl rfl
theorem dksX5_seen_2 : cX5_seen.data.toList.drop 47 = dktX5_seen_2 := dk_seg dksX5_seen_1 24 rfl rfl
theorem dX5_seen_0 : decode cX5_seen 0 = .ok (.iload_n 1, 1) := dk_27 (dk_at dksX5_seen_0 0 rfl rfl)
theorem dX5_seen_1 : decode cX5_seen 1 = .ok (.invokestatic 131, 3) := dk_184 0 131 (dk_at dksX5_seen_0 1 rfl rfl)
theorem dX5_seen_4 : decode cX5_seen 4 = .ok (.ifCond .eq 10, 3) := dk_153 0 10 (dk_at dksX5_seen_0 4 rfl rfl)
theorem dX5_seen_7 : decode cX5_seen 7 = .ok (.iload_n 2, 1) := dk_28 (dk_at dksX5_seen_0 7 rfl rfl)
theorem dX5_seen_8 : decode cX5_seen 8 = .ok (.invokestatic 123, 3) := dk_184 0 123 (dk_at dksX5_seen_0 8 rfl rfl)
theorem dX5_seen_11 : decode cX5_seen 11 = .ok (.ifCond .ne 6, 3) := dk_154 0 6 (dk_at dksX5_seen_0 11 rfl rfl)
theorem dX5_seen_14 : decode cX5_seen 14 = .ok (.bipush (-2), 2) := dk_16 254 (dk_at dksX5_seen_0 14 rfl rfl)
theorem dX5_seen_16 : decode cX5_seen 16 = .ok (.ireturn, 1) := dk_172 (dk_at dksX5_seen_0 16 rfl rfl)
theorem dX5_seen_17 : decode cX5_seen 17 = .ok (.aload_n 0, 1) := dk_42 (dk_at dksX5_seen_0 17 rfl rfl)
theorem dX5_seen_18 : decode cX5_seen 18 = .ok (.getfield 317, 3) := dk_180 1 61 (dk_at dksX5_seen_0 18 rfl rfl)
theorem dX5_seen_21 : decode cX5_seen 21 = .ok (.bipush 8, 2) := dk_16 8 (dk_at dksX5_seen_0 21 rfl rfl)
theorem dX5_seen_23 : decode cX5_seen 23 = .ok (.if_icmp .ne 6, 3) := dk_160 0 6 (dk_at dksX5_seen_1 0 rfl rfl)
theorem dX5_seen_26 : decode cX5_seen 26 = .ok (.bipush (-4), 2) := dk_16 252 (dk_at dksX5_seen_1 3 rfl rfl)
theorem dX5_seen_28 : decode cX5_seen 28 = .ok (.ireturn, 1) := dk_172 (dk_at dksX5_seen_1 5 rfl rfl)
theorem dX5_seen_29 : decode cX5_seen 29 = .ok (.aload_n 0, 1) := dk_42 (dk_at dksX5_seen_1 6 rfl rfl)
theorem dX5_seen_30 : decode cX5_seen 30 = .ok (.getfield 85, 3) := dk_180 0 85 (dk_at dksX5_seen_1 7 rfl rfl)
theorem dX5_seen_33 : decode cX5_seen 33 = .ok (.aload_n 0, 1) := dk_42 (dk_at dksX5_seen_1 10 rfl rfl)
theorem dX5_seen_34 : decode cX5_seen 34 = .ok (.getfield 317, 3) := dk_180 1 61 (dk_at dksX5_seen_1 11 rfl rfl)
theorem dX5_seen_37 : decode cX5_seen 37 = .ok (.iload_n 1, 1) := dk_27 (dk_at dksX5_seen_1 14 rfl rfl)
theorem dX5_seen_38 : decode cX5_seen 38 = .ok (.iastore, 1) := dk_79 (dk_at dksX5_seen_1 15 rfl rfl)
theorem dX5_seen_39 : decode cX5_seen 39 = .ok (.aload_n 0, 1) := dk_42 (dk_at dksX5_seen_1 16 rfl rfl)
theorem dX5_seen_40 : decode cX5_seen 40 = .ok (.getfield 88, 3) := dk_180 0 88 (dk_at dksX5_seen_1 17 rfl rfl)
theorem dX5_seen_43 : decode cX5_seen 43 = .ok (.aload_n 0, 1) := dk_42 (dk_at dksX5_seen_1 20 rfl rfl)
theorem dX5_seen_44 : decode cX5_seen 44 = .ok (.getfield 317, 3) := dk_180 1 61 (dk_at dksX5_seen_1 21 rfl rfl)
theorem dX5_seen_47 : decode cX5_seen 47 = .ok (.iload_n 2, 1) := dk_28 (dk_at dksX5_seen_2 0 rfl rfl)
theorem dX5_seen_48 : decode cX5_seen 48 = .ok (.iastore, 1) := dk_79 (dk_at dksX5_seen_2 1 rfl rfl)
theorem dX5_seen_49 : decode cX5_seen 49 = .ok (.aload_n 0, 1) := dk_42 (dk_at dksX5_seen_2 2 rfl rfl)
theorem dX5_seen_50 : decode cX5_seen 50 = .ok (.dup, 1) := dk_89 (dk_at dksX5_seen_2 3 rfl rfl)
theorem dX5_seen_51 : decode cX5_seen 51 = .ok (.getfield 317, 3) := dk_180 1 61 (dk_at dksX5_seen_2 4 rfl rfl)
theorem dX5_seen_54 : decode cX5_seen 54 = .ok (.iconst 1, 1) := dk_4 (dk_at dksX5_seen_2 7 rfl rfl)
theorem dX5_seen_55 : decode cX5_seen 55 = .ok (.iadd, 1) := dk_96 (dk_at dksX5_seen_2 8 rfl rfl)
theorem dX5_seen_56 : decode cX5_seen 56 = .ok (.putfield 317, 3) := dk_181 1 61 (dk_at dksX5_seen_2 9 rfl rfl)
theorem dX5_seen_59 : decode cX5_seen 59 = .ok (.aload_n 0, 1) := dk_42 (dk_at dksX5_seen_2 12 rfl rfl)
theorem dX5_seen_60 : decode cX5_seen 60 = .ok (.getfield 317, 3) := dk_180 1 61 (dk_at dksX5_seen_2 13 rfl rfl)
theorem dX5_seen_63 : decode cX5_seen 63 = .ok (.ireturn, 1) := dk_172 (dk_at dksX5_seen_2 16 rfl rfl)
abbrev cX5_forget : ByteArray := prog_15_method_72_code
def yX5_forget : MethodName := ⟨RX5, "forget", "()I"⟩
def dkwX5_forget_0 : List UInt8 := [42, 180, 1, 61, 60, 42, 3, 181, 1, 61, 27, 172]
abbrev dktX5_forget_0 : List UInt8 := dkwX5_forget_0 ++ []
theorem dksX5_forget_0 : cX5_forget.data.toList.drop 0 = dktX5_forget_0 := by decide +kernel
theorem dX5_forget_0 : decode cX5_forget 0 = .ok (.aload_n 0, 1) := dk_42 (dk_at dksX5_forget_0 0 rfl rfl)
theorem dX5_forget_1 : decode cX5_forget 1 = .ok (.getfield 317, 3) := dk_180 1 61 (dk_at dksX5_forget_0 1 rfl rfl)
theorem dX5_forget_4 : decode cX5_forget 4 = .ok (.istore_n 1, 1) := dk_60 (dk_at dksX5_forget_0 4 rfl rfl)
theorem dX5_forget_5 : decode cX5_forget 5 = .ok (.aload_n 0, 1) := dk_42 (dk_at dksX5_forget_0 5 rfl rfl)
theorem dX5_forget_6 : decode cX5_forget 6 = .ok (.iconst 0, 1) := dk_3 (dk_at dksX5_forget_0 6 rfl rfl)
theorem dX5_forget_7 : decode cX5_forget 7 = .ok (.putfield 317, 3) := dk_181 1 61 (dk_at dksX5_forget_0 7 rfl rfl)
theorem dX5_forget_10 : decode cX5_forget 10 = .ok (.iload_n 1, 1) := dk_27 (dk_at dksX5_forget_0 10 rfl rfl)
theorem dX5_forget_11 : decode cX5_forget 11 = .ok (.ireturn, 1) := dk_172 (dk_at dksX5_forget_0 11 rfl rfl)
abbrev cX5_never : ByteArray := prog_15_method_75_code
def yX5_never : MethodName := ⟨RX5, "never", "()I"⟩
theorem dX5_never_0 : decode cX5_never 0 = .ok (.aload_n 0, 1) := by decide +kernel
theorem dX5_never_1 : decode cX5_never 1 = .ok (.invokevirtual 324, 3) := by decide +kernel
theorem dX5_never_4 : decode cX5_never 4 = .ok (.ireturn, 1) := by decide +kernel
abbrev cX5_neverNow : ByteArray := prog_15_method_74_code
def yX5_neverNow : MethodName := ⟨RX5, "neverNow", "()I"⟩
def dkwX5_neverNow_1 : List UInt8 := [42, 182, 1, 64, 153, 0, 9, 4, 28, 120, 167, 0, 4, 3, 128, 60, 132, 2, 1, 167, 255, 221, 27, 172]
abbrev dktX5_neverNow_1 : List UInt8 := dkwX5_neverNow_1 ++ []
def dkwX5_neverNow_0 : List UInt8 := [42, 182, 0, 247, 3, 60, 3, 61, 28, 42, 180, 0, 169, 162, 0, 33, 42, 4, 28, 120, 181, 0, 187, 27]
abbrev dktX5_neverNow_0 : List UInt8 := dkwX5_neverNow_0 ++ dktX5_neverNow_1
theorem dksX5_neverNow_0 : cX5_neverNow.data.toList.drop 0 = dktX5_neverNow_0 := by decide +kernel
theorem dksX5_neverNow_1 : cX5_neverNow.data.toList.drop 24 = dktX5_neverNow_1 := dk_seg dksX5_neverNow_0 24 rfl rfl
theorem dX5_neverNow_0 : decode cX5_neverNow 0 = .ok (.aload_n 0, 1) := dk_42 (dk_at dksX5_neverNow_0 0 rfl rfl)
theorem dX5_neverNow_1 : decode cX5_neverNow 1 = .ok (.invokevirtual 247, 3) := dk_182 0 247 (dk_at dksX5_neverNow_0 1 rfl rfl)
theorem dX5_neverNow_4 : decode cX5_neverNow 4 = .ok (.iconst 0, 1) := dk_3 (dk_at dksX5_neverNow_0 4 rfl rfl)
theorem dX5_neverNow_5 : decode cX5_neverNow 5 = .ok (.istore_n 1, 1) := dk_60 (dk_at dksX5_neverNow_0 5 rfl rfl)
theorem dX5_neverNow_6 : decode cX5_neverNow 6 = .ok (.iconst 0, 1) := dk_3 (dk_at dksX5_neverNow_0 6 rfl rfl)
theorem dX5_neverNow_7 : decode cX5_neverNow 7 = .ok (.istore_n 2, 1) := dk_61 (dk_at dksX5_neverNow_0 7 rfl rfl)
theorem dX5_neverNow_8 : decode cX5_neverNow 8 = .ok (.iload_n 2, 1) := dk_28 (dk_at dksX5_neverNow_0 8 rfl rfl)
theorem dX5_neverNow_9 : decode cX5_neverNow 9 = .ok (.aload_n 0, 1) := dk_42 (dk_at dksX5_neverNow_0 9 rfl rfl)
theorem dX5_neverNow_10 : decode cX5_neverNow 10 = .ok (.getfield 169, 3) := dk_180 0 169 (dk_at dksX5_neverNow_0 10 rfl rfl)
theorem dX5_neverNow_13 : decode cX5_neverNow 13 = .ok (.if_icmp .ge 33, 3) := dk_162 0 33 (dk_at dksX5_neverNow_0 13 rfl rfl)
theorem dX5_neverNow_16 : decode cX5_neverNow 16 = .ok (.aload_n 0, 1) := dk_42 (dk_at dksX5_neverNow_0 16 rfl rfl)
theorem dX5_neverNow_17 : decode cX5_neverNow 17 = .ok (.iconst 1, 1) := dk_4 (dk_at dksX5_neverNow_0 17 rfl rfl)
theorem dX5_neverNow_18 : decode cX5_neverNow 18 = .ok (.iload_n 2, 1) := dk_28 (dk_at dksX5_neverNow_0 18 rfl rfl)
theorem dX5_neverNow_19 : decode cX5_neverNow 19 = .ok (.ishl, 1) := dk_120 (dk_at dksX5_neverNow_0 19 rfl rfl)
theorem dX5_neverNow_20 : decode cX5_neverNow 20 = .ok (.putfield 187, 3) := dk_181 0 187 (dk_at dksX5_neverNow_0 20 rfl rfl)
theorem dX5_neverNow_23 : decode cX5_neverNow 23 = .ok (.iload_n 1, 1) := dk_27 (dk_at dksX5_neverNow_0 23 rfl rfl)
theorem dX5_neverNow_24 : decode cX5_neverNow 24 = .ok (.aload_n 0, 1) := dk_42 (dk_at dksX5_neverNow_1 0 rfl rfl)
theorem dX5_neverNow_25 : decode cX5_neverNow 25 = .ok (.invokevirtual 320, 3) := dk_182 1 64 (dk_at dksX5_neverNow_1 1 rfl rfl)
theorem dX5_neverNow_28 : decode cX5_neverNow 28 = .ok (.ifCond .eq 9, 3) := dk_153 0 9 (dk_at dksX5_neverNow_1 4 rfl rfl)
theorem dX5_neverNow_31 : decode cX5_neverNow 31 = .ok (.iconst 1, 1) := dk_4 (dk_at dksX5_neverNow_1 7 rfl rfl)
theorem dX5_neverNow_32 : decode cX5_neverNow 32 = .ok (.iload_n 2, 1) := dk_28 (dk_at dksX5_neverNow_1 8 rfl rfl)
theorem dX5_neverNow_33 : decode cX5_neverNow 33 = .ok (.ishl, 1) := dk_120 (dk_at dksX5_neverNow_1 9 rfl rfl)
theorem dX5_neverNow_34 : decode cX5_neverNow 34 = .ok (.goto 4, 3) := dk_167 0 4 (dk_at dksX5_neverNow_1 10 rfl rfl)
theorem dX5_neverNow_37 : decode cX5_neverNow 37 = .ok (.iconst 0, 1) := dk_3 (dk_at dksX5_neverNow_1 13 rfl rfl)
theorem dX5_neverNow_38 : decode cX5_neverNow 38 = .ok (.ior, 1) := dk_128 (dk_at dksX5_neverNow_1 14 rfl rfl)
theorem dX5_neverNow_39 : decode cX5_neverNow 39 = .ok (.istore_n 1, 1) := dk_60 (dk_at dksX5_neverNow_1 15 rfl rfl)
theorem dX5_neverNow_40 : decode cX5_neverNow 40 = .ok (.iinc 2 1, 3) := dk_132 2 1 (dk_at dksX5_neverNow_1 16 rfl rfl)
theorem dX5_neverNow_43 : decode cX5_neverNow 43 = .ok (.goto (-35), 3) := dk_167 255 221 (dk_at dksX5_neverNow_1 19 rfl rfl)
theorem dX5_neverNow_46 : decode cX5_neverNow 46 = .ok (.iload_n 1, 1) := dk_27 (dk_at dksX5_neverNow_1 22 rfl rfl)
theorem dX5_neverNow_47 : decode cX5_neverNow 47 = .ok (.ireturn, 1) := dk_172 (dk_at dksX5_neverNow_1 23 rfl rfl)
abbrev cX5_isSeen : ByteArray := prog_15_method_73_code
def yX5_isSeen : MethodName := ⟨RX5, "isSeen", "()Z"⟩
def dkwX5_isSeen_2 : List UInt8 := [167, 0, 4, 3, 60, 132, 2, 1, 167, 255, 210, 27, 172]
abbrev dktX5_isSeen_2 : List UInt8 := dkwX5_isSeen_2 ++ []
def dkwX5_isSeen_1 : List UInt8 := [16, 6, 42, 180, 0, 85, 28, 46, 104, 7, 96, 46, 42, 180, 0, 88, 28, 46, 160, 0, 7, 4]
abbrev dktX5_isSeen_1 : List UInt8 := dkwX5_isSeen_1 ++ dktX5_isSeen_2
def dkwX5_isSeen_0 : List UInt8 := [42, 182, 0, 250, 4, 60, 3, 61, 28, 42, 180, 1, 61, 162, 0, 44, 27, 153, 0, 40, 42, 180, 0, 70]
abbrev dktX5_isSeen_0 : List UInt8 := dkwX5_isSeen_0 ++ dktX5_isSeen_1
theorem dksX5_isSeen_0 : cX5_isSeen.data.toList.drop 0 = dktX5_isSeen_0 := by decide +kernel
theorem dksX5_isSeen_1 : cX5_isSeen.data.toList.drop 24 = dktX5_isSeen_1 := dk_seg dksX5_isSeen_0 24 rfl rfl
theorem dksX5_isSeen_2 : cX5_isSeen.data.toList.drop 46 = dktX5_isSeen_2 := dk_seg dksX5_isSeen_1 22 rfl rfl
theorem dX5_isSeen_0 : decode cX5_isSeen 0 = .ok (.aload_n 0, 1) := dk_42 (dk_at dksX5_isSeen_0 0 rfl rfl)
theorem dX5_isSeen_1 : decode cX5_isSeen 1 = .ok (.invokevirtual 250, 3) := dk_182 0 250 (dk_at dksX5_isSeen_0 1 rfl rfl)
theorem dX5_isSeen_4 : decode cX5_isSeen 4 = .ok (.iconst 1, 1) := dk_4 (dk_at dksX5_isSeen_0 4 rfl rfl)
theorem dX5_isSeen_5 : decode cX5_isSeen 5 = .ok (.istore_n 1, 1) := dk_60 (dk_at dksX5_isSeen_0 5 rfl rfl)
theorem dX5_isSeen_6 : decode cX5_isSeen 6 = .ok (.iconst 0, 1) := dk_3 (dk_at dksX5_isSeen_0 6 rfl rfl)
theorem dX5_isSeen_7 : decode cX5_isSeen 7 = .ok (.istore_n 2, 1) := dk_61 (dk_at dksX5_isSeen_0 7 rfl rfl)
theorem dX5_isSeen_8 : decode cX5_isSeen 8 = .ok (.iload_n 2, 1) := dk_28 (dk_at dksX5_isSeen_0 8 rfl rfl)
theorem dX5_isSeen_9 : decode cX5_isSeen 9 = .ok (.aload_n 0, 1) := dk_42 (dk_at dksX5_isSeen_0 9 rfl rfl)
theorem dX5_isSeen_10 : decode cX5_isSeen 10 = .ok (.getfield 317, 3) := dk_180 1 61 (dk_at dksX5_isSeen_0 10 rfl rfl)
theorem dX5_isSeen_13 : decode cX5_isSeen 13 = .ok (.if_icmp .ge 44, 3) := dk_162 0 44 (dk_at dksX5_isSeen_0 13 rfl rfl)
theorem dX5_isSeen_16 : decode cX5_isSeen 16 = .ok (.iload_n 1, 1) := dk_27 (dk_at dksX5_isSeen_0 16 rfl rfl)
theorem dX5_isSeen_17 : decode cX5_isSeen 17 = .ok (.ifCond .eq 40, 3) := dk_153 0 40 (dk_at dksX5_isSeen_0 17 rfl rfl)
theorem dX5_isSeen_20 : decode cX5_isSeen 20 = .ok (.aload_n 0, 1) := dk_42 (dk_at dksX5_isSeen_0 20 rfl rfl)
theorem dX5_isSeen_21 : decode cX5_isSeen 21 = .ok (.getfield 70, 3) := dk_180 0 70 (dk_at dksX5_isSeen_0 21 rfl rfl)
theorem dX5_isSeen_24 : decode cX5_isSeen 24 = .ok (.bipush 6, 2) := dk_16 6 (dk_at dksX5_isSeen_1 0 rfl rfl)
theorem dX5_isSeen_26 : decode cX5_isSeen 26 = .ok (.aload_n 0, 1) := dk_42 (dk_at dksX5_isSeen_1 2 rfl rfl)
theorem dX5_isSeen_27 : decode cX5_isSeen 27 = .ok (.getfield 85, 3) := dk_180 0 85 (dk_at dksX5_isSeen_1 3 rfl rfl)
theorem dX5_isSeen_30 : decode cX5_isSeen 30 = .ok (.iload_n 2, 1) := dk_28 (dk_at dksX5_isSeen_1 6 rfl rfl)
theorem dX5_isSeen_31 : decode cX5_isSeen 31 = .ok (.iaload, 1) := dk_46 (dk_at dksX5_isSeen_1 7 rfl rfl)
theorem dX5_isSeen_32 : decode cX5_isSeen 32 = .ok (.imul, 1) := dk_104 (dk_at dksX5_isSeen_1 8 rfl rfl)
theorem dX5_isSeen_33 : decode cX5_isSeen 33 = .ok (.iconst 4, 1) := dk_7 (dk_at dksX5_isSeen_1 9 rfl rfl)
theorem dX5_isSeen_34 : decode cX5_isSeen 34 = .ok (.iadd, 1) := dk_96 (dk_at dksX5_isSeen_1 10 rfl rfl)
theorem dX5_isSeen_35 : decode cX5_isSeen 35 = .ok (.iaload, 1) := dk_46 (dk_at dksX5_isSeen_1 11 rfl rfl)
theorem dX5_isSeen_36 : decode cX5_isSeen 36 = .ok (.aload_n 0, 1) := dk_42 (dk_at dksX5_isSeen_1 12 rfl rfl)
theorem dX5_isSeen_37 : decode cX5_isSeen 37 = .ok (.getfield 88, 3) := dk_180 0 88 (dk_at dksX5_isSeen_1 13 rfl rfl)
theorem dX5_isSeen_40 : decode cX5_isSeen 40 = .ok (.iload_n 2, 1) := dk_28 (dk_at dksX5_isSeen_1 16 rfl rfl)
theorem dX5_isSeen_41 : decode cX5_isSeen 41 = .ok (.iaload, 1) := dk_46 (dk_at dksX5_isSeen_1 17 rfl rfl)
theorem dX5_isSeen_42 : decode cX5_isSeen 42 = .ok (.if_icmp .ne 7, 3) := dk_160 0 7 (dk_at dksX5_isSeen_1 18 rfl rfl)
theorem dX5_isSeen_45 : decode cX5_isSeen 45 = .ok (.iconst 1, 1) := dk_4 (dk_at dksX5_isSeen_1 21 rfl rfl)
theorem dX5_isSeen_46 : decode cX5_isSeen 46 = .ok (.goto 4, 3) := dk_167 0 4 (dk_at dksX5_isSeen_2 0 rfl rfl)
theorem dX5_isSeen_49 : decode cX5_isSeen 49 = .ok (.iconst 0, 1) := dk_3 (dk_at dksX5_isSeen_2 3 rfl rfl)
theorem dX5_isSeen_50 : decode cX5_isSeen 50 = .ok (.istore_n 1, 1) := dk_60 (dk_at dksX5_isSeen_2 4 rfl rfl)
theorem dX5_isSeen_51 : decode cX5_isSeen 51 = .ok (.iinc 2 1, 3) := dk_132 2 1 (dk_at dksX5_isSeen_2 5 rfl rfl)
theorem dX5_isSeen_54 : decode cX5_isSeen 54 = .ok (.goto (-46), 3) := dk_167 255 210 (dk_at dksX5_isSeen_2 8 rfl rfl)
theorem dX5_isSeen_57 : decode cX5_isSeen 57 = .ok (.iload_n 1, 1) := dk_27 (dk_at dksX5_isSeen_2 11 rfl rfl)
theorem dX5_isSeen_58 : decode cX5_isSeen 58 = .ok (.ireturn, 1) := dk_172 (dk_at dksX5_isSeen_2 12 rfl rfl)
abbrev cX5_waters : ByteArray := prog_15_method_77_code
def yX5_waters : MethodName := ⟨RX5, "waters", "()I"⟩
theorem dX5_waters_0 : decode cX5_waters 0 = .ok (.aload_n 0, 1) := by decide +kernel
theorem dX5_waters_1 : decode cX5_waters 1 = .ok (.invokevirtual 327, 3) := by decide +kernel
theorem dX5_waters_4 : decode cX5_waters 4 = .ok (.ireturn, 1) := by decide +kernel
abbrev cX5_watersBy : ByteArray := prog_15_method_76_code
def yX5_watersBy : MethodName := ⟨RX5, "watersBy", "()I"⟩
def dkwX5_watersBy_4 : List UInt8 := [132, 3, 1, 167, 255, 216, 132, 2, 1, 167, 255, 180, 27, 172]
abbrev dktX5_watersBy_4 : List UInt8 := dkwX5_watersBy_4 ++ []
def dkwX5_watersBy_3 : List UInt8 := [42, 180, 0, 70, 16, 6, 29, 104, 7, 96, 46, 4, 160, 0, 9, 4, 28, 120, 167, 0, 4, 3, 128, 79]
abbrev dktX5_watersBy_3 : List UInt8 := dkwX5_watersBy_3 ++ dktX5_watersBy_4
def dkwX5_watersBy_2 : List UInt8 := [4, 28, 120, 167, 0, 4, 3, 128, 60, 3, 62, 29, 16, 24, 162, 0, 40, 42, 180, 0, 91, 29, 92, 46]
abbrev dktX5_watersBy_2 : List UInt8 := dkwX5_watersBy_2 ++ dktX5_watersBy_3
def dkwX5_watersBy_1 : List UInt8 := [167, 255, 240, 3, 61, 28, 16, 30, 163, 0, 76, 42, 28, 181, 0, 184, 27, 42, 182, 1, 64, 153, 0, 9]
abbrev dktX5_watersBy_1 : List UInt8 := dkwX5_watersBy_1 ++ dktX5_watersBy_2
def dkwX5_watersBy_0 : List UInt8 := [42, 182, 0, 247, 3, 60, 3, 61, 28, 16, 24, 162, 0, 16, 42, 180, 0, 91, 28, 3, 79, 132, 2, 1]
abbrev dktX5_watersBy_0 : List UInt8 := dkwX5_watersBy_0 ++ dktX5_watersBy_1
theorem dksX5_watersBy_0 : cX5_watersBy.data.toList.drop 0 = dktX5_watersBy_0 := by decide +kernel
theorem dksX5_watersBy_1 : cX5_watersBy.data.toList.drop 24 = dktX5_watersBy_1 := dk_seg dksX5_watersBy_0 24 rfl rfl
theorem dksX5_watersBy_2 : cX5_watersBy.data.toList.drop 48 = dktX5_watersBy_2 := dk_seg dksX5_watersBy_1 24 rfl rfl
theorem dksX5_watersBy_3 : cX5_watersBy.data.toList.drop 72 = dktX5_watersBy_3 := dk_seg dksX5_watersBy_2 24 rfl rfl
theorem dksX5_watersBy_4 : cX5_watersBy.data.toList.drop 96 = dktX5_watersBy_4 := dk_seg dksX5_watersBy_3 24 rfl rfl
theorem dX5_watersBy_0 : decode cX5_watersBy 0 = .ok (.aload_n 0, 1) := dk_42 (dk_at dksX5_watersBy_0 0 rfl rfl)
theorem dX5_watersBy_1 : decode cX5_watersBy 1 = .ok (.invokevirtual 247, 3) := dk_182 0 247 (dk_at dksX5_watersBy_0 1 rfl rfl)
theorem dX5_watersBy_4 : decode cX5_watersBy 4 = .ok (.iconst 0, 1) := dk_3 (dk_at dksX5_watersBy_0 4 rfl rfl)
theorem dX5_watersBy_5 : decode cX5_watersBy 5 = .ok (.istore_n 1, 1) := dk_60 (dk_at dksX5_watersBy_0 5 rfl rfl)
theorem dX5_watersBy_6 : decode cX5_watersBy 6 = .ok (.iconst 0, 1) := dk_3 (dk_at dksX5_watersBy_0 6 rfl rfl)
theorem dX5_watersBy_7 : decode cX5_watersBy 7 = .ok (.istore_n 2, 1) := dk_61 (dk_at dksX5_watersBy_0 7 rfl rfl)
theorem dX5_watersBy_8 : decode cX5_watersBy 8 = .ok (.iload_n 2, 1) := dk_28 (dk_at dksX5_watersBy_0 8 rfl rfl)
theorem dX5_watersBy_9 : decode cX5_watersBy 9 = .ok (.bipush 24, 2) := dk_16 24 (dk_at dksX5_watersBy_0 9 rfl rfl)
theorem dX5_watersBy_11 : decode cX5_watersBy 11 = .ok (.if_icmp .ge 16, 3) := dk_162 0 16 (dk_at dksX5_watersBy_0 11 rfl rfl)
theorem dX5_watersBy_14 : decode cX5_watersBy 14 = .ok (.aload_n 0, 1) := dk_42 (dk_at dksX5_watersBy_0 14 rfl rfl)
theorem dX5_watersBy_15 : decode cX5_watersBy 15 = .ok (.getfield 91, 3) := dk_180 0 91 (dk_at dksX5_watersBy_0 15 rfl rfl)
theorem dX5_watersBy_18 : decode cX5_watersBy 18 = .ok (.iload_n 2, 1) := dk_28 (dk_at dksX5_watersBy_0 18 rfl rfl)
theorem dX5_watersBy_19 : decode cX5_watersBy 19 = .ok (.iconst 0, 1) := dk_3 (dk_at dksX5_watersBy_0 19 rfl rfl)
theorem dX5_watersBy_20 : decode cX5_watersBy 20 = .ok (.iastore, 1) := dk_79 (dk_at dksX5_watersBy_0 20 rfl rfl)
theorem dX5_watersBy_21 : decode cX5_watersBy 21 = .ok (.iinc 2 1, 3) := dk_132 2 1 (dk_at dksX5_watersBy_0 21 rfl rfl)
theorem dX5_watersBy_24 : decode cX5_watersBy 24 = .ok (.goto (-16), 3) := dk_167 255 240 (dk_at dksX5_watersBy_1 0 rfl rfl)
theorem dX5_watersBy_27 : decode cX5_watersBy 27 = .ok (.iconst 0, 1) := dk_3 (dk_at dksX5_watersBy_1 3 rfl rfl)
theorem dX5_watersBy_28 : decode cX5_watersBy 28 = .ok (.istore_n 2, 1) := dk_61 (dk_at dksX5_watersBy_1 4 rfl rfl)
theorem dX5_watersBy_29 : decode cX5_watersBy 29 = .ok (.iload_n 2, 1) := dk_28 (dk_at dksX5_watersBy_1 5 rfl rfl)
theorem dX5_watersBy_30 : decode cX5_watersBy 30 = .ok (.bipush 30, 2) := dk_16 30 (dk_at dksX5_watersBy_1 6 rfl rfl)
theorem dX5_watersBy_32 : decode cX5_watersBy 32 = .ok (.if_icmp .gt 76, 3) := dk_163 0 76 (dk_at dksX5_watersBy_1 8 rfl rfl)
theorem dX5_watersBy_35 : decode cX5_watersBy 35 = .ok (.aload_n 0, 1) := dk_42 (dk_at dksX5_watersBy_1 11 rfl rfl)
theorem dX5_watersBy_36 : decode cX5_watersBy 36 = .ok (.iload_n 2, 1) := dk_28 (dk_at dksX5_watersBy_1 12 rfl rfl)
theorem dX5_watersBy_37 : decode cX5_watersBy 37 = .ok (.putfield 184, 3) := dk_181 0 184 (dk_at dksX5_watersBy_1 13 rfl rfl)
theorem dX5_watersBy_40 : decode cX5_watersBy 40 = .ok (.iload_n 1, 1) := dk_27 (dk_at dksX5_watersBy_1 16 rfl rfl)
theorem dX5_watersBy_41 : decode cX5_watersBy 41 = .ok (.aload_n 0, 1) := dk_42 (dk_at dksX5_watersBy_1 17 rfl rfl)
theorem dX5_watersBy_42 : decode cX5_watersBy 42 = .ok (.invokevirtual 320, 3) := dk_182 1 64 (dk_at dksX5_watersBy_1 18 rfl rfl)
theorem dX5_watersBy_45 : decode cX5_watersBy 45 = .ok (.ifCond .eq 9, 3) := dk_153 0 9 (dk_at dksX5_watersBy_1 21 rfl rfl)
theorem dX5_watersBy_48 : decode cX5_watersBy 48 = .ok (.iconst 1, 1) := dk_4 (dk_at dksX5_watersBy_2 0 rfl rfl)
theorem dX5_watersBy_49 : decode cX5_watersBy 49 = .ok (.iload_n 2, 1) := dk_28 (dk_at dksX5_watersBy_2 1 rfl rfl)
theorem dX5_watersBy_50 : decode cX5_watersBy 50 = .ok (.ishl, 1) := dk_120 (dk_at dksX5_watersBy_2 2 rfl rfl)
theorem dX5_watersBy_51 : decode cX5_watersBy 51 = .ok (.goto 4, 3) := dk_167 0 4 (dk_at dksX5_watersBy_2 3 rfl rfl)
theorem dX5_watersBy_54 : decode cX5_watersBy 54 = .ok (.iconst 0, 1) := dk_3 (dk_at dksX5_watersBy_2 6 rfl rfl)
theorem dX5_watersBy_55 : decode cX5_watersBy 55 = .ok (.ior, 1) := dk_128 (dk_at dksX5_watersBy_2 7 rfl rfl)
theorem dX5_watersBy_56 : decode cX5_watersBy 56 = .ok (.istore_n 1, 1) := dk_60 (dk_at dksX5_watersBy_2 8 rfl rfl)
theorem dX5_watersBy_57 : decode cX5_watersBy 57 = .ok (.iconst 0, 1) := dk_3 (dk_at dksX5_watersBy_2 9 rfl rfl)
theorem dX5_watersBy_58 : decode cX5_watersBy 58 = .ok (.istore_n 3, 1) := dk_62 (dk_at dksX5_watersBy_2 10 rfl rfl)
theorem dX5_watersBy_59 : decode cX5_watersBy 59 = .ok (.iload_n 3, 1) := dk_29 (dk_at dksX5_watersBy_2 11 rfl rfl)
theorem dX5_watersBy_60 : decode cX5_watersBy 60 = .ok (.bipush 24, 2) := dk_16 24 (dk_at dksX5_watersBy_2 12 rfl rfl)
theorem dX5_watersBy_62 : decode cX5_watersBy 62 = .ok (.if_icmp .ge 40, 3) := dk_162 0 40 (dk_at dksX5_watersBy_2 14 rfl rfl)
theorem dX5_watersBy_65 : decode cX5_watersBy 65 = .ok (.aload_n 0, 1) := dk_42 (dk_at dksX5_watersBy_2 17 rfl rfl)
theorem dX5_watersBy_66 : decode cX5_watersBy 66 = .ok (.getfield 91, 3) := dk_180 0 91 (dk_at dksX5_watersBy_2 18 rfl rfl)
theorem dX5_watersBy_69 : decode cX5_watersBy 69 = .ok (.iload_n 3, 1) := dk_29 (dk_at dksX5_watersBy_2 21 rfl rfl)
theorem dX5_watersBy_70 : decode cX5_watersBy 70 = .ok (.dup2, 1) := dk_92 (dk_at dksX5_watersBy_2 22 rfl rfl)
theorem dX5_watersBy_71 : decode cX5_watersBy 71 = .ok (.iaload, 1) := dk_46 (dk_at dksX5_watersBy_2 23 rfl rfl)
theorem dX5_watersBy_72 : decode cX5_watersBy 72 = .ok (.aload_n 0, 1) := dk_42 (dk_at dksX5_watersBy_3 0 rfl rfl)
theorem dX5_watersBy_73 : decode cX5_watersBy 73 = .ok (.getfield 70, 3) := dk_180 0 70 (dk_at dksX5_watersBy_3 1 rfl rfl)
theorem dX5_watersBy_76 : decode cX5_watersBy 76 = .ok (.bipush 6, 2) := dk_16 6 (dk_at dksX5_watersBy_3 4 rfl rfl)
theorem dX5_watersBy_78 : decode cX5_watersBy 78 = .ok (.iload_n 3, 1) := dk_29 (dk_at dksX5_watersBy_3 6 rfl rfl)
theorem dX5_watersBy_79 : decode cX5_watersBy 79 = .ok (.imul, 1) := dk_104 (dk_at dksX5_watersBy_3 7 rfl rfl)
theorem dX5_watersBy_80 : decode cX5_watersBy 80 = .ok (.iconst 4, 1) := dk_7 (dk_at dksX5_watersBy_3 8 rfl rfl)
theorem dX5_watersBy_81 : decode cX5_watersBy 81 = .ok (.iadd, 1) := dk_96 (dk_at dksX5_watersBy_3 9 rfl rfl)
theorem dX5_watersBy_82 : decode cX5_watersBy 82 = .ok (.iaload, 1) := dk_46 (dk_at dksX5_watersBy_3 10 rfl rfl)
theorem dX5_watersBy_83 : decode cX5_watersBy 83 = .ok (.iconst 1, 1) := dk_4 (dk_at dksX5_watersBy_3 11 rfl rfl)
theorem dX5_watersBy_84 : decode cX5_watersBy 84 = .ok (.if_icmp .ne 9, 3) := dk_160 0 9 (dk_at dksX5_watersBy_3 12 rfl rfl)
theorem dX5_watersBy_87 : decode cX5_watersBy 87 = .ok (.iconst 1, 1) := dk_4 (dk_at dksX5_watersBy_3 15 rfl rfl)
theorem dX5_watersBy_88 : decode cX5_watersBy 88 = .ok (.iload_n 2, 1) := dk_28 (dk_at dksX5_watersBy_3 16 rfl rfl)
theorem dX5_watersBy_89 : decode cX5_watersBy 89 = .ok (.ishl, 1) := dk_120 (dk_at dksX5_watersBy_3 17 rfl rfl)
theorem dX5_watersBy_90 : decode cX5_watersBy 90 = .ok (.goto 4, 3) := dk_167 0 4 (dk_at dksX5_watersBy_3 18 rfl rfl)
theorem dX5_watersBy_93 : decode cX5_watersBy 93 = .ok (.iconst 0, 1) := dk_3 (dk_at dksX5_watersBy_3 21 rfl rfl)
theorem dX5_watersBy_94 : decode cX5_watersBy 94 = .ok (.ior, 1) := dk_128 (dk_at dksX5_watersBy_3 22 rfl rfl)
theorem dX5_watersBy_95 : decode cX5_watersBy 95 = .ok (.iastore, 1) := dk_79 (dk_at dksX5_watersBy_3 23 rfl rfl)
theorem dX5_watersBy_96 : decode cX5_watersBy 96 = .ok (.iinc 3 1, 3) := dk_132 3 1 (dk_at dksX5_watersBy_4 0 rfl rfl)
theorem dX5_watersBy_99 : decode cX5_watersBy 99 = .ok (.goto (-40), 3) := dk_167 255 216 (dk_at dksX5_watersBy_4 3 rfl rfl)
theorem dX5_watersBy_102 : decode cX5_watersBy 102 = .ok (.iinc 2 1, 3) := dk_132 2 1 (dk_at dksX5_watersBy_4 6 rfl rfl)
theorem dX5_watersBy_105 : decode cX5_watersBy 105 = .ok (.goto (-76), 3) := dk_167 255 180 (dk_at dksX5_watersBy_4 9 rfl rfl)
theorem dX5_watersBy_108 : decode cX5_watersBy 108 = .ok (.iload_n 1, 1) := dk_27 (dk_at dksX5_watersBy_4 12 rfl rfl)
theorem dX5_watersBy_109 : decode cX5_watersBy 109 = .ok (.ireturn, 1) := dk_172 (dk_at dksX5_watersBy_4 13 rfl rfl)
abbrev cX5_kind : ByteArray := prog_15_method_79_code
def yX5_kind : MethodName := ⟨RX5, "kind", "(I)I"⟩
def dkwX5_kind_0 : List UInt8 := [42, 27, 182, 0, 154, 153, 0, 11, 42, 27, 182, 1, 74, 167, 0, 5, 16, 254, 172]
abbrev dktX5_kind_0 : List UInt8 := dkwX5_kind_0 ++ []
theorem dksX5_kind_0 : cX5_kind.data.toList.drop 0 = dktX5_kind_0 := by decide +kernel
theorem dX5_kind_0 : decode cX5_kind 0 = .ok (.aload_n 0, 1) := dk_42 (dk_at dksX5_kind_0 0 rfl rfl)
theorem dX5_kind_1 : decode cX5_kind 1 = .ok (.iload_n 1, 1) := dk_27 (dk_at dksX5_kind_0 1 rfl rfl)
theorem dX5_kind_2 : decode cX5_kind 2 = .ok (.invokevirtual 154, 3) := dk_182 0 154 (dk_at dksX5_kind_0 2 rfl rfl)
theorem dX5_kind_5 : decode cX5_kind 5 = .ok (.ifCond .eq 11, 3) := dk_153 0 11 (dk_at dksX5_kind_0 5 rfl rfl)
theorem dX5_kind_8 : decode cX5_kind 8 = .ok (.aload_n 0, 1) := dk_42 (dk_at dksX5_kind_0 8 rfl rfl)
theorem dX5_kind_9 : decode cX5_kind 9 = .ok (.iload_n 1, 1) := dk_27 (dk_at dksX5_kind_0 9 rfl rfl)
theorem dX5_kind_10 : decode cX5_kind 10 = .ok (.invokevirtual 330, 3) := dk_182 1 74 (dk_at dksX5_kind_0 10 rfl rfl)
theorem dX5_kind_13 : decode cX5_kind 13 = .ok (.goto 5, 3) := dk_167 0 5 (dk_at dksX5_kind_0 13 rfl rfl)
theorem dX5_kind_16 : decode cX5_kind 16 = .ok (.bipush (-2), 2) := dk_16 254 (dk_at dksX5_kind_0 16 rfl rfl)
theorem dX5_kind_18 : decode cX5_kind 18 = .ok (.ireturn, 1) := dk_172 (dk_at dksX5_kind_0 18 rfl rfl)
abbrev cX5_kindsBy : ByteArray := prog_15_method_78_code
def yX5_kindsBy : MethodName := ⟨RX5, "kindsBy", "(I)I"⟩
def dkwX5_kindsBy_2 : List UInt8 := [62, 132, 4, 1, 167, 255, 221, 42, 180, 0, 19, 27, 28, 79, 29, 172]
abbrev dktX5_kindsBy_2 : List UInt8 := dkwX5_kindsBy_2 ++ []
def dkwX5_kindsBy_1 : List UInt8 := [180, 0, 19, 27, 21, 4, 79, 29, 42, 182, 1, 64, 153, 0, 10, 4, 21, 4, 120, 167, 0, 4, 3, 128]
abbrev dktX5_kindsBy_1 : List UInt8 := dkwX5_kindsBy_1 ++ dktX5_kindsBy_2
def dkwX5_kindsBy_0 : List UInt8 := [42, 182, 0, 247, 42, 180, 0, 19, 27, 46, 61, 3, 62, 3, 54, 4, 21, 4, 6, 162, 0, 35, 42]
abbrev dktX5_kindsBy_0 : List UInt8 := dkwX5_kindsBy_0 ++ dktX5_kindsBy_1
theorem dksX5_kindsBy_0 : cX5_kindsBy.data.toList.drop 0 = dktX5_kindsBy_0 := by decide +kernel
theorem dksX5_kindsBy_1 : cX5_kindsBy.data.toList.drop 23 = dktX5_kindsBy_1 := dk_seg dksX5_kindsBy_0 23 rfl rfl
theorem dksX5_kindsBy_2 : cX5_kindsBy.data.toList.drop 47 = dktX5_kindsBy_2 := dk_seg dksX5_kindsBy_1 24 rfl rfl
theorem dX5_kindsBy_0 : decode cX5_kindsBy 0 = .ok (.aload_n 0, 1) := dk_42 (dk_at dksX5_kindsBy_0 0 rfl rfl)
theorem dX5_kindsBy_1 : decode cX5_kindsBy 1 = .ok (.invokevirtual 247, 3) := dk_182 0 247 (dk_at dksX5_kindsBy_0 1 rfl rfl)
theorem dX5_kindsBy_4 : decode cX5_kindsBy 4 = .ok (.aload_n 0, 1) := dk_42 (dk_at dksX5_kindsBy_0 4 rfl rfl)
theorem dX5_kindsBy_5 : decode cX5_kindsBy 5 = .ok (.getfield 19, 3) := dk_180 0 19 (dk_at dksX5_kindsBy_0 5 rfl rfl)
theorem dX5_kindsBy_8 : decode cX5_kindsBy 8 = .ok (.iload_n 1, 1) := dk_27 (dk_at dksX5_kindsBy_0 8 rfl rfl)
theorem dX5_kindsBy_9 : decode cX5_kindsBy 9 = .ok (.iaload, 1) := dk_46 (dk_at dksX5_kindsBy_0 9 rfl rfl)
theorem dX5_kindsBy_10 : decode cX5_kindsBy 10 = .ok (.istore_n 2, 1) := dk_61 (dk_at dksX5_kindsBy_0 10 rfl rfl)
theorem dX5_kindsBy_11 : decode cX5_kindsBy 11 = .ok (.iconst 0, 1) := dk_3 (dk_at dksX5_kindsBy_0 11 rfl rfl)
theorem dX5_kindsBy_12 : decode cX5_kindsBy 12 = .ok (.istore_n 3, 1) := dk_62 (dk_at dksX5_kindsBy_0 12 rfl rfl)
theorem dX5_kindsBy_13 : decode cX5_kindsBy 13 = .ok (.iconst 0, 1) := dk_3 (dk_at dksX5_kindsBy_0 13 rfl rfl)
theorem dX5_kindsBy_14 : decode cX5_kindsBy 14 = .ok (.istore 4, 2) := dk_54 4 (dk_at dksX5_kindsBy_0 14 rfl rfl)
theorem dX5_kindsBy_16 : decode cX5_kindsBy 16 = .ok (.iload 4, 2) := dk_21 4 (dk_at dksX5_kindsBy_0 16 rfl rfl)
theorem dX5_kindsBy_18 : decode cX5_kindsBy 18 = .ok (.iconst 3, 1) := dk_6 (dk_at dksX5_kindsBy_0 18 rfl rfl)
theorem dX5_kindsBy_19 : decode cX5_kindsBy 19 = .ok (.if_icmp .ge 35, 3) := dk_162 0 35 (dk_at dksX5_kindsBy_0 19 rfl rfl)
theorem dX5_kindsBy_22 : decode cX5_kindsBy 22 = .ok (.aload_n 0, 1) := dk_42 (dk_at dksX5_kindsBy_0 22 rfl rfl)
theorem dX5_kindsBy_23 : decode cX5_kindsBy 23 = .ok (.getfield 19, 3) := dk_180 0 19 (dk_at dksX5_kindsBy_1 0 rfl rfl)
theorem dX5_kindsBy_26 : decode cX5_kindsBy 26 = .ok (.iload_n 1, 1) := dk_27 (dk_at dksX5_kindsBy_1 3 rfl rfl)
theorem dX5_kindsBy_27 : decode cX5_kindsBy 27 = .ok (.iload 4, 2) := dk_21 4 (dk_at dksX5_kindsBy_1 4 rfl rfl)
theorem dX5_kindsBy_29 : decode cX5_kindsBy 29 = .ok (.iastore, 1) := dk_79 (dk_at dksX5_kindsBy_1 6 rfl rfl)
theorem dX5_kindsBy_30 : decode cX5_kindsBy 30 = .ok (.iload_n 3, 1) := dk_29 (dk_at dksX5_kindsBy_1 7 rfl rfl)
theorem dX5_kindsBy_31 : decode cX5_kindsBy 31 = .ok (.aload_n 0, 1) := dk_42 (dk_at dksX5_kindsBy_1 8 rfl rfl)
theorem dX5_kindsBy_32 : decode cX5_kindsBy 32 = .ok (.invokevirtual 320, 3) := dk_182 1 64 (dk_at dksX5_kindsBy_1 9 rfl rfl)
theorem dX5_kindsBy_35 : decode cX5_kindsBy 35 = .ok (.ifCond .eq 10, 3) := dk_153 0 10 (dk_at dksX5_kindsBy_1 12 rfl rfl)
theorem dX5_kindsBy_38 : decode cX5_kindsBy 38 = .ok (.iconst 1, 1) := dk_4 (dk_at dksX5_kindsBy_1 15 rfl rfl)
theorem dX5_kindsBy_39 : decode cX5_kindsBy 39 = .ok (.iload 4, 2) := dk_21 4 (dk_at dksX5_kindsBy_1 16 rfl rfl)
theorem dX5_kindsBy_41 : decode cX5_kindsBy 41 = .ok (.ishl, 1) := dk_120 (dk_at dksX5_kindsBy_1 18 rfl rfl)
theorem dX5_kindsBy_42 : decode cX5_kindsBy 42 = .ok (.goto 4, 3) := dk_167 0 4 (dk_at dksX5_kindsBy_1 19 rfl rfl)
theorem dX5_kindsBy_45 : decode cX5_kindsBy 45 = .ok (.iconst 0, 1) := dk_3 (dk_at dksX5_kindsBy_1 22 rfl rfl)
theorem dX5_kindsBy_46 : decode cX5_kindsBy 46 = .ok (.ior, 1) := dk_128 (dk_at dksX5_kindsBy_1 23 rfl rfl)
theorem dX5_kindsBy_47 : decode cX5_kindsBy 47 = .ok (.istore_n 3, 1) := dk_62 (dk_at dksX5_kindsBy_2 0 rfl rfl)
theorem dX5_kindsBy_48 : decode cX5_kindsBy 48 = .ok (.iinc 4 1, 3) := dk_132 4 1 (dk_at dksX5_kindsBy_2 1 rfl rfl)
theorem dX5_kindsBy_51 : decode cX5_kindsBy 51 = .ok (.goto (-35), 3) := dk_167 255 221 (dk_at dksX5_kindsBy_2 4 rfl rfl)
theorem dX5_kindsBy_54 : decode cX5_kindsBy 54 = .ok (.aload_n 0, 1) := dk_42 (dk_at dksX5_kindsBy_2 7 rfl rfl)
theorem dX5_kindsBy_55 : decode cX5_kindsBy 55 = .ok (.getfield 19, 3) := dk_180 0 19 (dk_at dksX5_kindsBy_2 8 rfl rfl)
theorem dX5_kindsBy_58 : decode cX5_kindsBy 58 = .ok (.iload_n 1, 1) := dk_27 (dk_at dksX5_kindsBy_2 11 rfl rfl)
theorem dX5_kindsBy_59 : decode cX5_kindsBy 59 = .ok (.iload_n 2, 1) := dk_28 (dk_at dksX5_kindsBy_2 12 rfl rfl)
theorem dX5_kindsBy_60 : decode cX5_kindsBy 60 = .ok (.iastore, 1) := dk_79 (dk_at dksX5_kindsBy_2 13 rfl rfl)
theorem dX5_kindsBy_61 : decode cX5_kindsBy 61 = .ok (.iload_n 3, 1) := dk_29 (dk_at dksX5_kindsBy_2 14 rfl rfl)
theorem dX5_kindsBy_62 : decode cX5_kindsBy 62 = .ok (.ireturn, 1) := dk_172 (dk_at dksX5_kindsBy_2 15 rfl rfl)
abbrev cX5_ask : ByteArray := prog_15_method_82_code
def yX5_ask : MethodName := ⟨RX5, "ask", "()I"⟩
theorem dX5_ask_0 : decode cX5_ask 0 = .ok (.aload_n 0, 1) := by decide +kernel
theorem dX5_ask_1 : decode cX5_ask 1 = .ok (.invokevirtual 336, 3) := by decide +kernel
theorem dX5_ask_4 : decode cX5_ask 4 = .ok (.ireturn, 1) := by decide +kernel
abbrev cX5_askOf : ByteArray := prog_15_method_81_code
def yX5_askOf : MethodName := ⟨RX5, "askOf", "()I"⟩
def dkwX5_askOf_4 : List UInt8 := [61, 21, 8, 153, 0, 8, 21, 7, 167, 0, 4, 29, 62, 132, 4, 1, 167, 255, 158, 28, 172]
abbrev dktX5_askOf_4 : List UInt8 := dkwX5_askOf_4 ++ []
def dkwX5_askOf_3 : List UInt8 := [21, 7, 29, 162, 0, 7, 4, 167, 0, 4, 3, 54, 8, 21, 8, 153, 0, 8, 21, 4, 167, 0, 4, 28]
abbrev dktX5_askOf_3 : List UInt8 := dkwX5_askOf_3 ++ dktX5_askOf_4
def dkwX5_askOf_2 : List UInt8 := [54, 6, 21, 5, 21, 6, 164, 0, 8, 21, 5, 167, 0, 5, 21, 6, 54, 7, 28, 2, 159, 0, 9]
abbrev dktX5_askOf_2 : List UInt8 := dkwX5_askOf_2 ++ dktX5_askOf_3
def dkwX5_askOf_1 : List UInt8 := [21, 4, 46, 126, 184, 1, 77, 54, 5, 27, 42, 180, 0, 91, 21, 4, 46, 2, 130, 126, 184, 1, 77]
abbrev dktX5_askOf_1 : List UInt8 := dkwX5_askOf_1 ++ dktX5_askOf_2
def dkwX5_askOf_0 : List UInt8 := [42, 182, 1, 71, 60, 2, 61, 3, 62, 3, 54, 4, 21, 4, 16, 24, 162, 0, 97, 27, 42, 180, 0, 91]
abbrev dktX5_askOf_0 : List UInt8 := dkwX5_askOf_0 ++ dktX5_askOf_1
theorem dksX5_askOf_0 : cX5_askOf.data.toList.drop 0 = dktX5_askOf_0 := by decide +kernel
theorem dksX5_askOf_1 : cX5_askOf.data.toList.drop 24 = dktX5_askOf_1 := dk_seg dksX5_askOf_0 24 rfl rfl
theorem dksX5_askOf_2 : cX5_askOf.data.toList.drop 47 = dktX5_askOf_2 := dk_seg dksX5_askOf_1 23 rfl rfl
theorem dksX5_askOf_3 : cX5_askOf.data.toList.drop 70 = dktX5_askOf_3 := dk_seg dksX5_askOf_2 23 rfl rfl
theorem dksX5_askOf_4 : cX5_askOf.data.toList.drop 94 = dktX5_askOf_4 := dk_seg dksX5_askOf_3 24 rfl rfl
theorem dX5_askOf_0 : decode cX5_askOf 0 = .ok (.aload_n 0, 1) := dk_42 (dk_at dksX5_askOf_0 0 rfl rfl)
theorem dX5_askOf_1 : decode cX5_askOf 1 = .ok (.invokevirtual 327, 3) := dk_182 1 71 (dk_at dksX5_askOf_0 1 rfl rfl)
theorem dX5_askOf_4 : decode cX5_askOf 4 = .ok (.istore_n 1, 1) := dk_60 (dk_at dksX5_askOf_0 4 rfl rfl)
theorem dX5_askOf_5 : decode cX5_askOf 5 = .ok (.iconst (-1), 1) := dk_2 (dk_at dksX5_askOf_0 5 rfl rfl)
theorem dX5_askOf_6 : decode cX5_askOf 6 = .ok (.istore_n 2, 1) := dk_61 (dk_at dksX5_askOf_0 6 rfl rfl)
theorem dX5_askOf_7 : decode cX5_askOf 7 = .ok (.iconst 0, 1) := dk_3 (dk_at dksX5_askOf_0 7 rfl rfl)
theorem dX5_askOf_8 : decode cX5_askOf 8 = .ok (.istore_n 3, 1) := dk_62 (dk_at dksX5_askOf_0 8 rfl rfl)
theorem dX5_askOf_9 : decode cX5_askOf 9 = .ok (.iconst 0, 1) := dk_3 (dk_at dksX5_askOf_0 9 rfl rfl)
theorem dX5_askOf_10 : decode cX5_askOf 10 = .ok (.istore 4, 2) := dk_54 4 (dk_at dksX5_askOf_0 10 rfl rfl)
theorem dX5_askOf_12 : decode cX5_askOf 12 = .ok (.iload 4, 2) := dk_21 4 (dk_at dksX5_askOf_0 12 rfl rfl)
theorem dX5_askOf_14 : decode cX5_askOf 14 = .ok (.bipush 24, 2) := dk_16 24 (dk_at dksX5_askOf_0 14 rfl rfl)
theorem dX5_askOf_16 : decode cX5_askOf 16 = .ok (.if_icmp .ge 97, 3) := dk_162 0 97 (dk_at dksX5_askOf_0 16 rfl rfl)
theorem dX5_askOf_19 : decode cX5_askOf 19 = .ok (.iload_n 1, 1) := dk_27 (dk_at dksX5_askOf_0 19 rfl rfl)
theorem dX5_askOf_20 : decode cX5_askOf 20 = .ok (.aload_n 0, 1) := dk_42 (dk_at dksX5_askOf_0 20 rfl rfl)
theorem dX5_askOf_21 : decode cX5_askOf 21 = .ok (.getfield 91, 3) := dk_180 0 91 (dk_at dksX5_askOf_0 21 rfl rfl)
theorem dX5_askOf_24 : decode cX5_askOf 24 = .ok (.iload 4, 2) := dk_21 4 (dk_at dksX5_askOf_1 0 rfl rfl)
theorem dX5_askOf_26 : decode cX5_askOf 26 = .ok (.iaload, 1) := dk_46 (dk_at dksX5_askOf_1 2 rfl rfl)
theorem dX5_askOf_27 : decode cX5_askOf 27 = .ok (.iand, 1) := dk_126 (dk_at dksX5_askOf_1 3 rfl rfl)
theorem dX5_askOf_28 : decode cX5_askOf 28 = .ok (.invokestatic 333, 3) := dk_184 1 77 (dk_at dksX5_askOf_1 4 rfl rfl)
theorem dX5_askOf_31 : decode cX5_askOf 31 = .ok (.istore 5, 2) := dk_54 5 (dk_at dksX5_askOf_1 7 rfl rfl)
theorem dX5_askOf_33 : decode cX5_askOf 33 = .ok (.iload_n 1, 1) := dk_27 (dk_at dksX5_askOf_1 9 rfl rfl)
theorem dX5_askOf_34 : decode cX5_askOf 34 = .ok (.aload_n 0, 1) := dk_42 (dk_at dksX5_askOf_1 10 rfl rfl)
theorem dX5_askOf_35 : decode cX5_askOf 35 = .ok (.getfield 91, 3) := dk_180 0 91 (dk_at dksX5_askOf_1 11 rfl rfl)
theorem dX5_askOf_38 : decode cX5_askOf 38 = .ok (.iload 4, 2) := dk_21 4 (dk_at dksX5_askOf_1 14 rfl rfl)
theorem dX5_askOf_40 : decode cX5_askOf 40 = .ok (.iaload, 1) := dk_46 (dk_at dksX5_askOf_1 16 rfl rfl)
theorem dX5_askOf_41 : decode cX5_askOf 41 = .ok (.iconst (-1), 1) := dk_2 (dk_at dksX5_askOf_1 17 rfl rfl)
theorem dX5_askOf_42 : decode cX5_askOf 42 = .ok (.ixor, 1) := dk_130 (dk_at dksX5_askOf_1 18 rfl rfl)
theorem dX5_askOf_43 : decode cX5_askOf 43 = .ok (.iand, 1) := dk_126 (dk_at dksX5_askOf_1 19 rfl rfl)
theorem dX5_askOf_44 : decode cX5_askOf 44 = .ok (.invokestatic 333, 3) := dk_184 1 77 (dk_at dksX5_askOf_1 20 rfl rfl)
theorem dX5_askOf_47 : decode cX5_askOf 47 = .ok (.istore 6, 2) := dk_54 6 (dk_at dksX5_askOf_2 0 rfl rfl)
theorem dX5_askOf_49 : decode cX5_askOf 49 = .ok (.iload 5, 2) := dk_21 5 (dk_at dksX5_askOf_2 2 rfl rfl)
theorem dX5_askOf_51 : decode cX5_askOf 51 = .ok (.iload 6, 2) := dk_21 6 (dk_at dksX5_askOf_2 4 rfl rfl)
theorem dX5_askOf_53 : decode cX5_askOf 53 = .ok (.if_icmp .le 8, 3) := dk_164 0 8 (dk_at dksX5_askOf_2 6 rfl rfl)
theorem dX5_askOf_56 : decode cX5_askOf 56 = .ok (.iload 5, 2) := dk_21 5 (dk_at dksX5_askOf_2 9 rfl rfl)
theorem dX5_askOf_58 : decode cX5_askOf 58 = .ok (.goto 5, 3) := dk_167 0 5 (dk_at dksX5_askOf_2 11 rfl rfl)
theorem dX5_askOf_61 : decode cX5_askOf 61 = .ok (.iload 6, 2) := dk_21 6 (dk_at dksX5_askOf_2 14 rfl rfl)
theorem dX5_askOf_63 : decode cX5_askOf 63 = .ok (.istore 7, 2) := dk_54 7 (dk_at dksX5_askOf_2 16 rfl rfl)
theorem dX5_askOf_65 : decode cX5_askOf 65 = .ok (.iload_n 2, 1) := dk_28 (dk_at dksX5_askOf_2 18 rfl rfl)
theorem dX5_askOf_66 : decode cX5_askOf 66 = .ok (.iconst (-1), 1) := dk_2 (dk_at dksX5_askOf_2 19 rfl rfl)
theorem dX5_askOf_67 : decode cX5_askOf 67 = .ok (.if_icmp .eq 9, 3) := dk_159 0 9 (dk_at dksX5_askOf_2 20 rfl rfl)
theorem dX5_askOf_70 : decode cX5_askOf 70 = .ok (.iload 7, 2) := dk_21 7 (dk_at dksX5_askOf_3 0 rfl rfl)
theorem dX5_askOf_72 : decode cX5_askOf 72 = .ok (.iload_n 3, 1) := dk_29 (dk_at dksX5_askOf_3 2 rfl rfl)
theorem dX5_askOf_73 : decode cX5_askOf 73 = .ok (.if_icmp .ge 7, 3) := dk_162 0 7 (dk_at dksX5_askOf_3 3 rfl rfl)
theorem dX5_askOf_76 : decode cX5_askOf 76 = .ok (.iconst 1, 1) := dk_4 (dk_at dksX5_askOf_3 6 rfl rfl)
theorem dX5_askOf_77 : decode cX5_askOf 77 = .ok (.goto 4, 3) := dk_167 0 4 (dk_at dksX5_askOf_3 7 rfl rfl)
theorem dX5_askOf_80 : decode cX5_askOf 80 = .ok (.iconst 0, 1) := dk_3 (dk_at dksX5_askOf_3 10 rfl rfl)
theorem dX5_askOf_81 : decode cX5_askOf 81 = .ok (.istore 8, 2) := dk_54 8 (dk_at dksX5_askOf_3 11 rfl rfl)
theorem dX5_askOf_83 : decode cX5_askOf 83 = .ok (.iload 8, 2) := dk_21 8 (dk_at dksX5_askOf_3 13 rfl rfl)
theorem dX5_askOf_85 : decode cX5_askOf 85 = .ok (.ifCond .eq 8, 3) := dk_153 0 8 (dk_at dksX5_askOf_3 15 rfl rfl)
theorem dX5_askOf_88 : decode cX5_askOf 88 = .ok (.iload 4, 2) := dk_21 4 (dk_at dksX5_askOf_3 18 rfl rfl)
theorem dX5_askOf_90 : decode cX5_askOf 90 = .ok (.goto 4, 3) := dk_167 0 4 (dk_at dksX5_askOf_3 20 rfl rfl)
theorem dX5_askOf_93 : decode cX5_askOf 93 = .ok (.iload_n 2, 1) := dk_28 (dk_at dksX5_askOf_3 23 rfl rfl)
theorem dX5_askOf_94 : decode cX5_askOf 94 = .ok (.istore_n 2, 1) := dk_61 (dk_at dksX5_askOf_4 0 rfl rfl)
theorem dX5_askOf_95 : decode cX5_askOf 95 = .ok (.iload 8, 2) := dk_21 8 (dk_at dksX5_askOf_4 1 rfl rfl)
theorem dX5_askOf_97 : decode cX5_askOf 97 = .ok (.ifCond .eq 8, 3) := dk_153 0 8 (dk_at dksX5_askOf_4 3 rfl rfl)
theorem dX5_askOf_100 : decode cX5_askOf 100 = .ok (.iload 7, 2) := dk_21 7 (dk_at dksX5_askOf_4 6 rfl rfl)
theorem dX5_askOf_102 : decode cX5_askOf 102 = .ok (.goto 4, 3) := dk_167 0 4 (dk_at dksX5_askOf_4 8 rfl rfl)
theorem dX5_askOf_105 : decode cX5_askOf 105 = .ok (.iload_n 3, 1) := dk_29 (dk_at dksX5_askOf_4 11 rfl rfl)
theorem dX5_askOf_106 : decode cX5_askOf 106 = .ok (.istore_n 3, 1) := dk_62 (dk_at dksX5_askOf_4 12 rfl rfl)
theorem dX5_askOf_107 : decode cX5_askOf 107 = .ok (.iinc 4 1, 3) := dk_132 4 1 (dk_at dksX5_askOf_4 13 rfl rfl)
theorem dX5_askOf_110 : decode cX5_askOf 110 = .ok (.goto (-98), 3) := dk_167 255 158 (dk_at dksX5_askOf_4 16 rfl rfl)
theorem dX5_askOf_113 : decode cX5_askOf 113 = .ok (.iload_n 2, 1) := dk_28 (dk_at dksX5_askOf_4 19 rfl rfl)
theorem dX5_askOf_114 : decode cX5_askOf 114 = .ok (.ireturn, 1) := dk_172 (dk_at dksX5_askOf_4 20 rfl rfl)
abbrev cX5_many : ByteArray := prog_15_method_80_code
def yX5_many : MethodName := ⟨RX5, "many", "(I)I"⟩
def dkwX5_many_1 : List UInt8 := [96, 60, 132, 2, 1, 167, 255, 231, 27, 172]
abbrev dktX5_many_1 : List UInt8 := dkwX5_many_1 ++ []
def dkwX5_many_0 : List UInt8 := [3, 60, 3, 61, 28, 16, 30, 163, 0, 25, 27, 26, 28, 184, 0, 193, 153, 0, 7, 4, 167, 0, 4, 3]
abbrev dktX5_many_0 : List UInt8 := dkwX5_many_0 ++ dktX5_many_1
theorem dksX5_many_0 : cX5_many.data.toList.drop 0 = dktX5_many_0 := by decide +kernel
theorem dksX5_many_1 : cX5_many.data.toList.drop 24 = dktX5_many_1 := dk_seg dksX5_many_0 24 rfl rfl
theorem dX5_many_0 : decode cX5_many 0 = .ok (.iconst 0, 1) := dk_3 (dk_at dksX5_many_0 0 rfl rfl)
theorem dX5_many_1 : decode cX5_many 1 = .ok (.istore_n 1, 1) := dk_60 (dk_at dksX5_many_0 1 rfl rfl)
theorem dX5_many_2 : decode cX5_many 2 = .ok (.iconst 0, 1) := dk_3 (dk_at dksX5_many_0 2 rfl rfl)
theorem dX5_many_3 : decode cX5_many 3 = .ok (.istore_n 2, 1) := dk_61 (dk_at dksX5_many_0 3 rfl rfl)
theorem dX5_many_4 : decode cX5_many 4 = .ok (.iload_n 2, 1) := dk_28 (dk_at dksX5_many_0 4 rfl rfl)
theorem dX5_many_5 : decode cX5_many 5 = .ok (.bipush 30, 2) := dk_16 30 (dk_at dksX5_many_0 5 rfl rfl)
theorem dX5_many_7 : decode cX5_many 7 = .ok (.if_icmp .gt 25, 3) := dk_163 0 25 (dk_at dksX5_many_0 7 rfl rfl)
theorem dX5_many_10 : decode cX5_many 10 = .ok (.iload_n 1, 1) := dk_27 (dk_at dksX5_many_0 10 rfl rfl)
theorem dX5_many_11 : decode cX5_many 11 = .ok (.iload_n 0, 1) := dk_26 (dk_at dksX5_many_0 11 rfl rfl)
theorem dX5_many_12 : decode cX5_many 12 = .ok (.iload_n 2, 1) := dk_28 (dk_at dksX5_many_0 12 rfl rfl)
theorem dX5_many_13 : decode cX5_many 13 = .ok (.invokestatic 193, 3) := dk_184 0 193 (dk_at dksX5_many_0 13 rfl rfl)
theorem dX5_many_16 : decode cX5_many 16 = .ok (.ifCond .eq 7, 3) := dk_153 0 7 (dk_at dksX5_many_0 16 rfl rfl)
theorem dX5_many_19 : decode cX5_many 19 = .ok (.iconst 1, 1) := dk_4 (dk_at dksX5_many_0 19 rfl rfl)
theorem dX5_many_20 : decode cX5_many 20 = .ok (.goto 4, 3) := dk_167 0 4 (dk_at dksX5_many_0 20 rfl rfl)
theorem dX5_many_23 : decode cX5_many 23 = .ok (.iconst 0, 1) := dk_3 (dk_at dksX5_many_0 23 rfl rfl)
theorem dX5_many_24 : decode cX5_many 24 = .ok (.iadd, 1) := dk_96 (dk_at dksX5_many_1 0 rfl rfl)
theorem dX5_many_25 : decode cX5_many 25 = .ok (.istore_n 1, 1) := dk_60 (dk_at dksX5_many_1 1 rfl rfl)
theorem dX5_many_26 : decode cX5_many 26 = .ok (.iinc 2 1, 3) := dk_132 2 1 (dk_at dksX5_many_1 2 rfl rfl)
theorem dX5_many_29 : decode cX5_many 29 = .ok (.goto (-25), 3) := dk_167 255 231 (dk_at dksX5_many_1 5 rfl rfl)
theorem dX5_many_32 : decode cX5_many 32 = .ok (.iload_n 1, 1) := dk_27 (dk_at dksX5_many_1 8 rfl rfl)
theorem dX5_many_33 : decode cX5_many 33 = .ok (.ireturn, 1) := dk_172 (dk_at dksX5_many_1 9 rfl rfl)
abbrev cX5_chance : ByteArray := prog_15_method_84_code
def yX5_chance : MethodName := ⟨RX5, "chance", "(III)J"⟩
def dkwX5_chance_1 : List UInt8 := [153, 0, 13, 42, 27, 28, 29, 182, 1, 87, 167, 0, 8, 16, 254, 184, 1, 91, 173]
abbrev dktX5_chance_1 : List UInt8 := dkwX5_chance_1 ++ []
def dkwX5_chance_0 : List UInt8 := [27, 3, 16, 16, 184, 0, 119, 153, 0, 28, 42, 28, 182, 0, 163, 153, 0, 20, 29, 184, 0, 123]
abbrev dktX5_chance_0 : List UInt8 := dkwX5_chance_0 ++ dktX5_chance_1
theorem dksX5_chance_0 : cX5_chance.data.toList.drop 0 = dktX5_chance_0 := by decide +kernel
theorem dksX5_chance_1 : cX5_chance.data.toList.drop 22 = dktX5_chance_1 := dk_seg dksX5_chance_0 22 rfl rfl
theorem dX5_chance_0 : decode cX5_chance 0 = .ok (.iload_n 1, 1) := dk_27 (dk_at dksX5_chance_0 0 rfl rfl)
theorem dX5_chance_1 : decode cX5_chance 1 = .ok (.iconst 0, 1) := dk_3 (dk_at dksX5_chance_0 1 rfl rfl)
theorem dX5_chance_2 : decode cX5_chance 2 = .ok (.bipush 16, 2) := dk_16 16 (dk_at dksX5_chance_0 2 rfl rfl)
theorem dX5_chance_4 : decode cX5_chance 4 = .ok (.invokestatic 119, 3) := dk_184 0 119 (dk_at dksX5_chance_0 4 rfl rfl)
theorem dX5_chance_7 : decode cX5_chance 7 = .ok (.ifCond .eq 28, 3) := dk_153 0 28 (dk_at dksX5_chance_0 7 rfl rfl)
theorem dX5_chance_10 : decode cX5_chance 10 = .ok (.aload_n 0, 1) := dk_42 (dk_at dksX5_chance_0 10 rfl rfl)
theorem dX5_chance_11 : decode cX5_chance 11 = .ok (.iload_n 2, 1) := dk_28 (dk_at dksX5_chance_0 11 rfl rfl)
theorem dX5_chance_12 : decode cX5_chance 12 = .ok (.invokevirtual 163, 3) := dk_182 0 163 (dk_at dksX5_chance_0 12 rfl rfl)
theorem dX5_chance_15 : decode cX5_chance 15 = .ok (.ifCond .eq 20, 3) := dk_153 0 20 (dk_at dksX5_chance_0 15 rfl rfl)
theorem dX5_chance_18 : decode cX5_chance 18 = .ok (.iload_n 3, 1) := dk_29 (dk_at dksX5_chance_0 18 rfl rfl)
theorem dX5_chance_19 : decode cX5_chance 19 = .ok (.invokestatic 123, 3) := dk_184 0 123 (dk_at dksX5_chance_0 19 rfl rfl)
theorem dX5_chance_22 : decode cX5_chance 22 = .ok (.ifCond .eq 13, 3) := dk_153 0 13 (dk_at dksX5_chance_1 0 rfl rfl)
theorem dX5_chance_25 : decode cX5_chance 25 = .ok (.aload_n 0, 1) := dk_42 (dk_at dksX5_chance_1 3 rfl rfl)
theorem dX5_chance_26 : decode cX5_chance 26 = .ok (.iload_n 1, 1) := dk_27 (dk_at dksX5_chance_1 4 rfl rfl)
theorem dX5_chance_27 : decode cX5_chance 27 = .ok (.iload_n 2, 1) := dk_28 (dk_at dksX5_chance_1 5 rfl rfl)
theorem dX5_chance_28 : decode cX5_chance 28 = .ok (.iload_n 3, 1) := dk_29 (dk_at dksX5_chance_1 6 rfl rfl)
theorem dX5_chance_29 : decode cX5_chance 29 = .ok (.invokevirtual 343, 3) := dk_182 1 87 (dk_at dksX5_chance_1 7 rfl rfl)
theorem dX5_chance_32 : decode cX5_chance 32 = .ok (.goto 8, 3) := dk_167 0 8 (dk_at dksX5_chance_1 10 rfl rfl)
theorem dX5_chance_35 : decode cX5_chance 35 = .ok (.bipush (-2), 2) := dk_16 254 (dk_at dksX5_chance_1 13 rfl rfl)
theorem dX5_chance_37 : decode cX5_chance 37 = .ok (.invokestatic 347, 3) := dk_184 1 91 (dk_at dksX5_chance_1 15 rfl rfl)
theorem dX5_chance_40 : decode cX5_chance 40 = .ok (.lreturn, 1) := dk_173 (dk_at dksX5_chance_1 18 rfl rfl)
abbrev cX5_chanceOf : ByteArray := prog_15_method_83_code
def yX5_chanceOf : MethodName := ⟨RX5, "chanceOf", "(III)J"⟩
def dkwX5_chanceOf_5 : List UInt8 := [180, 0, 169, 104, 121, 29, 184, 1, 83, 173]
abbrev dktX5_chanceOf_5 : List UInt8 := dkwX5_chanceOf_5 ++ []
def dkwX5_chanceOf_4 : List UInt8 := [160, 0, 8, 22, 7, 167, 0, 4, 9, 97, 55, 4, 132, 6, 1, 167, 255, 158, 22, 4, 10, 7, 42]
abbrev dktX5_chanceOf_4 : List UInt8 := dkwX5_chanceOf_4 ++ dktX5_chanceOf_5
def dkwX5_chanceOf_3 : List UInt8 := [158, 0, 34, 42, 21, 6, 181, 0, 187, 42, 182, 0, 250, 22, 4, 42, 180, 0, 55, 28, 46, 6]
abbrev dktX5_chanceOf_3 : List UInt8 := dkwX5_chanceOf_3 ++ dktX5_chanceOf_4
def dkwX5_chanceOf_2 : List UInt8 := [16, 16, 27, 100, 133, 167, 0, 5, 27, 133, 105, 55, 7, 132, 9, 1, 167, 255, 219, 22, 7, 9, 148]
abbrev dktX5_chanceOf_2 : List UInt8 := dkwX5_chanceOf_2 ++ dktX5_chanceOf_3
def dkwX5_chanceOf_1 : List UInt8 := [3, 54, 9, 21, 9, 42, 180, 0, 169, 162, 0, 34, 22, 7, 21, 6, 21, 9, 184, 0, 193, 153, 0, 11]
abbrev dktX5_chanceOf_1 : List UInt8 := dkwX5_chanceOf_1 ++ dktX5_chanceOf_2
def dkwX5_chanceOf_0 : List UInt8 := [42, 182, 0, 247, 9, 55, 4, 3, 54, 6, 21, 6, 4, 42, 180, 0, 169, 120, 162, 0, 93, 10, 55, 7]
abbrev dktX5_chanceOf_0 : List UInt8 := dkwX5_chanceOf_0 ++ dktX5_chanceOf_1
theorem dksX5_chanceOf_0 : cX5_chanceOf.data.toList.drop 0 = dktX5_chanceOf_0 := by decide +kernel
theorem dksX5_chanceOf_1 : cX5_chanceOf.data.toList.drop 24 = dktX5_chanceOf_1 := dk_seg dksX5_chanceOf_0 24 rfl rfl
theorem dksX5_chanceOf_2 : cX5_chanceOf.data.toList.drop 48 = dktX5_chanceOf_2 := dk_seg dksX5_chanceOf_1 24 rfl rfl
theorem dksX5_chanceOf_3 : cX5_chanceOf.data.toList.drop 71 = dktX5_chanceOf_3 := dk_seg dksX5_chanceOf_2 23 rfl rfl
theorem dksX5_chanceOf_4 : cX5_chanceOf.data.toList.drop 93 = dktX5_chanceOf_4 := dk_seg dksX5_chanceOf_3 22 rfl rfl
theorem dksX5_chanceOf_5 : cX5_chanceOf.data.toList.drop 116 = dktX5_chanceOf_5 := dk_seg dksX5_chanceOf_4 23 rfl rfl
theorem dX5_chanceOf_0 : decode cX5_chanceOf 0 = .ok (.aload_n 0, 1) := dk_42 (dk_at dksX5_chanceOf_0 0 rfl rfl)
theorem dX5_chanceOf_1 : decode cX5_chanceOf 1 = .ok (.invokevirtual 247, 3) := dk_182 0 247 (dk_at dksX5_chanceOf_0 1 rfl rfl)
theorem dX5_chanceOf_4 : decode cX5_chanceOf 4 = .ok (.lconst 0, 1) := dk_9 (dk_at dksX5_chanceOf_0 4 rfl rfl)
theorem dX5_chanceOf_5 : decode cX5_chanceOf 5 = .ok (.lstore 4, 2) := dk_55 4 (dk_at dksX5_chanceOf_0 5 rfl rfl)
theorem dX5_chanceOf_7 : decode cX5_chanceOf 7 = .ok (.iconst 0, 1) := dk_3 (dk_at dksX5_chanceOf_0 7 rfl rfl)
theorem dX5_chanceOf_8 : decode cX5_chanceOf 8 = .ok (.istore 6, 2) := dk_54 6 (dk_at dksX5_chanceOf_0 8 rfl rfl)
theorem dX5_chanceOf_10 : decode cX5_chanceOf 10 = .ok (.iload 6, 2) := dk_21 6 (dk_at dksX5_chanceOf_0 10 rfl rfl)
theorem dX5_chanceOf_12 : decode cX5_chanceOf 12 = .ok (.iconst 1, 1) := dk_4 (dk_at dksX5_chanceOf_0 12 rfl rfl)
theorem dX5_chanceOf_13 : decode cX5_chanceOf 13 = .ok (.aload_n 0, 1) := dk_42 (dk_at dksX5_chanceOf_0 13 rfl rfl)
theorem dX5_chanceOf_14 : decode cX5_chanceOf 14 = .ok (.getfield 169, 3) := dk_180 0 169 (dk_at dksX5_chanceOf_0 14 rfl rfl)
theorem dX5_chanceOf_17 : decode cX5_chanceOf 17 = .ok (.ishl, 1) := dk_120 (dk_at dksX5_chanceOf_0 17 rfl rfl)
theorem dX5_chanceOf_18 : decode cX5_chanceOf 18 = .ok (.if_icmp .ge 93, 3) := dk_162 0 93 (dk_at dksX5_chanceOf_0 18 rfl rfl)
theorem dX5_chanceOf_21 : decode cX5_chanceOf 21 = .ok (.lconst 1, 1) := dk_10 (dk_at dksX5_chanceOf_0 21 rfl rfl)
theorem dX5_chanceOf_22 : decode cX5_chanceOf 22 = .ok (.lstore 7, 2) := dk_55 7 (dk_at dksX5_chanceOf_0 22 rfl rfl)
theorem dX5_chanceOf_24 : decode cX5_chanceOf 24 = .ok (.iconst 0, 1) := dk_3 (dk_at dksX5_chanceOf_1 0 rfl rfl)
theorem dX5_chanceOf_25 : decode cX5_chanceOf 25 = .ok (.istore 9, 2) := dk_54 9 (dk_at dksX5_chanceOf_1 1 rfl rfl)
theorem dX5_chanceOf_27 : decode cX5_chanceOf 27 = .ok (.iload 9, 2) := dk_21 9 (dk_at dksX5_chanceOf_1 3 rfl rfl)
theorem dX5_chanceOf_29 : decode cX5_chanceOf 29 = .ok (.aload_n 0, 1) := dk_42 (dk_at dksX5_chanceOf_1 5 rfl rfl)
theorem dX5_chanceOf_30 : decode cX5_chanceOf 30 = .ok (.getfield 169, 3) := dk_180 0 169 (dk_at dksX5_chanceOf_1 6 rfl rfl)
theorem dX5_chanceOf_33 : decode cX5_chanceOf 33 = .ok (.if_icmp .ge 34, 3) := dk_162 0 34 (dk_at dksX5_chanceOf_1 9 rfl rfl)
theorem dX5_chanceOf_36 : decode cX5_chanceOf 36 = .ok (.lload 7, 2) := dk_22 7 (dk_at dksX5_chanceOf_1 12 rfl rfl)
theorem dX5_chanceOf_38 : decode cX5_chanceOf 38 = .ok (.iload 6, 2) := dk_21 6 (dk_at dksX5_chanceOf_1 14 rfl rfl)
theorem dX5_chanceOf_40 : decode cX5_chanceOf 40 = .ok (.iload 9, 2) := dk_21 9 (dk_at dksX5_chanceOf_1 16 rfl rfl)
theorem dX5_chanceOf_42 : decode cX5_chanceOf 42 = .ok (.invokestatic 193, 3) := dk_184 0 193 (dk_at dksX5_chanceOf_1 18 rfl rfl)
theorem dX5_chanceOf_45 : decode cX5_chanceOf 45 = .ok (.ifCond .eq 11, 3) := dk_153 0 11 (dk_at dksX5_chanceOf_1 21 rfl rfl)
theorem dX5_chanceOf_48 : decode cX5_chanceOf 48 = .ok (.bipush 16, 2) := dk_16 16 (dk_at dksX5_chanceOf_2 0 rfl rfl)
theorem dX5_chanceOf_50 : decode cX5_chanceOf 50 = .ok (.iload_n 1, 1) := dk_27 (dk_at dksX5_chanceOf_2 2 rfl rfl)
theorem dX5_chanceOf_51 : decode cX5_chanceOf 51 = .ok (.isub, 1) := dk_100 (dk_at dksX5_chanceOf_2 3 rfl rfl)
theorem dX5_chanceOf_52 : decode cX5_chanceOf 52 = .ok (.i2l, 1) := dk_133 (dk_at dksX5_chanceOf_2 4 rfl rfl)
theorem dX5_chanceOf_53 : decode cX5_chanceOf 53 = .ok (.goto 5, 3) := dk_167 0 5 (dk_at dksX5_chanceOf_2 5 rfl rfl)
theorem dX5_chanceOf_56 : decode cX5_chanceOf 56 = .ok (.iload_n 1, 1) := dk_27 (dk_at dksX5_chanceOf_2 8 rfl rfl)
theorem dX5_chanceOf_57 : decode cX5_chanceOf 57 = .ok (.i2l, 1) := dk_133 (dk_at dksX5_chanceOf_2 9 rfl rfl)
theorem dX5_chanceOf_58 : decode cX5_chanceOf 58 = .ok (.lmul, 1) := dk_105 (dk_at dksX5_chanceOf_2 10 rfl rfl)
theorem dX5_chanceOf_59 : decode cX5_chanceOf 59 = .ok (.lstore 7, 2) := dk_55 7 (dk_at dksX5_chanceOf_2 11 rfl rfl)
theorem dX5_chanceOf_61 : decode cX5_chanceOf 61 = .ok (.iinc 9 1, 3) := dk_132 9 1 (dk_at dksX5_chanceOf_2 13 rfl rfl)
theorem dX5_chanceOf_64 : decode cX5_chanceOf 64 = .ok (.goto (-37), 3) := dk_167 255 219 (dk_at dksX5_chanceOf_2 16 rfl rfl)
theorem dX5_chanceOf_67 : decode cX5_chanceOf 67 = .ok (.lload 7, 2) := dk_22 7 (dk_at dksX5_chanceOf_2 19 rfl rfl)
theorem dX5_chanceOf_69 : decode cX5_chanceOf 69 = .ok (.lconst 0, 1) := dk_9 (dk_at dksX5_chanceOf_2 21 rfl rfl)
theorem dX5_chanceOf_70 : decode cX5_chanceOf 70 = .ok (.lcmp, 1) := dk_148 (dk_at dksX5_chanceOf_2 22 rfl rfl)
theorem dX5_chanceOf_71 : decode cX5_chanceOf 71 = .ok (.ifCond .le 34, 3) := dk_158 0 34 (dk_at dksX5_chanceOf_3 0 rfl rfl)
theorem dX5_chanceOf_74 : decode cX5_chanceOf 74 = .ok (.aload_n 0, 1) := dk_42 (dk_at dksX5_chanceOf_3 3 rfl rfl)
theorem dX5_chanceOf_75 : decode cX5_chanceOf 75 = .ok (.iload 6, 2) := dk_21 6 (dk_at dksX5_chanceOf_3 4 rfl rfl)
theorem dX5_chanceOf_77 : decode cX5_chanceOf 77 = .ok (.putfield 187, 3) := dk_181 0 187 (dk_at dksX5_chanceOf_3 6 rfl rfl)
theorem dX5_chanceOf_80 : decode cX5_chanceOf 80 = .ok (.aload_n 0, 1) := dk_42 (dk_at dksX5_chanceOf_3 9 rfl rfl)
theorem dX5_chanceOf_81 : decode cX5_chanceOf 81 = .ok (.invokevirtual 250, 3) := dk_182 0 250 (dk_at dksX5_chanceOf_3 10 rfl rfl)
theorem dX5_chanceOf_84 : decode cX5_chanceOf 84 = .ok (.lload 4, 2) := dk_22 4 (dk_at dksX5_chanceOf_3 13 rfl rfl)
theorem dX5_chanceOf_86 : decode cX5_chanceOf 86 = .ok (.aload_n 0, 1) := dk_42 (dk_at dksX5_chanceOf_3 15 rfl rfl)
theorem dX5_chanceOf_87 : decode cX5_chanceOf 87 = .ok (.getfield 55, 3) := dk_180 0 55 (dk_at dksX5_chanceOf_3 16 rfl rfl)
theorem dX5_chanceOf_90 : decode cX5_chanceOf 90 = .ok (.iload_n 2, 1) := dk_28 (dk_at dksX5_chanceOf_3 19 rfl rfl)
theorem dX5_chanceOf_91 : decode cX5_chanceOf 91 = .ok (.iaload, 1) := dk_46 (dk_at dksX5_chanceOf_3 20 rfl rfl)
theorem dX5_chanceOf_92 : decode cX5_chanceOf 92 = .ok (.iconst 3, 1) := dk_6 (dk_at dksX5_chanceOf_3 21 rfl rfl)
theorem dX5_chanceOf_93 : decode cX5_chanceOf 93 = .ok (.if_icmp .ne 8, 3) := dk_160 0 8 (dk_at dksX5_chanceOf_4 0 rfl rfl)
theorem dX5_chanceOf_96 : decode cX5_chanceOf 96 = .ok (.lload 7, 2) := dk_22 7 (dk_at dksX5_chanceOf_4 3 rfl rfl)
theorem dX5_chanceOf_98 : decode cX5_chanceOf 98 = .ok (.goto 4, 3) := dk_167 0 4 (dk_at dksX5_chanceOf_4 5 rfl rfl)
theorem dX5_chanceOf_101 : decode cX5_chanceOf 101 = .ok (.lconst 0, 1) := dk_9 (dk_at dksX5_chanceOf_4 8 rfl rfl)
theorem dX5_chanceOf_102 : decode cX5_chanceOf 102 = .ok (.ladd, 1) := dk_97 (dk_at dksX5_chanceOf_4 9 rfl rfl)
theorem dX5_chanceOf_103 : decode cX5_chanceOf 103 = .ok (.lstore 4, 2) := dk_55 4 (dk_at dksX5_chanceOf_4 10 rfl rfl)
theorem dX5_chanceOf_105 : decode cX5_chanceOf 105 = .ok (.iinc 6 1, 3) := dk_132 6 1 (dk_at dksX5_chanceOf_4 12 rfl rfl)
theorem dX5_chanceOf_108 : decode cX5_chanceOf 108 = .ok (.goto (-98), 3) := dk_167 255 158 (dk_at dksX5_chanceOf_4 15 rfl rfl)
theorem dX5_chanceOf_111 : decode cX5_chanceOf 111 = .ok (.lload 4, 2) := dk_22 4 (dk_at dksX5_chanceOf_4 18 rfl rfl)
theorem dX5_chanceOf_113 : decode cX5_chanceOf 113 = .ok (.lconst 1, 1) := dk_10 (dk_at dksX5_chanceOf_4 20 rfl rfl)
theorem dX5_chanceOf_114 : decode cX5_chanceOf 114 = .ok (.iconst 4, 1) := dk_7 (dk_at dksX5_chanceOf_4 21 rfl rfl)
theorem dX5_chanceOf_115 : decode cX5_chanceOf 115 = .ok (.aload_n 0, 1) := dk_42 (dk_at dksX5_chanceOf_4 22 rfl rfl)
theorem dX5_chanceOf_116 : decode cX5_chanceOf 116 = .ok (.getfield 169, 3) := dk_180 0 169 (dk_at dksX5_chanceOf_5 0 rfl rfl)
theorem dX5_chanceOf_119 : decode cX5_chanceOf 119 = .ok (.imul, 1) := dk_104 (dk_at dksX5_chanceOf_5 3 rfl rfl)
theorem dX5_chanceOf_120 : decode cX5_chanceOf 120 = .ok (.lshl, 1) := dk_121 (dk_at dksX5_chanceOf_5 4 rfl rfl)
theorem dX5_chanceOf_121 : decode cX5_chanceOf 121 = .ok (.iload_n 3, 1) := dk_29 (dk_at dksX5_chanceOf_5 5 rfl rfl)
theorem dX5_chanceOf_122 : decode cX5_chanceOf 122 = .ok (.invokestatic 339, 3) := dk_184 1 83 (dk_at dksX5_chanceOf_5 6 rfl rfl)
theorem dX5_chanceOf_125 : decode cX5_chanceOf 125 = .ok (.lreturn, 1) := dk_173 (dk_at dksX5_chanceOf_5 9 rfl rfl)
abbrev cX5_lowest : ByteArray := prog_15_method_7_code
def yX5_lowest : MethodName := ⟨RX5, "lowest", "(JJI)J"⟩
def dkwX5_lowest_1 : List UInt8 := [22, 9, 55, 7, 167, 255, 234, 21, 4, 154, 0, 10, 30, 22, 5, 109, 167, 0, 7, 32, 22, 5, 109, 173]
abbrev dktX5_lowest_1 : List UInt8 := dkwX5_lowest_1 ++ []
def dkwX5_lowest_0 : List UInt8 := [30, 55, 5, 32, 55, 7, 22, 7, 9, 148, 153, 0, 21, 22, 5, 22, 7, 113, 55, 9, 22, 7, 55, 5]
abbrev dktX5_lowest_0 : List UInt8 := dkwX5_lowest_0 ++ dktX5_lowest_1
theorem dksX5_lowest_0 : cX5_lowest.data.toList.drop 0 = dktX5_lowest_0 := by decide +kernel
theorem dksX5_lowest_1 : cX5_lowest.data.toList.drop 24 = dktX5_lowest_1 := dk_seg dksX5_lowest_0 24 rfl rfl
theorem dX5_lowest_0 : decode cX5_lowest 0 = .ok (.lload_n 0, 1) := dk_30 (dk_at dksX5_lowest_0 0 rfl rfl)
theorem dX5_lowest_1 : decode cX5_lowest 1 = .ok (.lstore 5, 2) := dk_55 5 (dk_at dksX5_lowest_0 1 rfl rfl)
theorem dX5_lowest_3 : decode cX5_lowest 3 = .ok (.lload_n 2, 1) := dk_32 (dk_at dksX5_lowest_0 3 rfl rfl)
theorem dX5_lowest_4 : decode cX5_lowest 4 = .ok (.lstore 7, 2) := dk_55 7 (dk_at dksX5_lowest_0 4 rfl rfl)
theorem dX5_lowest_6 : decode cX5_lowest 6 = .ok (.lload 7, 2) := dk_22 7 (dk_at dksX5_lowest_0 6 rfl rfl)
theorem dX5_lowest_8 : decode cX5_lowest 8 = .ok (.lconst 0, 1) := dk_9 (dk_at dksX5_lowest_0 8 rfl rfl)
theorem dX5_lowest_9 : decode cX5_lowest 9 = .ok (.lcmp, 1) := dk_148 (dk_at dksX5_lowest_0 9 rfl rfl)
theorem dX5_lowest_10 : decode cX5_lowest 10 = .ok (.ifCond .eq 21, 3) := dk_153 0 21 (dk_at dksX5_lowest_0 10 rfl rfl)
theorem dX5_lowest_13 : decode cX5_lowest 13 = .ok (.lload 5, 2) := dk_22 5 (dk_at dksX5_lowest_0 13 rfl rfl)
theorem dX5_lowest_15 : decode cX5_lowest 15 = .ok (.lload 7, 2) := dk_22 7 (dk_at dksX5_lowest_0 15 rfl rfl)
theorem dX5_lowest_17 : decode cX5_lowest 17 = .ok (.lrem, 1) := dk_113 (dk_at dksX5_lowest_0 17 rfl rfl)
theorem dX5_lowest_18 : decode cX5_lowest 18 = .ok (.lstore 9, 2) := dk_55 9 (dk_at dksX5_lowest_0 18 rfl rfl)
theorem dX5_lowest_20 : decode cX5_lowest 20 = .ok (.lload 7, 2) := dk_22 7 (dk_at dksX5_lowest_0 20 rfl rfl)
theorem dX5_lowest_22 : decode cX5_lowest 22 = .ok (.lstore 5, 2) := dk_55 5 (dk_at dksX5_lowest_0 22 rfl rfl)
theorem dX5_lowest_24 : decode cX5_lowest 24 = .ok (.lload 9, 2) := dk_22 9 (dk_at dksX5_lowest_1 0 rfl rfl)
theorem dX5_lowest_26 : decode cX5_lowest 26 = .ok (.lstore 7, 2) := dk_55 7 (dk_at dksX5_lowest_1 2 rfl rfl)
theorem dX5_lowest_28 : decode cX5_lowest 28 = .ok (.goto (-22), 3) := dk_167 255 234 (dk_at dksX5_lowest_1 4 rfl rfl)
theorem dX5_lowest_31 : decode cX5_lowest 31 = .ok (.iload 4, 2) := dk_21 4 (dk_at dksX5_lowest_1 7 rfl rfl)
theorem dX5_lowest_33 : decode cX5_lowest 33 = .ok (.ifCond .ne 10, 3) := dk_154 0 10 (dk_at dksX5_lowest_1 9 rfl rfl)
theorem dX5_lowest_36 : decode cX5_lowest 36 = .ok (.lload_n 0, 1) := dk_30 (dk_at dksX5_lowest_1 12 rfl rfl)
theorem dX5_lowest_37 : decode cX5_lowest 37 = .ok (.lload 5, 2) := dk_22 5 (dk_at dksX5_lowest_1 13 rfl rfl)
theorem dX5_lowest_39 : decode cX5_lowest 39 = .ok (.ldiv, 1) := dk_109 (dk_at dksX5_lowest_1 15 rfl rfl)
theorem dX5_lowest_40 : decode cX5_lowest 40 = .ok (.goto 7, 3) := dk_167 0 7 (dk_at dksX5_lowest_1 16 rfl rfl)
theorem dX5_lowest_43 : decode cX5_lowest 43 = .ok (.lload_n 2, 1) := dk_32 (dk_at dksX5_lowest_1 19 rfl rfl)
theorem dX5_lowest_44 : decode cX5_lowest 44 = .ok (.lload 5, 2) := dk_22 5 (dk_at dksX5_lowest_1 20 rfl rfl)
theorem dX5_lowest_46 : decode cX5_lowest 46 = .ok (.ldiv, 1) := dk_109 (dk_at dksX5_lowest_1 22 rfl rfl)
theorem dX5_lowest_47 : decode cX5_lowest 47 = .ok (.lreturn, 1) := dk_173 (dk_at dksX5_lowest_1 23 rfl rfl)
abbrev cX5_no : ByteArray := prog_15_method_5_code
def yX5_no : MethodName := ⟨RX5, "no", "(I)J"⟩
def dkwX5_no_0 : List UInt8 := [20, 0, 117, 26, 133, 101, 173]
abbrev dktX5_no_0 : List UInt8 := dkwX5_no_0 ++ []
theorem dksX5_no_0 : cX5_no.data.toList.drop 0 = dktX5_no_0 := by decide +kernel
theorem dX5_no_0 : decode cX5_no 0 = .ok (.ldc2_w 117, 3) := dk_20 0 117 (dk_at dksX5_no_0 0 rfl rfl)
theorem dX5_no_3 : decode cX5_no 3 = .ok (.iload_n 0, 1) := dk_26 (dk_at dksX5_no_0 3 rfl rfl)
theorem dX5_no_4 : decode cX5_no 4 = .ok (.i2l, 1) := dk_133 (dk_at dksX5_no_0 4 rfl rfl)
theorem dX5_no_5 : decode cX5_no 5 = .ok (.lsub, 1) := dk_101 (dk_at dksX5_no_0 5 rfl rfl)
theorem dX5_no_6 : decode cX5_no 6 = .ok (.lreturn, 1) := dk_173 (dk_at dksX5_no_0 6 rfl rfl)
abbrev cX5_evenings : ByteArray := prog_15_method_86_code
def yX5_evenings : MethodName := ⟨RX5, "evenings", "(III)I"⟩
def dkwX5_evenings_1 : List UInt8 := [167, 0, 5, 16, 254, 172]
abbrev dktX5_evenings_1 : List UInt8 := dkwX5_evenings_1 ++ []
def dkwX5_evenings_0 : List UInt8 := [28, 3, 16, 8, 184, 0, 119, 153, 0, 20, 29, 184, 0, 123, 153, 0, 13, 42, 27, 28, 29, 182, 1, 96]
abbrev dktX5_evenings_0 : List UInt8 := dkwX5_evenings_0 ++ dktX5_evenings_1
theorem dksX5_evenings_0 : cX5_evenings.data.toList.drop 0 = dktX5_evenings_0 := by decide +kernel
theorem dksX5_evenings_1 : cX5_evenings.data.toList.drop 24 = dktX5_evenings_1 := dk_seg dksX5_evenings_0 24 rfl rfl
theorem dX5_evenings_0 : decode cX5_evenings 0 = .ok (.iload_n 2, 1) := dk_28 (dk_at dksX5_evenings_0 0 rfl rfl)
theorem dX5_evenings_1 : decode cX5_evenings 1 = .ok (.iconst 0, 1) := dk_3 (dk_at dksX5_evenings_0 1 rfl rfl)
theorem dX5_evenings_2 : decode cX5_evenings 2 = .ok (.bipush 8, 2) := dk_16 8 (dk_at dksX5_evenings_0 2 rfl rfl)
theorem dX5_evenings_4 : decode cX5_evenings 4 = .ok (.invokestatic 119, 3) := dk_184 0 119 (dk_at dksX5_evenings_0 4 rfl rfl)
theorem dX5_evenings_7 : decode cX5_evenings 7 = .ok (.ifCond .eq 20, 3) := dk_153 0 20 (dk_at dksX5_evenings_0 7 rfl rfl)
theorem dX5_evenings_10 : decode cX5_evenings 10 = .ok (.iload_n 3, 1) := dk_29 (dk_at dksX5_evenings_0 10 rfl rfl)
theorem dX5_evenings_11 : decode cX5_evenings 11 = .ok (.invokestatic 123, 3) := dk_184 0 123 (dk_at dksX5_evenings_0 11 rfl rfl)
theorem dX5_evenings_14 : decode cX5_evenings 14 = .ok (.ifCond .eq 13, 3) := dk_153 0 13 (dk_at dksX5_evenings_0 14 rfl rfl)
theorem dX5_evenings_17 : decode cX5_evenings 17 = .ok (.aload_n 0, 1) := dk_42 (dk_at dksX5_evenings_0 17 rfl rfl)
theorem dX5_evenings_18 : decode cX5_evenings 18 = .ok (.iload_n 1, 1) := dk_27 (dk_at dksX5_evenings_0 18 rfl rfl)
theorem dX5_evenings_19 : decode cX5_evenings 19 = .ok (.iload_n 2, 1) := dk_28 (dk_at dksX5_evenings_0 19 rfl rfl)
theorem dX5_evenings_20 : decode cX5_evenings 20 = .ok (.iload_n 3, 1) := dk_29 (dk_at dksX5_evenings_0 20 rfl rfl)
theorem dX5_evenings_21 : decode cX5_evenings 21 = .ok (.invokevirtual 352, 3) := dk_182 1 96 (dk_at dksX5_evenings_0 21 rfl rfl)
theorem dX5_evenings_24 : decode cX5_evenings 24 = .ok (.goto 5, 3) := dk_167 0 5 (dk_at dksX5_evenings_1 0 rfl rfl)
theorem dX5_evenings_27 : decode cX5_evenings 27 = .ok (.bipush (-2), 2) := dk_16 254 (dk_at dksX5_evenings_1 3 rfl rfl)
theorem dX5_evenings_29 : decode cX5_evenings 29 = .ok (.ireturn, 1) := dk_172 (dk_at dksX5_evenings_1 5 rfl rfl)
abbrev cX5_eveningsOf : ByteArray := prog_15_method_85_code
def yX5_eveningsOf : MethodName := ⟨RX5, "eveningsOf", "(III)I"⟩
def dkwX5_eveningsOf_5 : List UInt8 := [167, 0, 8, 42, 7, 182, 1, 13, 172]
abbrev dktX5_eveningsOf_5 : List UInt8 := dkwX5_eveningsOf_5 ++ []
def dkwX5_eveningsOf_4 : List UInt8 := [124, 7, 112, 4, 96, 79, 132, 5, 1, 167, 255, 166, 42, 182, 0, 250, 29, 154, 0, 10, 42, 182, 1, 9]
abbrev dktX5_eveningsOf_4 : List UInt8 := dkwX5_eveningsOf_4 ++ dktX5_eveningsOf_5
def dkwX5_eveningsOf_3 : List UInt8 := [112, 79, 19, 1, 95, 21, 4, 104, 17, 48, 57, 96, 54, 4, 42, 180, 0, 49, 21, 5, 21, 4, 16, 16]
abbrev dktX5_eveningsOf_3 : List UInt8 := dkwX5_eveningsOf_3 ++ dktX5_eveningsOf_4
def dkwX5_eveningsOf_2 : List UInt8 := [19, 1, 95, 21, 4, 104, 17, 48, 57, 96, 54, 4, 42, 180, 0, 46, 21, 5, 21, 4, 16, 16, 124, 5]
abbrev dktX5_eveningsOf_2 : List UInt8 := dkwX5_eveningsOf_2 ++ dktX5_eveningsOf_3
def dkwX5_eveningsOf_1 : List UInt8 := [21, 4, 104, 17, 48, 57, 96, 54, 4, 42, 180, 0, 43, 21, 5, 21, 4, 16, 16, 124, 16, 24, 112, 79]
abbrev dktX5_eveningsOf_1 : List UInt8 := dkwX5_eveningsOf_1 ++ dktX5_eveningsOf_2
def dkwX5_eveningsOf_0 : List UInt8 := [42, 182, 0, 247, 27, 54, 4, 42, 28, 181, 0, 181, 3, 54, 5, 21, 5, 28, 162, 0, 90, 19, 1, 95]
abbrev dktX5_eveningsOf_0 : List UInt8 := dkwX5_eveningsOf_0 ++ dktX5_eveningsOf_1
theorem dksX5_eveningsOf_0 : cX5_eveningsOf.data.toList.drop 0 = dktX5_eveningsOf_0 := by decide +kernel
theorem dksX5_eveningsOf_1 : cX5_eveningsOf.data.toList.drop 24 = dktX5_eveningsOf_1 := dk_seg dksX5_eveningsOf_0 24 rfl rfl
theorem dksX5_eveningsOf_2 : cX5_eveningsOf.data.toList.drop 48 = dktX5_eveningsOf_2 := dk_seg dksX5_eveningsOf_1 24 rfl rfl
theorem dksX5_eveningsOf_3 : cX5_eveningsOf.data.toList.drop 72 = dktX5_eveningsOf_3 := dk_seg dksX5_eveningsOf_2 24 rfl rfl
theorem dksX5_eveningsOf_4 : cX5_eveningsOf.data.toList.drop 96 = dktX5_eveningsOf_4 := dk_seg dksX5_eveningsOf_3 24 rfl rfl
theorem dksX5_eveningsOf_5 : cX5_eveningsOf.data.toList.drop 120 = dktX5_eveningsOf_5 := dk_seg dksX5_eveningsOf_4 24 rfl rfl
theorem dX5_eveningsOf_0 : decode cX5_eveningsOf 0 = .ok (.aload_n 0, 1) := dk_42 (dk_at dksX5_eveningsOf_0 0 rfl rfl)
theorem dX5_eveningsOf_1 : decode cX5_eveningsOf 1 = .ok (.invokevirtual 247, 3) := dk_182 0 247 (dk_at dksX5_eveningsOf_0 1 rfl rfl)
theorem dX5_eveningsOf_4 : decode cX5_eveningsOf 4 = .ok (.iload_n 1, 1) := dk_27 (dk_at dksX5_eveningsOf_0 4 rfl rfl)
theorem dX5_eveningsOf_5 : decode cX5_eveningsOf 5 = .ok (.istore 4, 2) := dk_54 4 (dk_at dksX5_eveningsOf_0 5 rfl rfl)
theorem dX5_eveningsOf_7 : decode cX5_eveningsOf 7 = .ok (.aload_n 0, 1) := dk_42 (dk_at dksX5_eveningsOf_0 7 rfl rfl)
theorem dX5_eveningsOf_8 : decode cX5_eveningsOf 8 = .ok (.iload_n 2, 1) := dk_28 (dk_at dksX5_eveningsOf_0 8 rfl rfl)
theorem dX5_eveningsOf_9 : decode cX5_eveningsOf 9 = .ok (.putfield 181, 3) := dk_181 0 181 (dk_at dksX5_eveningsOf_0 9 rfl rfl)
theorem dX5_eveningsOf_12 : decode cX5_eveningsOf 12 = .ok (.iconst 0, 1) := dk_3 (dk_at dksX5_eveningsOf_0 12 rfl rfl)
theorem dX5_eveningsOf_13 : decode cX5_eveningsOf 13 = .ok (.istore 5, 2) := dk_54 5 (dk_at dksX5_eveningsOf_0 13 rfl rfl)
theorem dX5_eveningsOf_15 : decode cX5_eveningsOf 15 = .ok (.iload 5, 2) := dk_21 5 (dk_at dksX5_eveningsOf_0 15 rfl rfl)
theorem dX5_eveningsOf_17 : decode cX5_eveningsOf 17 = .ok (.iload_n 2, 1) := dk_28 (dk_at dksX5_eveningsOf_0 17 rfl rfl)
theorem dX5_eveningsOf_18 : decode cX5_eveningsOf 18 = .ok (.if_icmp .ge 90, 3) := dk_162 0 90 (dk_at dksX5_eveningsOf_0 18 rfl rfl)
theorem dX5_eveningsOf_21 : decode cX5_eveningsOf 21 = .ok (.ldc_w 351, 3) := dk_19 1 95 (dk_at dksX5_eveningsOf_0 21 rfl rfl)
theorem dX5_eveningsOf_24 : decode cX5_eveningsOf 24 = .ok (.iload 4, 2) := dk_21 4 (dk_at dksX5_eveningsOf_1 0 rfl rfl)
theorem dX5_eveningsOf_26 : decode cX5_eveningsOf 26 = .ok (.imul, 1) := dk_104 (dk_at dksX5_eveningsOf_1 2 rfl rfl)
theorem dX5_eveningsOf_27 : decode cX5_eveningsOf 27 = .ok (.sipush 12345, 3) := dk_17 48 57 (dk_at dksX5_eveningsOf_1 3 rfl rfl)
theorem dX5_eveningsOf_30 : decode cX5_eveningsOf 30 = .ok (.iadd, 1) := dk_96 (dk_at dksX5_eveningsOf_1 6 rfl rfl)
theorem dX5_eveningsOf_31 : decode cX5_eveningsOf 31 = .ok (.istore 4, 2) := dk_54 4 (dk_at dksX5_eveningsOf_1 7 rfl rfl)
theorem dX5_eveningsOf_33 : decode cX5_eveningsOf 33 = .ok (.aload_n 0, 1) := dk_42 (dk_at dksX5_eveningsOf_1 9 rfl rfl)
theorem dX5_eveningsOf_34 : decode cX5_eveningsOf 34 = .ok (.getfield 43, 3) := dk_180 0 43 (dk_at dksX5_eveningsOf_1 10 rfl rfl)
theorem dX5_eveningsOf_37 : decode cX5_eveningsOf 37 = .ok (.iload 5, 2) := dk_21 5 (dk_at dksX5_eveningsOf_1 13 rfl rfl)
theorem dX5_eveningsOf_39 : decode cX5_eveningsOf 39 = .ok (.iload 4, 2) := dk_21 4 (dk_at dksX5_eveningsOf_1 15 rfl rfl)
theorem dX5_eveningsOf_41 : decode cX5_eveningsOf 41 = .ok (.bipush 16, 2) := dk_16 16 (dk_at dksX5_eveningsOf_1 17 rfl rfl)
theorem dX5_eveningsOf_43 : decode cX5_eveningsOf 43 = .ok (.iushr, 1) := dk_124 (dk_at dksX5_eveningsOf_1 19 rfl rfl)
theorem dX5_eveningsOf_44 : decode cX5_eveningsOf 44 = .ok (.bipush 24, 2) := dk_16 24 (dk_at dksX5_eveningsOf_1 20 rfl rfl)
theorem dX5_eveningsOf_46 : decode cX5_eveningsOf 46 = .ok (.irem, 1) := dk_112 (dk_at dksX5_eveningsOf_1 22 rfl rfl)
theorem dX5_eveningsOf_47 : decode cX5_eveningsOf 47 = .ok (.iastore, 1) := dk_79 (dk_at dksX5_eveningsOf_1 23 rfl rfl)
theorem dX5_eveningsOf_48 : decode cX5_eveningsOf 48 = .ok (.ldc_w 351, 3) := dk_19 1 95 (dk_at dksX5_eveningsOf_2 0 rfl rfl)
theorem dX5_eveningsOf_51 : decode cX5_eveningsOf 51 = .ok (.iload 4, 2) := dk_21 4 (dk_at dksX5_eveningsOf_2 3 rfl rfl)
theorem dX5_eveningsOf_53 : decode cX5_eveningsOf 53 = .ok (.imul, 1) := dk_104 (dk_at dksX5_eveningsOf_2 5 rfl rfl)
theorem dX5_eveningsOf_54 : decode cX5_eveningsOf 54 = .ok (.sipush 12345, 3) := dk_17 48 57 (dk_at dksX5_eveningsOf_2 6 rfl rfl)
theorem dX5_eveningsOf_57 : decode cX5_eveningsOf 57 = .ok (.iadd, 1) := dk_96 (dk_at dksX5_eveningsOf_2 9 rfl rfl)
theorem dX5_eveningsOf_58 : decode cX5_eveningsOf 58 = .ok (.istore 4, 2) := dk_54 4 (dk_at dksX5_eveningsOf_2 10 rfl rfl)
theorem dX5_eveningsOf_60 : decode cX5_eveningsOf 60 = .ok (.aload_n 0, 1) := dk_42 (dk_at dksX5_eveningsOf_2 12 rfl rfl)
theorem dX5_eveningsOf_61 : decode cX5_eveningsOf 61 = .ok (.getfield 46, 3) := dk_180 0 46 (dk_at dksX5_eveningsOf_2 13 rfl rfl)
theorem dX5_eveningsOf_64 : decode cX5_eveningsOf 64 = .ok (.iload 5, 2) := dk_21 5 (dk_at dksX5_eveningsOf_2 16 rfl rfl)
theorem dX5_eveningsOf_66 : decode cX5_eveningsOf 66 = .ok (.iload 4, 2) := dk_21 4 (dk_at dksX5_eveningsOf_2 18 rfl rfl)
theorem dX5_eveningsOf_68 : decode cX5_eveningsOf 68 = .ok (.bipush 16, 2) := dk_16 16 (dk_at dksX5_eveningsOf_2 20 rfl rfl)
theorem dX5_eveningsOf_70 : decode cX5_eveningsOf 70 = .ok (.iushr, 1) := dk_124 (dk_at dksX5_eveningsOf_2 22 rfl rfl)
theorem dX5_eveningsOf_71 : decode cX5_eveningsOf 71 = .ok (.iconst 2, 1) := dk_5 (dk_at dksX5_eveningsOf_2 23 rfl rfl)
theorem dX5_eveningsOf_72 : decode cX5_eveningsOf 72 = .ok (.irem, 1) := dk_112 (dk_at dksX5_eveningsOf_3 0 rfl rfl)
theorem dX5_eveningsOf_73 : decode cX5_eveningsOf 73 = .ok (.iastore, 1) := dk_79 (dk_at dksX5_eveningsOf_3 1 rfl rfl)
theorem dX5_eveningsOf_74 : decode cX5_eveningsOf 74 = .ok (.ldc_w 351, 3) := dk_19 1 95 (dk_at dksX5_eveningsOf_3 2 rfl rfl)
theorem dX5_eveningsOf_77 : decode cX5_eveningsOf 77 = .ok (.iload 4, 2) := dk_21 4 (dk_at dksX5_eveningsOf_3 5 rfl rfl)
theorem dX5_eveningsOf_79 : decode cX5_eveningsOf 79 = .ok (.imul, 1) := dk_104 (dk_at dksX5_eveningsOf_3 7 rfl rfl)
theorem dX5_eveningsOf_80 : decode cX5_eveningsOf 80 = .ok (.sipush 12345, 3) := dk_17 48 57 (dk_at dksX5_eveningsOf_3 8 rfl rfl)
theorem dX5_eveningsOf_83 : decode cX5_eveningsOf 83 = .ok (.iadd, 1) := dk_96 (dk_at dksX5_eveningsOf_3 11 rfl rfl)
theorem dX5_eveningsOf_84 : decode cX5_eveningsOf 84 = .ok (.istore 4, 2) := dk_54 4 (dk_at dksX5_eveningsOf_3 12 rfl rfl)
theorem dX5_eveningsOf_86 : decode cX5_eveningsOf 86 = .ok (.aload_n 0, 1) := dk_42 (dk_at dksX5_eveningsOf_3 14 rfl rfl)
theorem dX5_eveningsOf_87 : decode cX5_eveningsOf 87 = .ok (.getfield 49, 3) := dk_180 0 49 (dk_at dksX5_eveningsOf_3 15 rfl rfl)
theorem dX5_eveningsOf_90 : decode cX5_eveningsOf 90 = .ok (.iload 5, 2) := dk_21 5 (dk_at dksX5_eveningsOf_3 18 rfl rfl)
theorem dX5_eveningsOf_92 : decode cX5_eveningsOf 92 = .ok (.iload 4, 2) := dk_21 4 (dk_at dksX5_eveningsOf_3 20 rfl rfl)
theorem dX5_eveningsOf_94 : decode cX5_eveningsOf 94 = .ok (.bipush 16, 2) := dk_16 16 (dk_at dksX5_eveningsOf_3 22 rfl rfl)
theorem dX5_eveningsOf_96 : decode cX5_eveningsOf 96 = .ok (.iushr, 1) := dk_124 (dk_at dksX5_eveningsOf_4 0 rfl rfl)
theorem dX5_eveningsOf_97 : decode cX5_eveningsOf 97 = .ok (.iconst 4, 1) := dk_7 (dk_at dksX5_eveningsOf_4 1 rfl rfl)
theorem dX5_eveningsOf_98 : decode cX5_eveningsOf 98 = .ok (.irem, 1) := dk_112 (dk_at dksX5_eveningsOf_4 2 rfl rfl)
theorem dX5_eveningsOf_99 : decode cX5_eveningsOf 99 = .ok (.iconst 1, 1) := dk_4 (dk_at dksX5_eveningsOf_4 3 rfl rfl)
theorem dX5_eveningsOf_100 : decode cX5_eveningsOf 100 = .ok (.iadd, 1) := dk_96 (dk_at dksX5_eveningsOf_4 4 rfl rfl)
theorem dX5_eveningsOf_101 : decode cX5_eveningsOf 101 = .ok (.iastore, 1) := dk_79 (dk_at dksX5_eveningsOf_4 5 rfl rfl)
theorem dX5_eveningsOf_102 : decode cX5_eveningsOf 102 = .ok (.iinc 5 1, 3) := dk_132 5 1 (dk_at dksX5_eveningsOf_4 6 rfl rfl)
theorem dX5_eveningsOf_105 : decode cX5_eveningsOf 105 = .ok (.goto (-90), 3) := dk_167 255 166 (dk_at dksX5_eveningsOf_4 9 rfl rfl)
theorem dX5_eveningsOf_108 : decode cX5_eveningsOf 108 = .ok (.aload_n 0, 1) := dk_42 (dk_at dksX5_eveningsOf_4 12 rfl rfl)
theorem dX5_eveningsOf_109 : decode cX5_eveningsOf 109 = .ok (.invokevirtual 250, 3) := dk_182 0 250 (dk_at dksX5_eveningsOf_4 13 rfl rfl)
theorem dX5_eveningsOf_112 : decode cX5_eveningsOf 112 = .ok (.iload_n 3, 1) := dk_29 (dk_at dksX5_eveningsOf_4 16 rfl rfl)
theorem dX5_eveningsOf_113 : decode cX5_eveningsOf 113 = .ok (.ifCond .ne 10, 3) := dk_154 0 10 (dk_at dksX5_eveningsOf_4 17 rfl rfl)
theorem dX5_eveningsOf_116 : decode cX5_eveningsOf 116 = .ok (.aload_n 0, 1) := dk_42 (dk_at dksX5_eveningsOf_4 20 rfl rfl)
theorem dX5_eveningsOf_117 : decode cX5_eveningsOf 117 = .ok (.invokevirtual 265, 3) := dk_182 1 9 (dk_at dksX5_eveningsOf_4 21 rfl rfl)
theorem dX5_eveningsOf_120 : decode cX5_eveningsOf 120 = .ok (.goto 8, 3) := dk_167 0 8 (dk_at dksX5_eveningsOf_5 0 rfl rfl)
theorem dX5_eveningsOf_123 : decode cX5_eveningsOf 123 = .ok (.aload_n 0, 1) := dk_42 (dk_at dksX5_eveningsOf_5 3 rfl rfl)
theorem dX5_eveningsOf_124 : decode cX5_eveningsOf 124 = .ok (.iconst 4, 1) := dk_7 (dk_at dksX5_eveningsOf_5 4 rfl rfl)
theorem dX5_eveningsOf_125 : decode cX5_eveningsOf 125 = .ok (.invokevirtual 269, 3) := dk_182 1 13 (dk_at dksX5_eveningsOf_5 5 rfl rfl)
theorem dX5_eveningsOf_128 : decode cX5_eveningsOf 128 = .ok (.ireturn, 1) := dk_172 (dk_at dksX5_eveningsOf_5 8 rfl rfl)
abbrev cX5_sheet : ByteArray := prog_15_method_89_code
def yX5_sheet : MethodName := ⟨RX5, "sheet", "(III)I"⟩
def dkwX5_sheet_3 : List UInt8 := [27, 104, 21, 4, 96, 3, 79, 132, 4, 1, 167, 255, 233, 29, 172]
abbrev dktX5_sheet_3 : List UInt8 := dkwX5_sheet_3 ++ []
def dkwX5_sheet_2 : List UInt8 := [79, 42, 180, 0, 101, 27, 29, 79, 3, 54, 4, 21, 4, 16, 60, 162, 0, 22, 42, 180, 0, 104, 16, 60]
abbrev dktX5_sheet_2 : List UInt8 := dkwX5_sheet_2 ++ dktX5_sheet_3
def dkwX5_sheet_1 : List UInt8 := [172, 29, 156, 0, 9, 42, 8, 182, 0, 175, 172, 42, 180, 0, 94, 27, 4, 84, 42, 180, 0, 98, 27, 28]
abbrev dktX5_sheet_1 : List UInt8 := dkwX5_sheet_1 ++ dktX5_sheet_2
def dkwX5_sheet_0 : List UInt8 := [27, 184, 0, 172, 153, 0, 18, 28, 3, 5, 184, 0, 119, 153, 0, 9, 29, 16, 60, 164, 0, 6, 16, 254]
abbrev dktX5_sheet_0 : List UInt8 := dkwX5_sheet_0 ++ dktX5_sheet_1
theorem dksX5_sheet_0 : cX5_sheet.data.toList.drop 0 = dktX5_sheet_0 := by decide +kernel
theorem dksX5_sheet_1 : cX5_sheet.data.toList.drop 24 = dktX5_sheet_1 := dk_seg dksX5_sheet_0 24 rfl rfl
theorem dksX5_sheet_2 : cX5_sheet.data.toList.drop 48 = dktX5_sheet_2 := dk_seg dksX5_sheet_1 24 rfl rfl
theorem dksX5_sheet_3 : cX5_sheet.data.toList.drop 72 = dktX5_sheet_3 := dk_seg dksX5_sheet_2 24 rfl rfl
theorem dX5_sheet_0 : decode cX5_sheet 0 = .ok (.iload_n 1, 1) := dk_27 (dk_at dksX5_sheet_0 0 rfl rfl)
theorem dX5_sheet_1 : decode cX5_sheet 1 = .ok (.invokestatic 172, 3) := dk_184 0 172 (dk_at dksX5_sheet_0 1 rfl rfl)
theorem dX5_sheet_4 : decode cX5_sheet 4 = .ok (.ifCond .eq 18, 3) := dk_153 0 18 (dk_at dksX5_sheet_0 4 rfl rfl)
theorem dX5_sheet_7 : decode cX5_sheet 7 = .ok (.iload_n 2, 1) := dk_28 (dk_at dksX5_sheet_0 7 rfl rfl)
theorem dX5_sheet_8 : decode cX5_sheet 8 = .ok (.iconst 0, 1) := dk_3 (dk_at dksX5_sheet_0 8 rfl rfl)
theorem dX5_sheet_9 : decode cX5_sheet 9 = .ok (.iconst 2, 1) := dk_5 (dk_at dksX5_sheet_0 9 rfl rfl)
theorem dX5_sheet_10 : decode cX5_sheet 10 = .ok (.invokestatic 119, 3) := dk_184 0 119 (dk_at dksX5_sheet_0 10 rfl rfl)
theorem dX5_sheet_13 : decode cX5_sheet 13 = .ok (.ifCond .eq 9, 3) := dk_153 0 9 (dk_at dksX5_sheet_0 13 rfl rfl)
theorem dX5_sheet_16 : decode cX5_sheet 16 = .ok (.iload_n 3, 1) := dk_29 (dk_at dksX5_sheet_0 16 rfl rfl)
theorem dX5_sheet_17 : decode cX5_sheet 17 = .ok (.bipush 60, 2) := dk_16 60 (dk_at dksX5_sheet_0 17 rfl rfl)
theorem dX5_sheet_19 : decode cX5_sheet 19 = .ok (.if_icmp .le 6, 3) := dk_164 0 6 (dk_at dksX5_sheet_0 19 rfl rfl)
theorem dX5_sheet_22 : decode cX5_sheet 22 = .ok (.bipush (-2), 2) := dk_16 254 (dk_at dksX5_sheet_0 22 rfl rfl)
theorem dX5_sheet_24 : decode cX5_sheet 24 = .ok (.ireturn, 1) := dk_172 (dk_at dksX5_sheet_1 0 rfl rfl)
theorem dX5_sheet_25 : decode cX5_sheet 25 = .ok (.iload_n 3, 1) := dk_29 (dk_at dksX5_sheet_1 1 rfl rfl)
theorem dX5_sheet_26 : decode cX5_sheet 26 = .ok (.ifCond .ge 9, 3) := dk_156 0 9 (dk_at dksX5_sheet_1 2 rfl rfl)
theorem dX5_sheet_29 : decode cX5_sheet 29 = .ok (.aload_n 0, 1) := dk_42 (dk_at dksX5_sheet_1 5 rfl rfl)
theorem dX5_sheet_30 : decode cX5_sheet 30 = .ok (.iconst 5, 1) := dk_8 (dk_at dksX5_sheet_1 6 rfl rfl)
theorem dX5_sheet_31 : decode cX5_sheet 31 = .ok (.invokevirtual 175, 3) := dk_182 0 175 (dk_at dksX5_sheet_1 7 rfl rfl)
theorem dX5_sheet_34 : decode cX5_sheet 34 = .ok (.ireturn, 1) := dk_172 (dk_at dksX5_sheet_1 10 rfl rfl)
theorem dX5_sheet_35 : decode cX5_sheet 35 = .ok (.aload_n 0, 1) := dk_42 (dk_at dksX5_sheet_1 11 rfl rfl)
theorem dX5_sheet_36 : decode cX5_sheet 36 = .ok (.getfield 94, 3) := dk_180 0 94 (dk_at dksX5_sheet_1 12 rfl rfl)
theorem dX5_sheet_39 : decode cX5_sheet 39 = .ok (.iload_n 1, 1) := dk_27 (dk_at dksX5_sheet_1 15 rfl rfl)
theorem dX5_sheet_40 : decode cX5_sheet 40 = .ok (.iconst 1, 1) := dk_4 (dk_at dksX5_sheet_1 16 rfl rfl)
theorem dX5_sheet_41 : decode cX5_sheet 41 = .ok (.bastore, 1) := dk_84 (dk_at dksX5_sheet_1 17 rfl rfl)
theorem dX5_sheet_42 : decode cX5_sheet 42 = .ok (.aload_n 0, 1) := dk_42 (dk_at dksX5_sheet_1 18 rfl rfl)
theorem dX5_sheet_43 : decode cX5_sheet 43 = .ok (.getfield 98, 3) := dk_180 0 98 (dk_at dksX5_sheet_1 19 rfl rfl)
theorem dX5_sheet_46 : decode cX5_sheet 46 = .ok (.iload_n 1, 1) := dk_27 (dk_at dksX5_sheet_1 22 rfl rfl)
theorem dX5_sheet_47 : decode cX5_sheet 47 = .ok (.iload_n 2, 1) := dk_28 (dk_at dksX5_sheet_1 23 rfl rfl)
theorem dX5_sheet_48 : decode cX5_sheet 48 = .ok (.iastore, 1) := dk_79 (dk_at dksX5_sheet_2 0 rfl rfl)
theorem dX5_sheet_49 : decode cX5_sheet 49 = .ok (.aload_n 0, 1) := dk_42 (dk_at dksX5_sheet_2 1 rfl rfl)
theorem dX5_sheet_50 : decode cX5_sheet 50 = .ok (.getfield 101, 3) := dk_180 0 101 (dk_at dksX5_sheet_2 2 rfl rfl)
theorem dX5_sheet_53 : decode cX5_sheet 53 = .ok (.iload_n 1, 1) := dk_27 (dk_at dksX5_sheet_2 5 rfl rfl)
theorem dX5_sheet_54 : decode cX5_sheet 54 = .ok (.iload_n 3, 1) := dk_29 (dk_at dksX5_sheet_2 6 rfl rfl)
theorem dX5_sheet_55 : decode cX5_sheet 55 = .ok (.iastore, 1) := dk_79 (dk_at dksX5_sheet_2 7 rfl rfl)
theorem dX5_sheet_56 : decode cX5_sheet 56 = .ok (.iconst 0, 1) := dk_3 (dk_at dksX5_sheet_2 8 rfl rfl)
theorem dX5_sheet_57 : decode cX5_sheet 57 = .ok (.istore 4, 2) := dk_54 4 (dk_at dksX5_sheet_2 9 rfl rfl)
theorem dX5_sheet_59 : decode cX5_sheet 59 = .ok (.iload 4, 2) := dk_21 4 (dk_at dksX5_sheet_2 11 rfl rfl)
theorem dX5_sheet_61 : decode cX5_sheet 61 = .ok (.bipush 60, 2) := dk_16 60 (dk_at dksX5_sheet_2 13 rfl rfl)
theorem dX5_sheet_63 : decode cX5_sheet 63 = .ok (.if_icmp .ge 22, 3) := dk_162 0 22 (dk_at dksX5_sheet_2 15 rfl rfl)
theorem dX5_sheet_66 : decode cX5_sheet 66 = .ok (.aload_n 0, 1) := dk_42 (dk_at dksX5_sheet_2 18 rfl rfl)
theorem dX5_sheet_67 : decode cX5_sheet 67 = .ok (.getfield 104, 3) := dk_180 0 104 (dk_at dksX5_sheet_2 19 rfl rfl)
theorem dX5_sheet_70 : decode cX5_sheet 70 = .ok (.bipush 60, 2) := dk_16 60 (dk_at dksX5_sheet_2 22 rfl rfl)
theorem dX5_sheet_72 : decode cX5_sheet 72 = .ok (.iload_n 1, 1) := dk_27 (dk_at dksX5_sheet_3 0 rfl rfl)
theorem dX5_sheet_73 : decode cX5_sheet 73 = .ok (.imul, 1) := dk_104 (dk_at dksX5_sheet_3 1 rfl rfl)
theorem dX5_sheet_74 : decode cX5_sheet 74 = .ok (.iload 4, 2) := dk_21 4 (dk_at dksX5_sheet_3 2 rfl rfl)
theorem dX5_sheet_76 : decode cX5_sheet 76 = .ok (.iadd, 1) := dk_96 (dk_at dksX5_sheet_3 4 rfl rfl)
theorem dX5_sheet_77 : decode cX5_sheet 77 = .ok (.iconst 0, 1) := dk_3 (dk_at dksX5_sheet_3 5 rfl rfl)
theorem dX5_sheet_78 : decode cX5_sheet 78 = .ok (.iastore, 1) := dk_79 (dk_at dksX5_sheet_3 6 rfl rfl)
theorem dX5_sheet_79 : decode cX5_sheet 79 = .ok (.iinc 4 1, 3) := dk_132 4 1 (dk_at dksX5_sheet_3 7 rfl rfl)
theorem dX5_sheet_82 : decode cX5_sheet 82 = .ok (.goto (-23), 3) := dk_167 255 233 (dk_at dksX5_sheet_3 10 rfl rfl)
theorem dX5_sheet_85 : decode cX5_sheet 85 = .ok (.iload_n 3, 1) := dk_29 (dk_at dksX5_sheet_3 13 rfl rfl)
theorem dX5_sheet_86 : decode cX5_sheet 86 = .ok (.ireturn, 1) := dk_172 (dk_at dksX5_sheet_3 14 rfl rfl)
abbrev cX5_lose : ByteArray := prog_15_method_90_code
def yX5_lose : MethodName := ⟨RX5, "lose", "(I)I"⟩
def dkwX5_lose_1 : List UInt8 := [172, 42, 180, 0, 94, 27, 3, 84, 42, 180, 0, 101, 27, 46, 172]
abbrev dktX5_lose_1 : List UInt8 := dkwX5_lose_1 ++ []
def dkwX5_lose_0 : List UInt8 := [27, 184, 0, 172, 154, 0, 6, 16, 254, 172, 42, 180, 0, 94, 27, 51, 154, 0, 9, 42, 4, 182, 0, 175]
abbrev dktX5_lose_0 : List UInt8 := dkwX5_lose_0 ++ dktX5_lose_1
theorem dksX5_lose_0 : cX5_lose.data.toList.drop 0 = dktX5_lose_0 := by decide +kernel
theorem dksX5_lose_1 : cX5_lose.data.toList.drop 24 = dktX5_lose_1 := dk_seg dksX5_lose_0 24 rfl rfl
theorem dX5_lose_0 : decode cX5_lose 0 = .ok (.iload_n 1, 1) := dk_27 (dk_at dksX5_lose_0 0 rfl rfl)
theorem dX5_lose_1 : decode cX5_lose 1 = .ok (.invokestatic 172, 3) := dk_184 0 172 (dk_at dksX5_lose_0 1 rfl rfl)
theorem dX5_lose_4 : decode cX5_lose 4 = .ok (.ifCond .ne 6, 3) := dk_154 0 6 (dk_at dksX5_lose_0 4 rfl rfl)
theorem dX5_lose_7 : decode cX5_lose 7 = .ok (.bipush (-2), 2) := dk_16 254 (dk_at dksX5_lose_0 7 rfl rfl)
theorem dX5_lose_9 : decode cX5_lose 9 = .ok (.ireturn, 1) := dk_172 (dk_at dksX5_lose_0 9 rfl rfl)
theorem dX5_lose_10 : decode cX5_lose 10 = .ok (.aload_n 0, 1) := dk_42 (dk_at dksX5_lose_0 10 rfl rfl)
theorem dX5_lose_11 : decode cX5_lose 11 = .ok (.getfield 94, 3) := dk_180 0 94 (dk_at dksX5_lose_0 11 rfl rfl)
theorem dX5_lose_14 : decode cX5_lose 14 = .ok (.iload_n 1, 1) := dk_27 (dk_at dksX5_lose_0 14 rfl rfl)
theorem dX5_lose_15 : decode cX5_lose 15 = .ok (.baload, 1) := dk_51 (dk_at dksX5_lose_0 15 rfl rfl)
theorem dX5_lose_16 : decode cX5_lose 16 = .ok (.ifCond .ne 9, 3) := dk_154 0 9 (dk_at dksX5_lose_0 16 rfl rfl)
theorem dX5_lose_19 : decode cX5_lose 19 = .ok (.aload_n 0, 1) := dk_42 (dk_at dksX5_lose_0 19 rfl rfl)
theorem dX5_lose_20 : decode cX5_lose 20 = .ok (.iconst 1, 1) := dk_4 (dk_at dksX5_lose_0 20 rfl rfl)
theorem dX5_lose_21 : decode cX5_lose 21 = .ok (.invokevirtual 175, 3) := dk_182 0 175 (dk_at dksX5_lose_0 21 rfl rfl)
theorem dX5_lose_24 : decode cX5_lose 24 = .ok (.ireturn, 1) := dk_172 (dk_at dksX5_lose_1 0 rfl rfl)
theorem dX5_lose_25 : decode cX5_lose 25 = .ok (.aload_n 0, 1) := dk_42 (dk_at dksX5_lose_1 1 rfl rfl)
theorem dX5_lose_26 : decode cX5_lose 26 = .ok (.getfield 94, 3) := dk_180 0 94 (dk_at dksX5_lose_1 2 rfl rfl)
theorem dX5_lose_29 : decode cX5_lose 29 = .ok (.iload_n 1, 1) := dk_27 (dk_at dksX5_lose_1 5 rfl rfl)
theorem dX5_lose_30 : decode cX5_lose 30 = .ok (.iconst 0, 1) := dk_3 (dk_at dksX5_lose_1 6 rfl rfl)
theorem dX5_lose_31 : decode cX5_lose 31 = .ok (.bastore, 1) := dk_84 (dk_at dksX5_lose_1 7 rfl rfl)
theorem dX5_lose_32 : decode cX5_lose 32 = .ok (.aload_n 0, 1) := dk_42 (dk_at dksX5_lose_1 8 rfl rfl)
theorem dX5_lose_33 : decode cX5_lose 33 = .ok (.getfield 101, 3) := dk_180 0 101 (dk_at dksX5_lose_1 9 rfl rfl)
theorem dX5_lose_36 : decode cX5_lose 36 = .ok (.iload_n 1, 1) := dk_27 (dk_at dksX5_lose_1 12 rfl rfl)
theorem dX5_lose_37 : decode cX5_lose 37 = .ok (.iaload, 1) := dk_46 (dk_at dksX5_lose_1 13 rfl rfl)
theorem dX5_lose_38 : decode cX5_lose 38 = .ok (.ireturn, 1) := dk_172 (dk_at dksX5_lose_1 14 rfl rfl)
abbrev cX5_put : ByteArray := prog_15_method_93_code
def yX5_put : MethodName := ⟨RX5, "put", "(IIII)I"⟩
def dkwX5_put_2 : List UInt8 := [182, 1, 105, 4, 172]
abbrev dktX5_put_2 : List UInt8 := dkwX5_put_2 ++ []
def dkwX5_put_1 : List UInt8 := [182, 1, 102, 54, 5, 21, 5, 158, 0, 10, 42, 21, 5, 182, 0, 175, 172, 42, 27, 29, 21, 4]
abbrev dktX5_put_1 : List UInt8 := dkwX5_put_1 ++ dktX5_put_2
def dkwX5_put_0 : List UInt8 := [27, 184, 0, 172, 153, 0, 12, 28, 3, 5, 184, 0, 119, 154, 0, 6, 16, 254, 172, 42, 27, 28, 29]
abbrev dktX5_put_0 : List UInt8 := dkwX5_put_0 ++ dktX5_put_1
theorem dksX5_put_0 : cX5_put.data.toList.drop 0 = dktX5_put_0 := by decide +kernel
theorem dksX5_put_1 : cX5_put.data.toList.drop 23 = dktX5_put_1 := dk_seg dksX5_put_0 23 rfl rfl
theorem dksX5_put_2 : cX5_put.data.toList.drop 45 = dktX5_put_2 := dk_seg dksX5_put_1 22 rfl rfl
theorem dX5_put_0 : decode cX5_put 0 = .ok (.iload_n 1, 1) := dk_27 (dk_at dksX5_put_0 0 rfl rfl)
theorem dX5_put_1 : decode cX5_put 1 = .ok (.invokestatic 172, 3) := dk_184 0 172 (dk_at dksX5_put_0 1 rfl rfl)
theorem dX5_put_4 : decode cX5_put 4 = .ok (.ifCond .eq 12, 3) := dk_153 0 12 (dk_at dksX5_put_0 4 rfl rfl)
theorem dX5_put_7 : decode cX5_put 7 = .ok (.iload_n 2, 1) := dk_28 (dk_at dksX5_put_0 7 rfl rfl)
theorem dX5_put_8 : decode cX5_put 8 = .ok (.iconst 0, 1) := dk_3 (dk_at dksX5_put_0 8 rfl rfl)
theorem dX5_put_9 : decode cX5_put 9 = .ok (.iconst 2, 1) := dk_5 (dk_at dksX5_put_0 9 rfl rfl)
theorem dX5_put_10 : decode cX5_put 10 = .ok (.invokestatic 119, 3) := dk_184 0 119 (dk_at dksX5_put_0 10 rfl rfl)
theorem dX5_put_13 : decode cX5_put 13 = .ok (.ifCond .ne 6, 3) := dk_154 0 6 (dk_at dksX5_put_0 13 rfl rfl)
theorem dX5_put_16 : decode cX5_put 16 = .ok (.bipush (-2), 2) := dk_16 254 (dk_at dksX5_put_0 16 rfl rfl)
theorem dX5_put_18 : decode cX5_put 18 = .ok (.ireturn, 1) := dk_172 (dk_at dksX5_put_0 18 rfl rfl)
theorem dX5_put_19 : decode cX5_put 19 = .ok (.aload_n 0, 1) := dk_42 (dk_at dksX5_put_0 19 rfl rfl)
theorem dX5_put_20 : decode cX5_put 20 = .ok (.iload_n 1, 1) := dk_27 (dk_at dksX5_put_0 20 rfl rfl)
theorem dX5_put_21 : decode cX5_put 21 = .ok (.iload_n 2, 1) := dk_28 (dk_at dksX5_put_0 21 rfl rfl)
theorem dX5_put_22 : decode cX5_put 22 = .ok (.iload_n 3, 1) := dk_29 (dk_at dksX5_put_0 22 rfl rfl)
theorem dX5_put_23 : decode cX5_put 23 = .ok (.invokevirtual 358, 3) := dk_182 1 102 (dk_at dksX5_put_1 0 rfl rfl)
theorem dX5_put_26 : decode cX5_put 26 = .ok (.istore 5, 2) := dk_54 5 (dk_at dksX5_put_1 3 rfl rfl)
theorem dX5_put_28 : decode cX5_put 28 = .ok (.iload 5, 2) := dk_21 5 (dk_at dksX5_put_1 5 rfl rfl)
theorem dX5_put_30 : decode cX5_put 30 = .ok (.ifCond .le 10, 3) := dk_158 0 10 (dk_at dksX5_put_1 7 rfl rfl)
theorem dX5_put_33 : decode cX5_put 33 = .ok (.aload_n 0, 1) := dk_42 (dk_at dksX5_put_1 10 rfl rfl)
theorem dX5_put_34 : decode cX5_put 34 = .ok (.iload 5, 2) := dk_21 5 (dk_at dksX5_put_1 11 rfl rfl)
theorem dX5_put_36 : decode cX5_put 36 = .ok (.invokevirtual 175, 3) := dk_182 0 175 (dk_at dksX5_put_1 13 rfl rfl)
theorem dX5_put_39 : decode cX5_put 39 = .ok (.ireturn, 1) := dk_172 (dk_at dksX5_put_1 16 rfl rfl)
theorem dX5_put_40 : decode cX5_put 40 = .ok (.aload_n 0, 1) := dk_42 (dk_at dksX5_put_1 17 rfl rfl)
theorem dX5_put_41 : decode cX5_put 41 = .ok (.iload_n 1, 1) := dk_27 (dk_at dksX5_put_1 18 rfl rfl)
theorem dX5_put_42 : decode cX5_put 42 = .ok (.iload_n 3, 1) := dk_29 (dk_at dksX5_put_1 19 rfl rfl)
theorem dX5_put_43 : decode cX5_put 43 = .ok (.iload 4, 2) := dk_21 4 (dk_at dksX5_put_1 20 rfl rfl)
theorem dX5_put_45 : decode cX5_put 45 = .ok (.invokevirtual 361, 3) := dk_182 1 105 (dk_at dksX5_put_2 0 rfl rfl)
theorem dX5_put_48 : decode cX5_put 48 = .ok (.iconst 1, 1) := dk_4 (dk_at dksX5_put_2 3 rfl rfl)
theorem dX5_put_49 : decode cX5_put 49 = .ok (.ireturn, 1) := dk_172 (dk_at dksX5_put_2 4 rfl rfl)
abbrev cX5_lacks : ByteArray := prog_15_method_91_code
def yX5_lacks : MethodName := ⟨RX5, "lacks", "(III)I"⟩
def dkwX5_lacks_2 : List UInt8 := [172]
abbrev dktX5_lacks_2 : List UInt8 := dkwX5_lacks_2 ++ []
def dkwX5_lacks_1 : List UInt8 := [167, 0, 24, 29, 3, 42, 180, 0, 101, 27, 46, 4, 100, 184, 0, 119, 153, 0, 7, 3, 167, 0, 4, 5]
abbrev dktX5_lacks_1 : List UInt8 := dkwX5_lacks_1 ++ dktX5_lacks_2
def dkwX5_lacks_0 : List UInt8 := [42, 180, 0, 94, 27, 51, 154, 0, 7, 4, 167, 0, 38, 42, 180, 0, 98, 27, 46, 28, 159, 0, 7, 6]
abbrev dktX5_lacks_0 : List UInt8 := dkwX5_lacks_0 ++ dktX5_lacks_1
theorem dksX5_lacks_0 : cX5_lacks.data.toList.drop 0 = dktX5_lacks_0 := by decide +kernel
theorem dksX5_lacks_1 : cX5_lacks.data.toList.drop 24 = dktX5_lacks_1 := dk_seg dksX5_lacks_0 24 rfl rfl
theorem dksX5_lacks_2 : cX5_lacks.data.toList.drop 48 = dktX5_lacks_2 := dk_seg dksX5_lacks_1 24 rfl rfl
theorem dX5_lacks_0 : decode cX5_lacks 0 = .ok (.aload_n 0, 1) := dk_42 (dk_at dksX5_lacks_0 0 rfl rfl)
theorem dX5_lacks_1 : decode cX5_lacks 1 = .ok (.getfield 94, 3) := dk_180 0 94 (dk_at dksX5_lacks_0 1 rfl rfl)
theorem dX5_lacks_4 : decode cX5_lacks 4 = .ok (.iload_n 1, 1) := dk_27 (dk_at dksX5_lacks_0 4 rfl rfl)
theorem dX5_lacks_5 : decode cX5_lacks 5 = .ok (.baload, 1) := dk_51 (dk_at dksX5_lacks_0 5 rfl rfl)
theorem dX5_lacks_6 : decode cX5_lacks 6 = .ok (.ifCond .ne 7, 3) := dk_154 0 7 (dk_at dksX5_lacks_0 6 rfl rfl)
theorem dX5_lacks_9 : decode cX5_lacks 9 = .ok (.iconst 1, 1) := dk_4 (dk_at dksX5_lacks_0 9 rfl rfl)
theorem dX5_lacks_10 : decode cX5_lacks 10 = .ok (.goto 38, 3) := dk_167 0 38 (dk_at dksX5_lacks_0 10 rfl rfl)
theorem dX5_lacks_13 : decode cX5_lacks 13 = .ok (.aload_n 0, 1) := dk_42 (dk_at dksX5_lacks_0 13 rfl rfl)
theorem dX5_lacks_14 : decode cX5_lacks 14 = .ok (.getfield 98, 3) := dk_180 0 98 (dk_at dksX5_lacks_0 14 rfl rfl)
theorem dX5_lacks_17 : decode cX5_lacks 17 = .ok (.iload_n 1, 1) := dk_27 (dk_at dksX5_lacks_0 17 rfl rfl)
theorem dX5_lacks_18 : decode cX5_lacks 18 = .ok (.iaload, 1) := dk_46 (dk_at dksX5_lacks_0 18 rfl rfl)
theorem dX5_lacks_19 : decode cX5_lacks 19 = .ok (.iload_n 2, 1) := dk_28 (dk_at dksX5_lacks_0 19 rfl rfl)
theorem dX5_lacks_20 : decode cX5_lacks 20 = .ok (.if_icmp .eq 7, 3) := dk_159 0 7 (dk_at dksX5_lacks_0 20 rfl rfl)
theorem dX5_lacks_23 : decode cX5_lacks 23 = .ok (.iconst 3, 1) := dk_6 (dk_at dksX5_lacks_0 23 rfl rfl)
theorem dX5_lacks_24 : decode cX5_lacks 24 = .ok (.goto 24, 3) := dk_167 0 24 (dk_at dksX5_lacks_1 0 rfl rfl)
theorem dX5_lacks_27 : decode cX5_lacks 27 = .ok (.iload_n 3, 1) := dk_29 (dk_at dksX5_lacks_1 3 rfl rfl)
theorem dX5_lacks_28 : decode cX5_lacks 28 = .ok (.iconst 0, 1) := dk_3 (dk_at dksX5_lacks_1 4 rfl rfl)
theorem dX5_lacks_29 : decode cX5_lacks 29 = .ok (.aload_n 0, 1) := dk_42 (dk_at dksX5_lacks_1 5 rfl rfl)
theorem dX5_lacks_30 : decode cX5_lacks 30 = .ok (.getfield 101, 3) := dk_180 0 101 (dk_at dksX5_lacks_1 6 rfl rfl)
theorem dX5_lacks_33 : decode cX5_lacks 33 = .ok (.iload_n 1, 1) := dk_27 (dk_at dksX5_lacks_1 9 rfl rfl)
theorem dX5_lacks_34 : decode cX5_lacks 34 = .ok (.iaload, 1) := dk_46 (dk_at dksX5_lacks_1 10 rfl rfl)
theorem dX5_lacks_35 : decode cX5_lacks 35 = .ok (.iconst 1, 1) := dk_4 (dk_at dksX5_lacks_1 11 rfl rfl)
theorem dX5_lacks_36 : decode cX5_lacks 36 = .ok (.isub, 1) := dk_100 (dk_at dksX5_lacks_1 12 rfl rfl)
theorem dX5_lacks_37 : decode cX5_lacks 37 = .ok (.invokestatic 119, 3) := dk_184 0 119 (dk_at dksX5_lacks_1 13 rfl rfl)
theorem dX5_lacks_40 : decode cX5_lacks 40 = .ok (.ifCond .eq 7, 3) := dk_153 0 7 (dk_at dksX5_lacks_1 16 rfl rfl)
theorem dX5_lacks_43 : decode cX5_lacks 43 = .ok (.iconst 0, 1) := dk_3 (dk_at dksX5_lacks_1 19 rfl rfl)
theorem dX5_lacks_44 : decode cX5_lacks 44 = .ok (.goto 4, 3) := dk_167 0 4 (dk_at dksX5_lacks_1 20 rfl rfl)
theorem dX5_lacks_47 : decode cX5_lacks 47 = .ok (.iconst 2, 1) := dk_5 (dk_at dksX5_lacks_1 23 rfl rfl)
theorem dX5_lacks_48 : decode cX5_lacks 48 = .ok (.ireturn, 1) := dk_172 (dk_at dksX5_lacks_2 0 rfl rfl)
abbrev cX5_keep : ByteArray := prog_15_method_92_code
def yX5_keep : MethodName := ⟨RX5, "keep", "(III)V"⟩
def dkwX5_keep_1 : List UInt8 := [42, 180, 0, 98, 27, 46, 4, 160, 0, 8, 29, 147, 167, 0, 4, 29, 79, 177]
abbrev dktX5_keep_1 : List UInt8 := dkwX5_keep_1 ++ []
def dkwX5_keep_0 : List UInt8 := [42, 180, 0, 104, 16, 60, 27, 104, 28, 96, 42, 180, 0, 98, 27, 46, 154, 0, 8, 29, 145, 167, 0, 19]
abbrev dktX5_keep_0 : List UInt8 := dkwX5_keep_0 ++ dktX5_keep_1
theorem dksX5_keep_0 : cX5_keep.data.toList.drop 0 = dktX5_keep_0 := by decide +kernel
theorem dksX5_keep_1 : cX5_keep.data.toList.drop 24 = dktX5_keep_1 := dk_seg dksX5_keep_0 24 rfl rfl
theorem dX5_keep_0 : decode cX5_keep 0 = .ok (.aload_n 0, 1) := dk_42 (dk_at dksX5_keep_0 0 rfl rfl)
theorem dX5_keep_1 : decode cX5_keep 1 = .ok (.getfield 104, 3) := dk_180 0 104 (dk_at dksX5_keep_0 1 rfl rfl)
theorem dX5_keep_4 : decode cX5_keep 4 = .ok (.bipush 60, 2) := dk_16 60 (dk_at dksX5_keep_0 4 rfl rfl)
theorem dX5_keep_6 : decode cX5_keep 6 = .ok (.iload_n 1, 1) := dk_27 (dk_at dksX5_keep_0 6 rfl rfl)
theorem dX5_keep_7 : decode cX5_keep 7 = .ok (.imul, 1) := dk_104 (dk_at dksX5_keep_0 7 rfl rfl)
theorem dX5_keep_8 : decode cX5_keep 8 = .ok (.iload_n 2, 1) := dk_28 (dk_at dksX5_keep_0 8 rfl rfl)
theorem dX5_keep_9 : decode cX5_keep 9 = .ok (.iadd, 1) := dk_96 (dk_at dksX5_keep_0 9 rfl rfl)
theorem dX5_keep_10 : decode cX5_keep 10 = .ok (.aload_n 0, 1) := dk_42 (dk_at dksX5_keep_0 10 rfl rfl)
theorem dX5_keep_11 : decode cX5_keep 11 = .ok (.getfield 98, 3) := dk_180 0 98 (dk_at dksX5_keep_0 11 rfl rfl)
theorem dX5_keep_14 : decode cX5_keep 14 = .ok (.iload_n 1, 1) := dk_27 (dk_at dksX5_keep_0 14 rfl rfl)
theorem dX5_keep_15 : decode cX5_keep 15 = .ok (.iaload, 1) := dk_46 (dk_at dksX5_keep_0 15 rfl rfl)
theorem dX5_keep_16 : decode cX5_keep 16 = .ok (.ifCond .ne 8, 3) := dk_154 0 8 (dk_at dksX5_keep_0 16 rfl rfl)
theorem dX5_keep_19 : decode cX5_keep 19 = .ok (.iload_n 3, 1) := dk_29 (dk_at dksX5_keep_0 19 rfl rfl)
theorem dX5_keep_20 : decode cX5_keep 20 = .ok (.i2b, 1) := dk_145 (dk_at dksX5_keep_0 20 rfl rfl)
theorem dX5_keep_21 : decode cX5_keep 21 = .ok (.goto 19, 3) := dk_167 0 19 (dk_at dksX5_keep_0 21 rfl rfl)
theorem dX5_keep_24 : decode cX5_keep 24 = .ok (.aload_n 0, 1) := dk_42 (dk_at dksX5_keep_1 0 rfl rfl)
theorem dX5_keep_25 : decode cX5_keep 25 = .ok (.getfield 98, 3) := dk_180 0 98 (dk_at dksX5_keep_1 1 rfl rfl)
theorem dX5_keep_28 : decode cX5_keep 28 = .ok (.iload_n 1, 1) := dk_27 (dk_at dksX5_keep_1 4 rfl rfl)
theorem dX5_keep_29 : decode cX5_keep 29 = .ok (.iaload, 1) := dk_46 (dk_at dksX5_keep_1 5 rfl rfl)
theorem dX5_keep_30 : decode cX5_keep 30 = .ok (.iconst 1, 1) := dk_4 (dk_at dksX5_keep_1 6 rfl rfl)
theorem dX5_keep_31 : decode cX5_keep 31 = .ok (.if_icmp .ne 8, 3) := dk_160 0 8 (dk_at dksX5_keep_1 7 rfl rfl)
theorem dX5_keep_34 : decode cX5_keep 34 = .ok (.iload_n 3, 1) := dk_29 (dk_at dksX5_keep_1 10 rfl rfl)
theorem dX5_keep_35 : decode cX5_keep 35 = .ok (.i2s, 1) := dk_147 (dk_at dksX5_keep_1 11 rfl rfl)
theorem dX5_keep_36 : decode cX5_keep 36 = .ok (.goto 4, 3) := dk_167 0 4 (dk_at dksX5_keep_1 12 rfl rfl)
theorem dX5_keep_39 : decode cX5_keep 39 = .ok (.iload_n 3, 1) := dk_29 (dk_at dksX5_keep_1 15 rfl rfl)
theorem dX5_keep_40 : decode cX5_keep 40 = .ok (.iastore, 1) := dk_79 (dk_at dksX5_keep_1 16 rfl rfl)
theorem dX5_keep_41 : decode cX5_keep 41 = .ok (.return_, 1) := dk_177 (dk_at dksX5_keep_1 17 rfl rfl)
abbrev cX5_get : ByteArray := prog_15_method_94_code
def yX5_get : MethodName := ⟨RX5, "get", "(III)I"⟩
def dkwX5_get_2 : List UInt8 := [16, 60, 27, 104, 29, 96, 46, 172]
abbrev dktX5_get_2 : List UInt8 := dkwX5_get_2 ++ []
def dkwX5_get_1 : List UInt8 := [182, 1, 102, 54, 4, 21, 4, 158, 0, 13, 42, 21, 4, 181, 1, 99, 19, 1, 109, 172, 42, 180, 0, 104]
abbrev dktX5_get_1 : List UInt8 := dkwX5_get_1 ++ dktX5_get_2
def dkwX5_get_0 : List UInt8 := [27, 184, 0, 172, 153, 0, 12, 28, 3, 5, 184, 0, 119, 154, 0, 7, 19, 1, 109, 172, 42, 27, 28, 29]
abbrev dktX5_get_0 : List UInt8 := dkwX5_get_0 ++ dktX5_get_1
theorem dksX5_get_0 : cX5_get.data.toList.drop 0 = dktX5_get_0 := by decide +kernel
theorem dksX5_get_1 : cX5_get.data.toList.drop 24 = dktX5_get_1 := dk_seg dksX5_get_0 24 rfl rfl
theorem dksX5_get_2 : cX5_get.data.toList.drop 48 = dktX5_get_2 := dk_seg dksX5_get_1 24 rfl rfl
theorem dX5_get_0 : decode cX5_get 0 = .ok (.iload_n 1, 1) := dk_27 (dk_at dksX5_get_0 0 rfl rfl)
theorem dX5_get_1 : decode cX5_get 1 = .ok (.invokestatic 172, 3) := dk_184 0 172 (dk_at dksX5_get_0 1 rfl rfl)
theorem dX5_get_4 : decode cX5_get 4 = .ok (.ifCond .eq 12, 3) := dk_153 0 12 (dk_at dksX5_get_0 4 rfl rfl)
theorem dX5_get_7 : decode cX5_get 7 = .ok (.iload_n 2, 1) := dk_28 (dk_at dksX5_get_0 7 rfl rfl)
theorem dX5_get_8 : decode cX5_get 8 = .ok (.iconst 0, 1) := dk_3 (dk_at dksX5_get_0 8 rfl rfl)
theorem dX5_get_9 : decode cX5_get 9 = .ok (.iconst 2, 1) := dk_5 (dk_at dksX5_get_0 9 rfl rfl)
theorem dX5_get_10 : decode cX5_get 10 = .ok (.invokestatic 119, 3) := dk_184 0 119 (dk_at dksX5_get_0 10 rfl rfl)
theorem dX5_get_13 : decode cX5_get 13 = .ok (.ifCond .ne 7, 3) := dk_154 0 7 (dk_at dksX5_get_0 13 rfl rfl)
theorem dX5_get_16 : decode cX5_get 16 = .ok (.ldc_w 365, 3) := dk_19 1 109 (dk_at dksX5_get_0 16 rfl rfl)
theorem dX5_get_19 : decode cX5_get 19 = .ok (.ireturn, 1) := dk_172 (dk_at dksX5_get_0 19 rfl rfl)
theorem dX5_get_20 : decode cX5_get 20 = .ok (.aload_n 0, 1) := dk_42 (dk_at dksX5_get_0 20 rfl rfl)
theorem dX5_get_21 : decode cX5_get 21 = .ok (.iload_n 1, 1) := dk_27 (dk_at dksX5_get_0 21 rfl rfl)
theorem dX5_get_22 : decode cX5_get 22 = .ok (.iload_n 2, 1) := dk_28 (dk_at dksX5_get_0 22 rfl rfl)
theorem dX5_get_23 : decode cX5_get 23 = .ok (.iload_n 3, 1) := dk_29 (dk_at dksX5_get_0 23 rfl rfl)
theorem dX5_get_24 : decode cX5_get 24 = .ok (.invokevirtual 358, 3) := dk_182 1 102 (dk_at dksX5_get_1 0 rfl rfl)
theorem dX5_get_27 : decode cX5_get 27 = .ok (.istore 4, 2) := dk_54 4 (dk_at dksX5_get_1 3 rfl rfl)
theorem dX5_get_29 : decode cX5_get 29 = .ok (.iload 4, 2) := dk_21 4 (dk_at dksX5_get_1 5 rfl rfl)
theorem dX5_get_31 : decode cX5_get 31 = .ok (.ifCond .le 13, 3) := dk_158 0 13 (dk_at dksX5_get_1 7 rfl rfl)
theorem dX5_get_34 : decode cX5_get 34 = .ok (.aload_n 0, 1) := dk_42 (dk_at dksX5_get_1 10 rfl rfl)
theorem dX5_get_35 : decode cX5_get 35 = .ok (.iload 4, 2) := dk_21 4 (dk_at dksX5_get_1 11 rfl rfl)
theorem dX5_get_37 : decode cX5_get 37 = .ok (.putfield 355, 3) := dk_181 1 99 (dk_at dksX5_get_1 13 rfl rfl)
theorem dX5_get_40 : decode cX5_get 40 = .ok (.ldc_w 365, 3) := dk_19 1 109 (dk_at dksX5_get_1 16 rfl rfl)
theorem dX5_get_43 : decode cX5_get 43 = .ok (.ireturn, 1) := dk_172 (dk_at dksX5_get_1 19 rfl rfl)
theorem dX5_get_44 : decode cX5_get 44 = .ok (.aload_n 0, 1) := dk_42 (dk_at dksX5_get_1 20 rfl rfl)
theorem dX5_get_45 : decode cX5_get 45 = .ok (.getfield 104, 3) := dk_180 0 104 (dk_at dksX5_get_1 21 rfl rfl)
theorem dX5_get_48 : decode cX5_get 48 = .ok (.bipush 60, 2) := dk_16 60 (dk_at dksX5_get_2 0 rfl rfl)
theorem dX5_get_50 : decode cX5_get 50 = .ok (.iload_n 1, 1) := dk_27 (dk_at dksX5_get_2 2 rfl rfl)
theorem dX5_get_51 : decode cX5_get 51 = .ok (.imul, 1) := dk_104 (dk_at dksX5_get_2 3 rfl rfl)
theorem dX5_get_52 : decode cX5_get 52 = .ok (.iload_n 3, 1) := dk_29 (dk_at dksX5_get_2 4 rfl rfl)
theorem dX5_get_53 : decode cX5_get 53 = .ok (.iadd, 1) := dk_96 (dk_at dksX5_get_2 5 rfl rfl)
theorem dX5_get_54 : decode cX5_get 54 = .ok (.iaload, 1) := dk_46 (dk_at dksX5_get_2 6 rfl rfl)
theorem dX5_get_55 : decode cX5_get 55 = .ok (.ireturn, 1) := dk_172 (dk_at dksX5_get_2 7 rfl rfl)
abbrev cX5_copy : ByteArray := prog_15_method_95_code
def yX5_copy : MethodName := ⟨RX5, "copy", "(IIIII)I"⟩
def dkwX5_copy_8 : List UInt8 := [167, 255, 224, 4, 172]
abbrev dktX5_copy_8 : List UInt8 := dkwX5_copy_8 ++ []
def dkwX5_copy_7 : List UInt8 := [180, 0, 104, 16, 60, 29, 104, 21, 4, 96, 21, 6, 96, 42, 180, 0, 107, 21, 6, 46, 79, 132, 6, 1]
abbrev dktX5_copy_7 : List UInt8 := dkwX5_copy_7 ++ dktX5_copy_8
def dkwX5_copy_6 : List UInt8 := [96, 21, 6, 96, 46, 79, 132, 6, 1, 167, 255, 225, 3, 54, 6, 21, 6, 21, 5, 162, 0, 31, 42]
abbrev dktX5_copy_6 : List UInt8 := dkwX5_copy_6 ++ dktX5_copy_7
def dkwX5_copy_5 : List UInt8 := [54, 6, 21, 6, 21, 5, 162, 0, 30, 42, 180, 0, 107, 21, 6, 42, 180, 0, 104, 16, 60, 27, 104, 28]
abbrev dktX5_copy_5 : List UInt8 := dkwX5_copy_5 ++ dktX5_copy_6
def dkwX5_copy_4 : List UInt8 := [133, 21, 5, 133, 97, 42, 180, 0, 101, 29, 46, 133, 148, 158, 0, 9, 42, 5, 182, 0, 175, 172, 3]
abbrev dktX5_copy_4 : List UInt8 := dkwX5_copy_4 ++ dktX5_copy_5
def dkwX5_copy_3 : List UInt8 := [21, 5, 155, 0, 38, 28, 133, 21, 5, 133, 97, 42, 180, 0, 101, 27, 46, 133, 148, 157, 0, 21, 21, 4]
abbrev dktX5_copy_3 : List UInt8 := dkwX5_copy_3 ++ dktX5_copy_4
def dkwX5_copy_2 : List UInt8 := [42, 180, 0, 98, 29, 46, 159, 0, 9, 42, 7, 182, 0, 175, 172, 28, 155, 0, 48, 21, 4, 155, 0, 43]
abbrev dktX5_copy_2 : List UInt8 := dkwX5_copy_2 ++ dktX5_copy_3
def dkwX5_copy_1 : List UInt8 := [153, 0, 12, 42, 180, 0, 94, 29, 51, 154, 0, 9, 42, 4, 182, 0, 175, 172, 42, 180, 0, 98, 27, 46]
abbrev dktX5_copy_1 : List UInt8 := dkwX5_copy_1 ++ dktX5_copy_2
def dkwX5_copy_0 : List UInt8 := [27, 184, 0, 172, 153, 0, 10, 29, 184, 0, 172, 154, 0, 6, 16, 254, 172, 42, 180, 0, 94, 27, 51]
abbrev dktX5_copy_0 : List UInt8 := dkwX5_copy_0 ++ dktX5_copy_1
theorem dksX5_copy_0 : cX5_copy.data.toList.drop 0 = dktX5_copy_0 := by decide +kernel
theorem dksX5_copy_1 : cX5_copy.data.toList.drop 23 = dktX5_copy_1 := dk_seg dksX5_copy_0 23 rfl rfl
theorem dksX5_copy_2 : cX5_copy.data.toList.drop 47 = dktX5_copy_2 := dk_seg dksX5_copy_1 24 rfl rfl
theorem dksX5_copy_3 : cX5_copy.data.toList.drop 71 = dktX5_copy_3 := dk_seg dksX5_copy_2 24 rfl rfl
theorem dksX5_copy_4 : cX5_copy.data.toList.drop 95 = dktX5_copy_4 := dk_seg dksX5_copy_3 24 rfl rfl
theorem dksX5_copy_5 : cX5_copy.data.toList.drop 118 = dktX5_copy_5 := dk_seg dksX5_copy_4 23 rfl rfl
theorem dksX5_copy_6 : cX5_copy.data.toList.drop 142 = dktX5_copy_6 := dk_seg dksX5_copy_5 24 rfl rfl
theorem dksX5_copy_7 : cX5_copy.data.toList.drop 165 = dktX5_copy_7 := dk_seg dksX5_copy_6 23 rfl rfl
theorem dksX5_copy_8 : cX5_copy.data.toList.drop 189 = dktX5_copy_8 := dk_seg dksX5_copy_7 24 rfl rfl
theorem dX5_copy_0 : decode cX5_copy 0 = .ok (.iload_n 1, 1) := dk_27 (dk_at dksX5_copy_0 0 rfl rfl)
theorem dX5_copy_1 : decode cX5_copy 1 = .ok (.invokestatic 172, 3) := dk_184 0 172 (dk_at dksX5_copy_0 1 rfl rfl)
theorem dX5_copy_4 : decode cX5_copy 4 = .ok (.ifCond .eq 10, 3) := dk_153 0 10 (dk_at dksX5_copy_0 4 rfl rfl)
theorem dX5_copy_7 : decode cX5_copy 7 = .ok (.iload_n 3, 1) := dk_29 (dk_at dksX5_copy_0 7 rfl rfl)
theorem dX5_copy_8 : decode cX5_copy 8 = .ok (.invokestatic 172, 3) := dk_184 0 172 (dk_at dksX5_copy_0 8 rfl rfl)
theorem dX5_copy_11 : decode cX5_copy 11 = .ok (.ifCond .ne 6, 3) := dk_154 0 6 (dk_at dksX5_copy_0 11 rfl rfl)
theorem dX5_copy_14 : decode cX5_copy 14 = .ok (.bipush (-2), 2) := dk_16 254 (dk_at dksX5_copy_0 14 rfl rfl)
theorem dX5_copy_16 : decode cX5_copy 16 = .ok (.ireturn, 1) := dk_172 (dk_at dksX5_copy_0 16 rfl rfl)
theorem dX5_copy_17 : decode cX5_copy 17 = .ok (.aload_n 0, 1) := dk_42 (dk_at dksX5_copy_0 17 rfl rfl)
theorem dX5_copy_18 : decode cX5_copy 18 = .ok (.getfield 94, 3) := dk_180 0 94 (dk_at dksX5_copy_0 18 rfl rfl)
theorem dX5_copy_21 : decode cX5_copy 21 = .ok (.iload_n 1, 1) := dk_27 (dk_at dksX5_copy_0 21 rfl rfl)
theorem dX5_copy_22 : decode cX5_copy 22 = .ok (.baload, 1) := dk_51 (dk_at dksX5_copy_0 22 rfl rfl)
theorem dX5_copy_23 : decode cX5_copy 23 = .ok (.ifCond .eq 12, 3) := dk_153 0 12 (dk_at dksX5_copy_1 0 rfl rfl)
theorem dX5_copy_26 : decode cX5_copy 26 = .ok (.aload_n 0, 1) := dk_42 (dk_at dksX5_copy_1 3 rfl rfl)
theorem dX5_copy_27 : decode cX5_copy 27 = .ok (.getfield 94, 3) := dk_180 0 94 (dk_at dksX5_copy_1 4 rfl rfl)
theorem dX5_copy_30 : decode cX5_copy 30 = .ok (.iload_n 3, 1) := dk_29 (dk_at dksX5_copy_1 7 rfl rfl)
theorem dX5_copy_31 : decode cX5_copy 31 = .ok (.baload, 1) := dk_51 (dk_at dksX5_copy_1 8 rfl rfl)
theorem dX5_copy_32 : decode cX5_copy 32 = .ok (.ifCond .ne 9, 3) := dk_154 0 9 (dk_at dksX5_copy_1 9 rfl rfl)
theorem dX5_copy_35 : decode cX5_copy 35 = .ok (.aload_n 0, 1) := dk_42 (dk_at dksX5_copy_1 12 rfl rfl)
theorem dX5_copy_36 : decode cX5_copy 36 = .ok (.iconst 1, 1) := dk_4 (dk_at dksX5_copy_1 13 rfl rfl)
theorem dX5_copy_37 : decode cX5_copy 37 = .ok (.invokevirtual 175, 3) := dk_182 0 175 (dk_at dksX5_copy_1 14 rfl rfl)
theorem dX5_copy_40 : decode cX5_copy 40 = .ok (.ireturn, 1) := dk_172 (dk_at dksX5_copy_1 17 rfl rfl)
theorem dX5_copy_41 : decode cX5_copy 41 = .ok (.aload_n 0, 1) := dk_42 (dk_at dksX5_copy_1 18 rfl rfl)
theorem dX5_copy_42 : decode cX5_copy 42 = .ok (.getfield 98, 3) := dk_180 0 98 (dk_at dksX5_copy_1 19 rfl rfl)
theorem dX5_copy_45 : decode cX5_copy 45 = .ok (.iload_n 1, 1) := dk_27 (dk_at dksX5_copy_1 22 rfl rfl)
theorem dX5_copy_46 : decode cX5_copy 46 = .ok (.iaload, 1) := dk_46 (dk_at dksX5_copy_1 23 rfl rfl)
theorem dX5_copy_47 : decode cX5_copy 47 = .ok (.aload_n 0, 1) := dk_42 (dk_at dksX5_copy_2 0 rfl rfl)
theorem dX5_copy_48 : decode cX5_copy 48 = .ok (.getfield 98, 3) := dk_180 0 98 (dk_at dksX5_copy_2 1 rfl rfl)
theorem dX5_copy_51 : decode cX5_copy 51 = .ok (.iload_n 3, 1) := dk_29 (dk_at dksX5_copy_2 4 rfl rfl)
theorem dX5_copy_52 : decode cX5_copy 52 = .ok (.iaload, 1) := dk_46 (dk_at dksX5_copy_2 5 rfl rfl)
theorem dX5_copy_53 : decode cX5_copy 53 = .ok (.if_icmp .eq 9, 3) := dk_159 0 9 (dk_at dksX5_copy_2 6 rfl rfl)
theorem dX5_copy_56 : decode cX5_copy 56 = .ok (.aload_n 0, 1) := dk_42 (dk_at dksX5_copy_2 9 rfl rfl)
theorem dX5_copy_57 : decode cX5_copy 57 = .ok (.iconst 4, 1) := dk_7 (dk_at dksX5_copy_2 10 rfl rfl)
theorem dX5_copy_58 : decode cX5_copy 58 = .ok (.invokevirtual 175, 3) := dk_182 0 175 (dk_at dksX5_copy_2 11 rfl rfl)
theorem dX5_copy_61 : decode cX5_copy 61 = .ok (.ireturn, 1) := dk_172 (dk_at dksX5_copy_2 14 rfl rfl)
theorem dX5_copy_62 : decode cX5_copy 62 = .ok (.iload_n 2, 1) := dk_28 (dk_at dksX5_copy_2 15 rfl rfl)
theorem dX5_copy_63 : decode cX5_copy 63 = .ok (.ifCond .lt 48, 3) := dk_155 0 48 (dk_at dksX5_copy_2 16 rfl rfl)
theorem dX5_copy_66 : decode cX5_copy 66 = .ok (.iload 4, 2) := dk_21 4 (dk_at dksX5_copy_2 19 rfl rfl)
theorem dX5_copy_68 : decode cX5_copy 68 = .ok (.ifCond .lt 43, 3) := dk_155 0 43 (dk_at dksX5_copy_2 21 rfl rfl)
theorem dX5_copy_71 : decode cX5_copy 71 = .ok (.iload 5, 2) := dk_21 5 (dk_at dksX5_copy_3 0 rfl rfl)
theorem dX5_copy_73 : decode cX5_copy 73 = .ok (.ifCond .lt 38, 3) := dk_155 0 38 (dk_at dksX5_copy_3 2 rfl rfl)
theorem dX5_copy_76 : decode cX5_copy 76 = .ok (.iload_n 2, 1) := dk_28 (dk_at dksX5_copy_3 5 rfl rfl)
theorem dX5_copy_77 : decode cX5_copy 77 = .ok (.i2l, 1) := dk_133 (dk_at dksX5_copy_3 6 rfl rfl)
theorem dX5_copy_78 : decode cX5_copy 78 = .ok (.iload 5, 2) := dk_21 5 (dk_at dksX5_copy_3 7 rfl rfl)
theorem dX5_copy_80 : decode cX5_copy 80 = .ok (.i2l, 1) := dk_133 (dk_at dksX5_copy_3 9 rfl rfl)
theorem dX5_copy_81 : decode cX5_copy 81 = .ok (.ladd, 1) := dk_97 (dk_at dksX5_copy_3 10 rfl rfl)
theorem dX5_copy_82 : decode cX5_copy 82 = .ok (.aload_n 0, 1) := dk_42 (dk_at dksX5_copy_3 11 rfl rfl)
theorem dX5_copy_83 : decode cX5_copy 83 = .ok (.getfield 101, 3) := dk_180 0 101 (dk_at dksX5_copy_3 12 rfl rfl)
theorem dX5_copy_86 : decode cX5_copy 86 = .ok (.iload_n 1, 1) := dk_27 (dk_at dksX5_copy_3 15 rfl rfl)
theorem dX5_copy_87 : decode cX5_copy 87 = .ok (.iaload, 1) := dk_46 (dk_at dksX5_copy_3 16 rfl rfl)
theorem dX5_copy_88 : decode cX5_copy 88 = .ok (.i2l, 1) := dk_133 (dk_at dksX5_copy_3 17 rfl rfl)
theorem dX5_copy_89 : decode cX5_copy 89 = .ok (.lcmp, 1) := dk_148 (dk_at dksX5_copy_3 18 rfl rfl)
theorem dX5_copy_90 : decode cX5_copy 90 = .ok (.ifCond .gt 21, 3) := dk_157 0 21 (dk_at dksX5_copy_3 19 rfl rfl)
theorem dX5_copy_93 : decode cX5_copy 93 = .ok (.iload 4, 2) := dk_21 4 (dk_at dksX5_copy_3 22 rfl rfl)
theorem dX5_copy_95 : decode cX5_copy 95 = .ok (.i2l, 1) := dk_133 (dk_at dksX5_copy_4 0 rfl rfl)
theorem dX5_copy_96 : decode cX5_copy 96 = .ok (.iload 5, 2) := dk_21 5 (dk_at dksX5_copy_4 1 rfl rfl)
theorem dX5_copy_98 : decode cX5_copy 98 = .ok (.i2l, 1) := dk_133 (dk_at dksX5_copy_4 3 rfl rfl)
theorem dX5_copy_99 : decode cX5_copy 99 = .ok (.ladd, 1) := dk_97 (dk_at dksX5_copy_4 4 rfl rfl)
theorem dX5_copy_100 : decode cX5_copy 100 = .ok (.aload_n 0, 1) := dk_42 (dk_at dksX5_copy_4 5 rfl rfl)
theorem dX5_copy_101 : decode cX5_copy 101 = .ok (.getfield 101, 3) := dk_180 0 101 (dk_at dksX5_copy_4 6 rfl rfl)
theorem dX5_copy_104 : decode cX5_copy 104 = .ok (.iload_n 3, 1) := dk_29 (dk_at dksX5_copy_4 9 rfl rfl)
theorem dX5_copy_105 : decode cX5_copy 105 = .ok (.iaload, 1) := dk_46 (dk_at dksX5_copy_4 10 rfl rfl)
theorem dX5_copy_106 : decode cX5_copy 106 = .ok (.i2l, 1) := dk_133 (dk_at dksX5_copy_4 11 rfl rfl)
theorem dX5_copy_107 : decode cX5_copy 107 = .ok (.lcmp, 1) := dk_148 (dk_at dksX5_copy_4 12 rfl rfl)
theorem dX5_copy_108 : decode cX5_copy 108 = .ok (.ifCond .le 9, 3) := dk_158 0 9 (dk_at dksX5_copy_4 13 rfl rfl)
theorem dX5_copy_111 : decode cX5_copy 111 = .ok (.aload_n 0, 1) := dk_42 (dk_at dksX5_copy_4 16 rfl rfl)
theorem dX5_copy_112 : decode cX5_copy 112 = .ok (.iconst 2, 1) := dk_5 (dk_at dksX5_copy_4 17 rfl rfl)
theorem dX5_copy_113 : decode cX5_copy 113 = .ok (.invokevirtual 175, 3) := dk_182 0 175 (dk_at dksX5_copy_4 18 rfl rfl)
theorem dX5_copy_116 : decode cX5_copy 116 = .ok (.ireturn, 1) := dk_172 (dk_at dksX5_copy_4 21 rfl rfl)
theorem dX5_copy_117 : decode cX5_copy 117 = .ok (.iconst 0, 1) := dk_3 (dk_at dksX5_copy_4 22 rfl rfl)
theorem dX5_copy_118 : decode cX5_copy 118 = .ok (.istore 6, 2) := dk_54 6 (dk_at dksX5_copy_5 0 rfl rfl)
theorem dX5_copy_120 : decode cX5_copy 120 = .ok (.iload 6, 2) := dk_21 6 (dk_at dksX5_copy_5 2 rfl rfl)
theorem dX5_copy_122 : decode cX5_copy 122 = .ok (.iload 5, 2) := dk_21 5 (dk_at dksX5_copy_5 4 rfl rfl)
theorem dX5_copy_124 : decode cX5_copy 124 = .ok (.if_icmp .ge 30, 3) := dk_162 0 30 (dk_at dksX5_copy_5 6 rfl rfl)
theorem dX5_copy_127 : decode cX5_copy 127 = .ok (.aload_n 0, 1) := dk_42 (dk_at dksX5_copy_5 9 rfl rfl)
theorem dX5_copy_128 : decode cX5_copy 128 = .ok (.getfield 107, 3) := dk_180 0 107 (dk_at dksX5_copy_5 10 rfl rfl)
theorem dX5_copy_131 : decode cX5_copy 131 = .ok (.iload 6, 2) := dk_21 6 (dk_at dksX5_copy_5 13 rfl rfl)
theorem dX5_copy_133 : decode cX5_copy 133 = .ok (.aload_n 0, 1) := dk_42 (dk_at dksX5_copy_5 15 rfl rfl)
theorem dX5_copy_134 : decode cX5_copy 134 = .ok (.getfield 104, 3) := dk_180 0 104 (dk_at dksX5_copy_5 16 rfl rfl)
theorem dX5_copy_137 : decode cX5_copy 137 = .ok (.bipush 60, 2) := dk_16 60 (dk_at dksX5_copy_5 19 rfl rfl)
theorem dX5_copy_139 : decode cX5_copy 139 = .ok (.iload_n 1, 1) := dk_27 (dk_at dksX5_copy_5 21 rfl rfl)
theorem dX5_copy_140 : decode cX5_copy 140 = .ok (.imul, 1) := dk_104 (dk_at dksX5_copy_5 22 rfl rfl)
theorem dX5_copy_141 : decode cX5_copy 141 = .ok (.iload_n 2, 1) := dk_28 (dk_at dksX5_copy_5 23 rfl rfl)
theorem dX5_copy_142 : decode cX5_copy 142 = .ok (.iadd, 1) := dk_96 (dk_at dksX5_copy_6 0 rfl rfl)
theorem dX5_copy_143 : decode cX5_copy 143 = .ok (.iload 6, 2) := dk_21 6 (dk_at dksX5_copy_6 1 rfl rfl)
theorem dX5_copy_145 : decode cX5_copy 145 = .ok (.iadd, 1) := dk_96 (dk_at dksX5_copy_6 3 rfl rfl)
theorem dX5_copy_146 : decode cX5_copy 146 = .ok (.iaload, 1) := dk_46 (dk_at dksX5_copy_6 4 rfl rfl)
theorem dX5_copy_147 : decode cX5_copy 147 = .ok (.iastore, 1) := dk_79 (dk_at dksX5_copy_6 5 rfl rfl)
theorem dX5_copy_148 : decode cX5_copy 148 = .ok (.iinc 6 1, 3) := dk_132 6 1 (dk_at dksX5_copy_6 6 rfl rfl)
theorem dX5_copy_151 : decode cX5_copy 151 = .ok (.goto (-31), 3) := dk_167 255 225 (dk_at dksX5_copy_6 9 rfl rfl)
theorem dX5_copy_154 : decode cX5_copy 154 = .ok (.iconst 0, 1) := dk_3 (dk_at dksX5_copy_6 12 rfl rfl)
theorem dX5_copy_155 : decode cX5_copy 155 = .ok (.istore 6, 2) := dk_54 6 (dk_at dksX5_copy_6 13 rfl rfl)
theorem dX5_copy_157 : decode cX5_copy 157 = .ok (.iload 6, 2) := dk_21 6 (dk_at dksX5_copy_6 15 rfl rfl)
theorem dX5_copy_159 : decode cX5_copy 159 = .ok (.iload 5, 2) := dk_21 5 (dk_at dksX5_copy_6 17 rfl rfl)
theorem dX5_copy_161 : decode cX5_copy 161 = .ok (.if_icmp .ge 31, 3) := dk_162 0 31 (dk_at dksX5_copy_6 19 rfl rfl)
theorem dX5_copy_164 : decode cX5_copy 164 = .ok (.aload_n 0, 1) := dk_42 (dk_at dksX5_copy_6 22 rfl rfl)
theorem dX5_copy_165 : decode cX5_copy 165 = .ok (.getfield 104, 3) := dk_180 0 104 (dk_at dksX5_copy_7 0 rfl rfl)
theorem dX5_copy_168 : decode cX5_copy 168 = .ok (.bipush 60, 2) := dk_16 60 (dk_at dksX5_copy_7 3 rfl rfl)
theorem dX5_copy_170 : decode cX5_copy 170 = .ok (.iload_n 3, 1) := dk_29 (dk_at dksX5_copy_7 5 rfl rfl)
theorem dX5_copy_171 : decode cX5_copy 171 = .ok (.imul, 1) := dk_104 (dk_at dksX5_copy_7 6 rfl rfl)
theorem dX5_copy_172 : decode cX5_copy 172 = .ok (.iload 4, 2) := dk_21 4 (dk_at dksX5_copy_7 7 rfl rfl)
theorem dX5_copy_174 : decode cX5_copy 174 = .ok (.iadd, 1) := dk_96 (dk_at dksX5_copy_7 9 rfl rfl)
theorem dX5_copy_175 : decode cX5_copy 175 = .ok (.iload 6, 2) := dk_21 6 (dk_at dksX5_copy_7 10 rfl rfl)
theorem dX5_copy_177 : decode cX5_copy 177 = .ok (.iadd, 1) := dk_96 (dk_at dksX5_copy_7 12 rfl rfl)
theorem dX5_copy_178 : decode cX5_copy 178 = .ok (.aload_n 0, 1) := dk_42 (dk_at dksX5_copy_7 13 rfl rfl)
theorem dX5_copy_179 : decode cX5_copy 179 = .ok (.getfield 107, 3) := dk_180 0 107 (dk_at dksX5_copy_7 14 rfl rfl)
theorem dX5_copy_182 : decode cX5_copy 182 = .ok (.iload 6, 2) := dk_21 6 (dk_at dksX5_copy_7 17 rfl rfl)
theorem dX5_copy_184 : decode cX5_copy 184 = .ok (.iaload, 1) := dk_46 (dk_at dksX5_copy_7 19 rfl rfl)
theorem dX5_copy_185 : decode cX5_copy 185 = .ok (.iastore, 1) := dk_79 (dk_at dksX5_copy_7 20 rfl rfl)
theorem dX5_copy_186 : decode cX5_copy 186 = .ok (.iinc 6 1, 3) := dk_132 6 1 (dk_at dksX5_copy_7 21 rfl rfl)
theorem dX5_copy_189 : decode cX5_copy 189 = .ok (.goto (-32), 3) := dk_167 255 224 (dk_at dksX5_copy_8 0 rfl rfl)
theorem dX5_copy_192 : decode cX5_copy 192 = .ok (.iconst 1, 1) := dk_4 (dk_at dksX5_copy_8 3 rfl rfl)
theorem dX5_copy_193 : decode cX5_copy 193 = .ok (.ireturn, 1) := dk_172 (dk_at dksX5_copy_8 4 rfl rfl)
abbrev cX5_write : ByteArray := prog_15_method_96_code
def yX5_write : MethodName := ⟨RX5, "write", "(II)I"⟩
def dkwX5_write_3 : List UInt8 := [182, 1, 105, 132, 3, 1, 167, 255, 220, 29, 172]
abbrev dktX5_write_3 : List UInt8 := dkwX5_write_3 ++ []
def dkwX5_write_2 : List UInt8 := [162, 0, 32, 29, 16, 24, 162, 0, 26, 42, 28, 29, 42, 180, 0, 70, 16, 6, 29, 104, 27, 96, 46]
abbrev dktX5_write_2 : List UInt8 := dkwX5_write_2 ++ dktX5_write_3
def dkwX5_write_1 : List UInt8 := [154, 0, 9, 42, 4, 182, 0, 175, 172, 42, 182, 0, 253, 3, 62, 29, 42, 180, 0, 101, 28, 46]
abbrev dktX5_write_1 : List UInt8 := dkwX5_write_1 ++ dktX5_write_2
def dkwX5_write_0 : List UInt8 := [27, 184, 0, 157, 153, 0, 10, 28, 184, 0, 172, 154, 0, 6, 16, 254, 172, 42, 180, 0, 94, 28, 51]
abbrev dktX5_write_0 : List UInt8 := dkwX5_write_0 ++ dktX5_write_1
theorem dksX5_write_0 : cX5_write.data.toList.drop 0 = dktX5_write_0 := by decide +kernel
theorem dksX5_write_1 : cX5_write.data.toList.drop 23 = dktX5_write_1 := dk_seg dksX5_write_0 23 rfl rfl
theorem dksX5_write_2 : cX5_write.data.toList.drop 45 = dktX5_write_2 := dk_seg dksX5_write_1 22 rfl rfl
theorem dksX5_write_3 : cX5_write.data.toList.drop 68 = dktX5_write_3 := dk_seg dksX5_write_2 23 rfl rfl
theorem dX5_write_0 : decode cX5_write 0 = .ok (.iload_n 1, 1) := dk_27 (dk_at dksX5_write_0 0 rfl rfl)
theorem dX5_write_1 : decode cX5_write 1 = .ok (.invokestatic 157, 3) := dk_184 0 157 (dk_at dksX5_write_0 1 rfl rfl)
theorem dX5_write_4 : decode cX5_write 4 = .ok (.ifCond .eq 10, 3) := dk_153 0 10 (dk_at dksX5_write_0 4 rfl rfl)
theorem dX5_write_7 : decode cX5_write 7 = .ok (.iload_n 2, 1) := dk_28 (dk_at dksX5_write_0 7 rfl rfl)
theorem dX5_write_8 : decode cX5_write 8 = .ok (.invokestatic 172, 3) := dk_184 0 172 (dk_at dksX5_write_0 8 rfl rfl)
theorem dX5_write_11 : decode cX5_write 11 = .ok (.ifCond .ne 6, 3) := dk_154 0 6 (dk_at dksX5_write_0 11 rfl rfl)
theorem dX5_write_14 : decode cX5_write 14 = .ok (.bipush (-2), 2) := dk_16 254 (dk_at dksX5_write_0 14 rfl rfl)
theorem dX5_write_16 : decode cX5_write 16 = .ok (.ireturn, 1) := dk_172 (dk_at dksX5_write_0 16 rfl rfl)
theorem dX5_write_17 : decode cX5_write 17 = .ok (.aload_n 0, 1) := dk_42 (dk_at dksX5_write_0 17 rfl rfl)
theorem dX5_write_18 : decode cX5_write 18 = .ok (.getfield 94, 3) := dk_180 0 94 (dk_at dksX5_write_0 18 rfl rfl)
theorem dX5_write_21 : decode cX5_write 21 = .ok (.iload_n 2, 1) := dk_28 (dk_at dksX5_write_0 21 rfl rfl)
theorem dX5_write_22 : decode cX5_write 22 = .ok (.baload, 1) := dk_51 (dk_at dksX5_write_0 22 rfl rfl)
theorem dX5_write_23 : decode cX5_write 23 = .ok (.ifCond .ne 9, 3) := dk_154 0 9 (dk_at dksX5_write_1 0 rfl rfl)
theorem dX5_write_26 : decode cX5_write 26 = .ok (.aload_n 0, 1) := dk_42 (dk_at dksX5_write_1 3 rfl rfl)
theorem dX5_write_27 : decode cX5_write 27 = .ok (.iconst 1, 1) := dk_4 (dk_at dksX5_write_1 4 rfl rfl)
theorem dX5_write_28 : decode cX5_write 28 = .ok (.invokevirtual 175, 3) := dk_182 0 175 (dk_at dksX5_write_1 5 rfl rfl)
theorem dX5_write_31 : decode cX5_write 31 = .ok (.ireturn, 1) := dk_172 (dk_at dksX5_write_1 8 rfl rfl)
theorem dX5_write_32 : decode cX5_write 32 = .ok (.aload_n 0, 1) := dk_42 (dk_at dksX5_write_1 9 rfl rfl)
theorem dX5_write_33 : decode cX5_write 33 = .ok (.invokevirtual 253, 3) := dk_182 0 253 (dk_at dksX5_write_1 10 rfl rfl)
theorem dX5_write_36 : decode cX5_write 36 = .ok (.iconst 0, 1) := dk_3 (dk_at dksX5_write_1 13 rfl rfl)
theorem dX5_write_37 : decode cX5_write 37 = .ok (.istore_n 3, 1) := dk_62 (dk_at dksX5_write_1 14 rfl rfl)
theorem dX5_write_38 : decode cX5_write 38 = .ok (.iload_n 3, 1) := dk_29 (dk_at dksX5_write_1 15 rfl rfl)
theorem dX5_write_39 : decode cX5_write 39 = .ok (.aload_n 0, 1) := dk_42 (dk_at dksX5_write_1 16 rfl rfl)
theorem dX5_write_40 : decode cX5_write 40 = .ok (.getfield 101, 3) := dk_180 0 101 (dk_at dksX5_write_1 17 rfl rfl)
theorem dX5_write_43 : decode cX5_write 43 = .ok (.iload_n 2, 1) := dk_28 (dk_at dksX5_write_1 20 rfl rfl)
theorem dX5_write_44 : decode cX5_write 44 = .ok (.iaload, 1) := dk_46 (dk_at dksX5_write_1 21 rfl rfl)
theorem dX5_write_45 : decode cX5_write 45 = .ok (.if_icmp .ge 32, 3) := dk_162 0 32 (dk_at dksX5_write_2 0 rfl rfl)
theorem dX5_write_48 : decode cX5_write 48 = .ok (.iload_n 3, 1) := dk_29 (dk_at dksX5_write_2 3 rfl rfl)
theorem dX5_write_49 : decode cX5_write 49 = .ok (.bipush 24, 2) := dk_16 24 (dk_at dksX5_write_2 4 rfl rfl)
theorem dX5_write_51 : decode cX5_write 51 = .ok (.if_icmp .ge 26, 3) := dk_162 0 26 (dk_at dksX5_write_2 6 rfl rfl)
theorem dX5_write_54 : decode cX5_write 54 = .ok (.aload_n 0, 1) := dk_42 (dk_at dksX5_write_2 9 rfl rfl)
theorem dX5_write_55 : decode cX5_write 55 = .ok (.iload_n 2, 1) := dk_28 (dk_at dksX5_write_2 10 rfl rfl)
theorem dX5_write_56 : decode cX5_write 56 = .ok (.iload_n 3, 1) := dk_29 (dk_at dksX5_write_2 11 rfl rfl)
theorem dX5_write_57 : decode cX5_write 57 = .ok (.aload_n 0, 1) := dk_42 (dk_at dksX5_write_2 12 rfl rfl)
theorem dX5_write_58 : decode cX5_write 58 = .ok (.getfield 70, 3) := dk_180 0 70 (dk_at dksX5_write_2 13 rfl rfl)
theorem dX5_write_61 : decode cX5_write 61 = .ok (.bipush 6, 2) := dk_16 6 (dk_at dksX5_write_2 16 rfl rfl)
theorem dX5_write_63 : decode cX5_write 63 = .ok (.iload_n 3, 1) := dk_29 (dk_at dksX5_write_2 18 rfl rfl)
theorem dX5_write_64 : decode cX5_write 64 = .ok (.imul, 1) := dk_104 (dk_at dksX5_write_2 19 rfl rfl)
theorem dX5_write_65 : decode cX5_write 65 = .ok (.iload_n 1, 1) := dk_27 (dk_at dksX5_write_2 20 rfl rfl)
theorem dX5_write_66 : decode cX5_write 66 = .ok (.iadd, 1) := dk_96 (dk_at dksX5_write_2 21 rfl rfl)
theorem dX5_write_67 : decode cX5_write 67 = .ok (.iaload, 1) := dk_46 (dk_at dksX5_write_2 22 rfl rfl)
theorem dX5_write_68 : decode cX5_write 68 = .ok (.invokevirtual 361, 3) := dk_182 1 105 (dk_at dksX5_write_3 0 rfl rfl)
theorem dX5_write_71 : decode cX5_write 71 = .ok (.iinc 3 1, 3) := dk_132 3 1 (dk_at dksX5_write_3 3 rfl rfl)
theorem dX5_write_74 : decode cX5_write 74 = .ok (.goto (-36), 3) := dk_167 255 220 (dk_at dksX5_write_3 6 rfl rfl)
theorem dX5_write_77 : decode cX5_write 77 = .ok (.iload_n 3, 1) := dk_29 (dk_at dksX5_write_3 9 rfl rfl)
theorem dX5_write_78 : decode cX5_write 78 = .ok (.ireturn, 1) := dk_172 (dk_at dksX5_write_3 10 rfl rfl)
abbrev cX5_count : ByteArray := prog_15_method_98_code
def yX5_count : MethodName := ⟨RX5, "count", "(I)I"⟩
def dkwX5_count_4 : List UInt8 := [180, 1, 99, 172, 16, 254, 172]
abbrev dktX5_count_4 : List UInt8 := dkwX5_count_4 ++ []
def dkwX5_count_3 : List UInt8 := [172, 42, 3, 182, 1, 16, 172, 42, 180, 0, 110, 172, 42, 180, 0, 114, 172, 42, 180, 1, 61, 172, 42]
abbrev dktX5_count_3 : List UInt8 := dkwX5_count_3 ++ dktX5_count_4
def dkwX5_count_2 : List UInt8 := [42, 27, 182, 1, 110, 172, 42, 180, 0, 7, 3, 46, 42, 180, 0, 7, 4, 46, 96, 172, 42, 180, 0, 169]
abbrev dktX5_count_2 : List UInt8 := dkwX5_count_2 ++ dktX5_count_3
def dkwX5_count_1 : List UInt8 := [170, 0, 0, 0, 0, 0, 102, 0, 0, 0, 0, 0, 0, 0, 8, 0, 0, 0, 51, 0, 0, 0, 51, 0, 0, 0, 57, 0, 0, 0, 71, 0, 0, 0, 76, 0, 0, 0, 82, 0, 0, 0, 87, 0, 0, 0, 92, 0, 0, 0, 97]
abbrev dktX5_count_1 : List UInt8 := dkwX5_count_1 ++ dktX5_count_2
def dkwX5_count_0 : List UInt8 := [27]
abbrev dktX5_count_0 : List UInt8 := dkwX5_count_0 ++ dktX5_count_1
theorem dksX5_count_0 : cX5_count.data.toList.drop 0 = dktX5_count_0 := by decide +kernel
theorem dksX5_count_1 : cX5_count.data.toList.drop 1 = dktX5_count_1 := dk_seg dksX5_count_0 1 rfl rfl
theorem dksX5_count_2 : cX5_count.data.toList.drop 52 = dktX5_count_2 := dk_seg dksX5_count_1 51 rfl rfl
theorem dksX5_count_3 : cX5_count.data.toList.drop 76 = dktX5_count_3 := dk_seg dksX5_count_2 24 rfl rfl
theorem dksX5_count_4 : cX5_count.data.toList.drop 99 = dktX5_count_4 := dk_seg dksX5_count_3 23 rfl rfl
theorem dX5_count_0 : decode cX5_count 0 = .ok (.iload_n 1, 1) := dk_27 (dk_at dksX5_count_0 0 rfl rfl)
theorem dX5_count_1 : decode cX5_count 1 = .ok (.tableswitch 102 0 8 #[51, 51, 57, 71, 76, 82, 87, 92, 97], 51) := by decide +kernel
theorem dX5_count_52 : decode cX5_count 52 = .ok (.aload_n 0, 1) := dk_42 (dk_at dksX5_count_2 0 rfl rfl)
theorem dX5_count_53 : decode cX5_count 53 = .ok (.iload_n 1, 1) := dk_27 (dk_at dksX5_count_2 1 rfl rfl)
theorem dX5_count_54 : decode cX5_count 54 = .ok (.invokevirtual 366, 3) := dk_182 1 110 (dk_at dksX5_count_2 2 rfl rfl)
theorem dX5_count_57 : decode cX5_count 57 = .ok (.ireturn, 1) := dk_172 (dk_at dksX5_count_2 5 rfl rfl)
theorem dX5_count_58 : decode cX5_count 58 = .ok (.aload_n 0, 1) := dk_42 (dk_at dksX5_count_2 6 rfl rfl)
theorem dX5_count_59 : decode cX5_count 59 = .ok (.getfield 7, 3) := dk_180 0 7 (dk_at dksX5_count_2 7 rfl rfl)
theorem dX5_count_62 : decode cX5_count 62 = .ok (.iconst 0, 1) := dk_3 (dk_at dksX5_count_2 10 rfl rfl)
theorem dX5_count_63 : decode cX5_count 63 = .ok (.iaload, 1) := dk_46 (dk_at dksX5_count_2 11 rfl rfl)
theorem dX5_count_64 : decode cX5_count 64 = .ok (.aload_n 0, 1) := dk_42 (dk_at dksX5_count_2 12 rfl rfl)
theorem dX5_count_65 : decode cX5_count 65 = .ok (.getfield 7, 3) := dk_180 0 7 (dk_at dksX5_count_2 13 rfl rfl)
theorem dX5_count_68 : decode cX5_count 68 = .ok (.iconst 1, 1) := dk_4 (dk_at dksX5_count_2 16 rfl rfl)
theorem dX5_count_69 : decode cX5_count 69 = .ok (.iaload, 1) := dk_46 (dk_at dksX5_count_2 17 rfl rfl)
theorem dX5_count_70 : decode cX5_count 70 = .ok (.iadd, 1) := dk_96 (dk_at dksX5_count_2 18 rfl rfl)
theorem dX5_count_71 : decode cX5_count 71 = .ok (.ireturn, 1) := dk_172 (dk_at dksX5_count_2 19 rfl rfl)
theorem dX5_count_72 : decode cX5_count 72 = .ok (.aload_n 0, 1) := dk_42 (dk_at dksX5_count_2 20 rfl rfl)
theorem dX5_count_73 : decode cX5_count 73 = .ok (.getfield 169, 3) := dk_180 0 169 (dk_at dksX5_count_2 21 rfl rfl)
theorem dX5_count_76 : decode cX5_count 76 = .ok (.ireturn, 1) := dk_172 (dk_at dksX5_count_3 0 rfl rfl)
theorem dX5_count_77 : decode cX5_count 77 = .ok (.aload_n 0, 1) := dk_42 (dk_at dksX5_count_3 1 rfl rfl)
theorem dX5_count_78 : decode cX5_count 78 = .ok (.iconst 0, 1) := dk_3 (dk_at dksX5_count_3 2 rfl rfl)
theorem dX5_count_79 : decode cX5_count 79 = .ok (.invokevirtual 272, 3) := dk_182 1 16 (dk_at dksX5_count_3 3 rfl rfl)
theorem dX5_count_82 : decode cX5_count 82 = .ok (.ireturn, 1) := dk_172 (dk_at dksX5_count_3 6 rfl rfl)
theorem dX5_count_83 : decode cX5_count 83 = .ok (.aload_n 0, 1) := dk_42 (dk_at dksX5_count_3 7 rfl rfl)
theorem dX5_count_84 : decode cX5_count 84 = .ok (.getfield 110, 3) := dk_180 0 110 (dk_at dksX5_count_3 8 rfl rfl)
theorem dX5_count_87 : decode cX5_count 87 = .ok (.ireturn, 1) := dk_172 (dk_at dksX5_count_3 11 rfl rfl)
theorem dX5_count_88 : decode cX5_count 88 = .ok (.aload_n 0, 1) := dk_42 (dk_at dksX5_count_3 12 rfl rfl)
theorem dX5_count_89 : decode cX5_count 89 = .ok (.getfield 114, 3) := dk_180 0 114 (dk_at dksX5_count_3 13 rfl rfl)
theorem dX5_count_92 : decode cX5_count 92 = .ok (.ireturn, 1) := dk_172 (dk_at dksX5_count_3 16 rfl rfl)
theorem dX5_count_93 : decode cX5_count 93 = .ok (.aload_n 0, 1) := dk_42 (dk_at dksX5_count_3 17 rfl rfl)
theorem dX5_count_94 : decode cX5_count 94 = .ok (.getfield 317, 3) := dk_180 1 61 (dk_at dksX5_count_3 18 rfl rfl)
theorem dX5_count_97 : decode cX5_count 97 = .ok (.ireturn, 1) := dk_172 (dk_at dksX5_count_3 21 rfl rfl)
theorem dX5_count_98 : decode cX5_count 98 = .ok (.aload_n 0, 1) := dk_42 (dk_at dksX5_count_3 22 rfl rfl)
theorem dX5_count_99 : decode cX5_count 99 = .ok (.getfield 355, 3) := dk_180 1 99 (dk_at dksX5_count_4 0 rfl rfl)
theorem dX5_count_102 : decode cX5_count 102 = .ok (.ireturn, 1) := dk_172 (dk_at dksX5_count_4 3 rfl rfl)
theorem dX5_count_103 : decode cX5_count 103 = .ok (.bipush (-2), 2) := dk_16 254 (dk_at dksX5_count_4 4 rfl rfl)
theorem dX5_count_105 : decode cX5_count 105 = .ok (.ireturn, 1) := dk_172 (dk_at dksX5_count_4 6 rfl rfl)
abbrev cX5_tellOf : ByteArray := prog_15_method_97_code
def yX5_tellOf : MethodName := ⟨RX5, "tellOf", "(I)I"⟩
def dkwX5_tellOf_0 : List UInt8 := [42, 182, 0, 151, 27, 154, 0, 10, 42, 180, 0, 134, 167, 0, 7, 42, 180, 0, 137, 172]
abbrev dktX5_tellOf_0 : List UInt8 := dkwX5_tellOf_0 ++ []
theorem dksX5_tellOf_0 : cX5_tellOf.data.toList.drop 0 = dktX5_tellOf_0 := by decide +kernel
theorem dX5_tellOf_0 : decode cX5_tellOf 0 = .ok (.aload_n 0, 1) := dk_42 (dk_at dksX5_tellOf_0 0 rfl rfl)
theorem dX5_tellOf_1 : decode cX5_tellOf 1 = .ok (.invokevirtual 151, 3) := dk_182 0 151 (dk_at dksX5_tellOf_0 1 rfl rfl)
theorem dX5_tellOf_4 : decode cX5_tellOf 4 = .ok (.iload_n 1, 1) := dk_27 (dk_at dksX5_tellOf_0 4 rfl rfl)
theorem dX5_tellOf_5 : decode cX5_tellOf 5 = .ok (.ifCond .ne 10, 3) := dk_154 0 10 (dk_at dksX5_tellOf_0 5 rfl rfl)
theorem dX5_tellOf_8 : decode cX5_tellOf 8 = .ok (.aload_n 0, 1) := dk_42 (dk_at dksX5_tellOf_0 8 rfl rfl)
theorem dX5_tellOf_9 : decode cX5_tellOf 9 = .ok (.getfield 134, 3) := dk_180 0 134 (dk_at dksX5_tellOf_0 9 rfl rfl)
theorem dX5_tellOf_12 : decode cX5_tellOf 12 = .ok (.goto 7, 3) := dk_167 0 7 (dk_at dksX5_tellOf_0 12 rfl rfl)
theorem dX5_tellOf_15 : decode cX5_tellOf 15 = .ok (.aload_n 0, 1) := dk_42 (dk_at dksX5_tellOf_0 15 rfl rfl)
theorem dX5_tellOf_16 : decode cX5_tellOf 16 = .ok (.getfield 137, 3) := dk_180 0 137 (dk_at dksX5_tellOf_0 16 rfl rfl)
theorem dX5_tellOf_19 : decode cX5_tellOf 19 = .ok (.ireturn, 1) := dk_172 (dk_at dksX5_tellOf_0 19 rfl rfl)
abbrev cX5_digest : ByteArray := prog_15_method_102_code
def yX5_digest : MethodName := ⟨RX5, "digest", "()J"⟩
def dkwX5_digest_15 : List UInt8 := [16, 7, 16, 6, 4, 182, 1, 96, 133, 97, 173]
abbrev dktX5_digest_15 : List UInt8 := dkwX5_digest_15 ++ []
def dkwX5_digest_14 : List UInt8 := [20, 1, 113, 31, 105, 42, 16, 7, 16, 6, 3, 182, 1, 96, 133, 97, 64, 20, 1, 113, 31, 105, 42]
abbrev dktX5_digest_14 : List UInt8 := dkwX5_digest_14 ++ dktX5_digest_15
def dkwX5_digest_13 : List UInt8 := [20, 1, 113, 31, 105, 42, 182, 1, 71, 133, 97, 64, 20, 1, 113, 31, 105, 42, 182, 1, 80, 133, 97, 64]
abbrev dktX5_digest_13 : List UInt8 := dkwX5_digest_13 ++ dktX5_digest_14
def dkwX5_digest_12 : List UInt8 := [105, 42, 29, 3, 182, 1, 58, 133, 97, 64, 20, 1, 113, 31, 105, 42, 182, 1, 68, 133, 97, 64]
abbrev dktX5_digest_12 : List UInt8 := dkwX5_digest_12 ++ dktX5_digest_13
def dkwX5_digest_11 : List UInt8 := [182, 1, 46, 133, 97, 64, 42, 182, 1, 55, 62, 20, 1, 113, 31, 105, 29, 133, 97, 64, 20, 1, 113, 31]
abbrev dktX5_digest_11 : List UInt8 := dkwX5_digest_11 ++ dktX5_digest_12
def dkwX5_digest_10 : List UInt8 := [97, 64, 20, 1, 113, 31, 105, 42, 3, 182, 1, 46, 133, 97, 64, 20, 1, 113, 31, 105, 42, 4]
abbrev dktX5_digest_10 : List UInt8 := dkwX5_digest_10 ++ dktX5_digest_11
def dkwX5_digest_9 : List UInt8 := [64, 20, 1, 113, 31, 105, 42, 4, 182, 1, 22, 133, 97, 64, 20, 1, 113, 31, 105, 42, 182, 1, 28, 133]
abbrev dktX5_digest_9 : List UInt8 := dkwX5_digest_9 ++ dktX5_digest_10
def dkwX5_digest_8 : List UInt8 := [20, 1, 113, 31, 105, 42, 182, 1, 19, 133, 97, 64, 20, 1, 113, 31, 105, 42, 3, 182, 1, 22, 133, 97]
abbrev dktX5_digest_8 : List UInt8 := dkwX5_digest_8 ++ dktX5_digest_9
def dkwX5_digest_7 : List UInt8 := [162, 0, 22, 20, 1, 113, 31, 105, 42, 29, 182, 1, 16, 133, 97, 64, 132, 3, 1, 167, 255, 235]
abbrev dktX5_digest_7 : List UInt8 := dkwX5_digest_7 ++ dktX5_digest_8
def dkwX5_digest_6 : List UInt8 := [180, 0, 137, 162, 0, 16, 42, 31, 29, 182, 1, 128, 64, 132, 3, 1, 167, 255, 238, 3, 62, 29, 8]
abbrev dktX5_digest_6 : List UInt8 := dkwX5_digest_6 ++ dktX5_digest_7
def dkwX5_digest_5 : List UInt8 := [180, 0, 134, 162, 0, 16, 42, 31, 29, 182, 1, 124, 64, 132, 3, 1, 167, 255, 238, 3, 62, 29, 42]
abbrev dktX5_digest_5 : List UInt8 := dkwX5_digest_5 ++ dktX5_digest_6
def dkwX5_digest_4 : List UInt8 := [20, 1, 113, 31, 105, 42, 29, 182, 1, 6, 133, 97, 64, 132, 3, 1, 167, 255, 203, 3, 62, 29, 42]
abbrev dktX5_digest_4 : List UInt8 := dkwX5_digest_4 ++ dktX5_digest_5
def dkwX5_digest_3 : List UInt8 := [162, 0, 24, 20, 1, 113, 31, 105, 42, 29, 21, 4, 182, 1, 0, 133, 97, 64, 132, 4, 1, 167, 255, 231]
abbrev dktX5_digest_3 : List UInt8 := dkwX5_digest_3 ++ dktX5_digest_4
def dkwX5_digest_2 : List UInt8 := [105, 42, 4, 182, 0, 148, 133, 97, 64, 3, 62, 29, 16, 24, 162, 0, 53, 3, 54, 4, 21, 4, 16, 6]
abbrev dktX5_digest_2 : List UInt8 := dkwX5_digest_2 ++ dktX5_digest_3
def dkwX5_digest_1 : List UInt8 := [64, 132, 3, 1, 167, 255, 234, 20, 1, 113, 31, 105, 42, 3, 182, 0, 148, 133, 97, 64, 20, 1, 113, 31]
abbrev dktX5_digest_1 : List UInt8 := dkwX5_digest_1 ++ dktX5_digest_2
def dkwX5_digest_0 : List UInt8 := [20, 1, 119, 64, 3, 62, 29, 16, 8, 162, 0, 22, 20, 1, 113, 31, 105, 42, 29, 182, 1, 121, 133, 97]
abbrev dktX5_digest_0 : List UInt8 := dkwX5_digest_0 ++ dktX5_digest_1
theorem dksX5_digest_0 : cX5_digest.data.toList.drop 0 = dktX5_digest_0 := by decide +kernel
theorem dksX5_digest_1 : cX5_digest.data.toList.drop 24 = dktX5_digest_1 := dk_seg dksX5_digest_0 24 rfl rfl
theorem dksX5_digest_2 : cX5_digest.data.toList.drop 48 = dktX5_digest_2 := dk_seg dksX5_digest_1 24 rfl rfl
theorem dksX5_digest_3 : cX5_digest.data.toList.drop 72 = dktX5_digest_3 := dk_seg dksX5_digest_2 24 rfl rfl
theorem dksX5_digest_4 : cX5_digest.data.toList.drop 96 = dktX5_digest_4 := dk_seg dksX5_digest_3 24 rfl rfl
theorem dksX5_digest_5 : cX5_digest.data.toList.drop 119 = dktX5_digest_5 := dk_seg dksX5_digest_4 23 rfl rfl
theorem dksX5_digest_6 : cX5_digest.data.toList.drop 142 = dktX5_digest_6 := dk_seg dksX5_digest_5 23 rfl rfl
theorem dksX5_digest_7 : cX5_digest.data.toList.drop 165 = dktX5_digest_7 := dk_seg dksX5_digest_6 23 rfl rfl
theorem dksX5_digest_8 : cX5_digest.data.toList.drop 187 = dktX5_digest_8 := dk_seg dksX5_digest_7 22 rfl rfl
theorem dksX5_digest_9 : cX5_digest.data.toList.drop 211 = dktX5_digest_9 := dk_seg dksX5_digest_8 24 rfl rfl
theorem dksX5_digest_10 : cX5_digest.data.toList.drop 235 = dktX5_digest_10 := dk_seg dksX5_digest_9 24 rfl rfl
theorem dksX5_digest_11 : cX5_digest.data.toList.drop 257 = dktX5_digest_11 := dk_seg dksX5_digest_10 22 rfl rfl
theorem dksX5_digest_12 : cX5_digest.data.toList.drop 281 = dktX5_digest_12 := dk_seg dksX5_digest_11 24 rfl rfl
theorem dksX5_digest_13 : cX5_digest.data.toList.drop 303 = dktX5_digest_13 := dk_seg dksX5_digest_12 22 rfl rfl
theorem dksX5_digest_14 : cX5_digest.data.toList.drop 327 = dktX5_digest_14 := dk_seg dksX5_digest_13 24 rfl rfl
theorem dksX5_digest_15 : cX5_digest.data.toList.drop 350 = dktX5_digest_15 := dk_seg dksX5_digest_14 23 rfl rfl
theorem dX5_digest_0 : decode cX5_digest 0 = .ok (.ldc2_w 375, 3) := dk_20 1 119 (dk_at dksX5_digest_0 0 rfl rfl)
theorem dX5_digest_3 : decode cX5_digest 3 = .ok (.lstore_n 1, 1) := dk_64 (dk_at dksX5_digest_0 3 rfl rfl)
theorem dX5_digest_4 : decode cX5_digest 4 = .ok (.iconst 0, 1) := dk_3 (dk_at dksX5_digest_0 4 rfl rfl)
theorem dX5_digest_5 : decode cX5_digest 5 = .ok (.istore_n 3, 1) := dk_62 (dk_at dksX5_digest_0 5 rfl rfl)
theorem dX5_digest_6 : decode cX5_digest 6 = .ok (.iload_n 3, 1) := dk_29 (dk_at dksX5_digest_0 6 rfl rfl)
theorem dX5_digest_7 : decode cX5_digest 7 = .ok (.bipush 8, 2) := dk_16 8 (dk_at dksX5_digest_0 7 rfl rfl)
theorem dX5_digest_9 : decode cX5_digest 9 = .ok (.if_icmp .ge 22, 3) := dk_162 0 22 (dk_at dksX5_digest_0 9 rfl rfl)
theorem dX5_digest_12 : decode cX5_digest 12 = .ok (.ldc2_w 369, 3) := dk_20 1 113 (dk_at dksX5_digest_0 12 rfl rfl)
theorem dX5_digest_15 : decode cX5_digest 15 = .ok (.lload_n 1, 1) := dk_31 (dk_at dksX5_digest_0 15 rfl rfl)
theorem dX5_digest_16 : decode cX5_digest 16 = .ok (.lmul, 1) := dk_105 (dk_at dksX5_digest_0 16 rfl rfl)
theorem dX5_digest_17 : decode cX5_digest 17 = .ok (.aload_n 0, 1) := dk_42 (dk_at dksX5_digest_0 17 rfl rfl)
theorem dX5_digest_18 : decode cX5_digest 18 = .ok (.iload_n 3, 1) := dk_29 (dk_at dksX5_digest_0 18 rfl rfl)
theorem dX5_digest_19 : decode cX5_digest 19 = .ok (.invokevirtual 377, 3) := dk_182 1 121 (dk_at dksX5_digest_0 19 rfl rfl)
theorem dX5_digest_22 : decode cX5_digest 22 = .ok (.i2l, 1) := dk_133 (dk_at dksX5_digest_0 22 rfl rfl)
theorem dX5_digest_23 : decode cX5_digest 23 = .ok (.ladd, 1) := dk_97 (dk_at dksX5_digest_0 23 rfl rfl)
theorem dX5_digest_24 : decode cX5_digest 24 = .ok (.lstore_n 1, 1) := dk_64 (dk_at dksX5_digest_1 0 rfl rfl)
theorem dX5_digest_25 : decode cX5_digest 25 = .ok (.iinc 3 1, 3) := dk_132 3 1 (dk_at dksX5_digest_1 1 rfl rfl)
theorem dX5_digest_28 : decode cX5_digest 28 = .ok (.goto (-22), 3) := dk_167 255 234 (dk_at dksX5_digest_1 4 rfl rfl)
theorem dX5_digest_31 : decode cX5_digest 31 = .ok (.ldc2_w 369, 3) := dk_20 1 113 (dk_at dksX5_digest_1 7 rfl rfl)
theorem dX5_digest_34 : decode cX5_digest 34 = .ok (.lload_n 1, 1) := dk_31 (dk_at dksX5_digest_1 10 rfl rfl)
theorem dX5_digest_35 : decode cX5_digest 35 = .ok (.lmul, 1) := dk_105 (dk_at dksX5_digest_1 11 rfl rfl)
theorem dX5_digest_36 : decode cX5_digest 36 = .ok (.aload_n 0, 1) := dk_42 (dk_at dksX5_digest_1 12 rfl rfl)
theorem dX5_digest_37 : decode cX5_digest 37 = .ok (.iconst 0, 1) := dk_3 (dk_at dksX5_digest_1 13 rfl rfl)
theorem dX5_digest_38 : decode cX5_digest 38 = .ok (.invokevirtual 148, 3) := dk_182 0 148 (dk_at dksX5_digest_1 14 rfl rfl)
theorem dX5_digest_41 : decode cX5_digest 41 = .ok (.i2l, 1) := dk_133 (dk_at dksX5_digest_1 17 rfl rfl)
theorem dX5_digest_42 : decode cX5_digest 42 = .ok (.ladd, 1) := dk_97 (dk_at dksX5_digest_1 18 rfl rfl)
theorem dX5_digest_43 : decode cX5_digest 43 = .ok (.lstore_n 1, 1) := dk_64 (dk_at dksX5_digest_1 19 rfl rfl)
theorem dX5_digest_44 : decode cX5_digest 44 = .ok (.ldc2_w 369, 3) := dk_20 1 113 (dk_at dksX5_digest_1 20 rfl rfl)
theorem dX5_digest_47 : decode cX5_digest 47 = .ok (.lload_n 1, 1) := dk_31 (dk_at dksX5_digest_1 23 rfl rfl)
theorem dX5_digest_48 : decode cX5_digest 48 = .ok (.lmul, 1) := dk_105 (dk_at dksX5_digest_2 0 rfl rfl)
theorem dX5_digest_49 : decode cX5_digest 49 = .ok (.aload_n 0, 1) := dk_42 (dk_at dksX5_digest_2 1 rfl rfl)
theorem dX5_digest_50 : decode cX5_digest 50 = .ok (.iconst 1, 1) := dk_4 (dk_at dksX5_digest_2 2 rfl rfl)
theorem dX5_digest_51 : decode cX5_digest 51 = .ok (.invokevirtual 148, 3) := dk_182 0 148 (dk_at dksX5_digest_2 3 rfl rfl)
theorem dX5_digest_54 : decode cX5_digest 54 = .ok (.i2l, 1) := dk_133 (dk_at dksX5_digest_2 6 rfl rfl)
theorem dX5_digest_55 : decode cX5_digest 55 = .ok (.ladd, 1) := dk_97 (dk_at dksX5_digest_2 7 rfl rfl)
theorem dX5_digest_56 : decode cX5_digest 56 = .ok (.lstore_n 1, 1) := dk_64 (dk_at dksX5_digest_2 8 rfl rfl)
theorem dX5_digest_57 : decode cX5_digest 57 = .ok (.iconst 0, 1) := dk_3 (dk_at dksX5_digest_2 9 rfl rfl)
theorem dX5_digest_58 : decode cX5_digest 58 = .ok (.istore_n 3, 1) := dk_62 (dk_at dksX5_digest_2 10 rfl rfl)
theorem dX5_digest_59 : decode cX5_digest 59 = .ok (.iload_n 3, 1) := dk_29 (dk_at dksX5_digest_2 11 rfl rfl)
theorem dX5_digest_60 : decode cX5_digest 60 = .ok (.bipush 24, 2) := dk_16 24 (dk_at dksX5_digest_2 12 rfl rfl)
theorem dX5_digest_62 : decode cX5_digest 62 = .ok (.if_icmp .ge 53, 3) := dk_162 0 53 (dk_at dksX5_digest_2 14 rfl rfl)
theorem dX5_digest_65 : decode cX5_digest 65 = .ok (.iconst 0, 1) := dk_3 (dk_at dksX5_digest_2 17 rfl rfl)
theorem dX5_digest_66 : decode cX5_digest 66 = .ok (.istore 4, 2) := dk_54 4 (dk_at dksX5_digest_2 18 rfl rfl)
theorem dX5_digest_68 : decode cX5_digest 68 = .ok (.iload 4, 2) := dk_21 4 (dk_at dksX5_digest_2 20 rfl rfl)
theorem dX5_digest_70 : decode cX5_digest 70 = .ok (.bipush 6, 2) := dk_16 6 (dk_at dksX5_digest_2 22 rfl rfl)
theorem dX5_digest_72 : decode cX5_digest 72 = .ok (.if_icmp .ge 24, 3) := dk_162 0 24 (dk_at dksX5_digest_3 0 rfl rfl)
theorem dX5_digest_75 : decode cX5_digest 75 = .ok (.ldc2_w 369, 3) := dk_20 1 113 (dk_at dksX5_digest_3 3 rfl rfl)
theorem dX5_digest_78 : decode cX5_digest 78 = .ok (.lload_n 1, 1) := dk_31 (dk_at dksX5_digest_3 6 rfl rfl)
theorem dX5_digest_79 : decode cX5_digest 79 = .ok (.lmul, 1) := dk_105 (dk_at dksX5_digest_3 7 rfl rfl)
theorem dX5_digest_80 : decode cX5_digest 80 = .ok (.aload_n 0, 1) := dk_42 (dk_at dksX5_digest_3 8 rfl rfl)
theorem dX5_digest_81 : decode cX5_digest 81 = .ok (.iload_n 3, 1) := dk_29 (dk_at dksX5_digest_3 9 rfl rfl)
theorem dX5_digest_82 : decode cX5_digest 82 = .ok (.iload 4, 2) := dk_21 4 (dk_at dksX5_digest_3 10 rfl rfl)
theorem dX5_digest_84 : decode cX5_digest 84 = .ok (.invokevirtual 256, 3) := dk_182 1 0 (dk_at dksX5_digest_3 12 rfl rfl)
theorem dX5_digest_87 : decode cX5_digest 87 = .ok (.i2l, 1) := dk_133 (dk_at dksX5_digest_3 15 rfl rfl)
theorem dX5_digest_88 : decode cX5_digest 88 = .ok (.ladd, 1) := dk_97 (dk_at dksX5_digest_3 16 rfl rfl)
theorem dX5_digest_89 : decode cX5_digest 89 = .ok (.lstore_n 1, 1) := dk_64 (dk_at dksX5_digest_3 17 rfl rfl)
theorem dX5_digest_90 : decode cX5_digest 90 = .ok (.iinc 4 1, 3) := dk_132 4 1 (dk_at dksX5_digest_3 18 rfl rfl)
theorem dX5_digest_93 : decode cX5_digest 93 = .ok (.goto (-25), 3) := dk_167 255 231 (dk_at dksX5_digest_3 21 rfl rfl)
theorem dX5_digest_96 : decode cX5_digest 96 = .ok (.ldc2_w 369, 3) := dk_20 1 113 (dk_at dksX5_digest_4 0 rfl rfl)
theorem dX5_digest_99 : decode cX5_digest 99 = .ok (.lload_n 1, 1) := dk_31 (dk_at dksX5_digest_4 3 rfl rfl)
theorem dX5_digest_100 : decode cX5_digest 100 = .ok (.lmul, 1) := dk_105 (dk_at dksX5_digest_4 4 rfl rfl)
theorem dX5_digest_101 : decode cX5_digest 101 = .ok (.aload_n 0, 1) := dk_42 (dk_at dksX5_digest_4 5 rfl rfl)
theorem dX5_digest_102 : decode cX5_digest 102 = .ok (.iload_n 3, 1) := dk_29 (dk_at dksX5_digest_4 6 rfl rfl)
theorem dX5_digest_103 : decode cX5_digest 103 = .ok (.invokevirtual 262, 3) := dk_182 1 6 (dk_at dksX5_digest_4 7 rfl rfl)
theorem dX5_digest_106 : decode cX5_digest 106 = .ok (.i2l, 1) := dk_133 (dk_at dksX5_digest_4 10 rfl rfl)
theorem dX5_digest_107 : decode cX5_digest 107 = .ok (.ladd, 1) := dk_97 (dk_at dksX5_digest_4 11 rfl rfl)
theorem dX5_digest_108 : decode cX5_digest 108 = .ok (.lstore_n 1, 1) := dk_64 (dk_at dksX5_digest_4 12 rfl rfl)
theorem dX5_digest_109 : decode cX5_digest 109 = .ok (.iinc 3 1, 3) := dk_132 3 1 (dk_at dksX5_digest_4 13 rfl rfl)
theorem dX5_digest_112 : decode cX5_digest 112 = .ok (.goto (-53), 3) := dk_167 255 203 (dk_at dksX5_digest_4 16 rfl rfl)
theorem dX5_digest_115 : decode cX5_digest 115 = .ok (.iconst 0, 1) := dk_3 (dk_at dksX5_digest_4 19 rfl rfl)
theorem dX5_digest_116 : decode cX5_digest 116 = .ok (.istore_n 3, 1) := dk_62 (dk_at dksX5_digest_4 20 rfl rfl)
theorem dX5_digest_117 : decode cX5_digest 117 = .ok (.iload_n 3, 1) := dk_29 (dk_at dksX5_digest_4 21 rfl rfl)
theorem dX5_digest_118 : decode cX5_digest 118 = .ok (.aload_n 0, 1) := dk_42 (dk_at dksX5_digest_4 22 rfl rfl)
theorem dX5_digest_119 : decode cX5_digest 119 = .ok (.getfield 134, 3) := dk_180 0 134 (dk_at dksX5_digest_5 0 rfl rfl)
theorem dX5_digest_122 : decode cX5_digest 122 = .ok (.if_icmp .ge 16, 3) := dk_162 0 16 (dk_at dksX5_digest_5 3 rfl rfl)
theorem dX5_digest_125 : decode cX5_digest 125 = .ok (.aload_n 0, 1) := dk_42 (dk_at dksX5_digest_5 6 rfl rfl)
theorem dX5_digest_126 : decode cX5_digest 126 = .ok (.lload_n 1, 1) := dk_31 (dk_at dksX5_digest_5 7 rfl rfl)
theorem dX5_digest_127 : decode cX5_digest 127 = .ok (.iload_n 3, 1) := dk_29 (dk_at dksX5_digest_5 8 rfl rfl)
theorem dX5_digest_128 : decode cX5_digest 128 = .ok (.invokevirtual 380, 3) := dk_182 1 124 (dk_at dksX5_digest_5 9 rfl rfl)
theorem dX5_digest_131 : decode cX5_digest 131 = .ok (.lstore_n 1, 1) := dk_64 (dk_at dksX5_digest_5 12 rfl rfl)
theorem dX5_digest_132 : decode cX5_digest 132 = .ok (.iinc 3 1, 3) := dk_132 3 1 (dk_at dksX5_digest_5 13 rfl rfl)
theorem dX5_digest_135 : decode cX5_digest 135 = .ok (.goto (-18), 3) := dk_167 255 238 (dk_at dksX5_digest_5 16 rfl rfl)
theorem dX5_digest_138 : decode cX5_digest 138 = .ok (.iconst 0, 1) := dk_3 (dk_at dksX5_digest_5 19 rfl rfl)
theorem dX5_digest_139 : decode cX5_digest 139 = .ok (.istore_n 3, 1) := dk_62 (dk_at dksX5_digest_5 20 rfl rfl)
theorem dX5_digest_140 : decode cX5_digest 140 = .ok (.iload_n 3, 1) := dk_29 (dk_at dksX5_digest_5 21 rfl rfl)
theorem dX5_digest_141 : decode cX5_digest 141 = .ok (.aload_n 0, 1) := dk_42 (dk_at dksX5_digest_5 22 rfl rfl)
theorem dX5_digest_142 : decode cX5_digest 142 = .ok (.getfield 137, 3) := dk_180 0 137 (dk_at dksX5_digest_6 0 rfl rfl)
theorem dX5_digest_145 : decode cX5_digest 145 = .ok (.if_icmp .ge 16, 3) := dk_162 0 16 (dk_at dksX5_digest_6 3 rfl rfl)
theorem dX5_digest_148 : decode cX5_digest 148 = .ok (.aload_n 0, 1) := dk_42 (dk_at dksX5_digest_6 6 rfl rfl)
theorem dX5_digest_149 : decode cX5_digest 149 = .ok (.lload_n 1, 1) := dk_31 (dk_at dksX5_digest_6 7 rfl rfl)
theorem dX5_digest_150 : decode cX5_digest 150 = .ok (.iload_n 3, 1) := dk_29 (dk_at dksX5_digest_6 8 rfl rfl)
theorem dX5_digest_151 : decode cX5_digest 151 = .ok (.invokevirtual 384, 3) := dk_182 1 128 (dk_at dksX5_digest_6 9 rfl rfl)
theorem dX5_digest_154 : decode cX5_digest 154 = .ok (.lstore_n 1, 1) := dk_64 (dk_at dksX5_digest_6 12 rfl rfl)
theorem dX5_digest_155 : decode cX5_digest 155 = .ok (.iinc 3 1, 3) := dk_132 3 1 (dk_at dksX5_digest_6 13 rfl rfl)
theorem dX5_digest_158 : decode cX5_digest 158 = .ok (.goto (-18), 3) := dk_167 255 238 (dk_at dksX5_digest_6 16 rfl rfl)
theorem dX5_digest_161 : decode cX5_digest 161 = .ok (.iconst 0, 1) := dk_3 (dk_at dksX5_digest_6 19 rfl rfl)
theorem dX5_digest_162 : decode cX5_digest 162 = .ok (.istore_n 3, 1) := dk_62 (dk_at dksX5_digest_6 20 rfl rfl)
theorem dX5_digest_163 : decode cX5_digest 163 = .ok (.iload_n 3, 1) := dk_29 (dk_at dksX5_digest_6 21 rfl rfl)
theorem dX5_digest_164 : decode cX5_digest 164 = .ok (.iconst 5, 1) := dk_8 (dk_at dksX5_digest_6 22 rfl rfl)
theorem dX5_digest_165 : decode cX5_digest 165 = .ok (.if_icmp .ge 22, 3) := dk_162 0 22 (dk_at dksX5_digest_7 0 rfl rfl)
theorem dX5_digest_168 : decode cX5_digest 168 = .ok (.ldc2_w 369, 3) := dk_20 1 113 (dk_at dksX5_digest_7 3 rfl rfl)
theorem dX5_digest_171 : decode cX5_digest 171 = .ok (.lload_n 1, 1) := dk_31 (dk_at dksX5_digest_7 6 rfl rfl)
theorem dX5_digest_172 : decode cX5_digest 172 = .ok (.lmul, 1) := dk_105 (dk_at dksX5_digest_7 7 rfl rfl)
theorem dX5_digest_173 : decode cX5_digest 173 = .ok (.aload_n 0, 1) := dk_42 (dk_at dksX5_digest_7 8 rfl rfl)
theorem dX5_digest_174 : decode cX5_digest 174 = .ok (.iload_n 3, 1) := dk_29 (dk_at dksX5_digest_7 9 rfl rfl)
theorem dX5_digest_175 : decode cX5_digest 175 = .ok (.invokevirtual 272, 3) := dk_182 1 16 (dk_at dksX5_digest_7 10 rfl rfl)
theorem dX5_digest_178 : decode cX5_digest 178 = .ok (.i2l, 1) := dk_133 (dk_at dksX5_digest_7 13 rfl rfl)
theorem dX5_digest_179 : decode cX5_digest 179 = .ok (.ladd, 1) := dk_97 (dk_at dksX5_digest_7 14 rfl rfl)
theorem dX5_digest_180 : decode cX5_digest 180 = .ok (.lstore_n 1, 1) := dk_64 (dk_at dksX5_digest_7 15 rfl rfl)
theorem dX5_digest_181 : decode cX5_digest 181 = .ok (.iinc 3 1, 3) := dk_132 3 1 (dk_at dksX5_digest_7 16 rfl rfl)
theorem dX5_digest_184 : decode cX5_digest 184 = .ok (.goto (-21), 3) := dk_167 255 235 (dk_at dksX5_digest_7 19 rfl rfl)
theorem dX5_digest_187 : decode cX5_digest 187 = .ok (.ldc2_w 369, 3) := dk_20 1 113 (dk_at dksX5_digest_8 0 rfl rfl)
theorem dX5_digest_190 : decode cX5_digest 190 = .ok (.lload_n 1, 1) := dk_31 (dk_at dksX5_digest_8 3 rfl rfl)
theorem dX5_digest_191 : decode cX5_digest 191 = .ok (.lmul, 1) := dk_105 (dk_at dksX5_digest_8 4 rfl rfl)
theorem dX5_digest_192 : decode cX5_digest 192 = .ok (.aload_n 0, 1) := dk_42 (dk_at dksX5_digest_8 5 rfl rfl)
theorem dX5_digest_193 : decode cX5_digest 193 = .ok (.invokevirtual 275, 3) := dk_182 1 19 (dk_at dksX5_digest_8 6 rfl rfl)
theorem dX5_digest_196 : decode cX5_digest 196 = .ok (.i2l, 1) := dk_133 (dk_at dksX5_digest_8 9 rfl rfl)
theorem dX5_digest_197 : decode cX5_digest 197 = .ok (.ladd, 1) := dk_97 (dk_at dksX5_digest_8 10 rfl rfl)
theorem dX5_digest_198 : decode cX5_digest 198 = .ok (.lstore_n 1, 1) := dk_64 (dk_at dksX5_digest_8 11 rfl rfl)
theorem dX5_digest_199 : decode cX5_digest 199 = .ok (.ldc2_w 369, 3) := dk_20 1 113 (dk_at dksX5_digest_8 12 rfl rfl)
theorem dX5_digest_202 : decode cX5_digest 202 = .ok (.lload_n 1, 1) := dk_31 (dk_at dksX5_digest_8 15 rfl rfl)
theorem dX5_digest_203 : decode cX5_digest 203 = .ok (.lmul, 1) := dk_105 (dk_at dksX5_digest_8 16 rfl rfl)
theorem dX5_digest_204 : decode cX5_digest 204 = .ok (.aload_n 0, 1) := dk_42 (dk_at dksX5_digest_8 17 rfl rfl)
theorem dX5_digest_205 : decode cX5_digest 205 = .ok (.iconst 0, 1) := dk_3 (dk_at dksX5_digest_8 18 rfl rfl)
theorem dX5_digest_206 : decode cX5_digest 206 = .ok (.invokevirtual 278, 3) := dk_182 1 22 (dk_at dksX5_digest_8 19 rfl rfl)
theorem dX5_digest_209 : decode cX5_digest 209 = .ok (.i2l, 1) := dk_133 (dk_at dksX5_digest_8 22 rfl rfl)
theorem dX5_digest_210 : decode cX5_digest 210 = .ok (.ladd, 1) := dk_97 (dk_at dksX5_digest_8 23 rfl rfl)
theorem dX5_digest_211 : decode cX5_digest 211 = .ok (.lstore_n 1, 1) := dk_64 (dk_at dksX5_digest_9 0 rfl rfl)
theorem dX5_digest_212 : decode cX5_digest 212 = .ok (.ldc2_w 369, 3) := dk_20 1 113 (dk_at dksX5_digest_9 1 rfl rfl)
theorem dX5_digest_215 : decode cX5_digest 215 = .ok (.lload_n 1, 1) := dk_31 (dk_at dksX5_digest_9 4 rfl rfl)
theorem dX5_digest_216 : decode cX5_digest 216 = .ok (.lmul, 1) := dk_105 (dk_at dksX5_digest_9 5 rfl rfl)
theorem dX5_digest_217 : decode cX5_digest 217 = .ok (.aload_n 0, 1) := dk_42 (dk_at dksX5_digest_9 6 rfl rfl)
theorem dX5_digest_218 : decode cX5_digest 218 = .ok (.iconst 1, 1) := dk_4 (dk_at dksX5_digest_9 7 rfl rfl)
theorem dX5_digest_219 : decode cX5_digest 219 = .ok (.invokevirtual 278, 3) := dk_182 1 22 (dk_at dksX5_digest_9 8 rfl rfl)
theorem dX5_digest_222 : decode cX5_digest 222 = .ok (.i2l, 1) := dk_133 (dk_at dksX5_digest_9 11 rfl rfl)
theorem dX5_digest_223 : decode cX5_digest 223 = .ok (.ladd, 1) := dk_97 (dk_at dksX5_digest_9 12 rfl rfl)
theorem dX5_digest_224 : decode cX5_digest 224 = .ok (.lstore_n 1, 1) := dk_64 (dk_at dksX5_digest_9 13 rfl rfl)
theorem dX5_digest_225 : decode cX5_digest 225 = .ok (.ldc2_w 369, 3) := dk_20 1 113 (dk_at dksX5_digest_9 14 rfl rfl)
theorem dX5_digest_228 : decode cX5_digest 228 = .ok (.lload_n 1, 1) := dk_31 (dk_at dksX5_digest_9 17 rfl rfl)
theorem dX5_digest_229 : decode cX5_digest 229 = .ok (.lmul, 1) := dk_105 (dk_at dksX5_digest_9 18 rfl rfl)
theorem dX5_digest_230 : decode cX5_digest 230 = .ok (.aload_n 0, 1) := dk_42 (dk_at dksX5_digest_9 19 rfl rfl)
theorem dX5_digest_231 : decode cX5_digest 231 = .ok (.invokevirtual 284, 3) := dk_182 1 28 (dk_at dksX5_digest_9 20 rfl rfl)
theorem dX5_digest_234 : decode cX5_digest 234 = .ok (.i2l, 1) := dk_133 (dk_at dksX5_digest_9 23 rfl rfl)
theorem dX5_digest_235 : decode cX5_digest 235 = .ok (.ladd, 1) := dk_97 (dk_at dksX5_digest_10 0 rfl rfl)
theorem dX5_digest_236 : decode cX5_digest 236 = .ok (.lstore_n 1, 1) := dk_64 (dk_at dksX5_digest_10 1 rfl rfl)
theorem dX5_digest_237 : decode cX5_digest 237 = .ok (.ldc2_w 369, 3) := dk_20 1 113 (dk_at dksX5_digest_10 2 rfl rfl)
theorem dX5_digest_240 : decode cX5_digest 240 = .ok (.lload_n 1, 1) := dk_31 (dk_at dksX5_digest_10 5 rfl rfl)
theorem dX5_digest_241 : decode cX5_digest 241 = .ok (.lmul, 1) := dk_105 (dk_at dksX5_digest_10 6 rfl rfl)
theorem dX5_digest_242 : decode cX5_digest 242 = .ok (.aload_n 0, 1) := dk_42 (dk_at dksX5_digest_10 7 rfl rfl)
theorem dX5_digest_243 : decode cX5_digest 243 = .ok (.iconst 0, 1) := dk_3 (dk_at dksX5_digest_10 8 rfl rfl)
theorem dX5_digest_244 : decode cX5_digest 244 = .ok (.invokevirtual 302, 3) := dk_182 1 46 (dk_at dksX5_digest_10 9 rfl rfl)
theorem dX5_digest_247 : decode cX5_digest 247 = .ok (.i2l, 1) := dk_133 (dk_at dksX5_digest_10 12 rfl rfl)
theorem dX5_digest_248 : decode cX5_digest 248 = .ok (.ladd, 1) := dk_97 (dk_at dksX5_digest_10 13 rfl rfl)
theorem dX5_digest_249 : decode cX5_digest 249 = .ok (.lstore_n 1, 1) := dk_64 (dk_at dksX5_digest_10 14 rfl rfl)
theorem dX5_digest_250 : decode cX5_digest 250 = .ok (.ldc2_w 369, 3) := dk_20 1 113 (dk_at dksX5_digest_10 15 rfl rfl)
theorem dX5_digest_253 : decode cX5_digest 253 = .ok (.lload_n 1, 1) := dk_31 (dk_at dksX5_digest_10 18 rfl rfl)
theorem dX5_digest_254 : decode cX5_digest 254 = .ok (.lmul, 1) := dk_105 (dk_at dksX5_digest_10 19 rfl rfl)
theorem dX5_digest_255 : decode cX5_digest 255 = .ok (.aload_n 0, 1) := dk_42 (dk_at dksX5_digest_10 20 rfl rfl)
theorem dX5_digest_256 : decode cX5_digest 256 = .ok (.iconst 1, 1) := dk_4 (dk_at dksX5_digest_10 21 rfl rfl)
theorem dX5_digest_257 : decode cX5_digest 257 = .ok (.invokevirtual 302, 3) := dk_182 1 46 (dk_at dksX5_digest_11 0 rfl rfl)
theorem dX5_digest_260 : decode cX5_digest 260 = .ok (.i2l, 1) := dk_133 (dk_at dksX5_digest_11 3 rfl rfl)
theorem dX5_digest_261 : decode cX5_digest 261 = .ok (.ladd, 1) := dk_97 (dk_at dksX5_digest_11 4 rfl rfl)
theorem dX5_digest_262 : decode cX5_digest 262 = .ok (.lstore_n 1, 1) := dk_64 (dk_at dksX5_digest_11 5 rfl rfl)
theorem dX5_digest_263 : decode cX5_digest 263 = .ok (.aload_n 0, 1) := dk_42 (dk_at dksX5_digest_11 6 rfl rfl)
theorem dX5_digest_264 : decode cX5_digest 264 = .ok (.invokevirtual 311, 3) := dk_182 1 55 (dk_at dksX5_digest_11 7 rfl rfl)
theorem dX5_digest_267 : decode cX5_digest 267 = .ok (.istore_n 3, 1) := dk_62 (dk_at dksX5_digest_11 10 rfl rfl)
theorem dX5_digest_268 : decode cX5_digest 268 = .ok (.ldc2_w 369, 3) := dk_20 1 113 (dk_at dksX5_digest_11 11 rfl rfl)
theorem dX5_digest_271 : decode cX5_digest 271 = .ok (.lload_n 1, 1) := dk_31 (dk_at dksX5_digest_11 14 rfl rfl)
theorem dX5_digest_272 : decode cX5_digest 272 = .ok (.lmul, 1) := dk_105 (dk_at dksX5_digest_11 15 rfl rfl)
theorem dX5_digest_273 : decode cX5_digest 273 = .ok (.iload_n 3, 1) := dk_29 (dk_at dksX5_digest_11 16 rfl rfl)
theorem dX5_digest_274 : decode cX5_digest 274 = .ok (.i2l, 1) := dk_133 (dk_at dksX5_digest_11 17 rfl rfl)
theorem dX5_digest_275 : decode cX5_digest 275 = .ok (.ladd, 1) := dk_97 (dk_at dksX5_digest_11 18 rfl rfl)
theorem dX5_digest_276 : decode cX5_digest 276 = .ok (.lstore_n 1, 1) := dk_64 (dk_at dksX5_digest_11 19 rfl rfl)
theorem dX5_digest_277 : decode cX5_digest 277 = .ok (.ldc2_w 369, 3) := dk_20 1 113 (dk_at dksX5_digest_11 20 rfl rfl)
theorem dX5_digest_280 : decode cX5_digest 280 = .ok (.lload_n 1, 1) := dk_31 (dk_at dksX5_digest_11 23 rfl rfl)
theorem dX5_digest_281 : decode cX5_digest 281 = .ok (.lmul, 1) := dk_105 (dk_at dksX5_digest_12 0 rfl rfl)
theorem dX5_digest_282 : decode cX5_digest 282 = .ok (.aload_n 0, 1) := dk_42 (dk_at dksX5_digest_12 1 rfl rfl)
theorem dX5_digest_283 : decode cX5_digest 283 = .ok (.iload_n 3, 1) := dk_29 (dk_at dksX5_digest_12 2 rfl rfl)
theorem dX5_digest_284 : decode cX5_digest 284 = .ok (.iconst 0, 1) := dk_3 (dk_at dksX5_digest_12 3 rfl rfl)
theorem dX5_digest_285 : decode cX5_digest 285 = .ok (.invokevirtual 314, 3) := dk_182 1 58 (dk_at dksX5_digest_12 4 rfl rfl)
theorem dX5_digest_288 : decode cX5_digest 288 = .ok (.i2l, 1) := dk_133 (dk_at dksX5_digest_12 7 rfl rfl)
theorem dX5_digest_289 : decode cX5_digest 289 = .ok (.ladd, 1) := dk_97 (dk_at dksX5_digest_12 8 rfl rfl)
theorem dX5_digest_290 : decode cX5_digest 290 = .ok (.lstore_n 1, 1) := dk_64 (dk_at dksX5_digest_12 9 rfl rfl)
theorem dX5_digest_291 : decode cX5_digest 291 = .ok (.ldc2_w 369, 3) := dk_20 1 113 (dk_at dksX5_digest_12 10 rfl rfl)
theorem dX5_digest_294 : decode cX5_digest 294 = .ok (.lload_n 1, 1) := dk_31 (dk_at dksX5_digest_12 13 rfl rfl)
theorem dX5_digest_295 : decode cX5_digest 295 = .ok (.lmul, 1) := dk_105 (dk_at dksX5_digest_12 14 rfl rfl)
theorem dX5_digest_296 : decode cX5_digest 296 = .ok (.aload_n 0, 1) := dk_42 (dk_at dksX5_digest_12 15 rfl rfl)
theorem dX5_digest_297 : decode cX5_digest 297 = .ok (.invokevirtual 324, 3) := dk_182 1 68 (dk_at dksX5_digest_12 16 rfl rfl)
theorem dX5_digest_300 : decode cX5_digest 300 = .ok (.i2l, 1) := dk_133 (dk_at dksX5_digest_12 19 rfl rfl)
theorem dX5_digest_301 : decode cX5_digest 301 = .ok (.ladd, 1) := dk_97 (dk_at dksX5_digest_12 20 rfl rfl)
theorem dX5_digest_302 : decode cX5_digest 302 = .ok (.lstore_n 1, 1) := dk_64 (dk_at dksX5_digest_12 21 rfl rfl)
theorem dX5_digest_303 : decode cX5_digest 303 = .ok (.ldc2_w 369, 3) := dk_20 1 113 (dk_at dksX5_digest_13 0 rfl rfl)
theorem dX5_digest_306 : decode cX5_digest 306 = .ok (.lload_n 1, 1) := dk_31 (dk_at dksX5_digest_13 3 rfl rfl)
theorem dX5_digest_307 : decode cX5_digest 307 = .ok (.lmul, 1) := dk_105 (dk_at dksX5_digest_13 4 rfl rfl)
theorem dX5_digest_308 : decode cX5_digest 308 = .ok (.aload_n 0, 1) := dk_42 (dk_at dksX5_digest_13 5 rfl rfl)
theorem dX5_digest_309 : decode cX5_digest 309 = .ok (.invokevirtual 327, 3) := dk_182 1 71 (dk_at dksX5_digest_13 6 rfl rfl)
theorem dX5_digest_312 : decode cX5_digest 312 = .ok (.i2l, 1) := dk_133 (dk_at dksX5_digest_13 9 rfl rfl)
theorem dX5_digest_313 : decode cX5_digest 313 = .ok (.ladd, 1) := dk_97 (dk_at dksX5_digest_13 10 rfl rfl)
theorem dX5_digest_314 : decode cX5_digest 314 = .ok (.lstore_n 1, 1) := dk_64 (dk_at dksX5_digest_13 11 rfl rfl)
theorem dX5_digest_315 : decode cX5_digest 315 = .ok (.ldc2_w 369, 3) := dk_20 1 113 (dk_at dksX5_digest_13 12 rfl rfl)
theorem dX5_digest_318 : decode cX5_digest 318 = .ok (.lload_n 1, 1) := dk_31 (dk_at dksX5_digest_13 15 rfl rfl)
theorem dX5_digest_319 : decode cX5_digest 319 = .ok (.lmul, 1) := dk_105 (dk_at dksX5_digest_13 16 rfl rfl)
theorem dX5_digest_320 : decode cX5_digest 320 = .ok (.aload_n 0, 1) := dk_42 (dk_at dksX5_digest_13 17 rfl rfl)
theorem dX5_digest_321 : decode cX5_digest 321 = .ok (.invokevirtual 336, 3) := dk_182 1 80 (dk_at dksX5_digest_13 18 rfl rfl)
theorem dX5_digest_324 : decode cX5_digest 324 = .ok (.i2l, 1) := dk_133 (dk_at dksX5_digest_13 21 rfl rfl)
theorem dX5_digest_325 : decode cX5_digest 325 = .ok (.ladd, 1) := dk_97 (dk_at dksX5_digest_13 22 rfl rfl)
theorem dX5_digest_326 : decode cX5_digest 326 = .ok (.lstore_n 1, 1) := dk_64 (dk_at dksX5_digest_13 23 rfl rfl)
theorem dX5_digest_327 : decode cX5_digest 327 = .ok (.ldc2_w 369, 3) := dk_20 1 113 (dk_at dksX5_digest_14 0 rfl rfl)
theorem dX5_digest_330 : decode cX5_digest 330 = .ok (.lload_n 1, 1) := dk_31 (dk_at dksX5_digest_14 3 rfl rfl)
theorem dX5_digest_331 : decode cX5_digest 331 = .ok (.lmul, 1) := dk_105 (dk_at dksX5_digest_14 4 rfl rfl)
theorem dX5_digest_332 : decode cX5_digest 332 = .ok (.aload_n 0, 1) := dk_42 (dk_at dksX5_digest_14 5 rfl rfl)
theorem dX5_digest_333 : decode cX5_digest 333 = .ok (.bipush 7, 2) := dk_16 7 (dk_at dksX5_digest_14 6 rfl rfl)
theorem dX5_digest_335 : decode cX5_digest 335 = .ok (.bipush 6, 2) := dk_16 6 (dk_at dksX5_digest_14 8 rfl rfl)
theorem dX5_digest_337 : decode cX5_digest 337 = .ok (.iconst 0, 1) := dk_3 (dk_at dksX5_digest_14 10 rfl rfl)
theorem dX5_digest_338 : decode cX5_digest 338 = .ok (.invokevirtual 352, 3) := dk_182 1 96 (dk_at dksX5_digest_14 11 rfl rfl)
theorem dX5_digest_341 : decode cX5_digest 341 = .ok (.i2l, 1) := dk_133 (dk_at dksX5_digest_14 14 rfl rfl)
theorem dX5_digest_342 : decode cX5_digest 342 = .ok (.ladd, 1) := dk_97 (dk_at dksX5_digest_14 15 rfl rfl)
theorem dX5_digest_343 : decode cX5_digest 343 = .ok (.lstore_n 1, 1) := dk_64 (dk_at dksX5_digest_14 16 rfl rfl)
theorem dX5_digest_344 : decode cX5_digest 344 = .ok (.ldc2_w 369, 3) := dk_20 1 113 (dk_at dksX5_digest_14 17 rfl rfl)
theorem dX5_digest_347 : decode cX5_digest 347 = .ok (.lload_n 1, 1) := dk_31 (dk_at dksX5_digest_14 20 rfl rfl)
theorem dX5_digest_348 : decode cX5_digest 348 = .ok (.lmul, 1) := dk_105 (dk_at dksX5_digest_14 21 rfl rfl)
theorem dX5_digest_349 : decode cX5_digest 349 = .ok (.aload_n 0, 1) := dk_42 (dk_at dksX5_digest_14 22 rfl rfl)
theorem dX5_digest_350 : decode cX5_digest 350 = .ok (.bipush 7, 2) := dk_16 7 (dk_at dksX5_digest_15 0 rfl rfl)
theorem dX5_digest_352 : decode cX5_digest 352 = .ok (.bipush 6, 2) := dk_16 6 (dk_at dksX5_digest_15 2 rfl rfl)
theorem dX5_digest_354 : decode cX5_digest 354 = .ok (.iconst 1, 1) := dk_4 (dk_at dksX5_digest_15 4 rfl rfl)
theorem dX5_digest_355 : decode cX5_digest 355 = .ok (.invokevirtual 352, 3) := dk_182 1 96 (dk_at dksX5_digest_15 5 rfl rfl)
theorem dX5_digest_358 : decode cX5_digest 358 = .ok (.i2l, 1) := dk_133 (dk_at dksX5_digest_15 8 rfl rfl)
theorem dX5_digest_359 : decode cX5_digest 359 = .ok (.ladd, 1) := dk_97 (dk_at dksX5_digest_15 9 rfl rfl)
theorem dX5_digest_360 : decode cX5_digest 360 = .ok (.lreturn, 1) := dk_173 (dk_at dksX5_digest_15 10 rfl rfl)
abbrev cX5_pieceDigest : ByteArray := prog_15_method_99_code
def yX5_pieceDigest : MethodName := ⟨RX5, "pieceDigest", "(JI)J"⟩
def dkwX5_pieceDigest_3 : List UInt8 := [20, 1, 113, 22, 4, 105, 42, 29, 182, 1, 74, 133, 97, 173]
abbrev dktX5_pieceDigest_3 : List UInt8 := dkwX5_pieceDigest_3 ++ []
def dkwX5_pieceDigest_2 : List UInt8 := [182, 1, 43, 133, 97, 55, 4, 20, 1, 113, 22, 4, 105, 42, 29, 4, 182, 1, 43, 133, 97, 55, 4]
abbrev dktX5_pieceDigest_2 : List UInt8 := dkwX5_pieceDigest_2 ++ dktX5_pieceDigest_3
def dkwX5_pieceDigest_1 : List UInt8 := [182, 0, 160, 133, 97, 55, 4, 132, 6, 1, 167, 255, 230, 20, 1, 113, 22, 4, 105, 42, 29, 3]
abbrev dktX5_pieceDigest_1 : List UInt8 := dkwX5_pieceDigest_1 ++ dktX5_pieceDigest_2
def dkwX5_pieceDigest_0 : List UInt8 := [31, 55, 4, 3, 54, 6, 21, 6, 6, 162, 0, 26, 20, 1, 113, 22, 4, 105, 42, 29, 21, 6]
abbrev dktX5_pieceDigest_0 : List UInt8 := dkwX5_pieceDigest_0 ++ dktX5_pieceDigest_1
theorem dksX5_pieceDigest_0 : cX5_pieceDigest.data.toList.drop 0 = dktX5_pieceDigest_0 := by decide +kernel
theorem dksX5_pieceDigest_1 : cX5_pieceDigest.data.toList.drop 22 = dktX5_pieceDigest_1 := dk_seg dksX5_pieceDigest_0 22 rfl rfl
theorem dksX5_pieceDigest_2 : cX5_pieceDigest.data.toList.drop 44 = dktX5_pieceDigest_2 := dk_seg dksX5_pieceDigest_1 22 rfl rfl
theorem dksX5_pieceDigest_3 : cX5_pieceDigest.data.toList.drop 67 = dktX5_pieceDigest_3 := dk_seg dksX5_pieceDigest_2 23 rfl rfl
theorem dX5_pieceDigest_0 : decode cX5_pieceDigest 0 = .ok (.lload_n 1, 1) := dk_31 (dk_at dksX5_pieceDigest_0 0 rfl rfl)
theorem dX5_pieceDigest_1 : decode cX5_pieceDigest 1 = .ok (.lstore 4, 2) := dk_55 4 (dk_at dksX5_pieceDigest_0 1 rfl rfl)
theorem dX5_pieceDigest_3 : decode cX5_pieceDigest 3 = .ok (.iconst 0, 1) := dk_3 (dk_at dksX5_pieceDigest_0 3 rfl rfl)
theorem dX5_pieceDigest_4 : decode cX5_pieceDigest 4 = .ok (.istore 6, 2) := dk_54 6 (dk_at dksX5_pieceDigest_0 4 rfl rfl)
theorem dX5_pieceDigest_6 : decode cX5_pieceDigest 6 = .ok (.iload 6, 2) := dk_21 6 (dk_at dksX5_pieceDigest_0 6 rfl rfl)
theorem dX5_pieceDigest_8 : decode cX5_pieceDigest 8 = .ok (.iconst 3, 1) := dk_6 (dk_at dksX5_pieceDigest_0 8 rfl rfl)
theorem dX5_pieceDigest_9 : decode cX5_pieceDigest 9 = .ok (.if_icmp .ge 26, 3) := dk_162 0 26 (dk_at dksX5_pieceDigest_0 9 rfl rfl)
theorem dX5_pieceDigest_12 : decode cX5_pieceDigest 12 = .ok (.ldc2_w 369, 3) := dk_20 1 113 (dk_at dksX5_pieceDigest_0 12 rfl rfl)
theorem dX5_pieceDigest_15 : decode cX5_pieceDigest 15 = .ok (.lload 4, 2) := dk_22 4 (dk_at dksX5_pieceDigest_0 15 rfl rfl)
theorem dX5_pieceDigest_17 : decode cX5_pieceDigest 17 = .ok (.lmul, 1) := dk_105 (dk_at dksX5_pieceDigest_0 17 rfl rfl)
theorem dX5_pieceDigest_18 : decode cX5_pieceDigest 18 = .ok (.aload_n 0, 1) := dk_42 (dk_at dksX5_pieceDigest_0 18 rfl rfl)
theorem dX5_pieceDigest_19 : decode cX5_pieceDigest 19 = .ok (.iload_n 3, 1) := dk_29 (dk_at dksX5_pieceDigest_0 19 rfl rfl)
theorem dX5_pieceDigest_20 : decode cX5_pieceDigest 20 = .ok (.iload 6, 2) := dk_21 6 (dk_at dksX5_pieceDigest_0 20 rfl rfl)
theorem dX5_pieceDigest_22 : decode cX5_pieceDigest 22 = .ok (.invokevirtual 160, 3) := dk_182 0 160 (dk_at dksX5_pieceDigest_1 0 rfl rfl)
theorem dX5_pieceDigest_25 : decode cX5_pieceDigest 25 = .ok (.i2l, 1) := dk_133 (dk_at dksX5_pieceDigest_1 3 rfl rfl)
theorem dX5_pieceDigest_26 : decode cX5_pieceDigest 26 = .ok (.ladd, 1) := dk_97 (dk_at dksX5_pieceDigest_1 4 rfl rfl)
theorem dX5_pieceDigest_27 : decode cX5_pieceDigest 27 = .ok (.lstore 4, 2) := dk_55 4 (dk_at dksX5_pieceDigest_1 5 rfl rfl)
theorem dX5_pieceDigest_29 : decode cX5_pieceDigest 29 = .ok (.iinc 6 1, 3) := dk_132 6 1 (dk_at dksX5_pieceDigest_1 7 rfl rfl)
theorem dX5_pieceDigest_32 : decode cX5_pieceDigest 32 = .ok (.goto (-26), 3) := dk_167 255 230 (dk_at dksX5_pieceDigest_1 10 rfl rfl)
theorem dX5_pieceDigest_35 : decode cX5_pieceDigest 35 = .ok (.ldc2_w 369, 3) := dk_20 1 113 (dk_at dksX5_pieceDigest_1 13 rfl rfl)
theorem dX5_pieceDigest_38 : decode cX5_pieceDigest 38 = .ok (.lload 4, 2) := dk_22 4 (dk_at dksX5_pieceDigest_1 16 rfl rfl)
theorem dX5_pieceDigest_40 : decode cX5_pieceDigest 40 = .ok (.lmul, 1) := dk_105 (dk_at dksX5_pieceDigest_1 18 rfl rfl)
theorem dX5_pieceDigest_41 : decode cX5_pieceDigest 41 = .ok (.aload_n 0, 1) := dk_42 (dk_at dksX5_pieceDigest_1 19 rfl rfl)
theorem dX5_pieceDigest_42 : decode cX5_pieceDigest 42 = .ok (.iload_n 3, 1) := dk_29 (dk_at dksX5_pieceDigest_1 20 rfl rfl)
theorem dX5_pieceDigest_43 : decode cX5_pieceDigest 43 = .ok (.iconst 0, 1) := dk_3 (dk_at dksX5_pieceDigest_1 21 rfl rfl)
theorem dX5_pieceDigest_44 : decode cX5_pieceDigest 44 = .ok (.invokevirtual 299, 3) := dk_182 1 43 (dk_at dksX5_pieceDigest_2 0 rfl rfl)
theorem dX5_pieceDigest_47 : decode cX5_pieceDigest 47 = .ok (.i2l, 1) := dk_133 (dk_at dksX5_pieceDigest_2 3 rfl rfl)
theorem dX5_pieceDigest_48 : decode cX5_pieceDigest 48 = .ok (.ladd, 1) := dk_97 (dk_at dksX5_pieceDigest_2 4 rfl rfl)
theorem dX5_pieceDigest_49 : decode cX5_pieceDigest 49 = .ok (.lstore 4, 2) := dk_55 4 (dk_at dksX5_pieceDigest_2 5 rfl rfl)
theorem dX5_pieceDigest_51 : decode cX5_pieceDigest 51 = .ok (.ldc2_w 369, 3) := dk_20 1 113 (dk_at dksX5_pieceDigest_2 7 rfl rfl)
theorem dX5_pieceDigest_54 : decode cX5_pieceDigest 54 = .ok (.lload 4, 2) := dk_22 4 (dk_at dksX5_pieceDigest_2 10 rfl rfl)
theorem dX5_pieceDigest_56 : decode cX5_pieceDigest 56 = .ok (.lmul, 1) := dk_105 (dk_at dksX5_pieceDigest_2 12 rfl rfl)
theorem dX5_pieceDigest_57 : decode cX5_pieceDigest 57 = .ok (.aload_n 0, 1) := dk_42 (dk_at dksX5_pieceDigest_2 13 rfl rfl)
theorem dX5_pieceDigest_58 : decode cX5_pieceDigest 58 = .ok (.iload_n 3, 1) := dk_29 (dk_at dksX5_pieceDigest_2 14 rfl rfl)
theorem dX5_pieceDigest_59 : decode cX5_pieceDigest 59 = .ok (.iconst 1, 1) := dk_4 (dk_at dksX5_pieceDigest_2 15 rfl rfl)
theorem dX5_pieceDigest_60 : decode cX5_pieceDigest 60 = .ok (.invokevirtual 299, 3) := dk_182 1 43 (dk_at dksX5_pieceDigest_2 16 rfl rfl)
theorem dX5_pieceDigest_63 : decode cX5_pieceDigest 63 = .ok (.i2l, 1) := dk_133 (dk_at dksX5_pieceDigest_2 19 rfl rfl)
theorem dX5_pieceDigest_64 : decode cX5_pieceDigest 64 = .ok (.ladd, 1) := dk_97 (dk_at dksX5_pieceDigest_2 20 rfl rfl)
theorem dX5_pieceDigest_65 : decode cX5_pieceDigest 65 = .ok (.lstore 4, 2) := dk_55 4 (dk_at dksX5_pieceDigest_2 21 rfl rfl)
theorem dX5_pieceDigest_67 : decode cX5_pieceDigest 67 = .ok (.ldc2_w 369, 3) := dk_20 1 113 (dk_at dksX5_pieceDigest_3 0 rfl rfl)
theorem dX5_pieceDigest_70 : decode cX5_pieceDigest 70 = .ok (.lload 4, 2) := dk_22 4 (dk_at dksX5_pieceDigest_3 3 rfl rfl)
theorem dX5_pieceDigest_72 : decode cX5_pieceDigest 72 = .ok (.lmul, 1) := dk_105 (dk_at dksX5_pieceDigest_3 5 rfl rfl)
theorem dX5_pieceDigest_73 : decode cX5_pieceDigest 73 = .ok (.aload_n 0, 1) := dk_42 (dk_at dksX5_pieceDigest_3 6 rfl rfl)
theorem dX5_pieceDigest_74 : decode cX5_pieceDigest 74 = .ok (.iload_n 3, 1) := dk_29 (dk_at dksX5_pieceDigest_3 7 rfl rfl)
theorem dX5_pieceDigest_75 : decode cX5_pieceDigest 75 = .ok (.invokevirtual 330, 3) := dk_182 1 74 (dk_at dksX5_pieceDigest_3 8 rfl rfl)
theorem dX5_pieceDigest_78 : decode cX5_pieceDigest 78 = .ok (.i2l, 1) := dk_133 (dk_at dksX5_pieceDigest_3 11 rfl rfl)
theorem dX5_pieceDigest_79 : decode cX5_pieceDigest 79 = .ok (.ladd, 1) := dk_97 (dk_at dksX5_pieceDigest_3 12 rfl rfl)
theorem dX5_pieceDigest_80 : decode cX5_pieceDigest 80 = .ok (.lreturn, 1) := dk_173 (dk_at dksX5_pieceDigest_3 13 rfl rfl)
abbrev cX5_guestDigest : ByteArray := prog_15_method_101_code
def yX5_guestDigest : MethodName := ⟨RX5, "guestDigest", "(JI)J"⟩
def dkwX5_guestDigest_6 : List UInt8 := [182, 1, 87, 97, 173]
abbrev dktX5_guestDigest_6 : List UInt8 := dkwX5_guestDigest_6 ++ []
def dkwX5_guestDigest_5 : List UInt8 := [22, 4, 105, 42, 8, 29, 3, 182, 1, 87, 97, 55, 4, 20, 1, 113, 22, 4, 105, 42, 8, 29, 4]
abbrev dktX5_guestDigest_5 : List UInt8 := dkwX5_guestDigest_5 ++ dktX5_guestDigest_6
def dkwX5_guestDigest_4 : List UInt8 := [133, 97, 55, 4, 20, 1, 113, 22, 4, 105, 42, 29, 4, 182, 1, 49, 133, 97, 55, 4, 20, 1, 113]
abbrev dktX5_guestDigest_4 : List UInt8 := dkwX5_guestDigest_4 ++ dktX5_guestDigest_5
def dkwX5_guestDigest_3 : List UInt8 := [22, 4, 105, 42, 29, 182, 1, 25, 133, 97, 55, 4, 20, 1, 113, 22, 4, 105, 42, 29, 3, 182, 1, 49]
abbrev dktX5_guestDigest_3 : List UInt8 := dkwX5_guestDigest_3 ++ dktX5_guestDigest_4
def dkwX5_guestDigest_2 : List UInt8 := [22, 4, 16, 11, 29, 182, 1, 115, 55, 4, 42, 22, 4, 16, 23, 29, 182, 1, 115, 55, 4, 20, 1, 113]
abbrev dktX5_guestDigest_2 : List UInt8 := dkwX5_guestDigest_2 ++ dktX5_guestDigest_3
def dkwX5_guestDigest_1 : List UInt8 := [182, 0, 166, 133, 97, 55, 4, 132, 6, 1, 167, 255, 230, 42, 22, 4, 7, 29, 182, 1, 115, 55, 4, 42]
abbrev dktX5_guestDigest_1 : List UInt8 := dkwX5_guestDigest_1 ++ dktX5_guestDigest_2
def dkwX5_guestDigest_0 : List UInt8 := [31, 55, 4, 3, 54, 6, 21, 6, 6, 162, 0, 26, 20, 1, 113, 22, 4, 105, 42, 29, 21, 6]
abbrev dktX5_guestDigest_0 : List UInt8 := dkwX5_guestDigest_0 ++ dktX5_guestDigest_1
theorem dksX5_guestDigest_0 : cX5_guestDigest.data.toList.drop 0 = dktX5_guestDigest_0 := by decide +kernel
theorem dksX5_guestDigest_1 : cX5_guestDigest.data.toList.drop 22 = dktX5_guestDigest_1 := dk_seg dksX5_guestDigest_0 22 rfl rfl
theorem dksX5_guestDigest_2 : cX5_guestDigest.data.toList.drop 46 = dktX5_guestDigest_2 := dk_seg dksX5_guestDigest_1 24 rfl rfl
theorem dksX5_guestDigest_3 : cX5_guestDigest.data.toList.drop 70 = dktX5_guestDigest_3 := dk_seg dksX5_guestDigest_2 24 rfl rfl
theorem dksX5_guestDigest_4 : cX5_guestDigest.data.toList.drop 94 = dktX5_guestDigest_4 := dk_seg dksX5_guestDigest_3 24 rfl rfl
theorem dksX5_guestDigest_5 : cX5_guestDigest.data.toList.drop 117 = dktX5_guestDigest_5 := dk_seg dksX5_guestDigest_4 23 rfl rfl
theorem dksX5_guestDigest_6 : cX5_guestDigest.data.toList.drop 140 = dktX5_guestDigest_6 := dk_seg dksX5_guestDigest_5 23 rfl rfl
theorem dX5_guestDigest_0 : decode cX5_guestDigest 0 = .ok (.lload_n 1, 1) := dk_31 (dk_at dksX5_guestDigest_0 0 rfl rfl)
theorem dX5_guestDigest_1 : decode cX5_guestDigest 1 = .ok (.lstore 4, 2) := dk_55 4 (dk_at dksX5_guestDigest_0 1 rfl rfl)
theorem dX5_guestDigest_3 : decode cX5_guestDigest 3 = .ok (.iconst 0, 1) := dk_3 (dk_at dksX5_guestDigest_0 3 rfl rfl)
theorem dX5_guestDigest_4 : decode cX5_guestDigest 4 = .ok (.istore 6, 2) := dk_54 6 (dk_at dksX5_guestDigest_0 4 rfl rfl)
theorem dX5_guestDigest_6 : decode cX5_guestDigest 6 = .ok (.iload 6, 2) := dk_21 6 (dk_at dksX5_guestDigest_0 6 rfl rfl)
theorem dX5_guestDigest_8 : decode cX5_guestDigest 8 = .ok (.iconst 3, 1) := dk_6 (dk_at dksX5_guestDigest_0 8 rfl rfl)
theorem dX5_guestDigest_9 : decode cX5_guestDigest 9 = .ok (.if_icmp .ge 26, 3) := dk_162 0 26 (dk_at dksX5_guestDigest_0 9 rfl rfl)
theorem dX5_guestDigest_12 : decode cX5_guestDigest 12 = .ok (.ldc2_w 369, 3) := dk_20 1 113 (dk_at dksX5_guestDigest_0 12 rfl rfl)
theorem dX5_guestDigest_15 : decode cX5_guestDigest 15 = .ok (.lload 4, 2) := dk_22 4 (dk_at dksX5_guestDigest_0 15 rfl rfl)
theorem dX5_guestDigest_17 : decode cX5_guestDigest 17 = .ok (.lmul, 1) := dk_105 (dk_at dksX5_guestDigest_0 17 rfl rfl)
theorem dX5_guestDigest_18 : decode cX5_guestDigest 18 = .ok (.aload_n 0, 1) := dk_42 (dk_at dksX5_guestDigest_0 18 rfl rfl)
theorem dX5_guestDigest_19 : decode cX5_guestDigest 19 = .ok (.iload_n 3, 1) := dk_29 (dk_at dksX5_guestDigest_0 19 rfl rfl)
theorem dX5_guestDigest_20 : decode cX5_guestDigest 20 = .ok (.iload 6, 2) := dk_21 6 (dk_at dksX5_guestDigest_0 20 rfl rfl)
theorem dX5_guestDigest_22 : decode cX5_guestDigest 22 = .ok (.invokevirtual 166, 3) := dk_182 0 166 (dk_at dksX5_guestDigest_1 0 rfl rfl)
theorem dX5_guestDigest_25 : decode cX5_guestDigest 25 = .ok (.i2l, 1) := dk_133 (dk_at dksX5_guestDigest_1 3 rfl rfl)
theorem dX5_guestDigest_26 : decode cX5_guestDigest 26 = .ok (.ladd, 1) := dk_97 (dk_at dksX5_guestDigest_1 4 rfl rfl)
theorem dX5_guestDigest_27 : decode cX5_guestDigest 27 = .ok (.lstore 4, 2) := dk_55 4 (dk_at dksX5_guestDigest_1 5 rfl rfl)
theorem dX5_guestDigest_29 : decode cX5_guestDigest 29 = .ok (.iinc 6 1, 3) := dk_132 6 1 (dk_at dksX5_guestDigest_1 7 rfl rfl)
theorem dX5_guestDigest_32 : decode cX5_guestDigest 32 = .ok (.goto (-26), 3) := dk_167 255 230 (dk_at dksX5_guestDigest_1 10 rfl rfl)
theorem dX5_guestDigest_35 : decode cX5_guestDigest 35 = .ok (.aload_n 0, 1) := dk_42 (dk_at dksX5_guestDigest_1 13 rfl rfl)
theorem dX5_guestDigest_36 : decode cX5_guestDigest 36 = .ok (.lload 4, 2) := dk_22 4 (dk_at dksX5_guestDigest_1 14 rfl rfl)
theorem dX5_guestDigest_38 : decode cX5_guestDigest 38 = .ok (.iconst 4, 1) := dk_7 (dk_at dksX5_guestDigest_1 16 rfl rfl)
theorem dX5_guestDigest_39 : decode cX5_guestDigest 39 = .ok (.iload_n 3, 1) := dk_29 (dk_at dksX5_guestDigest_1 17 rfl rfl)
theorem dX5_guestDigest_40 : decode cX5_guestDigest 40 = .ok (.invokevirtual 371, 3) := dk_182 1 115 (dk_at dksX5_guestDigest_1 18 rfl rfl)
theorem dX5_guestDigest_43 : decode cX5_guestDigest 43 = .ok (.lstore 4, 2) := dk_55 4 (dk_at dksX5_guestDigest_1 21 rfl rfl)
theorem dX5_guestDigest_45 : decode cX5_guestDigest 45 = .ok (.aload_n 0, 1) := dk_42 (dk_at dksX5_guestDigest_1 23 rfl rfl)
theorem dX5_guestDigest_46 : decode cX5_guestDigest 46 = .ok (.lload 4, 2) := dk_22 4 (dk_at dksX5_guestDigest_2 0 rfl rfl)
theorem dX5_guestDigest_48 : decode cX5_guestDigest 48 = .ok (.bipush 11, 2) := dk_16 11 (dk_at dksX5_guestDigest_2 2 rfl rfl)
theorem dX5_guestDigest_50 : decode cX5_guestDigest 50 = .ok (.iload_n 3, 1) := dk_29 (dk_at dksX5_guestDigest_2 4 rfl rfl)
theorem dX5_guestDigest_51 : decode cX5_guestDigest 51 = .ok (.invokevirtual 371, 3) := dk_182 1 115 (dk_at dksX5_guestDigest_2 5 rfl rfl)
theorem dX5_guestDigest_54 : decode cX5_guestDigest 54 = .ok (.lstore 4, 2) := dk_55 4 (dk_at dksX5_guestDigest_2 8 rfl rfl)
theorem dX5_guestDigest_56 : decode cX5_guestDigest 56 = .ok (.aload_n 0, 1) := dk_42 (dk_at dksX5_guestDigest_2 10 rfl rfl)
theorem dX5_guestDigest_57 : decode cX5_guestDigest 57 = .ok (.lload 4, 2) := dk_22 4 (dk_at dksX5_guestDigest_2 11 rfl rfl)
theorem dX5_guestDigest_59 : decode cX5_guestDigest 59 = .ok (.bipush 23, 2) := dk_16 23 (dk_at dksX5_guestDigest_2 13 rfl rfl)
theorem dX5_guestDigest_61 : decode cX5_guestDigest 61 = .ok (.iload_n 3, 1) := dk_29 (dk_at dksX5_guestDigest_2 15 rfl rfl)
theorem dX5_guestDigest_62 : decode cX5_guestDigest 62 = .ok (.invokevirtual 371, 3) := dk_182 1 115 (dk_at dksX5_guestDigest_2 16 rfl rfl)
theorem dX5_guestDigest_65 : decode cX5_guestDigest 65 = .ok (.lstore 4, 2) := dk_55 4 (dk_at dksX5_guestDigest_2 19 rfl rfl)
theorem dX5_guestDigest_67 : decode cX5_guestDigest 67 = .ok (.ldc2_w 369, 3) := dk_20 1 113 (dk_at dksX5_guestDigest_2 21 rfl rfl)
theorem dX5_guestDigest_70 : decode cX5_guestDigest 70 = .ok (.lload 4, 2) := dk_22 4 (dk_at dksX5_guestDigest_3 0 rfl rfl)
theorem dX5_guestDigest_72 : decode cX5_guestDigest 72 = .ok (.lmul, 1) := dk_105 (dk_at dksX5_guestDigest_3 2 rfl rfl)
theorem dX5_guestDigest_73 : decode cX5_guestDigest 73 = .ok (.aload_n 0, 1) := dk_42 (dk_at dksX5_guestDigest_3 3 rfl rfl)
theorem dX5_guestDigest_74 : decode cX5_guestDigest 74 = .ok (.iload_n 3, 1) := dk_29 (dk_at dksX5_guestDigest_3 4 rfl rfl)
theorem dX5_guestDigest_75 : decode cX5_guestDigest 75 = .ok (.invokevirtual 281, 3) := dk_182 1 25 (dk_at dksX5_guestDigest_3 5 rfl rfl)
theorem dX5_guestDigest_78 : decode cX5_guestDigest 78 = .ok (.i2l, 1) := dk_133 (dk_at dksX5_guestDigest_3 8 rfl rfl)
theorem dX5_guestDigest_79 : decode cX5_guestDigest 79 = .ok (.ladd, 1) := dk_97 (dk_at dksX5_guestDigest_3 9 rfl rfl)
theorem dX5_guestDigest_80 : decode cX5_guestDigest 80 = .ok (.lstore 4, 2) := dk_55 4 (dk_at dksX5_guestDigest_3 10 rfl rfl)
theorem dX5_guestDigest_82 : decode cX5_guestDigest 82 = .ok (.ldc2_w 369, 3) := dk_20 1 113 (dk_at dksX5_guestDigest_3 12 rfl rfl)
theorem dX5_guestDigest_85 : decode cX5_guestDigest 85 = .ok (.lload 4, 2) := dk_22 4 (dk_at dksX5_guestDigest_3 15 rfl rfl)
theorem dX5_guestDigest_87 : decode cX5_guestDigest 87 = .ok (.lmul, 1) := dk_105 (dk_at dksX5_guestDigest_3 17 rfl rfl)
theorem dX5_guestDigest_88 : decode cX5_guestDigest 88 = .ok (.aload_n 0, 1) := dk_42 (dk_at dksX5_guestDigest_3 18 rfl rfl)
theorem dX5_guestDigest_89 : decode cX5_guestDigest 89 = .ok (.iload_n 3, 1) := dk_29 (dk_at dksX5_guestDigest_3 19 rfl rfl)
theorem dX5_guestDigest_90 : decode cX5_guestDigest 90 = .ok (.iconst 0, 1) := dk_3 (dk_at dksX5_guestDigest_3 20 rfl rfl)
theorem dX5_guestDigest_91 : decode cX5_guestDigest 91 = .ok (.invokevirtual 305, 3) := dk_182 1 49 (dk_at dksX5_guestDigest_3 21 rfl rfl)
theorem dX5_guestDigest_94 : decode cX5_guestDigest 94 = .ok (.i2l, 1) := dk_133 (dk_at dksX5_guestDigest_4 0 rfl rfl)
theorem dX5_guestDigest_95 : decode cX5_guestDigest 95 = .ok (.ladd, 1) := dk_97 (dk_at dksX5_guestDigest_4 1 rfl rfl)
theorem dX5_guestDigest_96 : decode cX5_guestDigest 96 = .ok (.lstore 4, 2) := dk_55 4 (dk_at dksX5_guestDigest_4 2 rfl rfl)
theorem dX5_guestDigest_98 : decode cX5_guestDigest 98 = .ok (.ldc2_w 369, 3) := dk_20 1 113 (dk_at dksX5_guestDigest_4 4 rfl rfl)
theorem dX5_guestDigest_101 : decode cX5_guestDigest 101 = .ok (.lload 4, 2) := dk_22 4 (dk_at dksX5_guestDigest_4 7 rfl rfl)
theorem dX5_guestDigest_103 : decode cX5_guestDigest 103 = .ok (.lmul, 1) := dk_105 (dk_at dksX5_guestDigest_4 9 rfl rfl)
theorem dX5_guestDigest_104 : decode cX5_guestDigest 104 = .ok (.aload_n 0, 1) := dk_42 (dk_at dksX5_guestDigest_4 10 rfl rfl)
theorem dX5_guestDigest_105 : decode cX5_guestDigest 105 = .ok (.iload_n 3, 1) := dk_29 (dk_at dksX5_guestDigest_4 11 rfl rfl)
theorem dX5_guestDigest_106 : decode cX5_guestDigest 106 = .ok (.iconst 1, 1) := dk_4 (dk_at dksX5_guestDigest_4 12 rfl rfl)
theorem dX5_guestDigest_107 : decode cX5_guestDigest 107 = .ok (.invokevirtual 305, 3) := dk_182 1 49 (dk_at dksX5_guestDigest_4 13 rfl rfl)
theorem dX5_guestDigest_110 : decode cX5_guestDigest 110 = .ok (.i2l, 1) := dk_133 (dk_at dksX5_guestDigest_4 16 rfl rfl)
theorem dX5_guestDigest_111 : decode cX5_guestDigest 111 = .ok (.ladd, 1) := dk_97 (dk_at dksX5_guestDigest_4 17 rfl rfl)
theorem dX5_guestDigest_112 : decode cX5_guestDigest 112 = .ok (.lstore 4, 2) := dk_55 4 (dk_at dksX5_guestDigest_4 18 rfl rfl)
theorem dX5_guestDigest_114 : decode cX5_guestDigest 114 = .ok (.ldc2_w 369, 3) := dk_20 1 113 (dk_at dksX5_guestDigest_4 20 rfl rfl)
theorem dX5_guestDigest_117 : decode cX5_guestDigest 117 = .ok (.lload 4, 2) := dk_22 4 (dk_at dksX5_guestDigest_5 0 rfl rfl)
theorem dX5_guestDigest_119 : decode cX5_guestDigest 119 = .ok (.lmul, 1) := dk_105 (dk_at dksX5_guestDigest_5 2 rfl rfl)
theorem dX5_guestDigest_120 : decode cX5_guestDigest 120 = .ok (.aload_n 0, 1) := dk_42 (dk_at dksX5_guestDigest_5 3 rfl rfl)
theorem dX5_guestDigest_121 : decode cX5_guestDigest 121 = .ok (.iconst 5, 1) := dk_8 (dk_at dksX5_guestDigest_5 4 rfl rfl)
theorem dX5_guestDigest_122 : decode cX5_guestDigest 122 = .ok (.iload_n 3, 1) := dk_29 (dk_at dksX5_guestDigest_5 5 rfl rfl)
theorem dX5_guestDigest_123 : decode cX5_guestDigest 123 = .ok (.iconst 0, 1) := dk_3 (dk_at dksX5_guestDigest_5 6 rfl rfl)
theorem dX5_guestDigest_124 : decode cX5_guestDigest 124 = .ok (.invokevirtual 343, 3) := dk_182 1 87 (dk_at dksX5_guestDigest_5 7 rfl rfl)
theorem dX5_guestDigest_127 : decode cX5_guestDigest 127 = .ok (.ladd, 1) := dk_97 (dk_at dksX5_guestDigest_5 10 rfl rfl)
theorem dX5_guestDigest_128 : decode cX5_guestDigest 128 = .ok (.lstore 4, 2) := dk_55 4 (dk_at dksX5_guestDigest_5 11 rfl rfl)
theorem dX5_guestDigest_130 : decode cX5_guestDigest 130 = .ok (.ldc2_w 369, 3) := dk_20 1 113 (dk_at dksX5_guestDigest_5 13 rfl rfl)
theorem dX5_guestDigest_133 : decode cX5_guestDigest 133 = .ok (.lload 4, 2) := dk_22 4 (dk_at dksX5_guestDigest_5 16 rfl rfl)
theorem dX5_guestDigest_135 : decode cX5_guestDigest 135 = .ok (.lmul, 1) := dk_105 (dk_at dksX5_guestDigest_5 18 rfl rfl)
theorem dX5_guestDigest_136 : decode cX5_guestDigest 136 = .ok (.aload_n 0, 1) := dk_42 (dk_at dksX5_guestDigest_5 19 rfl rfl)
theorem dX5_guestDigest_137 : decode cX5_guestDigest 137 = .ok (.iconst 5, 1) := dk_8 (dk_at dksX5_guestDigest_5 20 rfl rfl)
theorem dX5_guestDigest_138 : decode cX5_guestDigest 138 = .ok (.iload_n 3, 1) := dk_29 (dk_at dksX5_guestDigest_5 21 rfl rfl)
theorem dX5_guestDigest_139 : decode cX5_guestDigest 139 = .ok (.iconst 1, 1) := dk_4 (dk_at dksX5_guestDigest_5 22 rfl rfl)
theorem dX5_guestDigest_140 : decode cX5_guestDigest 140 = .ok (.invokevirtual 343, 3) := dk_182 1 87 (dk_at dksX5_guestDigest_6 0 rfl rfl)
theorem dX5_guestDigest_143 : decode cX5_guestDigest 143 = .ok (.ladd, 1) := dk_97 (dk_at dksX5_guestDigest_6 3 rfl rfl)
theorem dX5_guestDigest_144 : decode cX5_guestDigest 144 = .ok (.lreturn, 1) := dk_173 (dk_at dksX5_guestDigest_6 4 rfl rfl)
abbrev cX5_isDigest : ByteArray := prog_15_method_100_code
def yX5_isDigest : MethodName := ⟨RX5, "isDigest", "(JII)J"⟩
def dkwX5_isDigest_1 : List UInt8 := [29, 21, 4, 4, 182, 1, 3, 133, 97, 173]
abbrev dktX5_isDigest_1 : List UInt8 := dkwX5_isDigest_1 ++ []
def dkwX5_isDigest_0 : List UInt8 := [20, 1, 113, 31, 105, 42, 29, 21, 4, 3, 182, 1, 3, 133, 97, 55, 5, 20, 1, 113, 22, 5, 105, 42]
abbrev dktX5_isDigest_0 : List UInt8 := dkwX5_isDigest_0 ++ dktX5_isDigest_1
theorem dksX5_isDigest_0 : cX5_isDigest.data.toList.drop 0 = dktX5_isDigest_0 := by decide +kernel
theorem dksX5_isDigest_1 : cX5_isDigest.data.toList.drop 24 = dktX5_isDigest_1 := dk_seg dksX5_isDigest_0 24 rfl rfl
theorem dX5_isDigest_0 : decode cX5_isDigest 0 = .ok (.ldc2_w 369, 3) := dk_20 1 113 (dk_at dksX5_isDigest_0 0 rfl rfl)
theorem dX5_isDigest_3 : decode cX5_isDigest 3 = .ok (.lload_n 1, 1) := dk_31 (dk_at dksX5_isDigest_0 3 rfl rfl)
theorem dX5_isDigest_4 : decode cX5_isDigest 4 = .ok (.lmul, 1) := dk_105 (dk_at dksX5_isDigest_0 4 rfl rfl)
theorem dX5_isDigest_5 : decode cX5_isDigest 5 = .ok (.aload_n 0, 1) := dk_42 (dk_at dksX5_isDigest_0 5 rfl rfl)
theorem dX5_isDigest_6 : decode cX5_isDigest 6 = .ok (.iload_n 3, 1) := dk_29 (dk_at dksX5_isDigest_0 6 rfl rfl)
theorem dX5_isDigest_7 : decode cX5_isDigest 7 = .ok (.iload 4, 2) := dk_21 4 (dk_at dksX5_isDigest_0 7 rfl rfl)
theorem dX5_isDigest_9 : decode cX5_isDigest 9 = .ok (.iconst 0, 1) := dk_3 (dk_at dksX5_isDigest_0 9 rfl rfl)
theorem dX5_isDigest_10 : decode cX5_isDigest 10 = .ok (.invokevirtual 259, 3) := dk_182 1 3 (dk_at dksX5_isDigest_0 10 rfl rfl)
theorem dX5_isDigest_13 : decode cX5_isDigest 13 = .ok (.i2l, 1) := dk_133 (dk_at dksX5_isDigest_0 13 rfl rfl)
theorem dX5_isDigest_14 : decode cX5_isDigest 14 = .ok (.ladd, 1) := dk_97 (dk_at dksX5_isDigest_0 14 rfl rfl)
theorem dX5_isDigest_15 : decode cX5_isDigest 15 = .ok (.lstore 5, 2) := dk_55 5 (dk_at dksX5_isDigest_0 15 rfl rfl)
theorem dX5_isDigest_17 : decode cX5_isDigest 17 = .ok (.ldc2_w 369, 3) := dk_20 1 113 (dk_at dksX5_isDigest_0 17 rfl rfl)
theorem dX5_isDigest_20 : decode cX5_isDigest 20 = .ok (.lload 5, 2) := dk_22 5 (dk_at dksX5_isDigest_0 20 rfl rfl)
theorem dX5_isDigest_22 : decode cX5_isDigest 22 = .ok (.lmul, 1) := dk_105 (dk_at dksX5_isDigest_0 22 rfl rfl)
theorem dX5_isDigest_23 : decode cX5_isDigest 23 = .ok (.aload_n 0, 1) := dk_42 (dk_at dksX5_isDigest_0 23 rfl rfl)
theorem dX5_isDigest_24 : decode cX5_isDigest 24 = .ok (.iload_n 3, 1) := dk_29 (dk_at dksX5_isDigest_1 0 rfl rfl)
theorem dX5_isDigest_25 : decode cX5_isDigest 25 = .ok (.iload 4, 2) := dk_21 4 (dk_at dksX5_isDigest_1 1 rfl rfl)
theorem dX5_isDigest_27 : decode cX5_isDigest 27 = .ok (.iconst 1, 1) := dk_4 (dk_at dksX5_isDigest_1 3 rfl rfl)
theorem dX5_isDigest_28 : decode cX5_isDigest 28 = .ok (.invokevirtual 259, 3) := dk_182 1 3 (dk_at dksX5_isDigest_1 4 rfl rfl)
theorem dX5_isDigest_31 : decode cX5_isDigest 31 = .ok (.i2l, 1) := dk_133 (dk_at dksX5_isDigest_1 7 rfl rfl)
theorem dX5_isDigest_32 : decode cX5_isDigest 32 = .ok (.ladd, 1) := dk_97 (dk_at dksX5_isDigest_1 8 rfl rfl)
theorem dX5_isDigest_33 : decode cX5_isDigest 33 = .ok (.lreturn, 1) := dk_173 (dk_at dksX5_isDigest_1 9 rfl rfl)
