set_option maxRecDepth 100000
/-! TwoTongues.<init> ()V -/
def dkwX1_init_10 : List UInt8 := [180, 0, 64, 182, 0, 116, 177]
abbrev dktX1_init_10 : List UInt8 := dkwX1_init_10 ++ []
def dkwX1_init_9 : List UInt8 := [183, 0, 99, 181, 0, 107, 42, 16, 6, 188, 10, 181, 0, 110, 42, 16, 6, 188, 10, 181, 0, 113, 42]
abbrev dktX1_init_9 : List UInt8 := dkwX1_init_9 ++ dktX1_init_10
def dkwX1_init_8 : List UInt8 := [183, 0, 99, 181, 0, 100, 42, 187, 0, 97, 89, 183, 0, 99, 181, 0, 104, 42, 187, 0, 97, 89]
abbrev dktX1_init_8 : List UInt8 := dkwX1_init_8 ++ dktX1_init_9
def dkwX1_init_7 : List UInt8 := [89, 42, 183, 0, 88, 83, 181, 0, 89, 42, 18, 93, 188, 10, 181, 0, 94, 42, 187, 0, 97, 89]
abbrev dktX1_init_7 : List UInt8 := dkwX1_init_7 ++ dktX1_init_8
def dkwX1_init_6 : List UInt8 := [181, 0, 82, 42, 5, 189, 0, 86, 89, 3, 187, 0, 86, 89, 42, 183, 0, 88, 83, 89, 4, 187, 0, 86]
abbrev dktX1_init_6 : List UInt8 := dkwX1_init_6 ++ dktX1_init_7
def dkwX1_init_5 : List UInt8 := [181, 0, 71, 42, 16, 6, 188, 11, 181, 0, 75, 42, 16, 13, 188, 11, 181, 0, 79, 42, 16, 13, 188, 10]
abbrev dktX1_init_5 : List UInt8 := dkwX1_init_5 ++ dktX1_init_6
def dkwX1_init_4 : List UInt8 := [183, 0, 63, 181, 0, 64, 42, 187, 0, 61, 89, 42, 183, 0, 63, 181, 0, 68, 42, 16, 20, 189, 0, 61]
abbrev dktX1_init_4 : List UInt8 := dkwX1_init_4 ++ dktX1_init_5
def dkwX1_init_3 : List UInt8 := [183, 0, 53, 83, 89, 6, 187, 0, 54, 89, 183, 0, 56, 83, 181, 0, 57, 42, 187, 0, 61, 89, 42]
abbrev dktX1_init_3 : List UInt8 := dkwX1_init_3 ++ dktX1_init_4
def dkwX1_init_2 : List UInt8 := [187, 0, 45, 89, 183, 0, 47, 83, 89, 4, 187, 0, 48, 89, 183, 0, 50, 83, 89, 5, 187, 0, 51, 89]
abbrev dktX1_init_2 : List UInt8 := dkwX1_init_2 ++ dktX1_init_3
def dkwX1_init_1 : List UInt8 := [183, 0, 29, 181, 0, 32, 42, 187, 0, 36, 89, 183, 0, 38, 181, 0, 39, 42, 7, 189, 0, 43, 89, 3]
abbrev dktX1_init_1 : List UInt8 := dkwX1_init_1 ++ dktX1_init_2
def dkwX1_init_0 : List UInt8 := [42, 183, 0, 13, 42, 17, 3, 32, 188, 8, 181, 0, 19, 42, 2, 181, 0, 23, 42, 187, 0, 27, 89, 42]
abbrev dktX1_init_0 : List UInt8 := dkwX1_init_0 ++ dktX1_init_1
theorem dksX1_init_0 : cX1_init.data.toList.drop 0 = dktX1_init_0 := by decide +kernel
theorem dksX1_init_1 : cX1_init.data.toList.drop 24 = dktX1_init_1 := dk_seg dksX1_init_0 24 rfl rfl
theorem dksX1_init_2 : cX1_init.data.toList.drop 48 = dktX1_init_2 := dk_seg dksX1_init_1 24 rfl rfl
theorem dksX1_init_3 : cX1_init.data.toList.drop 72 = dktX1_init_3 := dk_seg dksX1_init_2 24 rfl rfl
theorem dksX1_init_4 : cX1_init.data.toList.drop 95 = dktX1_init_4 := dk_seg dksX1_init_3 23 rfl rfl
theorem dksX1_init_5 : cX1_init.data.toList.drop 119 = dktX1_init_5 := dk_seg dksX1_init_4 24 rfl rfl
theorem dksX1_init_6 : cX1_init.data.toList.drop 143 = dktX1_init_6 := dk_seg dksX1_init_5 24 rfl rfl
theorem dksX1_init_7 : cX1_init.data.toList.drop 167 = dktX1_init_7 := dk_seg dksX1_init_6 24 rfl rfl
theorem dksX1_init_8 : cX1_init.data.toList.drop 189 = dktX1_init_8 := dk_seg dksX1_init_7 22 rfl rfl
theorem dksX1_init_9 : cX1_init.data.toList.drop 211 = dktX1_init_9 := dk_seg dksX1_init_8 22 rfl rfl
theorem dksX1_init_10 : cX1_init.data.toList.drop 234 = dktX1_init_10 := dk_seg dksX1_init_9 23 rfl rfl
theorem dX1_init_0 : decode cX1_init 0 = .ok (.aload_n 0, 1) := dk_42 (dk_at dksX1_init_0 0 rfl rfl)
theorem dX1_init_1 : decode cX1_init 1 = .ok (.invokespecial 13, 3) := dk_183 0 13 (dk_at dksX1_init_0 1 rfl rfl)
theorem dX1_init_4 : decode cX1_init 4 = .ok (.aload_n 0, 1) := dk_42 (dk_at dksX1_init_0 4 rfl rfl)
theorem dX1_init_5 : decode cX1_init 5 = .ok (.sipush 800, 3) := dk_17 3 32 (dk_at dksX1_init_0 5 rfl rfl)
theorem dX1_init_8 : decode cX1_init 8 = .ok (.newarray .byte, 2) := dk_188_8 (dk_at dksX1_init_0 8 rfl rfl)
theorem dX1_init_10 : decode cX1_init 10 = .ok (.putfield 19, 3) := dk_181 0 19 (dk_at dksX1_init_0 10 rfl rfl)
theorem dX1_init_13 : decode cX1_init 13 = .ok (.aload_n 0, 1) := dk_42 (dk_at dksX1_init_0 13 rfl rfl)
theorem dX1_init_14 : decode cX1_init 14 = .ok (.iconst (-1), 1) := dk_2 (dk_at dksX1_init_0 14 rfl rfl)
theorem dX1_init_15 : decode cX1_init 15 = .ok (.putfield 23, 3) := dk_181 0 23 (dk_at dksX1_init_0 15 rfl rfl)
theorem dX1_init_18 : decode cX1_init 18 = .ok (.aload_n 0, 1) := dk_42 (dk_at dksX1_init_0 18 rfl rfl)
theorem dX1_init_19 : decode cX1_init 19 = .ok (.new 27, 3) := dk_187 0 27 (dk_at dksX1_init_0 19 rfl rfl)
theorem dX1_init_22 : decode cX1_init 22 = .ok (.dup, 1) := dk_89 (dk_at dksX1_init_0 22 rfl rfl)
theorem dX1_init_23 : decode cX1_init 23 = .ok (.aload_n 0, 1) := dk_42 (dk_at dksX1_init_0 23 rfl rfl)
theorem dX1_init_24 : decode cX1_init 24 = .ok (.invokespecial 29, 3) := dk_183 0 29 (dk_at dksX1_init_1 0 rfl rfl)
theorem dX1_init_27 : decode cX1_init 27 = .ok (.putfield 32, 3) := dk_181 0 32 (dk_at dksX1_init_1 3 rfl rfl)
theorem dX1_init_30 : decode cX1_init 30 = .ok (.aload_n 0, 1) := dk_42 (dk_at dksX1_init_1 6 rfl rfl)
theorem dX1_init_31 : decode cX1_init 31 = .ok (.new 36, 3) := dk_187 0 36 (dk_at dksX1_init_1 7 rfl rfl)
theorem dX1_init_34 : decode cX1_init 34 = .ok (.dup, 1) := dk_89 (dk_at dksX1_init_1 10 rfl rfl)
theorem dX1_init_35 : decode cX1_init 35 = .ok (.invokespecial 38, 3) := dk_183 0 38 (dk_at dksX1_init_1 11 rfl rfl)
theorem dX1_init_38 : decode cX1_init 38 = .ok (.putfield 39, 3) := dk_181 0 39 (dk_at dksX1_init_1 14 rfl rfl)
theorem dX1_init_41 : decode cX1_init 41 = .ok (.aload_n 0, 1) := dk_42 (dk_at dksX1_init_1 17 rfl rfl)
theorem dX1_init_42 : decode cX1_init 42 = .ok (.iconst 4, 1) := dk_7 (dk_at dksX1_init_1 18 rfl rfl)
theorem dX1_init_43 : decode cX1_init 43 = .ok (.anewarray 43, 3) := dk_189 0 43 (dk_at dksX1_init_1 19 rfl rfl)
theorem dX1_init_46 : decode cX1_init 46 = .ok (.dup, 1) := dk_89 (dk_at dksX1_init_1 22 rfl rfl)
theorem dX1_init_47 : decode cX1_init 47 = .ok (.iconst 0, 1) := dk_3 (dk_at dksX1_init_1 23 rfl rfl)
theorem dX1_init_48 : decode cX1_init 48 = .ok (.new 45, 3) := dk_187 0 45 (dk_at dksX1_init_2 0 rfl rfl)
theorem dX1_init_51 : decode cX1_init 51 = .ok (.dup, 1) := dk_89 (dk_at dksX1_init_2 3 rfl rfl)
theorem dX1_init_52 : decode cX1_init 52 = .ok (.invokespecial 47, 3) := dk_183 0 47 (dk_at dksX1_init_2 4 rfl rfl)
theorem dX1_init_55 : decode cX1_init 55 = .ok (.aastore, 1) := dk_83 (dk_at dksX1_init_2 7 rfl rfl)
theorem dX1_init_56 : decode cX1_init 56 = .ok (.dup, 1) := dk_89 (dk_at dksX1_init_2 8 rfl rfl)
theorem dX1_init_57 : decode cX1_init 57 = .ok (.iconst 1, 1) := dk_4 (dk_at dksX1_init_2 9 rfl rfl)
theorem dX1_init_58 : decode cX1_init 58 = .ok (.new 48, 3) := dk_187 0 48 (dk_at dksX1_init_2 10 rfl rfl)
theorem dX1_init_61 : decode cX1_init 61 = .ok (.dup, 1) := dk_89 (dk_at dksX1_init_2 13 rfl rfl)
theorem dX1_init_62 : decode cX1_init 62 = .ok (.invokespecial 50, 3) := dk_183 0 50 (dk_at dksX1_init_2 14 rfl rfl)
theorem dX1_init_65 : decode cX1_init 65 = .ok (.aastore, 1) := dk_83 (dk_at dksX1_init_2 17 rfl rfl)
theorem dX1_init_66 : decode cX1_init 66 = .ok (.dup, 1) := dk_89 (dk_at dksX1_init_2 18 rfl rfl)
theorem dX1_init_67 : decode cX1_init 67 = .ok (.iconst 2, 1) := dk_5 (dk_at dksX1_init_2 19 rfl rfl)
theorem dX1_init_68 : decode cX1_init 68 = .ok (.new 51, 3) := dk_187 0 51 (dk_at dksX1_init_2 20 rfl rfl)
theorem dX1_init_71 : decode cX1_init 71 = .ok (.dup, 1) := dk_89 (dk_at dksX1_init_2 23 rfl rfl)
theorem dX1_init_72 : decode cX1_init 72 = .ok (.invokespecial 53, 3) := dk_183 0 53 (dk_at dksX1_init_3 0 rfl rfl)
theorem dX1_init_75 : decode cX1_init 75 = .ok (.aastore, 1) := dk_83 (dk_at dksX1_init_3 3 rfl rfl)
theorem dX1_init_76 : decode cX1_init 76 = .ok (.dup, 1) := dk_89 (dk_at dksX1_init_3 4 rfl rfl)
theorem dX1_init_77 : decode cX1_init 77 = .ok (.iconst 3, 1) := dk_6 (dk_at dksX1_init_3 5 rfl rfl)
theorem dX1_init_78 : decode cX1_init 78 = .ok (.new 54, 3) := dk_187 0 54 (dk_at dksX1_init_3 6 rfl rfl)
theorem dX1_init_81 : decode cX1_init 81 = .ok (.dup, 1) := dk_89 (dk_at dksX1_init_3 9 rfl rfl)
theorem dX1_init_82 : decode cX1_init 82 = .ok (.invokespecial 56, 3) := dk_183 0 56 (dk_at dksX1_init_3 10 rfl rfl)
theorem dX1_init_85 : decode cX1_init 85 = .ok (.aastore, 1) := dk_83 (dk_at dksX1_init_3 13 rfl rfl)
theorem dX1_init_86 : decode cX1_init 86 = .ok (.putfield 57, 3) := dk_181 0 57 (dk_at dksX1_init_3 14 rfl rfl)
theorem dX1_init_89 : decode cX1_init 89 = .ok (.aload_n 0, 1) := dk_42 (dk_at dksX1_init_3 17 rfl rfl)
theorem dX1_init_90 : decode cX1_init 90 = .ok (.new 61, 3) := dk_187 0 61 (dk_at dksX1_init_3 18 rfl rfl)
theorem dX1_init_93 : decode cX1_init 93 = .ok (.dup, 1) := dk_89 (dk_at dksX1_init_3 21 rfl rfl)
theorem dX1_init_94 : decode cX1_init 94 = .ok (.aload_n 0, 1) := dk_42 (dk_at dksX1_init_3 22 rfl rfl)
theorem dX1_init_95 : decode cX1_init 95 = .ok (.invokespecial 63, 3) := dk_183 0 63 (dk_at dksX1_init_4 0 rfl rfl)
theorem dX1_init_98 : decode cX1_init 98 = .ok (.putfield 64, 3) := dk_181 0 64 (dk_at dksX1_init_4 3 rfl rfl)
theorem dX1_init_101 : decode cX1_init 101 = .ok (.aload_n 0, 1) := dk_42 (dk_at dksX1_init_4 6 rfl rfl)
theorem dX1_init_102 : decode cX1_init 102 = .ok (.new 61, 3) := dk_187 0 61 (dk_at dksX1_init_4 7 rfl rfl)
theorem dX1_init_105 : decode cX1_init 105 = .ok (.dup, 1) := dk_89 (dk_at dksX1_init_4 10 rfl rfl)
theorem dX1_init_106 : decode cX1_init 106 = .ok (.aload_n 0, 1) := dk_42 (dk_at dksX1_init_4 11 rfl rfl)
theorem dX1_init_107 : decode cX1_init 107 = .ok (.invokespecial 63, 3) := dk_183 0 63 (dk_at dksX1_init_4 12 rfl rfl)
theorem dX1_init_110 : decode cX1_init 110 = .ok (.putfield 68, 3) := dk_181 0 68 (dk_at dksX1_init_4 15 rfl rfl)
theorem dX1_init_113 : decode cX1_init 113 = .ok (.aload_n 0, 1) := dk_42 (dk_at dksX1_init_4 18 rfl rfl)
theorem dX1_init_114 : decode cX1_init 114 = .ok (.bipush 20, 2) := dk_16 20 (dk_at dksX1_init_4 19 rfl rfl)
theorem dX1_init_116 : decode cX1_init 116 = .ok (.anewarray 61, 3) := dk_189 0 61 (dk_at dksX1_init_4 21 rfl rfl)
theorem dX1_init_119 : decode cX1_init 119 = .ok (.putfield 71, 3) := dk_181 0 71 (dk_at dksX1_init_5 0 rfl rfl)
theorem dX1_init_122 : decode cX1_init 122 = .ok (.aload_n 0, 1) := dk_42 (dk_at dksX1_init_5 3 rfl rfl)
theorem dX1_init_123 : decode cX1_init 123 = .ok (.bipush 6, 2) := dk_16 6 (dk_at dksX1_init_5 4 rfl rfl)
theorem dX1_init_125 : decode cX1_init 125 = .ok (.newarray .long, 2) := dk_188_11 (dk_at dksX1_init_5 6 rfl rfl)
theorem dX1_init_127 : decode cX1_init 127 = .ok (.putfield 75, 3) := dk_181 0 75 (dk_at dksX1_init_5 8 rfl rfl)
theorem dX1_init_130 : decode cX1_init 130 = .ok (.aload_n 0, 1) := dk_42 (dk_at dksX1_init_5 11 rfl rfl)
theorem dX1_init_131 : decode cX1_init 131 = .ok (.bipush 13, 2) := dk_16 13 (dk_at dksX1_init_5 12 rfl rfl)
theorem dX1_init_133 : decode cX1_init 133 = .ok (.newarray .long, 2) := dk_188_11 (dk_at dksX1_init_5 14 rfl rfl)
theorem dX1_init_135 : decode cX1_init 135 = .ok (.putfield 79, 3) := dk_181 0 79 (dk_at dksX1_init_5 16 rfl rfl)
theorem dX1_init_138 : decode cX1_init 138 = .ok (.aload_n 0, 1) := dk_42 (dk_at dksX1_init_5 19 rfl rfl)
theorem dX1_init_139 : decode cX1_init 139 = .ok (.bipush 13, 2) := dk_16 13 (dk_at dksX1_init_5 20 rfl rfl)
theorem dX1_init_141 : decode cX1_init 141 = .ok (.newarray .int, 2) := dk_188_10 (dk_at dksX1_init_5 22 rfl rfl)
theorem dX1_init_143 : decode cX1_init 143 = .ok (.putfield 82, 3) := dk_181 0 82 (dk_at dksX1_init_6 0 rfl rfl)
theorem dX1_init_146 : decode cX1_init 146 = .ok (.aload_n 0, 1) := dk_42 (dk_at dksX1_init_6 3 rfl rfl)
theorem dX1_init_147 : decode cX1_init 147 = .ok (.iconst 2, 1) := dk_5 (dk_at dksX1_init_6 4 rfl rfl)
theorem dX1_init_148 : decode cX1_init 148 = .ok (.anewarray 86, 3) := dk_189 0 86 (dk_at dksX1_init_6 5 rfl rfl)
theorem dX1_init_151 : decode cX1_init 151 = .ok (.dup, 1) := dk_89 (dk_at dksX1_init_6 8 rfl rfl)
theorem dX1_init_152 : decode cX1_init 152 = .ok (.iconst 0, 1) := dk_3 (dk_at dksX1_init_6 9 rfl rfl)
theorem dX1_init_153 : decode cX1_init 153 = .ok (.new 86, 3) := dk_187 0 86 (dk_at dksX1_init_6 10 rfl rfl)
theorem dX1_init_156 : decode cX1_init 156 = .ok (.dup, 1) := dk_89 (dk_at dksX1_init_6 13 rfl rfl)
theorem dX1_init_157 : decode cX1_init 157 = .ok (.aload_n 0, 1) := dk_42 (dk_at dksX1_init_6 14 rfl rfl)
theorem dX1_init_158 : decode cX1_init 158 = .ok (.invokespecial 88, 3) := dk_183 0 88 (dk_at dksX1_init_6 15 rfl rfl)
theorem dX1_init_161 : decode cX1_init 161 = .ok (.aastore, 1) := dk_83 (dk_at dksX1_init_6 18 rfl rfl)
theorem dX1_init_162 : decode cX1_init 162 = .ok (.dup, 1) := dk_89 (dk_at dksX1_init_6 19 rfl rfl)
theorem dX1_init_163 : decode cX1_init 163 = .ok (.iconst 1, 1) := dk_4 (dk_at dksX1_init_6 20 rfl rfl)
theorem dX1_init_164 : decode cX1_init 164 = .ok (.new 86, 3) := dk_187 0 86 (dk_at dksX1_init_6 21 rfl rfl)
theorem dX1_init_167 : decode cX1_init 167 = .ok (.dup, 1) := dk_89 (dk_at dksX1_init_7 0 rfl rfl)
theorem dX1_init_168 : decode cX1_init 168 = .ok (.aload_n 0, 1) := dk_42 (dk_at dksX1_init_7 1 rfl rfl)
theorem dX1_init_169 : decode cX1_init 169 = .ok (.invokespecial 88, 3) := dk_183 0 88 (dk_at dksX1_init_7 2 rfl rfl)
theorem dX1_init_172 : decode cX1_init 172 = .ok (.aastore, 1) := dk_83 (dk_at dksX1_init_7 5 rfl rfl)
theorem dX1_init_173 : decode cX1_init 173 = .ok (.putfield 89, 3) := dk_181 0 89 (dk_at dksX1_init_7 6 rfl rfl)
theorem dX1_init_176 : decode cX1_init 176 = .ok (.aload_n 0, 1) := dk_42 (dk_at dksX1_init_7 9 rfl rfl)
theorem dX1_init_177 : decode cX1_init 177 = .ok (.ldc 93, 2) := dk_18 93 (dk_at dksX1_init_7 10 rfl rfl)
theorem dX1_init_179 : decode cX1_init 179 = .ok (.newarray .int, 2) := dk_188_10 (dk_at dksX1_init_7 12 rfl rfl)
theorem dX1_init_181 : decode cX1_init 181 = .ok (.putfield 94, 3) := dk_181 0 94 (dk_at dksX1_init_7 14 rfl rfl)
theorem dX1_init_184 : decode cX1_init 184 = .ok (.aload_n 0, 1) := dk_42 (dk_at dksX1_init_7 17 rfl rfl)
theorem dX1_init_185 : decode cX1_init 185 = .ok (.new 97, 3) := dk_187 0 97 (dk_at dksX1_init_7 18 rfl rfl)
theorem dX1_init_188 : decode cX1_init 188 = .ok (.dup, 1) := dk_89 (dk_at dksX1_init_7 21 rfl rfl)
theorem dX1_init_189 : decode cX1_init 189 = .ok (.invokespecial 99, 3) := dk_183 0 99 (dk_at dksX1_init_8 0 rfl rfl)
theorem dX1_init_192 : decode cX1_init 192 = .ok (.putfield 100, 3) := dk_181 0 100 (dk_at dksX1_init_8 3 rfl rfl)
theorem dX1_init_195 : decode cX1_init 195 = .ok (.aload_n 0, 1) := dk_42 (dk_at dksX1_init_8 6 rfl rfl)
theorem dX1_init_196 : decode cX1_init 196 = .ok (.new 97, 3) := dk_187 0 97 (dk_at dksX1_init_8 7 rfl rfl)
theorem dX1_init_199 : decode cX1_init 199 = .ok (.dup, 1) := dk_89 (dk_at dksX1_init_8 10 rfl rfl)
theorem dX1_init_200 : decode cX1_init 200 = .ok (.invokespecial 99, 3) := dk_183 0 99 (dk_at dksX1_init_8 11 rfl rfl)
theorem dX1_init_203 : decode cX1_init 203 = .ok (.putfield 104, 3) := dk_181 0 104 (dk_at dksX1_init_8 14 rfl rfl)
theorem dX1_init_206 : decode cX1_init 206 = .ok (.aload_n 0, 1) := dk_42 (dk_at dksX1_init_8 17 rfl rfl)
theorem dX1_init_207 : decode cX1_init 207 = .ok (.new 97, 3) := dk_187 0 97 (dk_at dksX1_init_8 18 rfl rfl)
theorem dX1_init_210 : decode cX1_init 210 = .ok (.dup, 1) := dk_89 (dk_at dksX1_init_8 21 rfl rfl)
theorem dX1_init_211 : decode cX1_init 211 = .ok (.invokespecial 99, 3) := dk_183 0 99 (dk_at dksX1_init_9 0 rfl rfl)
theorem dX1_init_214 : decode cX1_init 214 = .ok (.putfield 107, 3) := dk_181 0 107 (dk_at dksX1_init_9 3 rfl rfl)
theorem dX1_init_217 : decode cX1_init 217 = .ok (.aload_n 0, 1) := dk_42 (dk_at dksX1_init_9 6 rfl rfl)
theorem dX1_init_218 : decode cX1_init 218 = .ok (.bipush 6, 2) := dk_16 6 (dk_at dksX1_init_9 7 rfl rfl)
theorem dX1_init_220 : decode cX1_init 220 = .ok (.newarray .int, 2) := dk_188_10 (dk_at dksX1_init_9 9 rfl rfl)
theorem dX1_init_222 : decode cX1_init 222 = .ok (.putfield 110, 3) := dk_181 0 110 (dk_at dksX1_init_9 11 rfl rfl)
theorem dX1_init_225 : decode cX1_init 225 = .ok (.aload_n 0, 1) := dk_42 (dk_at dksX1_init_9 14 rfl rfl)
theorem dX1_init_226 : decode cX1_init 226 = .ok (.bipush 6, 2) := dk_16 6 (dk_at dksX1_init_9 15 rfl rfl)
theorem dX1_init_228 : decode cX1_init 228 = .ok (.newarray .int, 2) := dk_188_10 (dk_at dksX1_init_9 17 rfl rfl)
theorem dX1_init_230 : decode cX1_init 230 = .ok (.putfield 113, 3) := dk_181 0 113 (dk_at dksX1_init_9 19 rfl rfl)
theorem dX1_init_233 : decode cX1_init 233 = .ok (.aload_n 0, 1) := dk_42 (dk_at dksX1_init_9 22 rfl rfl)
theorem dX1_init_234 : decode cX1_init 234 = .ok (.getfield 64, 3) := dk_180 0 64 (dk_at dksX1_init_10 0 rfl rfl)
theorem dX1_init_237 : decode cX1_init 237 = .ok (.invokevirtual 116, 3) := dk_182 0 116 (dk_at dksX1_init_10 3 rfl rfl)
theorem dX1_init_240 : decode cX1_init 240 = .ok (.return_, 1) := dk_177 (dk_at dksX1_init_10 6 rfl rfl)
theorem gX1_init_0 {b : Nat} {v0 : Nat} {T : zT} {I : zI} {L : zL} {R : zR} {P : zP} (h : (T v0).1 = 1 ∧ ∃ κ2, 100 ≤ κ2 ∧ (T κ2).1 = 0 ∧ 800 + 1 ≤ b ∧ ∃ κ6, 100 ≤ κ6 ∧ ((z1 T κ2 (103, 800)) κ6).1 = 0 ∧ 9 + 1 ≤ (b - (800 + 1)) ∧ zMet mX2_init 1 0 [.ref κ6, .ref v0] (z1 (z1 T κ2 (103, 800)) κ6 (2, 0)) (z1 (z2 (z1 I κ2 fun _ => 0) v0 3 (-1 : Int32)) κ6 fun _ => 0) (z1 (z1 L κ2 fun _ => 0) κ6 fun _ => 0) (z1 (z2 (z1 R κ2 fun _ => 0) v0 0 κ2) κ6 fun _ => 0) (zqV_R (z1 (z1 T κ2 (103, 800)) κ6 (2, 0)) (z1 (z2 (z1 I κ2 fun _ => 0) v0 3 (-1 : Int32)) κ6 fun _ => 0) (z1 (z1 L κ2 fun _ => 0) κ6 fun _ => 0)  (fun (R10 : zR)  => ∃ κ11, 100 ≤ κ11 ∧ ((z1 (z1 T κ2 (103, 800)) κ6 (2, 0)) κ11).1 = 0 ∧ 18 + 1 ≤ (((b - (800 + 1)) - (9 + 1)) - 0) ∧ zAW mX1_init 5 ((((b - (800 + 1)) - (9 + 1)) - 0) - (18 + 1)) 34 [(0, .ref v0)] [.ref κ11, .ref v0] (z1 (z1 (z1 T κ2 (103, 800)) κ6 (2, 0)) κ11 (3, 0)) (z1 (z1 (z2 (z1 I κ2 fun _ => 0) v0 3 (-1 : Int32)) κ6 fun _ => 0) κ11 fun _ => 0) (z1 (z1 (z1 L κ2 fun _ => 0) κ6 fun _ => 0) κ11 fun _ => 0) (z1 (z2 R10 v0 7 κ6) κ11 fun _ => 0) P))) : zAW mX1_init 5 b 0 [(0, .ref v0)] [] T I L R P := by
  obtain ⟨ht1, h⟩ := h
  refine za_aload_n (pc' := 1) 0 dX1_init_0 rfl rfl rfl ?_
  refine za_objInit (pc' := 4) dX1_init_1 q176 (by decide) (by rw [ht1]; decide) (Nat.le_of_ble_eq_true rfl) rfl ?_
  refine za_aload_n (pc' := 5) 0 dX1_init_4 rfl rfl rfl ?_
  refine za_sipush (pc' := 8) dX1_init_5 zb16_800 rfl ?_
  obtain ⟨κ2, hk3, hf4, hb5, h⟩ := h
  refine za_newa_byte (κ := κ2) (N := 800) (pc' := 10) dX1_init_8 q213 (by decide) zn_800 (by decide) hk3 hf4 hb5 rfl ?_
  refine za_putFR (fi := 0) (pc' := 13) dX1_init_10 zc0 (by decide) in_X1 zok0 znm0 (by decide) q489 (Or.inl rfl) rfl rfl rfl rfl (fun _ _ _ => rfl) (z1_tk hf4 ht1 (by decide)) rfl ?_
  refine za_aload_n (pc' := 14) 0 dX1_init_13 rfl rfl rfl ?_
  refine za_iconst (pc' := 15) dX1_init_14 zi_m1 rfl ?_
  refine za_putI (fi := 3) (pc' := 18) dX1_init_15 zc0 (by decide) in_X1 zok0 znm0 (by decide) q492 (Or.inl rfl) rfl rfl (fun _ _ _ => rfl) rfl rfl (z1_tk hf4 ht1 (by decide)) rfl ?_
  refine za_aload_n (pc' := 19) 0 dX1_init_18 rfl rfl rfl ?_
  obtain ⟨κ6, hk7, hf8, hb9, h⟩ := h
  refine za_new (κ := κ6) (pc' := 22) dX1_init_19 zc1 (by decide) in_X2 zok1 zdf1 q179 q180 q132 hk7 hf8 hb9 rfl ?_
  refine za_dup (pc' := 23) dX1_init_22 rfl rfl ?_
  refine za_aload_n (pc' := 24) 0 dX1_init_23 rfl rfl rfl ?_
  refine za_callIN (κ := κ6) (M2 := mX2_init) (d2 := 1) (b2 := 0) (n := 1) (As := [.ref v0]) (st := [.ref κ6, .ref v0]) (pc' := 27) (by rw [(congrArg Prod.fst z1_s)]; decide) dX1_init_24 rfl (lw_meth q183) rfl q181 q182 q132 rfl hd_X2_init rfl (by decide) (by decide) (Nat.zero_le _) (Or.inl rfl) (Nat.le_of_ble_eq_true rfl) h (zqV_R_k rfl (fun R10 h => ?_)) (fun _ _ _ _ _ _ h9 h8 => absurd h8.1 h9) rfl
  refine za_putFR (fi := 7) (pc' := 30) dX1_init_27 zc0 (by decide) in_X1 zok0 znm0 (by decide) q496 (Or.inl rfl) rfl rfl rfl rfl (fun _ _ _ => rfl) (z1_tk hf8 (z1_tk hf4 ht1 (by decide)) (by decide)) rfl ?_
  refine za_aload_n (pc' := 31) 0 dX1_init_30 rfl rfl rfl ?_
  obtain ⟨κ11, hk12, hf13, hb14, h⟩ := h
  refine za_new (κ := κ11) (pc' := 34) dX1_init_31 zc2 (by decide) in_X3 zok2 zdf2 q214 q215 q133 hk12 hf13 hb14 rfl ?_
  exact zAW_sub [0] rfl h
theorem gX1_init_34 {b : Nat} {v0 : Nat} {s0 : Nat} {s1 : Nat} {T : zT} {I : zI} {L : zL} {R : zR} {P : zP} (h : (T v0).1 = 1 ∧ (T s0).1 = 3 ∧ ∃ b20, b20 ≤ b ∧ zMet mX3_init 4 b20 [.ref s0] T I L R (zqV_TILR   (fun (T16 : zT) (I17 : zI) (L18 : zL) (R19 : zR)  => (T16 s1).1 = 1 ∧ ∃ κ24, 100 ≤ κ24 ∧ (T16 κ24).1 = 0 ∧ 4 + 1 ≤ (b - b20) ∧ ∃ κ28, 100 ≤ κ28 ∧ ((z1 T16 κ24 (108, 4)) κ28).1 = 0 ∧ 0 + 1 ≤ ((b - b20) - (4 + 1)) ∧ zMet mX6_init 2 0 [.ref κ28] (z1 (z1 T16 κ24 (108, 4)) κ28 (6, 0)) (z1 (z1 I17 κ24 fun _ => 0) κ28 fun _ => 0) (z1 (z1 L18 κ24 fun _ => 0) κ28 fun _ => 0) (z1 (z1 (z2 R19 s1 8 s0) κ24 fun _ => 0) κ28 fun _ => 0) (zqV_ (z1 (z1 T16 κ24 (108, 4)) κ28 (6, 0)) (z1 (z1 I17 κ24 fun _ => 0) κ28 fun _ => 0) (z1 (z1 L18 κ24 fun _ => 0) κ28 fun _ => 0) (z1 (z1 (z2 R19 s1 8 s0) κ24 fun _ => 0) κ28 fun _ => 0)  (∃ κ32, 100 ≤ κ32 ∧ ((z1 (z1 T16 κ24 (108, 4)) κ28 (6, 0)) κ32).1 = 0 ∧ 0 + 1 ≤ ((((b - b20) - (4 + 1)) - (0 + 1)) - 0) ∧ zMet mX7_init 2 0 [.ref κ32] (z1 (z1 (z1 T16 κ24 (108, 4)) κ28 (6, 0)) κ32 (7, 0)) (z1 (z1 (z1 I17 κ24 fun _ => 0) κ28 fun _ => 0) κ32 fun _ => 0) (z1 (z1 (z1 L18 κ24 fun _ => 0) κ28 fun _ => 0) κ32 fun _ => 0) (z1 (z2 (z1 (z1 (z2 R19 s1 8 s0) κ24 fun _ => 0) κ28 fun _ => 0) κ24 0 κ28) κ32 fun _ => 0) (zqV_ (z1 (z1 (z1 T16 κ24 (108, 4)) κ28 (6, 0)) κ32 (7, 0)) (z1 (z1 (z1 I17 κ24 fun _ => 0) κ28 fun _ => 0) κ32 fun _ => 0) (z1 (z1 (z1 L18 κ24 fun _ => 0) κ28 fun _ => 0) κ32 fun _ => 0) (z1 (z2 (z1 (z1 (z2 R19 s1 8 s0) κ24 fun _ => 0) κ28 fun _ => 0) κ24 0 κ28) κ32 fun _ => 0)  (zAW mX1_init 5 ((((((b - b20) - (4 + 1)) - (0 + 1)) - 0) - (0 + 1)) - 0) 65 [(0, .ref v0)] [.ref κ32, .int (1 : Int32), .ref κ24, .ref κ24, .ref v0] (z1 (z1 (z1 T16 κ24 (108, 4)) κ28 (6, 0)) κ32 (7, 0)) (z1 (z1 (z1 I17 κ24 fun _ => 0) κ28 fun _ => 0) κ32 fun _ => 0) (z1 (z1 (z1 L18 κ24 fun _ => 0) κ28 fun _ => 0) κ32 fun _ => 0) (z1 (z2 (z1 (z1 (z2 R19 s1 8 s0) κ24 fun _ => 0) κ28 fun _ => 0) κ24 0 κ28) κ32 fun _ => 0) P))))))) : zAW mX1_init 5 b 34 [(0, .ref v0)] [.ref s0, .ref s1] T I L R P := by
  obtain ⟨ht15, h⟩ := h
  refine za_dup (pc' := 35) dX1_init_34 rfl rfl ?_
  obtain ⟨ht22, h⟩ := h
  obtain ⟨b20, hb21, h⟩ := h
  refine za_callI (κ := s0) (M2 := mX3_init) (d2 := 4) (b2 := b20) (n := 0) (As := []) (st := [.ref s0, .ref s1]) (pc' := 38) (by rw [ht22]; decide) dX1_init_35 rfl (lw_meth q218) rfl q216 q217 q133 rfl hd_X3_init rfl (by decide) (by decide) hb21 (Or.inl rfl) (Nat.le_of_ble_eq_true rfl) h (zqV_TILR_k rfl (fun T16 I17 L18 R19 h => ?_)) (fun _ _ _ _ _ _ h9 h8 => absurd h8.1 h9) rfl
  obtain ⟨ht23, h⟩ := h
  refine za_putR (fi := 8) (pc' := 41) dX1_init_38 zc0 (by decide) in_X1 zok0 znm0 (by decide) q498 (Or.inl rfl) rfl rfl (fun _ _ _ => rfl) ht23 rfl ?_
  refine za_aload_n (pc' := 42) 0 dX1_init_41 rfl rfl rfl ?_
  refine za_iconst (pc' := 43) dX1_init_42 zi_4 rfl ?_
  obtain ⟨κ24, hk25, hf26, hb27, h⟩ := h
  refine za_newq (κ := κ24) (N := 4) (t := 8) (C := RX5) (pc' := 46) dX1_init_43 q353 (by decide) (by decide) (fun _ => rfl) (by decide) zn_4 (by decide) hk25 hf26 hb27 rfl ?_
  refine za_dup (pc' := 47) dX1_init_46 rfl rfl ?_
  refine za_iconst (pc' := 48) dX1_init_47 zi_0 rfl ?_
  obtain ⟨κ28, hk29, hf30, hb31, h⟩ := h
  refine za_new (κ := κ28) (pc' := 51) dX1_init_48 zc5 (by decide) zin0 zok5 zdf5 q355 q356 q139 hk29 hf30 hb31 rfl ?_
  refine za_dup (pc' := 52) dX1_init_51 rfl rfl ?_
  refine za_callIN (κ := κ28) (M2 := mX6_init) (d2 := 2) (b2 := 0) (n := 0) (As := []) (st := [.ref κ28, .int (0 : Int32), .ref κ24, .ref κ24, .ref v0]) (pc' := 55) (by rw [(congrArg Prod.fst z1_s)]; decide) dX1_init_52 rfl (lw_meth q359) rfl q357 q358 q139 rfl hd_X6_init rfl (by decide) (by decide) (Nat.zero_le _) (Or.inl rfl) (Nat.le_of_ble_eq_true rfl) h (zqV__k rfl (fun  h => ?_)) (fun _ _ _ _ _ _ h9 h8 => absurd h8.1 h9) rfl
  refine za_aastO (kx := 0) (t := 8) (E := "TwoTongues$Kind") q2289 (pc' := 56) dX1_init_55 (by decide) (fun _ => rfl) (z1_tp hf30 z1_s (by decide)) (zin (by decide)) zc5 (by decide) (congrArg Prod.fst z1_s) zn_0 rfl ?_
  refine za_dup (pc' := 57) dX1_init_56 rfl rfl ?_
  refine za_iconst (pc' := 58) dX1_init_57 zi_1 rfl ?_
  obtain ⟨κ32, hk33, hf34, hb35, h⟩ := h
  refine za_new (κ := κ32) (pc' := 61) dX1_init_58 zc6 (by decide) zin0 zok6 zdf6 q365 q366 q140 hk33 hf34 hb35 rfl ?_
  refine za_dup (pc' := 62) dX1_init_61 rfl rfl ?_
  refine za_callIN (κ := κ32) (M2 := mX7_init) (d2 := 2) (b2 := 0) (n := 0) (As := []) (st := [.ref κ32, .int (1 : Int32), .ref κ24, .ref κ24, .ref v0]) (pc' := 65) (by rw [(congrArg Prod.fst z1_s)]; decide) dX1_init_62 rfl (lw_meth q369) rfl q367 q368 q140 rfl hd_X7_init rfl (by decide) (by decide) (Nat.zero_le _) (Or.inl rfl) (Nat.le_of_ble_eq_true rfl) h (zqV__k rfl (fun  h => ?_)) (fun _ _ _ _ _ _ h9 h8 => absurd h8.1 h9) rfl
  exact zAW_sub [0] rfl h
theorem gX1_init_65 {b : Nat} {v0 : Nat} {s0 : Nat} {s1 : Int32} {s2 : Nat} {s3 : Nat} {s4 : Nat} {T : zT} {I : zI} {L : zL} {R : zR} {P : zP} (h : (T v0).1 = 1 ∧ (T s2).1 = 108 ∧ vp_in s1 ((T s2).2) ∧ (T s0).1 = 7 ∧ ∃ κ40, 100 ≤ κ40 ∧ (T κ40).1 = 0 ∧ 0 + 1 ≤ b ∧ zMet mX8_init 2 0 [.ref κ40] (z1 T κ40 (8, 0)) (z1 I κ40 fun _ => 0) (z1 L κ40 fun _ => 0) (z1 (z2 R s2 (s1.toNatClampNeg) s0) κ40 fun _ => 0) (zqV_ (z1 T κ40 (8, 0)) (z1 I κ40 fun _ => 0) (z1 L κ40 fun _ => 0) (z1 (z2 R s2 (s1.toNatClampNeg) s0) κ40 fun _ => 0)  (((z1 T κ40 (8, 0)) s3).1 = 108 ∧ vp_in (2 : Int32) (((z1 T κ40 (8, 0)) s3).2) ∧ ∃ κ46, 100 ≤ κ46 ∧ ((z1 T κ40 (8, 0)) κ46).1 = 0 ∧ 0 + 1 ≤ ((b - (0 + 1)) - 0) ∧ zMet mX9_init 3 0 [.ref κ46] (z1 (z1 T κ40 (8, 0)) κ46 (9, 0)) (z1 (z1 I κ40 fun _ => 0) κ46 fun _ => 0) (z1 (z1 L κ40 fun _ => 0) κ46 fun _ => 0) (z1 (z2 (z1 (z2 R s2 (s1.toNatClampNeg) s0) κ40 fun _ => 0) s3 2 κ40) κ46 fun _ => 0) (zqV_ (z1 (z1 T κ40 (8, 0)) κ46 (9, 0)) (z1 (z1 I κ40 fun _ => 0) κ46 fun _ => 0) (z1 (z1 L κ40 fun _ => 0) κ46 fun _ => 0) (z1 (z2 (z1 (z2 R s2 (s1.toNatClampNeg) s0) κ40 fun _ => 0) s3 2 κ40) κ46 fun _ => 0)  (vp_in (3 : Int32) (((z1 (z1 T κ40 (8, 0)) κ46 (9, 0)) s3).2) ∧ ((z1 (z1 T κ40 (8, 0)) κ46 (9, 0)) s4).1 = 1 ∧ zAW mX1_init 5 ((((b - (0 + 1)) - 0) - (0 + 1)) - 0) 89 [(0, .ref v0)] [] (z1 (z1 T κ40 (8, 0)) κ46 (9, 0)) (z1 (z1 I κ40 fun _ => 0) κ46 fun _ => 0) (z1 (z1 L κ40 fun _ => 0) κ46 fun _ => 0) (z2 (z2 (z1 (z2 (z1 (z2 R s2 (s1.toNatClampNeg) s0) κ40 fun _ => 0) s3 2 κ40) κ46 fun _ => 0) s3 3 κ46) s4 9 s3) P))))) : zAW mX1_init 5 b 65 [(0, .ref v0)] [.ref s0, .int s1, .ref s2, .ref s3, .ref s4] T I L R P := by
  obtain ⟨ht36, h⟩ := h
  obtain ⟨ht37, h⟩ := h
  obtain ⟨hi38, h⟩ := h
  obtain ⟨ht39, h⟩ := h
  refine za_aastO (kx := s1.toNatClampNeg) (t := 8) (E := "TwoTongues$Kind") q2290 (pc' := 66) dX1_init_65 (by decide) (fun _ => rfl) (zpair ht37) hi38 zc6 (by decide) ht39 rfl rfl ?_
  refine za_dup (pc' := 67) dX1_init_66 rfl rfl ?_
  refine za_iconst (pc' := 68) dX1_init_67 zi_2 rfl ?_
  obtain ⟨κ40, hk41, hf42, hb43, h⟩ := h
  refine za_new (κ := κ40) (pc' := 71) dX1_init_68 zc7 (by decide) zin0 zok7 zdf7 q372 q373 q141 hk41 hf42 hb43 rfl ?_
  refine za_dup (pc' := 72) dX1_init_71 rfl rfl ?_
  refine za_callIN (κ := κ40) (M2 := mX8_init) (d2 := 2) (b2 := 0) (n := 0) (As := []) (st := [.ref κ40, .int (2 : Int32), .ref s3, .ref s3, .ref s4]) (pc' := 75) (by rw [(congrArg Prod.fst z1_s)]; decide) dX1_init_72 rfl (lw_meth q376) rfl q374 q375 q141 rfl hd_X8_init rfl (by decide) (by decide) (Nat.zero_le _) (Or.inl rfl) (Nat.le_of_ble_eq_true rfl) h (zqV__k rfl (fun  h => ?_)) (fun _ _ _ _ _ _ h9 h8 => absurd h8.1 h9) rfl
  obtain ⟨ht44, h⟩ := h
  obtain ⟨hi45, h⟩ := h
  refine za_aastO (kx := 2) (t := 8) (E := "TwoTongues$Kind") q2291 (pc' := 76) dX1_init_75 (by decide) (fun _ => rfl) (zpair ht44) hi45 zc7 (by decide) (congrArg Prod.fst z1_s) zn_2 rfl ?_
  refine za_dup (pc' := 77) dX1_init_76 rfl rfl ?_
  refine za_iconst (pc' := 78) dX1_init_77 zi_3 rfl ?_
  obtain ⟨κ46, hk47, hf48, hb49, h⟩ := h
  refine za_new (κ := κ46) (pc' := 81) dX1_init_78 zc8 (by decide) zin0 zok8 zdf8 q379 q380 q142 hk47 hf48 hb49 rfl ?_
  refine za_dup (pc' := 82) dX1_init_81 rfl rfl ?_
  refine za_callIN (κ := κ46) (M2 := mX9_init) (d2 := 3) (b2 := 0) (n := 0) (As := []) (st := [.ref κ46, .int (3 : Int32), .ref s3, .ref s3, .ref s4]) (pc' := 85) (by rw [(congrArg Prod.fst z1_s)]; decide) dX1_init_82 rfl (lw_meth q383) rfl q381 q382 q142 rfl hd_X9_init rfl (by decide) (by decide) (Nat.zero_le _) (Or.inl rfl) (Nat.le_of_ble_eq_true rfl) h (zqV__k rfl (fun  h => ?_)) (fun _ _ _ _ _ _ h9 h8 => absurd h8.1 h9) rfl
  obtain ⟨hi50, h⟩ := h
  refine za_aastO (kx := 3) (t := 8) (E := "TwoTongues$Kind") q2292 (pc' := 86) dX1_init_85 (by decide) (fun _ => rfl) (zpair (z1_tk hf48 ht44 (by decide))) hi50 zc8 (by decide) (congrArg Prod.fst z1_s) zn_3 rfl ?_
  obtain ⟨ht51, h⟩ := h
  refine za_putFR (fi := 9) (pc' := 89) dX1_init_86 zc0 (by decide) in_X1 zok0 znm0 (by decide) q499 (Or.inl rfl) rfl rfl rfl rfl (fun _ _ _ => rfl) ht51 rfl ?_
  exact zAW_sub [0] rfl h
theorem gX1_init_89 {b : Nat} {v0 : Nat} {T : zT} {I : zI} {L : zL} {R : zR} {P : zP} (h : (T v0).1 = 1 ∧ ∃ κ53, 100 ≤ κ53 ∧ (T κ53).1 = 0 ∧ 5 + 1 ≤ b ∧ ∃ b61, b61 ≤ (b - (5 + 1)) ∧ zMet mX10_init 2 b61 [.ref κ53, .ref v0] (z1 T κ53 (10, 0)) (z1 I κ53 fun _ => 0) (z1 L κ53 fun _ => 0) (z1 R κ53 fun _ => 0) (zqV_TILR   (fun (T57 : zT) (I58 : zI) (L59 : zL) (R60 : zR)  => (T57 v0).1 = 1 ∧ ∃ κ64, 100 ≤ κ64 ∧ (T57 κ64).1 = 0 ∧ 5 + 1 ≤ ((b - (5 + 1)) - b61) ∧ ∃ b72, b72 ≤ (((b - (5 + 1)) - b61) - (5 + 1)) ∧ zMet mX10_init 2 b72 [.ref κ64, .ref v0] (z1 T57 κ64 (10, 0)) (z1 I58 κ64 fun _ => 0) (z1 L59 κ64 fun _ => 0) (z1 (z2 R60 v0 10 κ53) κ64 fun _ => 0) (zqV_TILR   (fun (T68 : zT) (I69 : zI) (L70 : zL) (R71 : zR)  => (T68 v0).1 = 1 ∧ ∃ κ75, 100 ≤ κ75 ∧ (T68 κ75).1 = 0 ∧ 20 + 1 ≤ ((((b - (5 + 1)) - b61) - (5 + 1)) - b72) ∧ zAW mX1_init 5 (((((b - (5 + 1)) - b61) - (5 + 1)) - b72) - (20 + 1)) 122 [(0, .ref v0)] [] (z1 T68 κ75 (106, 20)) (z1 I69 κ75 fun _ => 0) (z1 L70 κ75 fun _ => 0) (z2 (z1 (z2 R71 v0 11 κ64) κ75 fun _ => 0) v0 12 κ75) P))))) : zAW mX1_init 5 b 89 [(0, .ref v0)] [] T I L R P := by
  obtain ⟨ht52, h⟩ := h
  refine za_aload_n (pc' := 90) 0 dX1_init_89 rfl rfl rfl ?_
  obtain ⟨κ53, hk54, hf55, hb56, h⟩ := h
  refine za_new (κ := κ53) (pc' := 93) dX1_init_90 zc9 (by decide) in_X10 zok9 zdf9 q386 q387 q143 hk54 hf55 hb56 rfl ?_
  refine za_dup (pc' := 94) dX1_init_93 rfl rfl ?_
  refine za_aload_n (pc' := 95) 0 dX1_init_94 rfl rfl rfl ?_
  obtain ⟨b61, hb62, h⟩ := h
  refine za_callIN (κ := κ53) (M2 := mX10_init) (d2 := 2) (b2 := b61) (n := 1) (As := [.ref v0]) (st := [.ref κ53, .ref v0]) (pc' := 98) (by rw [(congrArg Prod.fst z1_s)]; decide) dX1_init_95 rfl (lw_meth q390) rfl q388 q389 q143 rfl hd_X10_init rfl (by decide) (by decide) hb62 (Or.inl rfl) (Nat.le_of_ble_eq_true rfl) h (zqV_TILR_k rfl (fun T57 I58 L59 R60 h => ?_)) (fun _ _ _ _ _ _ h9 h8 => absurd h8.1 h9) rfl
  obtain ⟨ht63, h⟩ := h
  refine za_putFR (fi := 10) (pc' := 101) dX1_init_98 zc0 (by decide) in_X1 zok0 znm0 (by decide) q500 (Or.inl rfl) rfl rfl rfl rfl (fun _ _ _ => rfl) ht63 rfl ?_
  refine za_aload_n (pc' := 102) 0 dX1_init_101 rfl rfl rfl ?_
  obtain ⟨κ64, hk65, hf66, hb67, h⟩ := h
  refine za_new (κ := κ64) (pc' := 105) dX1_init_102 zc9 (by decide) in_X10 zok9 zdf9 q386 q387 q143 hk65 hf66 hb67 rfl ?_
  refine za_dup (pc' := 106) dX1_init_105 rfl rfl ?_
  refine za_aload_n (pc' := 107) 0 dX1_init_106 rfl rfl rfl ?_
  obtain ⟨b72, hb73, h⟩ := h
  refine za_callIN (κ := κ64) (M2 := mX10_init) (d2 := 2) (b2 := b72) (n := 1) (As := [.ref v0]) (st := [.ref κ64, .ref v0]) (pc' := 110) (by rw [(congrArg Prod.fst z1_s)]; decide) dX1_init_107 rfl (lw_meth q390) rfl q388 q389 q143 rfl hd_X10_init rfl (by decide) (by decide) hb73 (Or.inl rfl) (Nat.le_of_ble_eq_true rfl) h (zqV_TILR_k rfl (fun T68 I69 L70 R71 h => ?_)) (fun _ _ _ _ _ _ h9 h8 => absurd h8.1 h9) rfl
  obtain ⟨ht74, h⟩ := h
  refine za_putFR (fi := 11) (pc' := 113) dX1_init_110 zc0 (by decide) in_X1 zok0 znm0 (by decide) q501 (Or.inl rfl) rfl rfl rfl rfl (fun _ _ _ => rfl) ht74 rfl ?_
  refine za_aload_n (pc' := 114) 0 dX1_init_113 rfl rfl rfl ?_
  refine za_bipush (pc' := 116) dX1_init_114 zb8_20 rfl ?_
  obtain ⟨κ75, hk76, hf77, hb78, h⟩ := h
  refine za_newq (κ := κ75) (N := 20) (t := 6) (C := RX10) (pc' := 119) dX1_init_116 q386 (by decide) (by decide) (fun _ => rfl) (by decide) zn_20 (by decide) hk76 hf77 hb78 rfl ?_
  refine za_putFR (fi := 12) (pc' := 122) dX1_init_119 zc0 (by decide) in_X1 zok0 znm0 (by decide) q502 (Or.inl rfl) rfl rfl rfl rfl (fun _ _ _ => rfl) (z1_tk hf77 ht74 (by decide)) rfl ?_
  exact zAW_sub [0] rfl h
theorem gX1_init_122 {b : Nat} {v0 : Nat} {T : zT} {I : zI} {L : zL} {R : zR} {P : zP} (h : (T v0).1 = 1 ∧ ∃ κ80, 100 ≤ κ80 ∧ (T κ80).1 = 0 ∧ 6 + 1 ≤ b ∧ ∃ κ84, 100 ≤ κ84 ∧ ((z1 T κ80 (101, 6)) κ84).1 = 0 ∧ 13 + 1 ≤ (b - (6 + 1)) ∧ ∃ κ88, 100 ≤ κ88 ∧ ((z1 (z1 T κ80 (101, 6)) κ84 (101, 13)) κ88).1 = 0 ∧ 13 + 1 ≤ ((b - (6 + 1)) - (13 + 1)) ∧ ∃ κ92, 100 ≤ κ92 ∧ ((z1 (z1 (z1 T κ80 (101, 6)) κ84 (101, 13)) κ88 (100, 13)) κ92).1 = 0 ∧ 2 + 1 ≤ (((b - (6 + 1)) - (13 + 1)) - (13 + 1)) ∧ ∃ κ96, 100 ≤ κ96 ∧ ((z1 (z1 (z1 (z1 T κ80 (101, 6)) κ84 (101, 13)) κ88 (100, 13)) κ92 (107, 2)) κ96).1 = 0 ∧ 3 + 1 ≤ ((((b - (6 + 1)) - (13 + 1)) - (13 + 1)) - (2 + 1)) ∧ zAW mX1_init 5 (((((b - (6 + 1)) - (13 + 1)) - (13 + 1)) - (2 + 1)) - (3 + 1)) 156 [(0, .ref v0)] [.ref κ96, .int (0 : Int32), .ref κ92, .ref κ92, .ref v0] (z1 (z1 (z1 (z1 (z1 T κ80 (101, 6)) κ84 (101, 13)) κ88 (100, 13)) κ92 (107, 2)) κ96 (12, 0)) (z1 (z1 (z1 (z1 (z1 I κ80 fun _ => 0) κ84 fun _ => 0) κ88 fun _ => 0) κ92 fun _ => 0) κ96 fun _ => 0) (z1 (z1 (z1 (z1 (z1 L κ80 fun _ => 0) κ84 fun _ => 0) κ88 fun _ => 0) κ92 fun _ => 0) κ96 fun _ => 0) (z1 (z1 (z2 (z1 (z2 (z1 (z2 (z1 R κ80 fun _ => 0) v0 13 κ80) κ84 fun _ => 0) v0 15 κ84) κ88 fun _ => 0) v0 16 κ88) κ92 fun _ => 0) κ96 fun _ => 0) P) : zAW mX1_init 5 b 122 [(0, .ref v0)] [] T I L R P := by
  obtain ⟨ht79, h⟩ := h
  refine za_aload_n (pc' := 123) 0 dX1_init_122 rfl rfl rfl ?_
  refine za_bipush (pc' := 125) dX1_init_123 zb8_6 rfl ?_
  obtain ⟨κ80, hk81, hf82, hb83, h⟩ := h
  refine za_newa_long (κ := κ80) (N := 6) (pc' := 127) dX1_init_125 q453 (by decide) zn_6 (by decide) hk81 hf82 hb83 rfl ?_
  refine za_putFR (fi := 13) (pc' := 130) dX1_init_127 zc0 (by decide) in_X1 zok0 znm0 (by decide) q503 (Or.inl rfl) rfl rfl rfl rfl (fun _ _ _ => rfl) (z1_tk hf82 ht79 (by decide)) rfl ?_
  refine za_aload_n (pc' := 131) 0 dX1_init_130 rfl rfl rfl ?_
  refine za_bipush (pc' := 133) dX1_init_131 zb8_13 rfl ?_
  obtain ⟨κ84, hk85, hf86, hb87, h⟩ := h
  refine za_newa_long (κ := κ84) (N := 13) (pc' := 135) dX1_init_133 q453 (by decide) zn_13 (by decide) hk85 hf86 hb87 rfl ?_
  refine za_putFR (fi := 15) (pc' := 138) dX1_init_135 zc0 (by decide) in_X1 zok0 znm0 (by decide) q505 (Or.inl rfl) rfl rfl rfl rfl (fun _ _ _ => rfl) (z1_tk hf86 (z1_tk hf82 ht79 (by decide)) (by decide)) rfl ?_
  refine za_aload_n (pc' := 139) 0 dX1_init_138 rfl rfl rfl ?_
  refine za_bipush (pc' := 141) dX1_init_139 zb8_13 rfl ?_
  obtain ⟨κ88, hk89, hf90, hb91, h⟩ := h
  refine za_newa_int (κ := κ88) (N := 13) (pc' := 143) dX1_init_141 q241 (by decide) zn_13 (by decide) hk89 hf90 hb91 rfl ?_
  refine za_putFR (fi := 16) (pc' := 146) dX1_init_143 zc0 (by decide) in_X1 zok0 znm0 (by decide) q506 (Or.inl rfl) rfl rfl rfl rfl (fun _ _ _ => rfl) (z1_tk hf90 (z1_tk hf86 (z1_tk hf82 ht79 (by decide)) (by decide)) (by decide)) rfl ?_
  refine za_aload_n (pc' := 147) 0 dX1_init_146 rfl rfl rfl ?_
  refine za_iconst (pc' := 148) dX1_init_147 zi_2 rfl ?_
  obtain ⟨κ92, hk93, hf94, hb95, h⟩ := h
  refine za_newq (κ := κ92) (N := 2) (t := 7) (C := RX12) (pc' := 151) dX1_init_148 q436 (by decide) (by decide) (fun _ => rfl) (by decide) zn_2 (by decide) hk93 hf94 hb95 rfl ?_
  refine za_dup (pc' := 152) dX1_init_151 rfl rfl ?_
  refine za_iconst (pc' := 153) dX1_init_152 zi_0 rfl ?_
  obtain ⟨κ96, hk97, hf98, hb99, h⟩ := h
  refine za_new (κ := κ96) (pc' := 156) dX1_init_153 zc11 (by decide) in_X12 zok11 zdf11 q436 q438 q145 hk97 hf98 hb99 rfl ?_
  exact zAW_sub [0] rfl h
theorem gX1_init_156 {b : Nat} {v0 : Nat} {s0 : Nat} {s1 : Int32} {s2 : Nat} {s3 : Nat} {s4 : Nat} {T : zT} {I : zI} {L : zL} {R : zR} {P : zP} (h : (T v0).1 = 1 ∧ (T s0).1 = 12 ∧ zMet mX12_init 1 0 [.ref s0, .ref v0] T I L R (zqV_R T I L  (fun (R101 : zR)  => (T s2).1 = 107 ∧ vp_in s1 ((T s2).2) ∧ ∃ κ105, 100 ≤ κ105 ∧ (T κ105).1 = 0 ∧ 3 + 1 ≤ (b - 0) ∧ zMet mX12_init 1 0 [.ref κ105, .ref v0] (z1 T κ105 (12, 0)) (z1 I κ105 fun _ => 0) (z1 L κ105 fun _ => 0) (z1 (z2 R101 s2 (s1.toNatClampNeg) s0) κ105 fun _ => 0) (zqV_R (z1 T κ105 (12, 0)) (z1 I κ105 fun _ => 0) (z1 L κ105 fun _ => 0)  (fun (R109 : zR)  => ((z1 T κ105 (12, 0)) s3).1 = 107 ∧ vp_in (1 : Int32) (((z1 T κ105 (12, 0)) s3).2) ∧ ((z1 T κ105 (12, 0)) s4).1 = 1 ∧ ∃ κ113, 100 ≤ κ113 ∧ ((z1 T κ105 (12, 0)) κ113).1 = 0 ∧ 48373 + 1 ≤ (((b - 0) - (3 + 1)) - 0) ∧ zAW mX1_init 5 ((((b - 0) - (3 + 1)) - 0) - (48373 + 1)) 184 [(0, .ref v0)] [] (z1 (z1 T κ105 (12, 0)) κ113 (100, 48373)) (z1 (z1 I κ105 fun _ => 0) κ113 fun _ => 0) (z1 (z1 L κ105 fun _ => 0) κ113 fun _ => 0) (z2 (z1 (z2 (z2 R109 s3 1 κ105) s4 17 s3) κ113 fun _ => 0) v0 18 κ113) P))))) : zAW mX1_init 5 b 156 [(0, .ref v0)] [.ref s0, .int s1, .ref s2, .ref s3, .ref s4] T I L R P := by
  obtain ⟨ht100, h⟩ := h
  refine za_dup (pc' := 157) dX1_init_156 rfl rfl ?_
  refine za_aload_n (pc' := 158) 0 dX1_init_157 rfl rfl rfl ?_
  obtain ⟨ht102, h⟩ := h
  refine za_callIN (κ := s0) (M2 := mX12_init) (d2 := 1) (b2 := 0) (n := 1) (As := [.ref v0]) (st := [.ref s0, .int s1, .ref s2, .ref s3, .ref s4]) (pc' := 161) (by rw [ht102]; decide) dX1_init_158 rfl (lw_meth q441) rfl q439 q440 q145 rfl hd_X12_init rfl (by decide) (by decide) (Nat.zero_le _) (Or.inl rfl) (Nat.le_of_ble_eq_true rfl) h (zqV_R_k rfl (fun R101 h => ?_)) (fun _ _ _ _ _ _ h9 h8 => absurd h8.1 h9) rfl
  obtain ⟨ht103, h⟩ := h
  obtain ⟨hi104, h⟩ := h
  refine za_aast (kx := s1.toNatClampNeg) (t := 7) (pc' := 162) dX1_init_161 (by decide) (fun _ => rfl) (zpair ht103) hi104 zc11 (by decide) ht102 rfl rfl ?_
  refine za_dup (pc' := 163) dX1_init_162 rfl rfl ?_
  refine za_iconst (pc' := 164) dX1_init_163 zi_1 rfl ?_
  obtain ⟨κ105, hk106, hf107, hb108, h⟩ := h
  refine za_new (κ := κ105) (pc' := 167) dX1_init_164 zc11 (by decide) in_X12 zok11 zdf11 q436 q438 q145 hk106 hf107 hb108 rfl ?_
  refine za_dup (pc' := 168) dX1_init_167 rfl rfl ?_
  refine za_aload_n (pc' := 169) 0 dX1_init_168 rfl rfl rfl ?_
  refine za_callIN (κ := κ105) (M2 := mX12_init) (d2 := 1) (b2 := 0) (n := 1) (As := [.ref v0]) (st := [.ref κ105, .int (1 : Int32), .ref s3, .ref s3, .ref s4]) (pc' := 172) (by rw [(congrArg Prod.fst z1_s)]; decide) dX1_init_169 rfl (lw_meth q441) rfl q439 q440 q145 rfl hd_X12_init rfl (by decide) (by decide) (Nat.zero_le _) (Or.inl rfl) (Nat.le_of_ble_eq_true rfl) h (zqV_R_k rfl (fun R109 h => ?_)) (fun _ _ _ _ _ _ h9 h8 => absurd h8.1 h9) rfl
  obtain ⟨ht110, h⟩ := h
  obtain ⟨hi111, h⟩ := h
  refine za_aast (kx := 1) (t := 7) (pc' := 173) dX1_init_172 (by decide) (fun _ => rfl) (zpair ht110) hi111 zc11 (by decide) (congrArg Prod.fst z1_s) zn_1 rfl ?_
  obtain ⟨ht112, h⟩ := h
  refine za_putFR (fi := 17) (pc' := 176) dX1_init_173 zc0 (by decide) in_X1 zok0 znm0 (by decide) q507 (Or.inl rfl) rfl rfl rfl rfl (fun _ _ _ => rfl) ht112 rfl ?_
  refine za_aload_n (pc' := 177) 0 dX1_init_176 rfl rfl rfl ?_
  refine za_ldc (pc' := 179) (v := (48373 : Int32)) (own := "") dX1_init_177 q454 rfl ?_
  obtain ⟨κ113, hk114, hf115, hb116, h⟩ := h
  refine za_newa_int (κ := κ113) (N := 48373) (pc' := 181) dX1_init_179 q241 (by decide) zn_48373 (by decide) hk114 hf115 hb116 rfl ?_
  refine za_putFR (fi := 18) (pc' := 184) dX1_init_181 zc0 (by decide) in_X1 zok0 znm0 (by decide) q508 (Or.inl rfl) rfl rfl rfl rfl (fun _ _ _ => rfl) (z1_tk hf115 (z1_tk hf107 ht100 (by decide)) (by decide)) rfl ?_
  exact zAW_sub [0] rfl h
theorem gX1_init_184 {b : Nat} {v0 : Nat} {T : zT} {I : zI} {L : zL} {R : zR} {P : zP} (h : (T v0).1 = 1 ∧ ∃ κ118, 100 ≤ κ118 ∧ (T κ118).1 = 0 ∧ 2 + 1 ≤ b ∧ ∃ b126, b126 ≤ (b - (2 + 1)) ∧ zMet mX11_init 1 b126 [.ref κ118] (z1 T κ118 (11, 0)) (z1 I κ118 fun _ => 0) (z1 L κ118 fun _ => 0) (z1 R κ118 fun _ => 0) (zqV_TILR   (fun (T122 : zT) (I123 : zI) (L124 : zL) (R125 : zR)  => (T122 v0).1 = 1 ∧ ∃ κ129, 100 ≤ κ129 ∧ (T122 κ129).1 = 0 ∧ 2 + 1 ≤ ((b - (2 + 1)) - b126) ∧ ∃ b137, b137 ≤ (((b - (2 + 1)) - b126) - (2 + 1)) ∧ zMet mX11_init 1 b137 [.ref κ129] (z1 T122 κ129 (11, 0)) (z1 I123 κ129 fun _ => 0) (z1 L124 κ129 fun _ => 0) (z1 (z2 R125 v0 19 κ118) κ129 fun _ => 0) (zqV_TILR   (fun (T133 : zT) (I134 : zI) (L135 : zL) (R136 : zR)  => (T133 v0).1 = 1 ∧ ∃ κ140, 100 ≤ κ140 ∧ (T133 κ140).1 = 0 ∧ 2 + 1 ≤ ((((b - (2 + 1)) - b126) - (2 + 1)) - b137) ∧ ∃ b148, b148 ≤ (((((b - (2 + 1)) - b126) - (2 + 1)) - b137) - (2 + 1)) ∧ zMet mX11_init 1 b148 [.ref κ140] (z1 T133 κ140 (11, 0)) (z1 I134 κ140 fun _ => 0) (z1 L135 κ140 fun _ => 0) (z1 (z2 R136 v0 21 κ129) κ140 fun _ => 0) (zqV_TILR   (fun (T144 : zT) (I145 : zI) (L146 : zL) (R147 : zR)  => zAW mX1_init 5 ((((((b - (2 + 1)) - b126) - (2 + 1)) - b137) - (2 + 1)) - b148) 214 [(0, .ref v0)] [.ref κ140, .ref v0] T144 I145 L146 R147 P))))))) : zAW mX1_init 5 b 184 [(0, .ref v0)] [] T I L R P := by
  obtain ⟨ht117, h⟩ := h
  refine za_aload_n (pc' := 185) 0 dX1_init_184 rfl rfl rfl ?_
  obtain ⟨κ118, hk119, hf120, hb121, h⟩ := h
  refine za_new (κ := κ118) (pc' := 188) dX1_init_185 zc10 (by decide) in_X11 zok10 zdf10 q455 q397 q144 hk119 hf120 hb121 rfl ?_
  refine za_dup (pc' := 189) dX1_init_188 rfl rfl ?_
  obtain ⟨b126, hb127, h⟩ := h
  refine za_callIN (κ := κ118) (M2 := mX11_init) (d2 := 1) (b2 := b126) (n := 0) (As := []) (st := [.ref κ118, .ref v0]) (pc' := 192) (by rw [(congrArg Prod.fst z1_s)]; decide) dX1_init_189 rfl (lw_meth q400) rfl q456 q399 q144 rfl hd_X11_init rfl (by decide) (by decide) hb127 (Or.inl rfl) (Nat.le_of_ble_eq_true rfl) h (zqV_TILR_k rfl (fun T122 I123 L124 R125 h => ?_)) (fun _ _ _ _ _ _ h9 h8 => absurd h8.1 h9) rfl
  obtain ⟨ht128, h⟩ := h
  refine za_putFR (fi := 19) (pc' := 195) dX1_init_192 zc0 (by decide) in_X1 zok0 znm0 (by decide) q509 (Or.inl rfl) rfl rfl rfl rfl (fun _ _ _ => rfl) ht128 rfl ?_
  refine za_aload_n (pc' := 196) 0 dX1_init_195 rfl rfl rfl ?_
  obtain ⟨κ129, hk130, hf131, hb132, h⟩ := h
  refine za_new (κ := κ129) (pc' := 199) dX1_init_196 zc10 (by decide) in_X11 zok10 zdf10 q455 q397 q144 hk130 hf131 hb132 rfl ?_
  refine za_dup (pc' := 200) dX1_init_199 rfl rfl ?_
  obtain ⟨b137, hb138, h⟩ := h
  refine za_callIN (κ := κ129) (M2 := mX11_init) (d2 := 1) (b2 := b137) (n := 0) (As := []) (st := [.ref κ129, .ref v0]) (pc' := 203) (by rw [(congrArg Prod.fst z1_s)]; decide) dX1_init_200 rfl (lw_meth q400) rfl q456 q399 q144 rfl hd_X11_init rfl (by decide) (by decide) hb138 (Or.inl rfl) (Nat.le_of_ble_eq_true rfl) h (zqV_TILR_k rfl (fun T133 I134 L135 R136 h => ?_)) (fun _ _ _ _ _ _ h9 h8 => absurd h8.1 h9) rfl
  obtain ⟨ht139, h⟩ := h
  refine za_putFR (fi := 21) (pc' := 206) dX1_init_203 zc0 (by decide) in_X1 zok0 znm0 (by decide) q511 (Or.inl rfl) rfl rfl rfl rfl (fun _ _ _ => rfl) ht139 rfl ?_
  refine za_aload_n (pc' := 207) 0 dX1_init_206 rfl rfl rfl ?_
  obtain ⟨κ140, hk141, hf142, hb143, h⟩ := h
  refine za_new (κ := κ140) (pc' := 210) dX1_init_207 zc10 (by decide) in_X11 zok10 zdf10 q455 q397 q144 hk141 hf142 hb143 rfl ?_
  refine za_dup (pc' := 211) dX1_init_210 rfl rfl ?_
  obtain ⟨b148, hb149, h⟩ := h
  refine za_callIN (κ := κ140) (M2 := mX11_init) (d2 := 1) (b2 := b148) (n := 0) (As := []) (st := [.ref κ140, .ref v0]) (pc' := 214) (by rw [(congrArg Prod.fst z1_s)]; decide) dX1_init_211 rfl (lw_meth q400) rfl q456 q399 q144 rfl hd_X11_init rfl (by decide) (by decide) hb149 (Or.inl rfl) (Nat.le_of_ble_eq_true rfl) h (zqV_TILR_k rfl (fun T144 I145 L146 R147 h => ?_)) (fun _ _ _ _ _ _ h9 h8 => absurd h8.1 h9) rfl
  exact zAW_sub [0] rfl h
theorem gX1_init_214 {b : Nat} {v0 : Nat} {s0 : Nat} {s1 : Nat} {T : zT} {I : zI} {L : zL} {R : zR} {P : zP} (h : (T v0).1 = 1 ∧ (T s1).1 = 1 ∧ ∃ κ152, 100 ≤ κ152 ∧ (T κ152).1 = 0 ∧ 6 + 1 ≤ b ∧ ∃ κ156, 100 ≤ κ156 ∧ ((z1 T κ152 (100, 6)) κ156).1 = 0 ∧ 6 + 1 ≤ (b - (6 + 1)) ∧ ((z1 (z1 T κ152 (100, 6)) κ156 (100, 6)) (R v0 10)).1 = 10 ∧ zMet mX10_begin 4 0 [.ref (R v0 10)] (z1 (z1 T κ152 (100, 6)) κ156 (100, 6)) (z1 (z1 I κ152 fun _ => 0) κ156 fun _ => 0) (z1 (z1 L κ152 fun _ => 0) κ156 fun _ => 0) (z2 (z1 (z2 (z1 (z2 R s1 24 s0) κ152 fun _ => 0) v0 25 κ152) κ156 fun _ => 0) v0 26 κ156) (zqV_I (z1 (z1 T κ152 (100, 6)) κ156 (100, 6)) (z1 (z1 L κ152 fun _ => 0) κ156 fun _ => 0) (z2 (z1 (z2 (z1 (z2 R s1 24 s0) κ152 fun _ => 0) v0 25 κ152) κ156 fun _ => 0) v0 26 κ156)  (fun (I160 : zI)  => P 0 (.int 0) (z1 (z1 T κ152 (100, 6)) κ156 (100, 6)) I160 (z1 (z1 L κ152 fun _ => 0) κ156 fun _ => 0) (z2 (z1 (z2 (z1 (z2 R s1 24 s0) κ152 fun _ => 0) v0 25 κ152) κ156 fun _ => 0) v0 26 κ156)))) : zAW mX1_init 5 b 214 [(0, .ref v0)] [.ref s0, .ref s1] T I L R P := by
  obtain ⟨ht150, h⟩ := h
  obtain ⟨ht151, h⟩ := h
  refine za_putFR (fi := 24) (pc' := 217) dX1_init_214 zc0 (by decide) in_X1 zok0 znm0 (by decide) q514 (Or.inl rfl) rfl rfl rfl rfl (fun _ _ _ => rfl) ht151 rfl ?_
  refine za_aload_n (pc' := 218) 0 dX1_init_217 rfl rfl rfl ?_
  refine za_bipush (pc' := 220) dX1_init_218 zb8_6 rfl ?_
  obtain ⟨κ152, hk153, hf154, hb155, h⟩ := h
  refine za_newa_int (κ := κ152) (N := 6) (pc' := 222) dX1_init_220 q241 (by decide) zn_6 (by decide) hk153 hf154 hb155 rfl ?_
  refine za_putFR (fi := 25) (pc' := 225) dX1_init_222 zc0 (by decide) in_X1 zok0 znm0 (by decide) q515 (Or.inl rfl) rfl rfl rfl rfl (fun _ _ _ => rfl) (z1_tk hf154 ht150 (by decide)) rfl ?_
  refine za_aload_n (pc' := 226) 0 dX1_init_225 rfl rfl rfl ?_
  refine za_bipush (pc' := 228) dX1_init_226 zb8_6 rfl ?_
  obtain ⟨κ156, hk157, hf158, hb159, h⟩ := h
  refine za_newa_int (κ := κ156) (N := 6) (pc' := 230) dX1_init_228 q241 (by decide) zn_6 (by decide) hk157 hf158 hb159 rfl ?_
  refine za_putFR (fi := 26) (pc' := 233) dX1_init_230 zc0 (by decide) in_X1 zok0 znm0 (by decide) q516 (Or.inl rfl) rfl rfl rfl rfl (fun _ _ _ => rfl) (z1_tk hf158 (z1_tk hf154 ht150 (by decide)) (by decide)) rfl ?_
  refine za_aload_n (pc' := 234) 0 dX1_init_233 rfl rfl rfl ?_
  refine za_get (fi := 10) (v := .ref (R v0 10)) (pc' := 237) dX1_init_234 zc0 (by decide) in_X1 (by decide) q500 (Or.inl rfl) (z1_tk hf158 (z1_tk hf154 ht150 (by decide)) (by decide)) (congrArg Value.ref (((((z2_nk (by decide)).trans (congrFun (z1_n (z1_ne hf158 (z1_tk hf154 ht150 (by decide)))) _)).trans (z2_nk (by decide))).trans (congrFun (z1_n (z1_ne hf154 ht150)) _)).trans (z2_nk (by decide)))) rfl ?_
  obtain ⟨ht161, h⟩ := h
  refine za_callV (κ := (R v0 10)) (M2 := mX10_begin) (d2 := 4) (b2 := 0) (n := 0) (As := []) (st := []) (pc' := 240) zc9 (by decide) ht161 dX1_init_237 rfl (lw_V q457 q458 q459 q143 q460) ⟨rfl, hd_X10_begin⟩ rfl (by decide) (by decide) (Nat.zero_le _) (Or.inl rfl) (Nat.le_of_ble_eq_true rfl) h (zqV_I_k rfl (fun I160 h => ?_)) (fun _ _ _ _ _ _ h9 h8 => absurd h8.1 h9) rfl
  exact za_return rfl dX1_init_240 h
theorem sX1_init {d b : Nat} {v0 : Nat} {T : zT} {I : zI} {L : zL} {R : zR} {P : zP} (h : zAW mX1_init d b 0 [(0, .ref v0)] [] T I L R P) : zMet mX1_init d b [.ref v0] T I L R P := zMet_of (by decide +kernel) rfl (Nat.le_of_ble_eq_true rfl) rfl h
/-! TwoTongues.feed (IIIII)I -/
def dkwX1_feed_2 : List UInt8 := [172]
abbrev dktX1_feed_2 : List UInt8 := dkwX1_feed_2 ++ []
def dkwX1_feed_1 : List UInt8 := [182, 0, 122, 42, 29, 182, 0, 122, 42, 21, 4, 182, 0, 122, 42, 21, 5, 182, 0, 122, 42, 180, 0, 119]
abbrev dktX1_feed_1 : List UInt8 := dkwX1_feed_1 ++ dktX1_feed_2
def dkwX1_feed_0 : List UInt8 := [42, 180, 0, 119, 16, 20, 96, 17, 3, 32, 164, 0, 5, 2, 172, 42, 27, 182, 0, 122, 42, 28]
abbrev dktX1_feed_0 : List UInt8 := dkwX1_feed_0 ++ dktX1_feed_1
theorem dksX1_feed_0 : cX1_feed.data.toList.drop 0 = dktX1_feed_0 := by decide +kernel
theorem dksX1_feed_1 : cX1_feed.data.toList.drop 22 = dktX1_feed_1 := dk_seg dksX1_feed_0 22 rfl rfl
theorem dksX1_feed_2 : cX1_feed.data.toList.drop 46 = dktX1_feed_2 := dk_seg dksX1_feed_1 24 rfl rfl
theorem dX1_feed_0 : decode cX1_feed 0 = .ok (.aload_n 0, 1) := dk_42 (dk_at dksX1_feed_0 0 rfl rfl)
theorem dX1_feed_1 : decode cX1_feed 1 = .ok (.getfield 119, 3) := dk_180 0 119 (dk_at dksX1_feed_0 1 rfl rfl)
theorem dX1_feed_4 : decode cX1_feed 4 = .ok (.bipush 20, 2) := dk_16 20 (dk_at dksX1_feed_0 4 rfl rfl)
theorem dX1_feed_6 : decode cX1_feed 6 = .ok (.iadd, 1) := dk_96 (dk_at dksX1_feed_0 6 rfl rfl)
theorem dX1_feed_7 : decode cX1_feed 7 = .ok (.sipush 800, 3) := dk_17 3 32 (dk_at dksX1_feed_0 7 rfl rfl)
theorem dX1_feed_10 : decode cX1_feed 10 = .ok (.if_icmp .le 5, 3) := dk_164 0 5 (dk_at dksX1_feed_0 10 rfl rfl)
theorem dX1_feed_13 : decode cX1_feed 13 = .ok (.iconst (-1), 1) := dk_2 (dk_at dksX1_feed_0 13 rfl rfl)
theorem dX1_feed_14 : decode cX1_feed 14 = .ok (.ireturn, 1) := dk_172 (dk_at dksX1_feed_0 14 rfl rfl)
theorem dX1_feed_15 : decode cX1_feed 15 = .ok (.aload_n 0, 1) := dk_42 (dk_at dksX1_feed_0 15 rfl rfl)
theorem dX1_feed_16 : decode cX1_feed 16 = .ok (.iload_n 1, 1) := dk_27 (dk_at dksX1_feed_0 16 rfl rfl)
theorem dX1_feed_17 : decode cX1_feed 17 = .ok (.invokevirtual 122, 3) := dk_182 0 122 (dk_at dksX1_feed_0 17 rfl rfl)
theorem dX1_feed_20 : decode cX1_feed 20 = .ok (.aload_n 0, 1) := dk_42 (dk_at dksX1_feed_0 20 rfl rfl)
theorem dX1_feed_21 : decode cX1_feed 21 = .ok (.iload_n 2, 1) := dk_28 (dk_at dksX1_feed_0 21 rfl rfl)
theorem dX1_feed_22 : decode cX1_feed 22 = .ok (.invokevirtual 122, 3) := dk_182 0 122 (dk_at dksX1_feed_1 0 rfl rfl)
theorem dX1_feed_25 : decode cX1_feed 25 = .ok (.aload_n 0, 1) := dk_42 (dk_at dksX1_feed_1 3 rfl rfl)
theorem dX1_feed_26 : decode cX1_feed 26 = .ok (.iload_n 3, 1) := dk_29 (dk_at dksX1_feed_1 4 rfl rfl)
theorem dX1_feed_27 : decode cX1_feed 27 = .ok (.invokevirtual 122, 3) := dk_182 0 122 (dk_at dksX1_feed_1 5 rfl rfl)
theorem dX1_feed_30 : decode cX1_feed 30 = .ok (.aload_n 0, 1) := dk_42 (dk_at dksX1_feed_1 8 rfl rfl)
theorem dX1_feed_31 : decode cX1_feed 31 = .ok (.iload 4, 2) := dk_21 4 (dk_at dksX1_feed_1 9 rfl rfl)
theorem dX1_feed_33 : decode cX1_feed 33 = .ok (.invokevirtual 122, 3) := dk_182 0 122 (dk_at dksX1_feed_1 11 rfl rfl)
theorem dX1_feed_36 : decode cX1_feed 36 = .ok (.aload_n 0, 1) := dk_42 (dk_at dksX1_feed_1 14 rfl rfl)
theorem dX1_feed_37 : decode cX1_feed 37 = .ok (.iload 5, 2) := dk_21 5 (dk_at dksX1_feed_1 15 rfl rfl)
theorem dX1_feed_39 : decode cX1_feed 39 = .ok (.invokevirtual 122, 3) := dk_182 0 122 (dk_at dksX1_feed_1 17 rfl rfl)
theorem dX1_feed_42 : decode cX1_feed 42 = .ok (.aload_n 0, 1) := dk_42 (dk_at dksX1_feed_1 20 rfl rfl)
theorem dX1_feed_43 : decode cX1_feed 43 = .ok (.getfield 119, 3) := dk_180 0 119 (dk_at dksX1_feed_1 21 rfl rfl)
theorem dX1_feed_46 : decode cX1_feed 46 = .ok (.ireturn, 1) := dk_172 (dk_at dksX1_feed_2 0 rfl rfl)
theorem gX1_feed_0 {v1 : Int32} {v2 : Int32} {v3 : Int32} {v4 : Int32} {v5 : Int32} {T : zT} {I : zI} {L : zL} {R : zR} {P : zP} (hx : zXok T R) (h : ((((I 1000 1) + (20 : Int32)) ≤ (800 : Int32) → zMet mX1_put 1 0 [.ref 1000, .int v1] T I L R (zqV_I T L R  (fun (I1 : zI)  => zMet mX1_put 1 0 [.ref 1000, .int v2] T I1 L R (zqV_I T L R  (fun (I2 : zI)  => zMet mX1_put 1 0 [.ref 1000, .int v3] T I2 L R (zqV_I T L R  (fun (I3 : zI)  => zMet mX1_put 1 0 [.ref 1000, .int v4] T I3 L R (zqV_I T L R  (fun (I4 : zI)  => zMet mX1_put 1 0 [.ref 1000, .int v5] T I4 L R (zqV_I T L R  (fun (I5 : zI)  => P 0 (.int (I5 1000 1)) T I5 L R))))))))))) ∧ (¬ ((I 1000 1) + (20 : Int32)) ≤ (800 : Int32) → P 0 (.int (-1 : Int32)) T I L R))) : zAW mX1_feed 2 0 0 [(0, .ref 1000), (1, .int v1), (2, .int v2), (3, .int v3), (4, .int v4), (5, .int v5)] [] T I L R P := by
  refine za_aload_n (pc' := 1) 0 dX1_feed_0 rfl rfl rfl ?_
  refine za_get (fi := 1) (v := .int (I 1000 1)) (pc' := 4) dX1_feed_1 zc0 (by decide) in_X1 (by decide) q490 (Or.inl rfl) (congrArg Prod.fst (zX_t1000 hx)) rfl rfl ?_
  refine za_bipush (pc' := 6) dX1_feed_4 zb8_20 rfl ?_
  refine za_iadd (pc' := 7) dX1_feed_6 rfl ?_
  refine za_sipush (pc' := 10) dX1_feed_7 zb16_800 rfl ?_
  refine za_icmp_le (pc' := 13) (tgt := 15) dX1_feed_10 (by decide) rfl (fun c9 => ?_) (fun c9 => ?_)
  · replace h := h.1 c9
    refine za_aload_n (pc' := 16) 0 dX1_feed_15 rfl rfl rfl ?_
    refine za_iload_n (pc' := 17) 1 dX1_feed_16 rfl rfl rfl ?_
    refine za_callV (κ := 1000) (M2 := mX1_put) (d2 := 1) (b2 := 0) (n := 1) (As := [.int v1]) (st := []) (pc' := 20) zc0 (by decide) (congrArg Prod.fst (zX_t1000 hx)) dX1_feed_17 rfl (lw_V q579 q581 qs0 q131 q582) ⟨rfl, hd_X1_put⟩ rfl (by decide) (by decide) (Nat.zero_le _) (Or.inl rfl) (Nat.le_of_ble_eq_true rfl) h (zqV_I_k rfl (fun I1 h => ?_)) (fun _ _ _ _ _ _ h9 h8 => absurd h8.1 h9) rfl
    refine za_aload_n (pc' := 21) 0 dX1_feed_20 rfl rfl rfl ?_
    refine za_iload_n (pc' := 22) 2 dX1_feed_21 rfl rfl rfl ?_
    refine za_callV (κ := 1000) (M2 := mX1_put) (d2 := 1) (b2 := 0) (n := 1) (As := [.int v2]) (st := []) (pc' := 25) zc0 (by decide) (congrArg Prod.fst (zX_t1000 hx)) dX1_feed_22 rfl (lw_V q579 q581 qs0 q131 q582) ⟨rfl, hd_X1_put⟩ rfl (by decide) (by decide) (Nat.zero_le _) (Or.inl rfl) (Nat.le_of_ble_eq_true rfl) h (zqV_I_k rfl (fun I2 h => ?_)) (fun _ _ _ _ _ _ h9 h8 => absurd h8.1 h9) rfl
    refine za_aload_n (pc' := 26) 0 dX1_feed_25 rfl rfl rfl ?_
    refine za_iload_n (pc' := 27) 3 dX1_feed_26 rfl rfl rfl ?_
    refine za_callV (κ := 1000) (M2 := mX1_put) (d2 := 1) (b2 := 0) (n := 1) (As := [.int v3]) (st := []) (pc' := 30) zc0 (by decide) (congrArg Prod.fst (zX_t1000 hx)) dX1_feed_27 rfl (lw_V q579 q581 qs0 q131 q582) ⟨rfl, hd_X1_put⟩ rfl (by decide) (by decide) (Nat.zero_le _) (Or.inl rfl) (Nat.le_of_ble_eq_true rfl) h (zqV_I_k rfl (fun I3 h => ?_)) (fun _ _ _ _ _ _ h9 h8 => absurd h8.1 h9) rfl
    refine za_aload_n (pc' := 31) 0 dX1_feed_30 rfl rfl rfl ?_
    refine za_iload (pc' := 33) 4 dX1_feed_31 rfl rfl ?_
    refine za_callV (κ := 1000) (M2 := mX1_put) (d2 := 1) (b2 := 0) (n := 1) (As := [.int v4]) (st := []) (pc' := 36) zc0 (by decide) (congrArg Prod.fst (zX_t1000 hx)) dX1_feed_33 rfl (lw_V q579 q581 qs0 q131 q582) ⟨rfl, hd_X1_put⟩ rfl (by decide) (by decide) (Nat.zero_le _) (Or.inl rfl) (Nat.le_of_ble_eq_true rfl) h (zqV_I_k rfl (fun I4 h => ?_)) (fun _ _ _ _ _ _ h9 h8 => absurd h8.1 h9) rfl
    refine za_aload_n (pc' := 37) 0 dX1_feed_36 rfl rfl rfl ?_
    refine za_iload (pc' := 39) 5 dX1_feed_37 rfl rfl ?_
    refine za_callV (κ := 1000) (M2 := mX1_put) (d2 := 1) (b2 := 0) (n := 1) (As := [.int v5]) (st := []) (pc' := 42) zc0 (by decide) (congrArg Prod.fst (zX_t1000 hx)) dX1_feed_39 rfl (lw_V q579 q581 qs0 q131 q582) ⟨rfl, hd_X1_put⟩ rfl (by decide) (by decide) (Nat.zero_le _) (Or.inl rfl) (Nat.le_of_ble_eq_true rfl) h (zqV_I_k rfl (fun I5 h => ?_)) (fun _ _ _ _ _ _ h9 h8 => absurd h8.1 h9) rfl
    refine za_aload_n (pc' := 43) 0 dX1_feed_42 rfl rfl rfl ?_
    refine za_get (fi := 1) (v := .int (I5 1000 1)) (pc' := 46) dX1_feed_43 zc0 (by decide) in_X1 (by decide) q490 (Or.inl rfl) (congrArg Prod.fst (zX_t1000 hx)) rfl rfl ?_
    exact za_ireturn rfl dX1_feed_46 h
  · replace h := h.2 c9
    refine za_iconst (pc' := 14) dX1_feed_13 zi_m1 rfl ?_
    exact za_ireturn rfl dX1_feed_14 h
theorem sX1_feed {d b : Nat} {v1 : Int32} {v2 : Int32} {v3 : Int32} {v4 : Int32} {v5 : Int32} {T : zT} {I : zI} {L : zL} {R : zR} {P : zP} (h : zAW mX1_feed d b 0 [(0, .ref 1000), (1, .int v1), (2, .int v2), (3, .int v3), (4, .int v4), (5, .int v5)] [] T I L R P) : zMet mX1_feed d b [.ref 1000, .int v1, .int v2, .int v3, .int v4, .int v5] T I L R P := zMet_of (by decide +kernel) rfl (Nat.le_of_ble_eq_true rfl) rfl h
/-! TwoTongues.put (I)V -/
def dkwX1_put_1 : List UInt8 := [122, 145, 84, 132, 2, 248, 167, 255, 229, 177]
abbrev dktX1_put_1 : List UInt8 := dkwX1_put_1 ++ []
def dkwX1_put_0 : List UInt8 := [16, 24, 61, 28, 155, 0, 29, 42, 180, 0, 19, 42, 89, 180, 0, 119, 90, 4, 96, 181, 0, 119, 27, 28]
abbrev dktX1_put_0 : List UInt8 := dkwX1_put_0 ++ dktX1_put_1
theorem dksX1_put_0 : cX1_put.data.toList.drop 0 = dktX1_put_0 := by decide +kernel
theorem dksX1_put_1 : cX1_put.data.toList.drop 24 = dktX1_put_1 := dk_seg dksX1_put_0 24 rfl rfl
theorem dX1_put_0 : decode cX1_put 0 = .ok (.bipush 24, 2) := dk_16 24 (dk_at dksX1_put_0 0 rfl rfl)
theorem dX1_put_2 : decode cX1_put 2 = .ok (.istore_n 2, 1) := dk_61 (dk_at dksX1_put_0 2 rfl rfl)
theorem dX1_put_3 : decode cX1_put 3 = .ok (.iload_n 2, 1) := dk_28 (dk_at dksX1_put_0 3 rfl rfl)
theorem dX1_put_4 : decode cX1_put 4 = .ok (.ifCond .lt 29, 3) := dk_155 0 29 (dk_at dksX1_put_0 4 rfl rfl)
theorem dX1_put_7 : decode cX1_put 7 = .ok (.aload_n 0, 1) := dk_42 (dk_at dksX1_put_0 7 rfl rfl)
theorem dX1_put_8 : decode cX1_put 8 = .ok (.getfield 19, 3) := dk_180 0 19 (dk_at dksX1_put_0 8 rfl rfl)
theorem dX1_put_11 : decode cX1_put 11 = .ok (.aload_n 0, 1) := dk_42 (dk_at dksX1_put_0 11 rfl rfl)
theorem dX1_put_12 : decode cX1_put 12 = .ok (.dup, 1) := dk_89 (dk_at dksX1_put_0 12 rfl rfl)
theorem dX1_put_13 : decode cX1_put 13 = .ok (.getfield 119, 3) := dk_180 0 119 (dk_at dksX1_put_0 13 rfl rfl)
theorem dX1_put_16 : decode cX1_put 16 = .ok (.dup_x1, 1) := dk_90 (dk_at dksX1_put_0 16 rfl rfl)
theorem dX1_put_17 : decode cX1_put 17 = .ok (.iconst 1, 1) := dk_4 (dk_at dksX1_put_0 17 rfl rfl)
theorem dX1_put_18 : decode cX1_put 18 = .ok (.iadd, 1) := dk_96 (dk_at dksX1_put_0 18 rfl rfl)
theorem dX1_put_19 : decode cX1_put 19 = .ok (.putfield 119, 3) := dk_181 0 119 (dk_at dksX1_put_0 19 rfl rfl)
theorem dX1_put_22 : decode cX1_put 22 = .ok (.iload_n 1, 1) := dk_27 (dk_at dksX1_put_0 22 rfl rfl)
theorem dX1_put_23 : decode cX1_put 23 = .ok (.iload_n 2, 1) := dk_28 (dk_at dksX1_put_0 23 rfl rfl)
theorem dX1_put_24 : decode cX1_put 24 = .ok (.ishr, 1) := dk_122 (dk_at dksX1_put_1 0 rfl rfl)
theorem dX1_put_25 : decode cX1_put 25 = .ok (.i2b, 1) := dk_145 (dk_at dksX1_put_1 1 rfl rfl)
theorem dX1_put_26 : decode cX1_put 26 = .ok (.bastore, 1) := dk_84 (dk_at dksX1_put_1 2 rfl rfl)
theorem dX1_put_27 : decode cX1_put 27 = .ok (.iinc 2 (-8), 3) := dk_132 2 248 (dk_at dksX1_put_1 3 rfl rfl)
theorem dX1_put_30 : decode cX1_put 30 = .ok (.goto (-27), 3) := dk_167 255 229 (dk_at dksX1_put_1 6 rfl rfl)
theorem dX1_put_33 : decode cX1_put 33 = .ok (.return_, 1) := dk_177 (dk_at dksX1_put_1 9 rfl rfl)
theorem gX1_put_0 {v1 : Int32} {T : zT} {I : zI} {L : zL} {R : zR} {P : zP} (hx : zXok T R) (h : zAW mX1_put 1 0 3 [(0, .ref 1000), (1, .int v1), (2, .int (24 : Int32))] [] T I L R P) : zAW mX1_put 1 0 0 [(0, .ref 1000), (1, .int v1)] [] T I L R P := by
  refine za_bipush (pc' := 2) dX1_put_0 zb8_24 rfl ?_
  refine za_istore_n (pc' := 3) (l' := [(2, .int (24 : Int32)), (0, .ref 1000), (1, .int v1)]) dX1_put_2 rfl (Nat.le_of_ble_eq_true rfl) rfl rfl ?_
  exact zAW_sub [1, 2, 0] rfl h
theorem gX1_put_3 {v1 : Int32} {v2 : Int32} {T : zT} {I : zI} {L : zL} {R : zR} {P : zP} (hx : zXok T R) (h : ((v2 < 0 → P 0 (.int 0) T I L R) ∧ (¬ v2 < 0 → vp_in (I 1000 1) 800 ∧ zAW mX1_put 1 0 3 [(0, .ref 1000), (1, .int v1), (2, .int (v2 + (-8 : Int32)))] [] T (z2 (z2 I 1000 1 ((I 1000 1) + (1 : Int32))) 1001 ((I 1000 1).toNatClampNeg) (vp_nar .byte ((v1 >>> (v2 &&& 31)).toInt8.toInt32))) L R P))) : zAW mX1_put 1 0 3 [(0, .ref 1000), (1, .int v1), (2, .int v2)] [] T I L R P := by
  refine za_iload_n (pc' := 4) 2 dX1_put_3 rfl rfl rfl ?_
  refine za_if_lt (pc' := 7) (tgt := 33) dX1_put_4 (by decide) rfl (fun c9 => ?_) (fun c9 => ?_)
  · replace h := h.1 c9
    exact za_return rfl dX1_put_33 h
  · replace h := h.2 c9
    refine za_aload_n (pc' := 8) 0 dX1_put_7 rfl rfl rfl ?_
    refine za_get (fi := 0) (v := .ref 1001) (pc' := 11) dX1_put_8 zc0 (by decide) in_X1 (by decide) q489 (Or.inl rfl) (congrArg Prod.fst (zX_t1000 hx)) (congrArg Value.ref (zX_r1000_0 hx)) rfl ?_
    refine za_aload_n (pc' := 12) 0 dX1_put_11 rfl rfl rfl ?_
    refine za_dup (pc' := 13) dX1_put_12 rfl rfl ?_
    refine za_get (fi := 1) (v := .int (I 1000 1)) (pc' := 16) dX1_put_13 zc0 (by decide) in_X1 (by decide) q490 (Or.inl rfl) (congrArg Prod.fst (zX_t1000 hx)) rfl rfl ?_
    refine za_dup_x1 (pc' := 17) dX1_put_16 rfl rfl rfl ?_
    refine za_iconst (pc' := 18) dX1_put_17 zi_1 rfl ?_
    refine za_iadd (pc' := 19) dX1_put_18 rfl ?_
    refine za_putI (fi := 1) (pc' := 22) dX1_put_19 zc0 (by decide) in_X1 zok0 znm0 (by decide) q490 (Or.inl rfl) rfl rfl (fun _ _ _ => rfl) rfl rfl (congrArg Prod.fst (zX_t1000 hx)) rfl ?_
    refine za_iload_n (pc' := 23) 1 dX1_put_22 rfl rfl rfl ?_
    refine za_iload_n (pc' := 24) 2 dX1_put_23 rfl rfl rfl ?_
    refine za_ishr (pc' := 25) dX1_put_24 rfl ?_
    refine za_i2b (pc' := 26) dX1_put_25 rfl rfl ?_
    obtain ⟨hi1, h⟩ := h
    refine za_bast (k := (I 1000 1).toNatClampNeg) (pc' := 27) dX1_put_26 (zX_t1001 hx) hi1 rfl rfl ?_
    refine za_iinc (pc' := 30) (l' := [(2, .int (v2 + (-8 : Int32))), (0, .ref 1000), (1, .int v1)]) 2 dX1_put_27 rfl (zinc zi_m8) (Nat.le_of_ble_eq_true rfl) rfl rfl ?_
    refine za_goto (tgt := 3) dX1_put_30 (by decide) ?_
    exact zAW_sub [1, 2, 0] rfl h
theorem sX1_put {d b : Nat} {v1 : Int32} {T : zT} {I : zI} {L : zL} {R : zR} {P : zP} (h : zAW mX1_put d b 0 [(0, .ref 1000), (1, .int v1)] [] T I L R P) : zMet mX1_put d b [.ref 1000, .int v1] T I L R P := zMet_of (by decide +kernel) rfl (Nat.le_of_ble_eq_true rfl) rfl h
/-! TwoTongues.text (I)I -/
def dkwX1_text_4 : List UInt8 := [42, 180, 0, 39, 180, 0, 158, 172]
abbrev dktX1_text_4 : List UInt8 := dkwX1_text_4 ++ []
def dkwX1_text_3 : List UInt8 := [182, 0, 116, 42, 42, 180, 0, 39, 180, 0, 145, 181, 0, 148, 42, 3, 181, 0, 151, 42, 3, 181, 0, 154]
abbrev dktX1_text_3 : List UInt8 := dkwX1_text_3 ++ dktX1_text_4
def dkwX1_text_2 : List UInt8 := [42, 44, 180, 0, 139, 181, 0, 130, 42, 44, 180, 0, 142, 181, 0, 23, 2, 172, 42, 180, 0, 64]
abbrev dktX1_text_2 : List UInt8 := dkwX1_text_2 ++ dktX1_text_3
def dkwX1_text_1 : List UInt8 := [181, 0, 130, 42, 2, 181, 0, 23, 42, 42, 180, 0, 32, 27, 182, 0, 133, 181, 0, 39, 167, 0, 22, 77]
abbrev dktX1_text_1 : List UInt8 := dkwX1_text_1 ++ dktX1_text_2
def dkwX1_text_0 : List UInt8 := [27, 133, 9, 42, 180, 0, 119, 133, 184, 0, 126, 154, 0, 6, 16, 254, 172, 42, 3, 181, 0, 119, 42, 3]
abbrev dktX1_text_0 : List UInt8 := dkwX1_text_0 ++ dktX1_text_1
theorem dksX1_text_0 : cX1_text.data.toList.drop 0 = dktX1_text_0 := by decide +kernel
theorem dksX1_text_1 : cX1_text.data.toList.drop 24 = dktX1_text_1 := dk_seg dksX1_text_0 24 rfl rfl
theorem dksX1_text_2 : cX1_text.data.toList.drop 48 = dktX1_text_2 := dk_seg dksX1_text_1 24 rfl rfl
theorem dksX1_text_3 : cX1_text.data.toList.drop 70 = dktX1_text_3 := dk_seg dksX1_text_2 22 rfl rfl
theorem dksX1_text_4 : cX1_text.data.toList.drop 94 = dktX1_text_4 := dk_seg dksX1_text_3 24 rfl rfl
theorem dX1_text_0 : decode cX1_text 0 = .ok (.iload_n 1, 1) := dk_27 (dk_at dksX1_text_0 0 rfl rfl)
theorem dX1_text_1 : decode cX1_text 1 = .ok (.i2l, 1) := dk_133 (dk_at dksX1_text_0 1 rfl rfl)
theorem dX1_text_2 : decode cX1_text 2 = .ok (.lconst 0, 1) := dk_9 (dk_at dksX1_text_0 2 rfl rfl)
theorem dX1_text_3 : decode cX1_text 3 = .ok (.aload_n 0, 1) := dk_42 (dk_at dksX1_text_0 3 rfl rfl)
theorem dX1_text_4 : decode cX1_text 4 = .ok (.getfield 119, 3) := dk_180 0 119 (dk_at dksX1_text_0 4 rfl rfl)
theorem dX1_text_7 : decode cX1_text 7 = .ok (.i2l, 1) := dk_133 (dk_at dksX1_text_0 7 rfl rfl)
theorem dX1_text_8 : decode cX1_text 8 = .ok (.invokestatic 126, 3) := dk_184 0 126 (dk_at dksX1_text_0 8 rfl rfl)
theorem dX1_text_11 : decode cX1_text 11 = .ok (.ifCond .ne 6, 3) := dk_154 0 6 (dk_at dksX1_text_0 11 rfl rfl)
theorem dX1_text_14 : decode cX1_text 14 = .ok (.bipush (-2), 2) := dk_16 254 (dk_at dksX1_text_0 14 rfl rfl)
theorem dX1_text_16 : decode cX1_text 16 = .ok (.ireturn, 1) := dk_172 (dk_at dksX1_text_0 16 rfl rfl)
theorem dX1_text_17 : decode cX1_text 17 = .ok (.aload_n 0, 1) := dk_42 (dk_at dksX1_text_0 17 rfl rfl)
theorem dX1_text_18 : decode cX1_text 18 = .ok (.iconst 0, 1) := dk_3 (dk_at dksX1_text_0 18 rfl rfl)
theorem dX1_text_19 : decode cX1_text 19 = .ok (.putfield 119, 3) := dk_181 0 119 (dk_at dksX1_text_0 19 rfl rfl)
theorem dX1_text_22 : decode cX1_text 22 = .ok (.aload_n 0, 1) := dk_42 (dk_at dksX1_text_0 22 rfl rfl)
theorem dX1_text_23 : decode cX1_text 23 = .ok (.iconst 0, 1) := dk_3 (dk_at dksX1_text_0 23 rfl rfl)
theorem dX1_text_24 : decode cX1_text 24 = .ok (.putfield 130, 3) := dk_181 0 130 (dk_at dksX1_text_1 0 rfl rfl)
theorem dX1_text_27 : decode cX1_text 27 = .ok (.aload_n 0, 1) := dk_42 (dk_at dksX1_text_1 3 rfl rfl)
theorem dX1_text_28 : decode cX1_text 28 = .ok (.iconst (-1), 1) := dk_2 (dk_at dksX1_text_1 4 rfl rfl)
theorem dX1_text_29 : decode cX1_text 29 = .ok (.putfield 23, 3) := dk_181 0 23 (dk_at dksX1_text_1 5 rfl rfl)
theorem dX1_text_32 : decode cX1_text 32 = .ok (.aload_n 0, 1) := dk_42 (dk_at dksX1_text_1 8 rfl rfl)
theorem dX1_text_33 : decode cX1_text 33 = .ok (.aload_n 0, 1) := dk_42 (dk_at dksX1_text_1 9 rfl rfl)
theorem dX1_text_34 : decode cX1_text 34 = .ok (.getfield 32, 3) := dk_180 0 32 (dk_at dksX1_text_1 10 rfl rfl)
theorem dX1_text_37 : decode cX1_text 37 = .ok (.iload_n 1, 1) := dk_27 (dk_at dksX1_text_1 13 rfl rfl)
theorem dX1_text_38 : decode cX1_text 38 = .ok (.invokevirtual 133, 3) := dk_182 0 133 (dk_at dksX1_text_1 14 rfl rfl)
theorem dX1_text_41 : decode cX1_text 41 = .ok (.putfield 39, 3) := dk_181 0 39 (dk_at dksX1_text_1 17 rfl rfl)
theorem dX1_text_44 : decode cX1_text 44 = .ok (.goto 22, 3) := dk_167 0 22 (dk_at dksX1_text_1 20 rfl rfl)
theorem dX1_text_47 : decode cX1_text 47 = .ok (.astore_n 2, 1) := dk_77 (dk_at dksX1_text_1 23 rfl rfl)
theorem dX1_text_48 : decode cX1_text 48 = .ok (.aload_n 0, 1) := dk_42 (dk_at dksX1_text_2 0 rfl rfl)
theorem dX1_text_49 : decode cX1_text 49 = .ok (.aload_n 2, 1) := dk_44 (dk_at dksX1_text_2 1 rfl rfl)
theorem dX1_text_50 : decode cX1_text 50 = .ok (.getfield 139, 3) := dk_180 0 139 (dk_at dksX1_text_2 2 rfl rfl)
theorem dX1_text_53 : decode cX1_text 53 = .ok (.putfield 130, 3) := dk_181 0 130 (dk_at dksX1_text_2 5 rfl rfl)
theorem dX1_text_56 : decode cX1_text 56 = .ok (.aload_n 0, 1) := dk_42 (dk_at dksX1_text_2 8 rfl rfl)
theorem dX1_text_57 : decode cX1_text 57 = .ok (.aload_n 2, 1) := dk_44 (dk_at dksX1_text_2 9 rfl rfl)
theorem dX1_text_58 : decode cX1_text 58 = .ok (.getfield 142, 3) := dk_180 0 142 (dk_at dksX1_text_2 10 rfl rfl)
theorem dX1_text_61 : decode cX1_text 61 = .ok (.putfield 23, 3) := dk_181 0 23 (dk_at dksX1_text_2 13 rfl rfl)
theorem dX1_text_64 : decode cX1_text 64 = .ok (.iconst (-1), 1) := dk_2 (dk_at dksX1_text_2 16 rfl rfl)
theorem dX1_text_65 : decode cX1_text 65 = .ok (.ireturn, 1) := dk_172 (dk_at dksX1_text_2 17 rfl rfl)
theorem dX1_text_66 : decode cX1_text 66 = .ok (.aload_n 0, 1) := dk_42 (dk_at dksX1_text_2 18 rfl rfl)
theorem dX1_text_67 : decode cX1_text 67 = .ok (.getfield 64, 3) := dk_180 0 64 (dk_at dksX1_text_2 19 rfl rfl)
theorem dX1_text_70 : decode cX1_text 70 = .ok (.invokevirtual 116, 3) := dk_182 0 116 (dk_at dksX1_text_3 0 rfl rfl)
theorem dX1_text_73 : decode cX1_text 73 = .ok (.aload_n 0, 1) := dk_42 (dk_at dksX1_text_3 3 rfl rfl)
theorem dX1_text_74 : decode cX1_text 74 = .ok (.aload_n 0, 1) := dk_42 (dk_at dksX1_text_3 4 rfl rfl)
theorem dX1_text_75 : decode cX1_text 75 = .ok (.getfield 39, 3) := dk_180 0 39 (dk_at dksX1_text_3 5 rfl rfl)
theorem dX1_text_78 : decode cX1_text 78 = .ok (.getfield 145, 3) := dk_180 0 145 (dk_at dksX1_text_3 8 rfl rfl)
theorem dX1_text_81 : decode cX1_text 81 = .ok (.putfield 148, 3) := dk_181 0 148 (dk_at dksX1_text_3 11 rfl rfl)
theorem dX1_text_84 : decode cX1_text 84 = .ok (.aload_n 0, 1) := dk_42 (dk_at dksX1_text_3 14 rfl rfl)
theorem dX1_text_85 : decode cX1_text 85 = .ok (.iconst 0, 1) := dk_3 (dk_at dksX1_text_3 15 rfl rfl)
theorem dX1_text_86 : decode cX1_text 86 = .ok (.putfield 151, 3) := dk_181 0 151 (dk_at dksX1_text_3 16 rfl rfl)
theorem dX1_text_89 : decode cX1_text 89 = .ok (.aload_n 0, 1) := dk_42 (dk_at dksX1_text_3 19 rfl rfl)
theorem dX1_text_90 : decode cX1_text 90 = .ok (.iconst 0, 1) := dk_3 (dk_at dksX1_text_3 20 rfl rfl)
theorem dX1_text_91 : decode cX1_text 91 = .ok (.putfield 154, 3) := dk_181 0 154 (dk_at dksX1_text_3 21 rfl rfl)
theorem dX1_text_94 : decode cX1_text 94 = .ok (.aload_n 0, 1) := dk_42 (dk_at dksX1_text_4 0 rfl rfl)
theorem dX1_text_95 : decode cX1_text 95 = .ok (.getfield 39, 3) := dk_180 0 39 (dk_at dksX1_text_4 1 rfl rfl)
theorem dX1_text_98 : decode cX1_text 98 = .ok (.getfield 158, 3) := dk_180 0 158 (dk_at dksX1_text_4 4 rfl rfl)
theorem dX1_text_101 : decode cX1_text 101 = .ok (.ireturn, 1) := dk_172 (dk_at dksX1_text_4 7 rfl rfl)
theorem gX1_text_0 {b : Nat} {v1 : Int32} {T : zT} {I : zI} {L : zL} {R : zR} {P : zP} (hx : zXok T R) (h : zMet mX1_in 1 0 [.long (v1.toInt64), .long (0 : Int64), .long ((I 1000 1).toInt64)] T I L R (zqI_ T I L R  (fun (r1 : Int32)  => ((r1 = 0 → P 0 (.int (-2 : Int32)) T I L R) ∧ (¬ r1 = 0 → ∃ b16, b16 ≤ (b - 0) ∧ zMet mX2_read 402 b16 [.ref 1008, .int v1] T (z2 (z2 (z2 I 1000 1 (0 : Int32)) 1000 2 (0 : Int32)) 1000 3 (-1 : Int32)) L R (zqR_TILRx  (fun o9 v9 T9 I9 L9 R9 => (o9 = 1 ∧ ∃ r9, v9 = .ref r9 ∧ zAW mX1_text 403 ((b - 0) - b16) 47 [(0, .ref 1000)] [.ref r9] T9 I9 L9 R9 P)) (fun (r10 : Nat) (T11 : zT) (I12 : zI) (L13 : zL) (R14 : zR)  => zXok T11 R14 ∧ zMet mX10_begin 4 0 [.ref 1200] T11 I12 L13 (z2 R14 1000 8 r10) (zqV_I T11 L13 (z2 R14 1000 8 r10)  (fun (I18 : zI)  => (T11 r10).1 = 3 ∧ P 0 (.int (I18 r10 17)) T11 (z2 (z2 (z2 I18 1000 5 (I18 r10 15)) 1000 4 (0 : Int32)) 1000 14 (0 : Int32)) L13 (z2 R14 1000 8 r10)))))))))) : zAW mX1_text 403 b 0 [(0, .ref 1000), (1, .int v1)] [] T I L R P := by
  refine za_iload_n (pc' := 1) 1 dX1_text_0 rfl rfl rfl ?_
  refine za_i2l (pc' := 2) dX1_text_1 rfl rfl ?_
  refine za_lconst (pc' := 3) dX1_text_2 zl_0 rfl ?_
  refine za_aload_n (pc' := 4) 0 dX1_text_3 rfl rfl rfl ?_
  refine za_get (fi := 1) (v := .int (I 1000 1)) (pc' := 7) dX1_text_4 zc0 (by decide) in_X1 (by decide) q490 (Or.inl rfl) (congrArg Prod.fst (zX_t1000 hx)) rfl rfl ?_
  refine za_i2l (pc' := 8) dX1_text_7 rfl rfl ?_
  refine za_callS (M2 := mX1_in) (d2 := 1) (b2 := 0) (n := 3) (As := [.long (v1.toInt64), .long (0 : Int64), .long ((I 1000 1).toInt64)]) (st := []) (pc' := 11) dX1_text_8 rfl (lw_S q588 q589 q131 q590) hd_X1_in rfl (by decide) (by decide) (Nat.zero_le _) (Or.inr (fun _ _ _ _ _ _ h9 h8 => h9 h8.1)) (Nat.le_of_ble_eq_true rfl) h (zqI__k rfl (fun r1 h => ?_)) (fun _ _ _ _ _ _ h9 h8 => absurd h8.1 h9) rfl
  refine za_if_ne (pc' := 14) (tgt := 17) dX1_text_11 (by decide) rfl (fun c9 => ?_) (fun c9 => ?_)
  · replace h := h.2 c9
    refine za_aload_n (pc' := 18) 0 dX1_text_17 rfl rfl rfl ?_
    refine za_iconst (pc' := 19) dX1_text_18 zi_0 rfl ?_
    refine za_putI (fi := 1) (pc' := 22) dX1_text_19 zc0 (by decide) in_X1 zok0 znm0 (by decide) q490 (Or.inl rfl) rfl rfl (fun _ _ _ => rfl) rfl rfl (congrArg Prod.fst (zX_t1000 hx)) rfl ?_
    refine za_aload_n (pc' := 23) 0 dX1_text_22 rfl rfl rfl ?_
    refine za_iconst (pc' := 24) dX1_text_23 zi_0 rfl ?_
    refine za_putI (fi := 2) (pc' := 27) dX1_text_24 zc0 (by decide) in_X1 zok0 znm0 (by decide) q491 (Or.inl rfl) rfl rfl (fun _ _ _ => rfl) rfl rfl (congrArg Prod.fst (zX_t1000 hx)) rfl ?_
    refine za_aload_n (pc' := 28) 0 dX1_text_27 rfl rfl rfl ?_
    refine za_iconst (pc' := 29) dX1_text_28 zi_m1 rfl ?_
    refine za_putI (fi := 3) (pc' := 32) dX1_text_29 zc0 (by decide) in_X1 zok0 znm0 (by decide) q492 (Or.inl rfl) rfl rfl (fun _ _ _ => rfl) rfl rfl (congrArg Prod.fst (zX_t1000 hx)) rfl ?_
    refine za_aload_n (pc' := 33) 0 dX1_text_32 rfl rfl rfl ?_
    refine za_aload_n (pc' := 34) 0 dX1_text_33 rfl rfl rfl ?_
    refine za_get (fi := 7) (v := .ref 1008) (pc' := 37) dX1_text_34 zc0 (by decide) in_X1 (by decide) q496 (Or.inl rfl) (congrArg Prod.fst (zX_t1000 hx)) (congrArg Value.ref (zX_r1000_7 hx)) rfl ?_
    refine za_iload_n (pc' := 38) 1 dX1_text_37 rfl rfl rfl ?_
    obtain ⟨b16, hb17, h⟩ := h
    refine za_callVH (owner := "") (x9 := mX2_read.2.1) (oc := 1) (pch := 47) (κ := 1008) (M2 := mX2_read) (d2 := 402) (b2 := b16) (n := 1) (As := [.int v1]) (st := [.ref 1000]) (pc' := 41) (nm := "TwoTongues$Fault") zc1 (by decide) (congrArg Prod.fst (zX_t1008 hx)) dX1_text_38 rfl (lw_V q591 q592 q593 q132 q594) ⟨rfl, hd_X2_read⟩ rfl (by decide) (by decide) hb17 rfl (Nat.le_of_ble_eq_true rfl) rfl (by decide) q587 q745 rfl h (zqR_TILRx_k rfl (fun r10 T11 I12 L13 R14 h => ?_)) (fun o9 v9 T9 I9 L9 R9 e9 h9 => by obtain ⟨-, r9, e8, h8⟩ := h9.2 (by rw [e9]; decide); rw [e8]; exact zAW_sub [0] rfl h8) (fun _ _ _ _ _ _ h9 h8 => (h8.2 h9).1) rfl
    obtain ⟨hx15, h⟩ := h
    refine za_putR (fi := 8) (pc' := 44) dX1_text_41 zc0 (by decide) in_X1 zok0 znm0 (by decide) q498 (Or.inl rfl) rfl rfl (fun _ _ _ => rfl) (congrArg Prod.fst (zX_t1000 hx15)) rfl ?_
    refine za_goto (tgt := 66) dX1_text_44 (by decide) ?_
    refine za_aload_n (pc' := 67) 0 dX1_text_66 rfl rfl rfl ?_
    refine za_get (fi := 10) (v := .ref 1200) (pc' := 70) dX1_text_67 zc0 (by decide) in_X1 (by decide) q500 (Or.inl rfl) (congrArg Prod.fst (zX_t1000 hx15)) (congrArg Value.ref ((z2_nk (by decide)).trans (zX_r1000_10 hx15))) rfl ?_
    refine za_callV (κ := 1200) (M2 := mX10_begin) (d2 := 4) (b2 := 0) (n := 0) (As := []) (st := []) (pc' := 73) zc9 (by decide) (congrArg Prod.fst (zX_t1200 hx15)) dX1_text_70 rfl (lw_V q457 q458 q459 q143 q460) ⟨rfl, hd_X10_begin⟩ rfl (by decide) (by decide) (Nat.zero_le _) (Or.inr (fun _ _ _ _ _ _ h9 h8 => h9 h8.1)) (Nat.le_of_ble_eq_true rfl) h (zqV_I_k rfl (fun I18 h => ?_)) (fun _ _ _ _ _ _ h9 h8 => absurd h8.1 h9) rfl
    refine za_aload_n (pc' := 74) 0 dX1_text_73 rfl rfl rfl ?_
    refine za_aload_n (pc' := 75) 0 dX1_text_74 rfl rfl rfl ?_
    refine za_get (fi := 8) (v := .ref r10) (pc' := 78) dX1_text_75 zc0 (by decide) in_X1 (by decide) q498 (Or.inl rfl) (congrArg Prod.fst (zX_t1000 hx15)) (congrArg Value.ref (z2_s)) rfl ?_
    obtain ⟨ht19, h⟩ := h
    refine za_getN (fi := 15) (v := .int (I18 r10 15)) (pc' := 81) dX1_text_78 zc2 (by decide) in_X3 (by decide) q310 (Or.inl rfl) ht19 rfl rfl ?_
    refine za_putI (fi := 5) (pc' := 84) dX1_text_81 zc0 (by decide) in_X1 zok0 znm0 (by decide) q494 (Or.inl rfl) rfl rfl (fun _ _ _ => rfl) rfl rfl (congrArg Prod.fst (zX_t1000 hx15)) rfl ?_
    refine za_aload_n (pc' := 85) 0 dX1_text_84 rfl rfl rfl ?_
    refine za_iconst (pc' := 86) dX1_text_85 zi_0 rfl ?_
    refine za_putI (fi := 4) (pc' := 89) dX1_text_86 zc0 (by decide) in_X1 zok0 znm0 (by decide) q493 (Or.inl rfl) rfl rfl (fun _ _ _ => rfl) rfl rfl (congrArg Prod.fst (zX_t1000 hx15)) rfl ?_
    refine za_aload_n (pc' := 90) 0 dX1_text_89 rfl rfl rfl ?_
    refine za_iconst (pc' := 91) dX1_text_90 zi_0 rfl ?_
    refine za_putI (fi := 14) (pc' := 94) dX1_text_91 zc0 (by decide) in_X1 zok0 znm0 (by decide) q504 (Or.inl rfl) rfl rfl (fun _ _ _ => rfl) (by decide) (by decide) (congrArg Prod.fst (zX_t1000 hx15)) rfl ?_
    refine za_aload_n (pc' := 95) 0 dX1_text_94 rfl rfl rfl ?_
    refine za_get (fi := 8) (v := .ref r10) (pc' := 98) dX1_text_95 zc0 (by decide) in_X1 (by decide) q498 (Or.inl rfl) (congrArg Prod.fst (zX_t1000 hx15)) (congrArg Value.ref (z2_s)) rfl ?_
    refine za_getN (fi := 17) (v := .int (I18 r10 17)) (pc' := 101) dX1_text_98 zc2 (by decide) in_X3 (by decide) q314 (Or.inl rfl) ht19 (congrArg Value.int (((z2_nk (by decide)).trans (z2_nk (by decide))).trans (z2_nk (by decide)))) rfl ?_
    exact za_ireturn rfl dX1_text_101 h
  · replace h := h.1 c9
    refine za_bipush (pc' := 16) dX1_text_14 zb8_m2 rfl ?_
    exact za_ireturn rfl dX1_text_16 h
theorem gX1_text_47 {b : Nat} {s0 : Nat} {T : zT} {I : zI} {L : zL} {R : zR} {P : zP} (hx : zXok T R) (h : (T s0).1 = 14 ∧ P 0 (.int (-1 : Int32)) T (z2 (z2 I 1000 2 (I s0 6)) 1000 3 (I s0 7)) L R) : zAW mX1_text 403 b 47 [(0, .ref 1000)] [.ref s0] T I L R P := by
  refine za_astore_n (pc' := 48) (l' := [(2, .ref s0), (0, .ref 1000)]) dX1_text_47 rfl (Nat.le_of_ble_eq_true rfl) rfl rfl ?_
  refine za_aload_n (pc' := 49) 1 dX1_text_48 rfl rfl rfl ?_
  refine za_aload_n (pc' := 50) 0 dX1_text_49 rfl rfl rfl ?_
  obtain ⟨ht20, h⟩ := h
  refine za_getN (fi := 6) (v := .int (I s0 6)) (pc' := 53) dX1_text_50 zc13 (by decide) in_X14 (by decide) q794 (Or.inl rfl) ht20 rfl rfl ?_
  refine za_putI (fi := 2) (pc' := 56) dX1_text_53 zc0 (by decide) in_X1 zok0 znm0 (by decide) q491 (Or.inl rfl) rfl rfl (fun _ _ _ => rfl) rfl rfl (congrArg Prod.fst (zX_t1000 hx)) rfl ?_
  refine za_aload_n (pc' := 57) 1 dX1_text_56 rfl rfl rfl ?_
  refine za_aload_n (pc' := 58) 0 dX1_text_57 rfl rfl rfl ?_
  refine za_getN (fi := 7) (v := .int (I s0 7)) (pc' := 61) dX1_text_58 zc13 (by decide) in_X14 (by decide) q796 (Or.inl rfl) ht20 (congrArg Value.int (z2_nk (by decide))) rfl ?_
  refine za_putI (fi := 3) (pc' := 64) dX1_text_61 zc0 (by decide) in_X1 zok0 znm0 (by decide) q492 (Or.inl rfl) rfl rfl (fun _ _ _ => rfl) rfl rfl (congrArg Prod.fst (zX_t1000 hx)) rfl ?_
  refine za_iconst (pc' := 65) dX1_text_64 zi_m1 rfl ?_
  exact za_ireturn rfl dX1_text_65 h
theorem sX1_text {d b : Nat} {v1 : Int32} {T : zT} {I : zI} {L : zL} {R : zR} {P : zP} (h : zAW mX1_text d b 0 [(0, .ref 1000), (1, .int v1)] [] T I L R P) : zMet mX1_text d b [.ref 1000, .int v1] T I L R P := zMet_ofH (by decide +kernel) rfl (Nat.le_of_ble_eq_true rfl) rfl h
/-! TwoTongues.in (JJJ)Z -/
def dkwX1_in_0 : List UInt8 := [30, 32, 148, 155, 0, 14, 30, 22, 4, 148, 157, 0, 7, 4, 167, 0, 4, 3, 172]
abbrev dktX1_in_0 : List UInt8 := dkwX1_in_0 ++ []
theorem dksX1_in_0 : cX1_in.data.toList.drop 0 = dktX1_in_0 := by decide +kernel
theorem dX1_in_0 : decode cX1_in 0 = .ok (.lload_n 0, 1) := dk_30 (dk_at dksX1_in_0 0 rfl rfl)
theorem dX1_in_1 : decode cX1_in 1 = .ok (.lload_n 2, 1) := dk_32 (dk_at dksX1_in_0 1 rfl rfl)
theorem dX1_in_2 : decode cX1_in 2 = .ok (.lcmp, 1) := dk_148 (dk_at dksX1_in_0 2 rfl rfl)
theorem dX1_in_3 : decode cX1_in 3 = .ok (.ifCond .lt 14, 3) := dk_155 0 14 (dk_at dksX1_in_0 3 rfl rfl)
theorem dX1_in_6 : decode cX1_in 6 = .ok (.lload_n 0, 1) := dk_30 (dk_at dksX1_in_0 6 rfl rfl)
theorem dX1_in_7 : decode cX1_in 7 = .ok (.lload 4, 2) := dk_22 4 (dk_at dksX1_in_0 7 rfl rfl)
theorem dX1_in_9 : decode cX1_in 9 = .ok (.lcmp, 1) := dk_148 (dk_at dksX1_in_0 9 rfl rfl)
theorem dX1_in_10 : decode cX1_in 10 = .ok (.ifCond .gt 7, 3) := dk_157 0 7 (dk_at dksX1_in_0 10 rfl rfl)
theorem dX1_in_13 : decode cX1_in 13 = .ok (.iconst 1, 1) := dk_4 (dk_at dksX1_in_0 13 rfl rfl)
theorem dX1_in_14 : decode cX1_in 14 = .ok (.goto 4, 3) := dk_167 0 4 (dk_at dksX1_in_0 14 rfl rfl)
theorem dX1_in_17 : decode cX1_in 17 = .ok (.iconst 0, 1) := dk_3 (dk_at dksX1_in_0 17 rfl rfl)
theorem dX1_in_18 : decode cX1_in 18 = .ok (.ireturn, 1) := dk_172 (dk_at dksX1_in_0 18 rfl rfl)
theorem gX1_in_0 {v0 : Int64} {v2 : Int64} {v4 : Int64} {T : zT} {I : zI} {L : zL} {R : zR} {P : zP} (h : ((v0 < v2 → P 0 (.int (0 : Int32)) T I L R) ∧ (¬ v0 < v2 → ((v4 < v0 → P 0 (.int (0 : Int32)) T I L R) ∧ (¬ v4 < v0 → P 0 (.int (1 : Int32)) T I L R))))) : zAW mX1_in 1 0 0 [(0, .long v0), (2, .long v2), (4, .long v4)] [] T I L R P := by
  refine za_lload_n (pc' := 1) 0 dX1_in_0 rfl rfl rfl ?_
  refine za_lload_n (pc' := 2) 1 dX1_in_1 rfl rfl rfl ?_
  refine za_lcmp (pc' := 3) dX1_in_2 rfl ?_
  refine za_if_lt (pc' := 6) (tgt := 17) dX1_in_3 (by decide) rfl (fun c9 => ?_) (fun c9 => ?_)
  · replace h := h.1 ((lg_cmp_lt v0 v2).mp c9)
    refine za_iconst (pc' := 18) dX1_in_17 zi_0 rfl ?_
    exact za_zreturn rfl dX1_in_18 (by decide) h
  · replace h := h.2 (fun c8 => c9 ((lg_cmp_lt v0 v2).mpr c8))
    refine za_lload_n (pc' := 7) 0 dX1_in_6 rfl rfl rfl ?_
    refine za_lload (pc' := 9) 2 dX1_in_7 rfl rfl ?_
    refine za_lcmp (pc' := 10) dX1_in_9 rfl ?_
    refine za_if_gt (pc' := 13) (tgt := 17) dX1_in_10 (by decide) rfl (fun c9 => ?_) (fun c9 => ?_)
    · replace h := h.1 ((lg_cmp_gt v0 v4).mp c9)
      refine za_iconst (pc' := 18) dX1_in_17 zi_0 rfl ?_
      exact za_zreturn rfl dX1_in_18 (by decide) h
    · replace h := h.2 (fun c8 => c9 ((lg_cmp_gt v0 v4).mpr c8))
      refine za_iconst (pc' := 14) dX1_in_13 zi_1 rfl ?_
      refine za_goto (tgt := 18) dX1_in_14 (by decide) ?_
      exact za_zreturn rfl dX1_in_18 (by decide) h
theorem sX1_in {d b : Nat} {v0 : Int64} {v2 : Int64} {v4 : Int64} {T : zT} {I : zI} {L : zL} {R : zR} {P : zP} (h : zAW mX1_in d b 0 [(0, .long v0), (2, .long v2), (4, .long v4)] [] T I L R P) : zMet mX1_in d b [.long v0, .long v2, .long v4] T I L R P := zMet_of (by decide +kernel) rfl (Nat.le_of_ble_eq_true rfl) rfl h
/-! TwoTongues.fault (I)I -/
def dkwX1_fault_1 : List UInt8 := [172]
abbrev dktX1_fault_1 : List UInt8 := dkwX1_fault_1 ++ []
def dkwX1_fault_0 : List UInt8 := [27, 154, 0, 10, 42, 180, 0, 130, 167, 0, 16, 27, 4, 160, 0, 10, 42, 180, 0, 23, 167, 0, 4, 2]
abbrev dktX1_fault_0 : List UInt8 := dkwX1_fault_0 ++ dktX1_fault_1
theorem dksX1_fault_0 : cX1_fault.data.toList.drop 0 = dktX1_fault_0 := by decide +kernel
theorem dksX1_fault_1 : cX1_fault.data.toList.drop 24 = dktX1_fault_1 := dk_seg dksX1_fault_0 24 rfl rfl
theorem dX1_fault_0 : decode cX1_fault 0 = .ok (.iload_n 1, 1) := dk_27 (dk_at dksX1_fault_0 0 rfl rfl)
theorem dX1_fault_1 : decode cX1_fault 1 = .ok (.ifCond .ne 10, 3) := dk_154 0 10 (dk_at dksX1_fault_0 1 rfl rfl)
theorem dX1_fault_4 : decode cX1_fault 4 = .ok (.aload_n 0, 1) := dk_42 (dk_at dksX1_fault_0 4 rfl rfl)
theorem dX1_fault_5 : decode cX1_fault 5 = .ok (.getfield 130, 3) := dk_180 0 130 (dk_at dksX1_fault_0 5 rfl rfl)
theorem dX1_fault_8 : decode cX1_fault 8 = .ok (.goto 16, 3) := dk_167 0 16 (dk_at dksX1_fault_0 8 rfl rfl)
theorem dX1_fault_11 : decode cX1_fault 11 = .ok (.iload_n 1, 1) := dk_27 (dk_at dksX1_fault_0 11 rfl rfl)
theorem dX1_fault_12 : decode cX1_fault 12 = .ok (.iconst 1, 1) := dk_4 (dk_at dksX1_fault_0 12 rfl rfl)
theorem dX1_fault_13 : decode cX1_fault 13 = .ok (.if_icmp .ne 10, 3) := dk_160 0 10 (dk_at dksX1_fault_0 13 rfl rfl)
theorem dX1_fault_16 : decode cX1_fault 16 = .ok (.aload_n 0, 1) := dk_42 (dk_at dksX1_fault_0 16 rfl rfl)
theorem dX1_fault_17 : decode cX1_fault 17 = .ok (.getfield 23, 3) := dk_180 0 23 (dk_at dksX1_fault_0 17 rfl rfl)
theorem dX1_fault_20 : decode cX1_fault 20 = .ok (.goto 4, 3) := dk_167 0 4 (dk_at dksX1_fault_0 20 rfl rfl)
theorem dX1_fault_23 : decode cX1_fault 23 = .ok (.iconst (-1), 1) := dk_2 (dk_at dksX1_fault_0 23 rfl rfl)
theorem dX1_fault_24 : decode cX1_fault 24 = .ok (.ireturn, 1) := dk_172 (dk_at dksX1_fault_1 0 rfl rfl)
theorem gX1_fault_0 {v1 : Int32} {T : zT} {I : zI} {L : zL} {R : zR} {P : zP} (hx : zXok T R) (h : ((v1 = 0 → P 0 (.int (I 1000 2)) T I L R) ∧ (¬ v1 = 0 → ((v1 = (1 : Int32) → P 0 (.int (I 1000 3)) T I L R) ∧ (¬ v1 = (1 : Int32) → P 0 (.int (-1 : Int32)) T I L R))))) : zAW mX1_fault 1 0 0 [(0, .ref 1000), (1, .int v1)] [] T I L R P := by
  refine za_iload_n (pc' := 1) 1 dX1_fault_0 rfl rfl rfl ?_
  refine za_if_ne (pc' := 4) (tgt := 11) dX1_fault_1 (by decide) rfl (fun c9 => ?_) (fun c9 => ?_)
  · replace h := h.2 c9
    refine za_iload_n (pc' := 12) 1 dX1_fault_11 rfl rfl rfl ?_
    refine za_iconst (pc' := 13) dX1_fault_12 zi_1 rfl ?_
    refine za_icmp_ne (pc' := 16) (tgt := 23) dX1_fault_13 (by decide) rfl (fun c9 => ?_) (fun c9 => ?_)
    · replace h := h.2 c9
      refine za_iconst (pc' := 24) dX1_fault_23 zi_m1 rfl ?_
      exact za_ireturn rfl dX1_fault_24 h
    · replace h := h.1 c9
      refine za_aload_n (pc' := 17) 0 dX1_fault_16 rfl rfl rfl ?_
      refine za_get (fi := 3) (v := .int (I 1000 3)) (pc' := 20) dX1_fault_17 zc0 (by decide) in_X1 (by decide) q492 (Or.inl rfl) (congrArg Prod.fst (zX_t1000 hx)) rfl rfl ?_
      refine za_goto (tgt := 24) dX1_fault_20 (by decide) ?_
      exact za_ireturn rfl dX1_fault_24 h
  · replace h := h.1 c9
    refine za_aload_n (pc' := 5) 0 dX1_fault_4 rfl rfl rfl ?_
    refine za_get (fi := 2) (v := .int (I 1000 2)) (pc' := 8) dX1_fault_5 zc0 (by decide) in_X1 (by decide) q491 (Or.inl rfl) (congrArg Prod.fst (zX_t1000 hx)) rfl rfl ?_
    refine za_goto (tgt := 24) dX1_fault_8 (by decide) ?_
    exact za_ireturn rfl dX1_fault_24 h
theorem sX1_fault {d b : Nat} {v1 : Int32} {T : zT} {I : zI} {L : zL} {R : zR} {P : zP} (h : zAW mX1_fault d b 0 [(0, .ref 1000), (1, .int v1)] [] T I L R P) : zMet mX1_fault d b [.ref 1000, .int v1] T I L R P := zMet_of (by decide +kernel) rfl (Nat.le_of_ble_eq_true rfl) rfl h
/-! TwoTongues.named (II)I -/
def dkwX1_named_1 : List UInt8 := [167, 0, 20, 27, 5, 160, 0, 14, 42, 180, 0, 39, 28, 182, 0, 171, 167, 0, 4, 2, 172]
abbrev dktX1_named_1 : List UInt8 := dkwX1_named_1 ++ []
def dkwX1_named_0 : List UInt8 := [27, 133, 9, 10, 184, 0, 126, 153, 0, 19, 42, 180, 0, 64, 180, 0, 161, 27, 50, 28, 182, 0, 165]
abbrev dktX1_named_0 : List UInt8 := dkwX1_named_0 ++ dktX1_named_1
theorem dksX1_named_0 : cX1_named.data.toList.drop 0 = dktX1_named_0 := by decide +kernel
theorem dksX1_named_1 : cX1_named.data.toList.drop 23 = dktX1_named_1 := dk_seg dksX1_named_0 23 rfl rfl
theorem dX1_named_0 : decode cX1_named 0 = .ok (.iload_n 1, 1) := dk_27 (dk_at dksX1_named_0 0 rfl rfl)
theorem dX1_named_1 : decode cX1_named 1 = .ok (.i2l, 1) := dk_133 (dk_at dksX1_named_0 1 rfl rfl)
theorem dX1_named_2 : decode cX1_named 2 = .ok (.lconst 0, 1) := dk_9 (dk_at dksX1_named_0 2 rfl rfl)
theorem dX1_named_3 : decode cX1_named 3 = .ok (.lconst 1, 1) := dk_10 (dk_at dksX1_named_0 3 rfl rfl)
theorem dX1_named_4 : decode cX1_named 4 = .ok (.invokestatic 126, 3) := dk_184 0 126 (dk_at dksX1_named_0 4 rfl rfl)
theorem dX1_named_7 : decode cX1_named 7 = .ok (.ifCond .eq 19, 3) := dk_153 0 19 (dk_at dksX1_named_0 7 rfl rfl)
theorem dX1_named_10 : decode cX1_named 10 = .ok (.aload_n 0, 1) := dk_42 (dk_at dksX1_named_0 10 rfl rfl)
theorem dX1_named_11 : decode cX1_named 11 = .ok (.getfield 64, 3) := dk_180 0 64 (dk_at dksX1_named_0 11 rfl rfl)
theorem dX1_named_14 : decode cX1_named 14 = .ok (.getfield 161, 3) := dk_180 0 161 (dk_at dksX1_named_0 14 rfl rfl)
theorem dX1_named_17 : decode cX1_named 17 = .ok (.iload_n 1, 1) := dk_27 (dk_at dksX1_named_0 17 rfl rfl)
theorem dX1_named_18 : decode cX1_named 18 = .ok (.aaload, 1) := dk_50 (dk_at dksX1_named_0 18 rfl rfl)
theorem dX1_named_19 : decode cX1_named 19 = .ok (.iload_n 2, 1) := dk_28 (dk_at dksX1_named_0 19 rfl rfl)
theorem dX1_named_20 : decode cX1_named 20 = .ok (.invokevirtual 165, 3) := dk_182 0 165 (dk_at dksX1_named_0 20 rfl rfl)
theorem dX1_named_23 : decode cX1_named 23 = .ok (.goto 20, 3) := dk_167 0 20 (dk_at dksX1_named_1 0 rfl rfl)
theorem dX1_named_26 : decode cX1_named 26 = .ok (.iload_n 1, 1) := dk_27 (dk_at dksX1_named_1 3 rfl rfl)
theorem dX1_named_27 : decode cX1_named 27 = .ok (.iconst 2, 1) := dk_5 (dk_at dksX1_named_1 4 rfl rfl)
theorem dX1_named_28 : decode cX1_named 28 = .ok (.if_icmp .ne 14, 3) := dk_160 0 14 (dk_at dksX1_named_1 5 rfl rfl)
theorem dX1_named_31 : decode cX1_named 31 = .ok (.aload_n 0, 1) := dk_42 (dk_at dksX1_named_1 8 rfl rfl)
theorem dX1_named_32 : decode cX1_named 32 = .ok (.getfield 39, 3) := dk_180 0 39 (dk_at dksX1_named_1 9 rfl rfl)
theorem dX1_named_35 : decode cX1_named 35 = .ok (.iload_n 2, 1) := dk_28 (dk_at dksX1_named_1 12 rfl rfl)
theorem dX1_named_36 : decode cX1_named 36 = .ok (.invokevirtual 171, 3) := dk_182 0 171 (dk_at dksX1_named_1 13 rfl rfl)
theorem dX1_named_39 : decode cX1_named 39 = .ok (.goto 4, 3) := dk_167 0 4 (dk_at dksX1_named_1 16 rfl rfl)
theorem dX1_named_42 : decode cX1_named 42 = .ok (.iconst (-1), 1) := dk_2 (dk_at dksX1_named_1 19 rfl rfl)
theorem dX1_named_43 : decode cX1_named 43 = .ok (.ireturn, 1) := dk_172 (dk_at dksX1_named_1 20 rfl rfl)
theorem gX1_named_0 {v1 : Int32} {v2 : Int32} {T : zT} {I : zI} {L : zL} {R : zR} {P : zP} (hx : zXok T R) (h : zMet mX1_in 1 0 [.long (v1.toInt64), .long (0 : Int64), .long (1 : Int64)] T I L R (zqI_ T I L R  (fun (r1 : Int32)  => ((r1 = 0 → ((v1 = (2 : Int32) → (T (R 1000 8)).1 = 3 ∧ zMet mX3_find 4 0 [.ref (R 1000 8), .int v2] T I L R (zqI_ T I L R  (fun (r2 : Int32)  => P 0 (.int r2) T I L R))) ∧ (¬ v1 = (2 : Int32) → P 0 (.int (-1 : Int32)) T I L R))) ∧ (¬ r1 = 0 → vp_in v1 2 ∧ (T (R 1201 (v1.toNatClampNeg))).1 = 4 ∧ zMet mX4_find 1 0 [.ref (R 1201 (v1.toNatClampNeg)), .int v2] T I L R (zqI_ T I L R  (fun (r5 : Int32)  => P 0 (.int r5) T I L R))))))) : zAW mX1_named 5 0 0 [(0, .ref 1000), (1, .int v1), (2, .int v2)] [] T I L R P := by
  refine za_iload_n (pc' := 1) 1 dX1_named_0 rfl rfl rfl ?_
  refine za_i2l (pc' := 2) dX1_named_1 rfl rfl ?_
  refine za_lconst (pc' := 3) dX1_named_2 zl_0 rfl ?_
  refine za_lconst (pc' := 4) dX1_named_3 zl_1 rfl ?_
  refine za_callS (M2 := mX1_in) (d2 := 1) (b2 := 0) (n := 3) (As := [.long (v1.toInt64), .long (0 : Int64), .long (1 : Int64)]) (st := []) (pc' := 7) dX1_named_4 rfl (lw_S q588 q589 q131 q590) hd_X1_in rfl (by decide) (by decide) (Nat.zero_le _) (Or.inl rfl) (Nat.le_of_ble_eq_true rfl) h (zqI__k rfl (fun r1 h => ?_)) (fun _ _ _ _ _ _ h9 h8 => absurd h8.1 h9) rfl
  refine za_if_eq (pc' := 10) (tgt := 26) dX1_named_7 (by decide) rfl (fun c9 => ?_) (fun c9 => ?_)
  · replace h := h.1 c9
    refine za_iload_n (pc' := 27) 1 dX1_named_26 rfl rfl rfl ?_
    refine za_iconst (pc' := 28) dX1_named_27 zi_2 rfl ?_
    refine za_icmp_ne (pc' := 31) (tgt := 42) dX1_named_28 (by decide) rfl (fun c9 => ?_) (fun c9 => ?_)
    · replace h := h.2 c9
      refine za_iconst (pc' := 43) dX1_named_42 zi_m1 rfl ?_
      exact za_ireturn rfl dX1_named_43 h
    · replace h := h.1 c9
      refine za_aload_n (pc' := 32) 0 dX1_named_31 rfl rfl rfl ?_
      refine za_get (fi := 8) (v := .ref (R 1000 8)) (pc' := 35) dX1_named_32 zc0 (by decide) in_X1 (by decide) q498 (Or.inl rfl) (congrArg Prod.fst (zX_t1000 hx)) rfl rfl ?_
      refine za_iload_n (pc' := 36) 2 dX1_named_35 rfl rfl rfl ?_
      obtain ⟨ht3, h⟩ := h
      refine za_callV (κ := (R 1000 8)) (M2 := mX3_find) (d2 := 4) (b2 := 0) (n := 1) (As := [.int v2]) (st := []) (pc' := 39) zc2 (by decide) ht3 dX1_named_36 rfl (lw_V q1057 q842 q843 q133 q844) ⟨rfl, hd_X3_find⟩ rfl (by decide) (by decide) (Nat.zero_le _) (Or.inl rfl) (Nat.le_of_ble_eq_true rfl) h (zqI__k rfl (fun r2 h => ?_)) (fun _ _ _ _ _ _ h9 h8 => absurd h8.1 h9) rfl
      refine za_goto (tgt := 43) dX1_named_39 (by decide) ?_
      exact za_ireturn rfl dX1_named_43 h
  · replace h := h.2 c9
    refine za_aload_n (pc' := 11) 0 dX1_named_10 rfl rfl rfl ?_
    refine za_get (fi := 10) (v := .ref 1200) (pc' := 14) dX1_named_11 zc0 (by decide) in_X1 (by decide) q500 (Or.inl rfl) (congrArg Prod.fst (zX_t1000 hx)) (congrArg Value.ref (zX_r1000_10 hx)) rfl ?_
    refine za_getN (fi := 0) (v := .ref 1201) (pc' := 17) dX1_named_14 zc9 (by decide) in_X10 (by decide) q416 (Or.inl rfl) (congrArg Prod.fst (zX_t1200 hx)) (congrArg Value.ref (zX_r1200_0 hx)) rfl ?_
    refine za_iload_n (pc' := 18) 1 dX1_named_17 rfl rfl rfl ?_
    obtain ⟨hi4, h⟩ := h
    refine za_aald (r := (R 1201 (v1.toNatClampNeg))) (t := 4) (C := RX4) (pc' := 19) dX1_named_18 (by decide) (fun _ => rfl) (zX_t1201 hx) hi4 (rfl) rfl ?_
    refine za_iload_n (pc' := 20) 2 dX1_named_19 rfl rfl rfl ?_
    obtain ⟨ht6, h⟩ := h
    refine za_callV (κ := (R 1201 (v1.toNatClampNeg))) (M2 := mX4_find) (d2 := 1) (b2 := 0) (n := 1) (As := [.int v2]) (st := []) (pc' := 23) zc3 (by decide) ht6 dX1_named_20 rfl (lw_V q1056 q826 q827 q134 q828) ⟨rfl, hd_X4_find⟩ rfl (by decide) (by decide) (Nat.zero_le _) (Or.inl rfl) (Nat.le_of_ble_eq_true rfl) h (zqI__k rfl (fun r5 h => ?_)) (fun _ _ _ _ _ _ h9 h8 => absurd h8.1 h9) rfl
    refine za_goto (tgt := 43) dX1_named_23 (by decide) ?_
    exact za_ireturn rfl dX1_named_43 h
theorem sX1_named {d b : Nat} {v1 : Int32} {v2 : Int32} {T : zT} {I : zI} {L : zL} {R : zR} {P : zP} (h : zAW mX1_named d b 0 [(0, .ref 1000), (1, .int v1), (2, .int v2)] [] T I L R P) : zMet mX1_named d b [.ref 1000, .int v1, .int v2] T I L R P := zMet_of (by decide +kernel) rfl (Nat.le_of_ble_eq_true rfl) rfl h
/-! TwoTongues.letter (II)I -/
def dkwX1_letter_1 : List UInt8 := [167, 0, 4, 2, 172]
abbrev dktX1_letter_1 : List UInt8 := dkwX1_letter_1 ++ []
def dkwX1_letter_0 : List UInt8 := [42, 27, 28, 182, 0, 215, 153, 0, 20, 42, 180, 0, 64, 180, 0, 186, 27, 50, 180, 0, 219, 28, 46]
abbrev dktX1_letter_0 : List UInt8 := dkwX1_letter_0 ++ dktX1_letter_1
theorem dksX1_letter_0 : cX1_letter.data.toList.drop 0 = dktX1_letter_0 := by decide +kernel
theorem dksX1_letter_1 : cX1_letter.data.toList.drop 23 = dktX1_letter_1 := dk_seg dksX1_letter_0 23 rfl rfl
theorem dX1_letter_0 : decode cX1_letter 0 = .ok (.aload_n 0, 1) := dk_42 (dk_at dksX1_letter_0 0 rfl rfl)
theorem dX1_letter_1 : decode cX1_letter 1 = .ok (.iload_n 1, 1) := dk_27 (dk_at dksX1_letter_0 1 rfl rfl)
theorem dX1_letter_2 : decode cX1_letter 2 = .ok (.iload_n 2, 1) := dk_28 (dk_at dksX1_letter_0 2 rfl rfl)
theorem dX1_letter_3 : decode cX1_letter 3 = .ok (.invokevirtual 215, 3) := dk_182 0 215 (dk_at dksX1_letter_0 3 rfl rfl)
theorem dX1_letter_6 : decode cX1_letter 6 = .ok (.ifCond .eq 20, 3) := dk_153 0 20 (dk_at dksX1_letter_0 6 rfl rfl)
theorem dX1_letter_9 : decode cX1_letter 9 = .ok (.aload_n 0, 1) := dk_42 (dk_at dksX1_letter_0 9 rfl rfl)
theorem dX1_letter_10 : decode cX1_letter 10 = .ok (.getfield 64, 3) := dk_180 0 64 (dk_at dksX1_letter_0 10 rfl rfl)
theorem dX1_letter_13 : decode cX1_letter 13 = .ok (.getfield 186, 3) := dk_180 0 186 (dk_at dksX1_letter_0 13 rfl rfl)
theorem dX1_letter_16 : decode cX1_letter 16 = .ok (.iload_n 1, 1) := dk_27 (dk_at dksX1_letter_0 16 rfl rfl)
theorem dX1_letter_17 : decode cX1_letter 17 = .ok (.aaload, 1) := dk_50 (dk_at dksX1_letter_0 17 rfl rfl)
theorem dX1_letter_18 : decode cX1_letter 18 = .ok (.getfield 219, 3) := dk_180 0 219 (dk_at dksX1_letter_0 18 rfl rfl)
theorem dX1_letter_21 : decode cX1_letter 21 = .ok (.iload_n 2, 1) := dk_28 (dk_at dksX1_letter_0 21 rfl rfl)
theorem dX1_letter_22 : decode cX1_letter 22 = .ok (.iaload, 1) := dk_46 (dk_at dksX1_letter_0 22 rfl rfl)
theorem dX1_letter_23 : decode cX1_letter 23 = .ok (.goto 4, 3) := dk_167 0 4 (dk_at dksX1_letter_1 0 rfl rfl)
theorem dX1_letter_26 : decode cX1_letter 26 = .ok (.iconst (-1), 1) := dk_2 (dk_at dksX1_letter_1 3 rfl rfl)
theorem dX1_letter_27 : decode cX1_letter 27 = .ok (.ireturn, 1) := dk_172 (dk_at dksX1_letter_1 4 rfl rfl)
theorem gX1_letter_0 {v1 : Int32} {v2 : Int32} {T : zT} {I : zI} {L : zL} {R : zR} {P : zP} (hx : zXok T R) (h : zMet mX1_isLetter 3 0 [.ref 1000, .int v1, .int v2] T I L R (zqI_ T I L R  (fun (r1 : Int32)  => ((r1 = 0 → P 0 (.int (-1 : Int32)) T I L R) ∧ (¬ r1 = 0 → vp_in v1 6 ∧ (T (R 1202 (v1.toNatClampNeg))).1 = 11 ∧ (T (R (R 1202 (v1.toNatClampNeg)) 0)).1 = 100 ∧ vp_in v2 ((T (R (R 1202 (v1.toNatClampNeg)) 0)).2) ∧ P 0 (.int (I (R (R 1202 (v1.toNatClampNeg)) 0) (v2.toNatClampNeg))) T I L R))))) : zAW mX1_letter 4 0 0 [(0, .ref 1000), (1, .int v1), (2, .int v2)] [] T I L R P := by
  refine za_aload_n (pc' := 1) 0 dX1_letter_0 rfl rfl rfl ?_
  refine za_iload_n (pc' := 2) 1 dX1_letter_1 rfl rfl rfl ?_
  refine za_iload_n (pc' := 3) 2 dX1_letter_2 rfl rfl rfl ?_
  refine za_callV (κ := 1000) (M2 := mX1_isLetter) (d2 := 3) (b2 := 0) (n := 2) (As := [.int v1, .int v2]) (st := []) (pc' := 6) zc0 (by decide) (congrArg Prod.fst (zX_t1000 hx)) dX1_letter_3 rfl (lw_V q1062 q1064 qs31 q131 q1065) ⟨rfl, hd_X1_isLetter⟩ rfl (by decide) (by decide) (Nat.zero_le _) (Or.inl rfl) (Nat.le_of_ble_eq_true rfl) h (zqI__k rfl (fun r1 h => ?_)) (fun _ _ _ _ _ _ h9 h8 => absurd h8.1 h9) rfl
  refine za_if_eq (pc' := 9) (tgt := 26) dX1_letter_6 (by decide) rfl (fun c9 => ?_) (fun c9 => ?_)
  · replace h := h.1 c9
    refine za_iconst (pc' := 27) dX1_letter_26 zi_m1 rfl ?_
    exact za_ireturn rfl dX1_letter_27 h
  · replace h := h.2 c9
    refine za_aload_n (pc' := 10) 0 dX1_letter_9 rfl rfl rfl ?_
    refine za_get (fi := 10) (v := .ref 1200) (pc' := 13) dX1_letter_10 zc0 (by decide) in_X1 (by decide) q500 (Or.inl rfl) (congrArg Prod.fst (zX_t1000 hx)) (congrArg Value.ref (zX_r1000_10 hx)) rfl ?_
    refine za_getN (fi := 1) (v := .ref 1202) (pc' := 16) dX1_letter_13 zc9 (by decide) in_X10 (by decide) q418 (Or.inl rfl) (congrArg Prod.fst (zX_t1200 hx)) (congrArg Value.ref (zX_r1200_1 hx)) rfl ?_
    refine za_iload_n (pc' := 17) 1 dX1_letter_16 rfl rfl rfl ?_
    obtain ⟨hi2, h⟩ := h
    refine za_aald (r := (R 1202 (v1.toNatClampNeg))) (t := 5) (C := RX11) (pc' := 18) dX1_letter_17 (by decide) (fun _ => rfl) (zX_t1202 hx) hi2 (rfl) rfl ?_
    obtain ⟨ht3, h⟩ := h
    refine za_getN (fi := 0) (v := .ref (R (R 1202 (v1.toNatClampNeg)) 0)) (pc' := 21) dX1_letter_18 zc10 (by decide) in_X11 (by decide) q404 (Or.inl rfl) ht3 rfl rfl ?_
    refine za_iload_n (pc' := 22) 2 dX1_letter_21 rfl rfl rfl ?_
    obtain ⟨ht4, h⟩ := h
    obtain ⟨hi5, h⟩ := h
    refine za_iald (v := .int (I (R (R 1202 (v1.toNatClampNeg)) 0) (v2.toNatClampNeg))) (pc' := 23) dX1_letter_22 (zpair ht4) hi5 rfl rfl ?_
    refine za_goto (tgt := 27) dX1_letter_23 (by decide) ?_
    exact za_ireturn rfl dX1_letter_27 h
theorem sX1_letter {d b : Nat} {v1 : Int32} {v2 : Int32} {T : zT} {I : zI} {L : zL} {R : zR} {P : zP} (h : zAW mX1_letter d b 0 [(0, .ref 1000), (1, .int v1), (2, .int v2)] [] T I L R P) : zMet mX1_letter d b [.ref 1000, .int v1, .int v2] T I L R P := zMet_of (by decide +kernel) rfl (Nat.le_of_ble_eq_true rfl) rfl h
/-! TwoTongues.isLetter (II)Z -/
def dkwX1_isLetter_1 : List UInt8 := [100, 133, 184, 0, 126, 153, 0, 7, 4, 167, 0, 4, 3, 172]
abbrev dktX1_isLetter_1 : List UInt8 := dkwX1_isLetter_1 ++ []
def dkwX1_isLetter_0 : List UInt8 := [42, 27, 182, 0, 182, 153, 0, 31, 28, 133, 9, 42, 180, 0, 64, 180, 0, 186, 27, 50, 180, 0, 190, 4]
abbrev dktX1_isLetter_0 : List UInt8 := dkwX1_isLetter_0 ++ dktX1_isLetter_1
theorem dksX1_isLetter_0 : cX1_isLetter.data.toList.drop 0 = dktX1_isLetter_0 := by decide +kernel
theorem dksX1_isLetter_1 : cX1_isLetter.data.toList.drop 24 = dktX1_isLetter_1 := dk_seg dksX1_isLetter_0 24 rfl rfl
theorem dX1_isLetter_0 : decode cX1_isLetter 0 = .ok (.aload_n 0, 1) := dk_42 (dk_at dksX1_isLetter_0 0 rfl rfl)
theorem dX1_isLetter_1 : decode cX1_isLetter 1 = .ok (.iload_n 1, 1) := dk_27 (dk_at dksX1_isLetter_0 1 rfl rfl)
theorem dX1_isLetter_2 : decode cX1_isLetter 2 = .ok (.invokevirtual 182, 3) := dk_182 0 182 (dk_at dksX1_isLetter_0 2 rfl rfl)
theorem dX1_isLetter_5 : decode cX1_isLetter 5 = .ok (.ifCond .eq 31, 3) := dk_153 0 31 (dk_at dksX1_isLetter_0 5 rfl rfl)
theorem dX1_isLetter_8 : decode cX1_isLetter 8 = .ok (.iload_n 2, 1) := dk_28 (dk_at dksX1_isLetter_0 8 rfl rfl)
theorem dX1_isLetter_9 : decode cX1_isLetter 9 = .ok (.i2l, 1) := dk_133 (dk_at dksX1_isLetter_0 9 rfl rfl)
theorem dX1_isLetter_10 : decode cX1_isLetter 10 = .ok (.lconst 0, 1) := dk_9 (dk_at dksX1_isLetter_0 10 rfl rfl)
theorem dX1_isLetter_11 : decode cX1_isLetter 11 = .ok (.aload_n 0, 1) := dk_42 (dk_at dksX1_isLetter_0 11 rfl rfl)
theorem dX1_isLetter_12 : decode cX1_isLetter 12 = .ok (.getfield 64, 3) := dk_180 0 64 (dk_at dksX1_isLetter_0 12 rfl rfl)
theorem dX1_isLetter_15 : decode cX1_isLetter 15 = .ok (.getfield 186, 3) := dk_180 0 186 (dk_at dksX1_isLetter_0 15 rfl rfl)
theorem dX1_isLetter_18 : decode cX1_isLetter 18 = .ok (.iload_n 1, 1) := dk_27 (dk_at dksX1_isLetter_0 18 rfl rfl)
theorem dX1_isLetter_19 : decode cX1_isLetter 19 = .ok (.aaload, 1) := dk_50 (dk_at dksX1_isLetter_0 19 rfl rfl)
theorem dX1_isLetter_20 : decode cX1_isLetter 20 = .ok (.getfield 190, 3) := dk_180 0 190 (dk_at dksX1_isLetter_0 20 rfl rfl)
theorem dX1_isLetter_23 : decode cX1_isLetter 23 = .ok (.iconst 1, 1) := dk_4 (dk_at dksX1_isLetter_0 23 rfl rfl)
theorem dX1_isLetter_24 : decode cX1_isLetter 24 = .ok (.isub, 1) := dk_100 (dk_at dksX1_isLetter_1 0 rfl rfl)
theorem dX1_isLetter_25 : decode cX1_isLetter 25 = .ok (.i2l, 1) := dk_133 (dk_at dksX1_isLetter_1 1 rfl rfl)
theorem dX1_isLetter_26 : decode cX1_isLetter 26 = .ok (.invokestatic 126, 3) := dk_184 0 126 (dk_at dksX1_isLetter_1 2 rfl rfl)
theorem dX1_isLetter_29 : decode cX1_isLetter 29 = .ok (.ifCond .eq 7, 3) := dk_153 0 7 (dk_at dksX1_isLetter_1 5 rfl rfl)
theorem dX1_isLetter_32 : decode cX1_isLetter 32 = .ok (.iconst 1, 1) := dk_4 (dk_at dksX1_isLetter_1 8 rfl rfl)
theorem dX1_isLetter_33 : decode cX1_isLetter 33 = .ok (.goto 4, 3) := dk_167 0 4 (dk_at dksX1_isLetter_1 9 rfl rfl)
theorem dX1_isLetter_36 : decode cX1_isLetter 36 = .ok (.iconst 0, 1) := dk_3 (dk_at dksX1_isLetter_1 12 rfl rfl)
theorem dX1_isLetter_37 : decode cX1_isLetter 37 = .ok (.ireturn, 1) := dk_172 (dk_at dksX1_isLetter_1 13 rfl rfl)
theorem gX1_isLetter_0 {v1 : Int32} {v2 : Int32} {T : zT} {I : zI} {L : zL} {R : zR} {P : zP} (hx : zXok T R) (h : zMet mX1_isSign 2 0 [.ref 1000, .int v1] T I L R (zqI_ T I L R  (fun (r1 : Int32)  => ((r1 = 0 → P 0 (.int (0 : Int32)) T I L R) ∧ (¬ r1 = 0 → vp_in v1 6 ∧ (T (R 1202 (v1.toNatClampNeg))).1 = 11 ∧ zMet mX1_in 1 0 [.long (v2.toInt64), .long (0 : Int64), .long (((I (R 1202 (v1.toNatClampNeg)) 1) - (1 : Int32)).toInt64)] T I L R (zqI_ T I L R  (fun (r4 : Int32)  => ((r4 = 0 → P 0 (.int (0 : Int32)) T I L R) ∧ (¬ r4 = 0 → P 0 (.int (1 : Int32)) T I L R))))))))) : zAW mX1_isLetter 3 0 0 [(0, .ref 1000), (1, .int v1), (2, .int v2)] [] T I L R P := by
  refine za_aload_n (pc' := 1) 0 dX1_isLetter_0 rfl rfl rfl ?_
  refine za_iload_n (pc' := 2) 1 dX1_isLetter_1 rfl rfl rfl ?_
  refine za_callV (κ := 1000) (M2 := mX1_isSign) (d2 := 2) (b2 := 0) (n := 1) (As := [.int v1]) (st := []) (pc' := 5) zc0 (by decide) (congrArg Prod.fst (zX_t1000 hx)) dX1_isLetter_2 rfl (lw_V q1066 q1068 qs32 q131 q1069) ⟨rfl, hd_X1_isSign⟩ rfl (by decide) (by decide) (Nat.zero_le _) (Or.inl rfl) (Nat.le_of_ble_eq_true rfl) h (zqI__k rfl (fun r1 h => ?_)) (fun _ _ _ _ _ _ h9 h8 => absurd h8.1 h9) rfl
  refine za_if_eq (pc' := 8) (tgt := 36) dX1_isLetter_5 (by decide) rfl (fun c9 => ?_) (fun c9 => ?_)
  · replace h := h.1 c9
    refine za_iconst (pc' := 37) dX1_isLetter_36 zi_0 rfl ?_
    exact za_zreturn rfl dX1_isLetter_37 (by decide) h
  · replace h := h.2 c9
    refine za_iload_n (pc' := 9) 2 dX1_isLetter_8 rfl rfl rfl ?_
    refine za_i2l (pc' := 10) dX1_isLetter_9 rfl rfl ?_
    refine za_lconst (pc' := 11) dX1_isLetter_10 zl_0 rfl ?_
    refine za_aload_n (pc' := 12) 0 dX1_isLetter_11 rfl rfl rfl ?_
    refine za_get (fi := 10) (v := .ref 1200) (pc' := 15) dX1_isLetter_12 zc0 (by decide) in_X1 (by decide) q500 (Or.inl rfl) (congrArg Prod.fst (zX_t1000 hx)) (congrArg Value.ref (zX_r1000_10 hx)) rfl ?_
    refine za_getN (fi := 1) (v := .ref 1202) (pc' := 18) dX1_isLetter_15 zc9 (by decide) in_X10 (by decide) q418 (Or.inl rfl) (congrArg Prod.fst (zX_t1200 hx)) (congrArg Value.ref (zX_r1200_1 hx)) rfl ?_
    refine za_iload_n (pc' := 19) 1 dX1_isLetter_18 rfl rfl rfl ?_
    obtain ⟨hi2, h⟩ := h
    refine za_aald (r := (R 1202 (v1.toNatClampNeg))) (t := 5) (C := RX11) (pc' := 20) dX1_isLetter_19 (by decide) (fun _ => rfl) (zX_t1202 hx) hi2 (rfl) rfl ?_
    obtain ⟨ht3, h⟩ := h
    refine za_getN (fi := 1) (v := .int (I (R 1202 (v1.toNatClampNeg)) 1)) (pc' := 23) dX1_isLetter_20 zc10 (by decide) in_X11 (by decide) q408 (Or.inl rfl) ht3 rfl rfl ?_
    refine za_iconst (pc' := 24) dX1_isLetter_23 zi_1 rfl ?_
    refine za_isub (pc' := 25) dX1_isLetter_24 rfl ?_
    refine za_i2l (pc' := 26) dX1_isLetter_25 rfl rfl ?_
    refine za_callS (M2 := mX1_in) (d2 := 1) (b2 := 0) (n := 3) (As := [.long (v2.toInt64), .long (0 : Int64), .long (((I (R 1202 (v1.toNatClampNeg)) 1) - (1 : Int32)).toInt64)]) (st := []) (pc' := 29) dX1_isLetter_26 rfl (lw_S q588 q589 q131 q590) hd_X1_in rfl (by decide) (by decide) (Nat.zero_le _) (Or.inl rfl) (Nat.le_of_ble_eq_true rfl) h (zqI__k rfl (fun r4 h => ?_)) (fun _ _ _ _ _ _ h9 h8 => absurd h8.1 h9) rfl
    refine za_if_eq (pc' := 32) (tgt := 36) dX1_isLetter_29 (by decide) rfl (fun c9 => ?_) (fun c9 => ?_)
    · replace h := h.1 c9
      refine za_iconst (pc' := 37) dX1_isLetter_36 zi_0 rfl ?_
      exact za_zreturn rfl dX1_isLetter_37 (by decide) h
    · replace h := h.2 c9
      refine za_iconst (pc' := 33) dX1_isLetter_32 zi_1 rfl ?_
      refine za_goto (tgt := 37) dX1_isLetter_33 (by decide) ?_
      exact za_zreturn rfl dX1_isLetter_37 (by decide) h
theorem sX1_isLetter {d b : Nat} {v1 : Int32} {v2 : Int32} {T : zT} {I : zI} {L : zL} {R : zR} {P : zP} (h : zAW mX1_isLetter d b 0 [(0, .ref 1000), (1, .int v1), (2, .int v2)] [] T I L R P) : zMet mX1_isLetter d b [.ref 1000, .int v1, .int v2] T I L R P := zMet_of (by decide +kernel) rfl (Nat.le_of_ble_eq_true rfl) rfl h
/-! TwoTongues.isSign (I)Z -/
def dkwX1_isSign_0 : List UInt8 := [27, 133, 9, 42, 180, 0, 39, 180, 0, 172, 182, 0, 176, 4, 100, 133, 184, 0, 126, 172]
abbrev dktX1_isSign_0 : List UInt8 := dkwX1_isSign_0 ++ []
theorem dksX1_isSign_0 : cX1_isSign.data.toList.drop 0 = dktX1_isSign_0 := by decide +kernel
theorem dX1_isSign_0 : decode cX1_isSign 0 = .ok (.iload_n 1, 1) := dk_27 (dk_at dksX1_isSign_0 0 rfl rfl)
theorem dX1_isSign_1 : decode cX1_isSign 1 = .ok (.i2l, 1) := dk_133 (dk_at dksX1_isSign_0 1 rfl rfl)
theorem dX1_isSign_2 : decode cX1_isSign 2 = .ok (.lconst 0, 1) := dk_9 (dk_at dksX1_isSign_0 2 rfl rfl)
theorem dX1_isSign_3 : decode cX1_isSign 3 = .ok (.aload_n 0, 1) := dk_42 (dk_at dksX1_isSign_0 3 rfl rfl)
theorem dX1_isSign_4 : decode cX1_isSign 4 = .ok (.getfield 39, 3) := dk_180 0 39 (dk_at dksX1_isSign_0 4 rfl rfl)
theorem dX1_isSign_7 : decode cX1_isSign 7 = .ok (.getfield 172, 3) := dk_180 0 172 (dk_at dksX1_isSign_0 7 rfl rfl)
theorem dX1_isSign_10 : decode cX1_isSign 10 = .ok (.invokevirtual 176, 3) := dk_182 0 176 (dk_at dksX1_isSign_0 10 rfl rfl)
theorem dX1_isSign_13 : decode cX1_isSign 13 = .ok (.iconst 1, 1) := dk_4 (dk_at dksX1_isSign_0 13 rfl rfl)
theorem dX1_isSign_14 : decode cX1_isSign 14 = .ok (.isub, 1) := dk_100 (dk_at dksX1_isSign_0 14 rfl rfl)
theorem dX1_isSign_15 : decode cX1_isSign 15 = .ok (.i2l, 1) := dk_133 (dk_at dksX1_isSign_0 15 rfl rfl)
theorem dX1_isSign_16 : decode cX1_isSign 16 = .ok (.invokestatic 126, 3) := dk_184 0 126 (dk_at dksX1_isSign_0 16 rfl rfl)
theorem dX1_isSign_19 : decode cX1_isSign 19 = .ok (.ireturn, 1) := dk_172 (dk_at dksX1_isSign_0 19 rfl rfl)
theorem gX1_isSign_0 {v1 : Int32} {T : zT} {I : zI} {L : zL} {R : zR} {P : zP} (hx : zXok T R) (h : (T (R 1000 8)).1 = 3 ∧ (T (R (R 1000 8) 2)).1 = 5 ∧ zMet mJ2_size 1 0 [.ref (R (R 1000 8) 2)] T I L R (zqI_ T I L R  (fun (r2 : Int32)  => zMet mX1_in 1 0 [.long (v1.toInt64), .long (0 : Int64), .long ((r2 - (1 : Int32)).toInt64)] T I L R (zqI_ T I L R  (fun (r4 : Int32)  => zB r4 ∧ P 0 (.int r4) T I L R))))) : zAW mX1_isSign 2 0 0 [(0, .ref 1000), (1, .int v1)] [] T I L R P := by
  refine za_iload_n (pc' := 1) 1 dX1_isSign_0 rfl rfl rfl ?_
  refine za_i2l (pc' := 2) dX1_isSign_1 rfl rfl ?_
  refine za_lconst (pc' := 3) dX1_isSign_2 zl_0 rfl ?_
  refine za_aload_n (pc' := 4) 0 dX1_isSign_3 rfl rfl rfl ?_
  refine za_get (fi := 8) (v := .ref (R 1000 8)) (pc' := 7) dX1_isSign_4 zc0 (by decide) in_X1 (by decide) q498 (Or.inl rfl) (congrArg Prod.fst (zX_t1000 hx)) rfl rfl ?_
  obtain ⟨ht1, h⟩ := h
  refine za_getN (fi := 2) (v := .ref (R (R 1000 8) 2)) (pc' := 10) dX1_isSign_7 zc2 (by decide) in_X3 (by decide) q278 (Or.inl rfl) ht1 rfl rfl ?_
  obtain ⟨ht3, h⟩ := h
  refine za_callV (κ := (R (R 1000 8) 2)) (M2 := mJ2_size) (d2 := 1) (b2 := 0) (n := 0) (As := []) (st := [.long (0 : Int64), .long (v1.toInt64)]) (pc' := 13) zc4 (by decide) ht3 dX1_isSign_10 rfl (lw_V q1070 q466 q467 q137 q468) ⟨rfl, hd_J2_size⟩ rfl (by decide) (by decide) (Nat.zero_le _) (Or.inl rfl) (Nat.le_of_ble_eq_true rfl) h (zqI__k rfl (fun r2 h => ?_)) (fun _ _ _ _ _ _ h9 h8 => absurd h8.1 h9) rfl
  refine za_iconst (pc' := 14) dX1_isSign_13 zi_1 rfl ?_
  refine za_isub (pc' := 15) dX1_isSign_14 rfl ?_
  refine za_i2l (pc' := 16) dX1_isSign_15 rfl rfl ?_
  refine za_callS (M2 := mX1_in) (d2 := 1) (b2 := 0) (n := 3) (As := [.long (v1.toInt64), .long (0 : Int64), .long ((r2 - (1 : Int32)).toInt64)]) (st := []) (pc' := 19) dX1_isSign_16 rfl (lw_S q588 q589 q131 q590) hd_X1_in rfl (by decide) (by decide) (Nat.zero_le _) (Or.inl rfl) (Nat.le_of_ble_eq_true rfl) h (zqI__k rfl (fun r4 h => ?_)) (fun _ _ _ _ _ _ h9 h8 => absurd h8.1 h9) rfl
  exact za_zreturn rfl dX1_isSign_19 (zB_n h.1) h.2
theorem sX1_isSign {d b : Nat} {v1 : Int32} {T : zT} {I : zI} {L : zL} {R : zR} {P : zP} (h : zAW mX1_isSign d b 0 [(0, .ref 1000), (1, .int v1)] [] T I L R P) : zMet mX1_isSign d b [.ref 1000, .int v1] T I L R P := zMet_of (by decide +kernel) rfl (Nat.le_of_ble_eq_true rfl) rfl h
/-! TwoTongues.word (III)I -/
def dkwX1_word_3 : List UInt8 := [180, 0, 229, 28, 46, 167, 0, 4, 2, 172]
abbrev dktX1_word_3 : List UInt8 := dkwX1_word_3 ++ []
def dkwX1_word_2 : List UInt8 := [180, 0, 226, 28, 46, 167, 0, 26, 29, 4, 160, 0, 20, 42, 180, 0, 64, 180, 0, 161, 27, 50]
abbrev dktX1_word_2 : List UInt8 := dkwX1_word_2 ++ dktX1_word_3
def dkwX1_word_1 : List UInt8 := [133, 184, 0, 126, 154, 0, 5, 2, 172, 29, 154, 0, 20, 42, 180, 0, 64, 180, 0, 161, 27, 50]
abbrev dktX1_word_1 : List UInt8 := dkwX1_word_1 ++ dktX1_word_2
def dkwX1_word_0 : List UInt8 := [27, 184, 0, 222, 153, 0, 27, 28, 133, 9, 42, 180, 0, 64, 180, 0, 161, 27, 50, 180, 0, 225, 4, 100]
abbrev dktX1_word_0 : List UInt8 := dkwX1_word_0 ++ dktX1_word_1
theorem dksX1_word_0 : cX1_word.data.toList.drop 0 = dktX1_word_0 := by decide +kernel
theorem dksX1_word_1 : cX1_word.data.toList.drop 24 = dktX1_word_1 := dk_seg dksX1_word_0 24 rfl rfl
theorem dksX1_word_2 : cX1_word.data.toList.drop 46 = dktX1_word_2 := dk_seg dksX1_word_1 22 rfl rfl
theorem dksX1_word_3 : cX1_word.data.toList.drop 68 = dktX1_word_3 := dk_seg dksX1_word_2 22 rfl rfl
theorem dX1_word_0 : decode cX1_word 0 = .ok (.iload_n 1, 1) := dk_27 (dk_at dksX1_word_0 0 rfl rfl)
theorem dX1_word_1 : decode cX1_word 1 = .ok (.invokestatic 222, 3) := dk_184 0 222 (dk_at dksX1_word_0 1 rfl rfl)
theorem dX1_word_4 : decode cX1_word 4 = .ok (.ifCond .eq 27, 3) := dk_153 0 27 (dk_at dksX1_word_0 4 rfl rfl)
theorem dX1_word_7 : decode cX1_word 7 = .ok (.iload_n 2, 1) := dk_28 (dk_at dksX1_word_0 7 rfl rfl)
theorem dX1_word_8 : decode cX1_word 8 = .ok (.i2l, 1) := dk_133 (dk_at dksX1_word_0 8 rfl rfl)
theorem dX1_word_9 : decode cX1_word 9 = .ok (.lconst 0, 1) := dk_9 (dk_at dksX1_word_0 9 rfl rfl)
theorem dX1_word_10 : decode cX1_word 10 = .ok (.aload_n 0, 1) := dk_42 (dk_at dksX1_word_0 10 rfl rfl)
theorem dX1_word_11 : decode cX1_word 11 = .ok (.getfield 64, 3) := dk_180 0 64 (dk_at dksX1_word_0 11 rfl rfl)
theorem dX1_word_14 : decode cX1_word 14 = .ok (.getfield 161, 3) := dk_180 0 161 (dk_at dksX1_word_0 14 rfl rfl)
theorem dX1_word_17 : decode cX1_word 17 = .ok (.iload_n 1, 1) := dk_27 (dk_at dksX1_word_0 17 rfl rfl)
theorem dX1_word_18 : decode cX1_word 18 = .ok (.aaload, 1) := dk_50 (dk_at dksX1_word_0 18 rfl rfl)
theorem dX1_word_19 : decode cX1_word 19 = .ok (.getfield 225, 3) := dk_180 0 225 (dk_at dksX1_word_0 19 rfl rfl)
theorem dX1_word_22 : decode cX1_word 22 = .ok (.iconst 1, 1) := dk_4 (dk_at dksX1_word_0 22 rfl rfl)
theorem dX1_word_23 : decode cX1_word 23 = .ok (.isub, 1) := dk_100 (dk_at dksX1_word_0 23 rfl rfl)
theorem dX1_word_24 : decode cX1_word 24 = .ok (.i2l, 1) := dk_133 (dk_at dksX1_word_1 0 rfl rfl)
theorem dX1_word_25 : decode cX1_word 25 = .ok (.invokestatic 126, 3) := dk_184 0 126 (dk_at dksX1_word_1 1 rfl rfl)
theorem dX1_word_28 : decode cX1_word 28 = .ok (.ifCond .ne 5, 3) := dk_154 0 5 (dk_at dksX1_word_1 4 rfl rfl)
theorem dX1_word_31 : decode cX1_word 31 = .ok (.iconst (-1), 1) := dk_2 (dk_at dksX1_word_1 7 rfl rfl)
theorem dX1_word_32 : decode cX1_word 32 = .ok (.ireturn, 1) := dk_172 (dk_at dksX1_word_1 8 rfl rfl)
theorem dX1_word_33 : decode cX1_word 33 = .ok (.iload_n 3, 1) := dk_29 (dk_at dksX1_word_1 9 rfl rfl)
theorem dX1_word_34 : decode cX1_word 34 = .ok (.ifCond .ne 20, 3) := dk_154 0 20 (dk_at dksX1_word_1 10 rfl rfl)
theorem dX1_word_37 : decode cX1_word 37 = .ok (.aload_n 0, 1) := dk_42 (dk_at dksX1_word_1 13 rfl rfl)
theorem dX1_word_38 : decode cX1_word 38 = .ok (.getfield 64, 3) := dk_180 0 64 (dk_at dksX1_word_1 14 rfl rfl)
theorem dX1_word_41 : decode cX1_word 41 = .ok (.getfield 161, 3) := dk_180 0 161 (dk_at dksX1_word_1 17 rfl rfl)
theorem dX1_word_44 : decode cX1_word 44 = .ok (.iload_n 1, 1) := dk_27 (dk_at dksX1_word_1 20 rfl rfl)
theorem dX1_word_45 : decode cX1_word 45 = .ok (.aaload, 1) := dk_50 (dk_at dksX1_word_1 21 rfl rfl)
theorem dX1_word_46 : decode cX1_word 46 = .ok (.getfield 226, 3) := dk_180 0 226 (dk_at dksX1_word_2 0 rfl rfl)
theorem dX1_word_49 : decode cX1_word 49 = .ok (.iload_n 2, 1) := dk_28 (dk_at dksX1_word_2 3 rfl rfl)
theorem dX1_word_50 : decode cX1_word 50 = .ok (.iaload, 1) := dk_46 (dk_at dksX1_word_2 4 rfl rfl)
theorem dX1_word_51 : decode cX1_word 51 = .ok (.goto 26, 3) := dk_167 0 26 (dk_at dksX1_word_2 5 rfl rfl)
theorem dX1_word_54 : decode cX1_word 54 = .ok (.iload_n 3, 1) := dk_29 (dk_at dksX1_word_2 8 rfl rfl)
theorem dX1_word_55 : decode cX1_word 55 = .ok (.iconst 1, 1) := dk_4 (dk_at dksX1_word_2 9 rfl rfl)
theorem dX1_word_56 : decode cX1_word 56 = .ok (.if_icmp .ne 20, 3) := dk_160 0 20 (dk_at dksX1_word_2 10 rfl rfl)
theorem dX1_word_59 : decode cX1_word 59 = .ok (.aload_n 0, 1) := dk_42 (dk_at dksX1_word_2 13 rfl rfl)
theorem dX1_word_60 : decode cX1_word 60 = .ok (.getfield 64, 3) := dk_180 0 64 (dk_at dksX1_word_2 14 rfl rfl)
theorem dX1_word_63 : decode cX1_word 63 = .ok (.getfield 161, 3) := dk_180 0 161 (dk_at dksX1_word_2 17 rfl rfl)
theorem dX1_word_66 : decode cX1_word 66 = .ok (.iload_n 1, 1) := dk_27 (dk_at dksX1_word_2 20 rfl rfl)
theorem dX1_word_67 : decode cX1_word 67 = .ok (.aaload, 1) := dk_50 (dk_at dksX1_word_2 21 rfl rfl)
theorem dX1_word_68 : decode cX1_word 68 = .ok (.getfield 229, 3) := dk_180 0 229 (dk_at dksX1_word_3 0 rfl rfl)
theorem dX1_word_71 : decode cX1_word 71 = .ok (.iload_n 2, 1) := dk_28 (dk_at dksX1_word_3 3 rfl rfl)
theorem dX1_word_72 : decode cX1_word 72 = .ok (.iaload, 1) := dk_46 (dk_at dksX1_word_3 4 rfl rfl)
theorem dX1_word_73 : decode cX1_word 73 = .ok (.goto 4, 3) := dk_167 0 4 (dk_at dksX1_word_3 5 rfl rfl)
theorem dX1_word_76 : decode cX1_word 76 = .ok (.iconst (-1), 1) := dk_2 (dk_at dksX1_word_3 8 rfl rfl)
theorem dX1_word_77 : decode cX1_word 77 = .ok (.ireturn, 1) := dk_172 (dk_at dksX1_word_3 9 rfl rfl)
theorem gX1_word_0 {v1 : Int32} {v2 : Int32} {v3 : Int32} {T : zT} {I : zI} {L : zL} {R : zR} {P : zP} (hx : zXok T R) (h : zMet mX1_isTongue 2 0 [.int v1] T I L R (zqI_ T I L R  (fun (r1 : Int32)  => ((r1 = 0 → P 0 (.int (-1 : Int32)) T I L R) ∧ (¬ r1 = 0 → vp_in v1 2 ∧ (T (R 1201 (v1.toNatClampNeg))).1 = 4 ∧ zMet mX1_in 1 0 [.long (v2.toInt64), .long (0 : Int64), .long (((I (R 1201 (v1.toNatClampNeg)) 2) - (1 : Int32)).toInt64)] T I L R (zqI_ T I L R  (fun (r4 : Int32)  => ((r4 = 0 → P 0 (.int (-1 : Int32)) T I L R) ∧ (¬ r4 = 0 → ((v3 = 0 → (T (R (R 1201 (v1.toNatClampNeg)) 0)).1 = 100 ∧ vp_in v2 ((T (R (R 1201 (v1.toNatClampNeg)) 0)).2) ∧ P 0 (.int (I (R (R 1201 (v1.toNatClampNeg)) 0) (v2.toNatClampNeg))) T I L R) ∧ (¬ v3 = 0 → ((v3 = (1 : Int32) → (T (R (R 1201 (v1.toNatClampNeg)) 1)).1 = 100 ∧ vp_in v2 ((T (R (R 1201 (v1.toNatClampNeg)) 1)).2) ∧ P 0 (.int (I (R (R 1201 (v1.toNatClampNeg)) 1) (v2.toNatClampNeg))) T I L R) ∧ (¬ v3 = (1 : Int32) → P 0 (.int (-1 : Int32)) T I L R))))))))))))) : zAW mX1_word 3 0 0 [(0, .ref 1000), (1, .int v1), (2, .int v2), (3, .int v3)] [] T I L R P := by
  refine za_iload_n (pc' := 1) 1 dX1_word_0 rfl rfl rfl ?_
  refine za_callS (M2 := mX1_isTongue) (d2 := 2) (b2 := 0) (n := 1) (As := [.int v1]) (st := []) (pc' := 4) dX1_word_1 rfl (lw_S q1075 q1076 q131 q1077) hd_X1_isTongue rfl (by decide) (by decide) (Nat.zero_le _) (Or.inl rfl) (Nat.le_of_ble_eq_true rfl) h (zqI__k rfl (fun r1 h => ?_)) (fun _ _ _ _ _ _ h9 h8 => absurd h8.1 h9) rfl
  refine za_if_eq (pc' := 7) (tgt := 31) dX1_word_4 (by decide) rfl (fun c9 => ?_) (fun c9 => ?_)
  · replace h := h.1 c9
    refine za_iconst (pc' := 32) dX1_word_31 zi_m1 rfl ?_
    exact za_ireturn rfl dX1_word_32 h
  · replace h := h.2 c9
    refine za_iload_n (pc' := 8) 2 dX1_word_7 rfl rfl rfl ?_
    refine za_i2l (pc' := 9) dX1_word_8 rfl rfl ?_
    refine za_lconst (pc' := 10) dX1_word_9 zl_0 rfl ?_
    refine za_aload_n (pc' := 11) 0 dX1_word_10 rfl rfl rfl ?_
    refine za_get (fi := 10) (v := .ref 1200) (pc' := 14) dX1_word_11 zc0 (by decide) in_X1 (by decide) q500 (Or.inl rfl) (congrArg Prod.fst (zX_t1000 hx)) (congrArg Value.ref (zX_r1000_10 hx)) rfl ?_
    refine za_getN (fi := 0) (v := .ref 1201) (pc' := 17) dX1_word_14 zc9 (by decide) in_X10 (by decide) q416 (Or.inl rfl) (congrArg Prod.fst (zX_t1200 hx)) (congrArg Value.ref (zX_r1200_0 hx)) rfl ?_
    refine za_iload_n (pc' := 18) 1 dX1_word_17 rfl rfl rfl ?_
    obtain ⟨hi2, h⟩ := h
    refine za_aald (r := (R 1201 (v1.toNatClampNeg))) (t := 4) (C := RX4) (pc' := 19) dX1_word_18 (by decide) (fun _ => rfl) (zX_t1201 hx) hi2 (rfl) rfl ?_
    obtain ⟨ht3, h⟩ := h
    refine za_getN (fi := 2) (v := .int (I (R 1201 (v1.toNatClampNeg)) 2)) (pc' := 22) dX1_word_19 zc3 (by decide) in_X4 (by decide) q233 (Or.inl rfl) ht3 rfl rfl ?_
    refine za_iconst (pc' := 23) dX1_word_22 zi_1 rfl ?_
    refine za_isub (pc' := 24) dX1_word_23 rfl ?_
    refine za_i2l (pc' := 25) dX1_word_24 rfl rfl ?_
    refine za_callS (M2 := mX1_in) (d2 := 1) (b2 := 0) (n := 3) (As := [.long (v2.toInt64), .long (0 : Int64), .long (((I (R 1201 (v1.toNatClampNeg)) 2) - (1 : Int32)).toInt64)]) (st := []) (pc' := 28) dX1_word_25 rfl (lw_S q588 q589 q131 q590) hd_X1_in rfl (by decide) (by decide) (Nat.zero_le _) (Or.inl rfl) (Nat.le_of_ble_eq_true rfl) h (zqI__k rfl (fun r4 h => ?_)) (fun _ _ _ _ _ _ h9 h8 => absurd h8.1 h9) rfl
    refine za_if_ne (pc' := 31) (tgt := 33) dX1_word_28 (by decide) rfl (fun c9 => ?_) (fun c9 => ?_)
    · replace h := h.2 c9
      refine za_iload_n (pc' := 34) 3 dX1_word_33 rfl rfl rfl ?_
      refine za_if_ne (pc' := 37) (tgt := 54) dX1_word_34 (by decide) rfl (fun c9 => ?_) (fun c9 => ?_)
      · replace h := h.2 c9
        refine za_iload_n (pc' := 55) 3 dX1_word_54 rfl rfl rfl ?_
        refine za_iconst (pc' := 56) dX1_word_55 zi_1 rfl ?_
        refine za_icmp_ne (pc' := 59) (tgt := 76) dX1_word_56 (by decide) rfl (fun c9 => ?_) (fun c9 => ?_)
        · replace h := h.2 c9
          refine za_iconst (pc' := 77) dX1_word_76 zi_m1 rfl ?_
          exact za_ireturn rfl dX1_word_77 h
        · replace h := h.1 c9
          refine za_aload_n (pc' := 60) 0 dX1_word_59 rfl rfl rfl ?_
          refine za_get (fi := 10) (v := .ref 1200) (pc' := 63) dX1_word_60 zc0 (by decide) in_X1 (by decide) q500 (Or.inl rfl) (congrArg Prod.fst (zX_t1000 hx)) (congrArg Value.ref (zX_r1000_10 hx)) rfl ?_
          refine za_getN (fi := 0) (v := .ref 1201) (pc' := 66) dX1_word_63 zc9 (by decide) in_X10 (by decide) q416 (Or.inl rfl) (congrArg Prod.fst (zX_t1200 hx)) (congrArg Value.ref (zX_r1200_0 hx)) rfl ?_
          refine za_iload_n (pc' := 67) 1 dX1_word_66 rfl rfl rfl ?_
          refine za_aald (r := (R 1201 (v1.toNatClampNeg))) (t := 4) (C := RX4) (pc' := 68) dX1_word_67 (by decide) (fun _ => rfl) (zX_t1201 hx) hi2 (rfl) rfl ?_
          refine za_getN (fi := 1) (v := .ref (R (R 1201 (v1.toNatClampNeg)) 1)) (pc' := 71) dX1_word_68 zc3 (by decide) in_X4 (by decide) q229 (Or.inl rfl) ht3 rfl rfl ?_
          refine za_iload_n (pc' := 72) 2 dX1_word_71 rfl rfl rfl ?_
          obtain ⟨ht5, h⟩ := h
          obtain ⟨hi6, h⟩ := h
          refine za_iald (v := .int (I (R (R 1201 (v1.toNatClampNeg)) 1) (v2.toNatClampNeg))) (pc' := 73) dX1_word_72 (zpair ht5) hi6 rfl rfl ?_
          refine za_goto (tgt := 77) dX1_word_73 (by decide) ?_
          exact za_ireturn rfl dX1_word_77 h
      · replace h := h.1 c9
        refine za_aload_n (pc' := 38) 0 dX1_word_37 rfl rfl rfl ?_
        refine za_get (fi := 10) (v := .ref 1200) (pc' := 41) dX1_word_38 zc0 (by decide) in_X1 (by decide) q500 (Or.inl rfl) (congrArg Prod.fst (zX_t1000 hx)) (congrArg Value.ref (zX_r1000_10 hx)) rfl ?_
        refine za_getN (fi := 0) (v := .ref 1201) (pc' := 44) dX1_word_41 zc9 (by decide) in_X10 (by decide) q416 (Or.inl rfl) (congrArg Prod.fst (zX_t1200 hx)) (congrArg Value.ref (zX_r1200_0 hx)) rfl ?_
        refine za_iload_n (pc' := 45) 1 dX1_word_44 rfl rfl rfl ?_
        refine za_aald (r := (R 1201 (v1.toNatClampNeg))) (t := 4) (C := RX4) (pc' := 46) dX1_word_45 (by decide) (fun _ => rfl) (zX_t1201 hx) hi2 (rfl) rfl ?_
        refine za_getN (fi := 0) (v := .ref (R (R 1201 (v1.toNatClampNeg)) 0)) (pc' := 49) dX1_word_46 zc3 (by decide) in_X4 (by decide) q227 (Or.inl rfl) ht3 rfl rfl ?_
        refine za_iload_n (pc' := 50) 2 dX1_word_49 rfl rfl rfl ?_
        obtain ⟨ht7, h⟩ := h
        obtain ⟨hi8, h⟩ := h
        refine za_iald (v := .int (I (R (R 1201 (v1.toNatClampNeg)) 0) (v2.toNatClampNeg))) (pc' := 51) dX1_word_50 (zpair ht7) hi8 rfl rfl ?_
        refine za_goto (tgt := 77) dX1_word_51 (by decide) ?_
        exact za_ireturn rfl dX1_word_77 h
    · replace h := h.1 c9
      refine za_iconst (pc' := 32) dX1_word_31 zi_m1 rfl ?_
      exact za_ireturn rfl dX1_word_32 h
theorem sX1_word {d b : Nat} {v1 : Int32} {v2 : Int32} {v3 : Int32} {T : zT} {I : zI} {L : zL} {R : zR} {P : zP} (h : zAW mX1_word d b 0 [(0, .ref 1000), (1, .int v1), (2, .int v2), (3, .int v3)] [] T I L R P) : zMet mX1_word d b [.ref 1000, .int v1, .int v2, .int v3] T I L R P := zMet_of (by decide +kernel) rfl (Nat.le_of_ble_eq_true rfl) rfl h
/-! TwoTongues.isTongue (I)Z -/
def dkwX1_isTongue_0 : List UInt8 := [26, 133, 9, 10, 184, 0, 126, 172]
abbrev dktX1_isTongue_0 : List UInt8 := dkwX1_isTongue_0 ++ []
theorem dksX1_isTongue_0 : cX1_isTongue.data.toList.drop 0 = dktX1_isTongue_0 := by decide +kernel
theorem dX1_isTongue_0 : decode cX1_isTongue 0 = .ok (.iload_n 0, 1) := dk_26 (dk_at dksX1_isTongue_0 0 rfl rfl)
theorem dX1_isTongue_1 : decode cX1_isTongue 1 = .ok (.i2l, 1) := dk_133 (dk_at dksX1_isTongue_0 1 rfl rfl)
theorem dX1_isTongue_2 : decode cX1_isTongue 2 = .ok (.lconst 0, 1) := dk_9 (dk_at dksX1_isTongue_0 2 rfl rfl)
theorem dX1_isTongue_3 : decode cX1_isTongue 3 = .ok (.lconst 1, 1) := dk_10 (dk_at dksX1_isTongue_0 3 rfl rfl)
theorem dX1_isTongue_4 : decode cX1_isTongue 4 = .ok (.invokestatic 126, 3) := dk_184 0 126 (dk_at dksX1_isTongue_0 4 rfl rfl)
theorem dX1_isTongue_7 : decode cX1_isTongue 7 = .ok (.ireturn, 1) := dk_172 (dk_at dksX1_isTongue_0 7 rfl rfl)
theorem gX1_isTongue_0 {v0 : Int32} {T : zT} {I : zI} {L : zL} {R : zR} {P : zP} (h : zMet mX1_in 1 0 [.long (v0.toInt64), .long (0 : Int64), .long (1 : Int64)] T I L R (zqI_ T I L R  (fun (r1 : Int32)  => zB r1 ∧ P 0 (.int r1) T I L R))) : zAW mX1_isTongue 2 0 0 [(0, .int v0)] [] T I L R P := by
  refine za_iload_n (pc' := 1) 0 dX1_isTongue_0 rfl rfl rfl ?_
  refine za_i2l (pc' := 2) dX1_isTongue_1 rfl rfl ?_
  refine za_lconst (pc' := 3) dX1_isTongue_2 zl_0 rfl ?_
  refine za_lconst (pc' := 4) dX1_isTongue_3 zl_1 rfl ?_
  refine za_callS (M2 := mX1_in) (d2 := 1) (b2 := 0) (n := 3) (As := [.long (v0.toInt64), .long (0 : Int64), .long (1 : Int64)]) (st := []) (pc' := 7) dX1_isTongue_4 rfl (lw_S q588 q589 q131 q590) hd_X1_in rfl (by decide) (by decide) (Nat.zero_le _) (Or.inl rfl) (Nat.le_of_ble_eq_true rfl) h (zqI__k rfl (fun r1 h => ?_)) (fun _ _ _ _ _ _ h9 h8 => absurd h8.1 h9) rfl
  exact za_zreturn rfl dX1_isTongue_7 (zB_n h.1) h.2
theorem sX1_isTongue {d b : Nat} {v0 : Int32} {T : zT} {I : zI} {L : zL} {R : zR} {P : zP} (h : zAW mX1_isTongue d b 0 [(0, .int v0)] [] T I L R P) : zMet mX1_isTongue d b [.int v0] T I L R P := zMet_of (by decide +kernel) rfl (Nat.le_of_ble_eq_true rfl) rfl h
/-! TwoTongues.ways (II)J -/
def dkwX1_ways_1 : List UInt8 := [182, 1, 4, 42, 180, 0, 79, 3, 47, 173]
abbrev dktX1_ways_1 : List UInt8 := dkwX1_ways_1 ++ []
def dkwX1_ways_0 : List UInt8 := [42, 27, 182, 0, 182, 153, 0, 10, 28, 184, 0, 222, 154, 0, 7, 20, 1, 2, 173, 42, 27, 28]
abbrev dktX1_ways_0 : List UInt8 := dkwX1_ways_0 ++ dktX1_ways_1
theorem dksX1_ways_0 : cX1_ways.data.toList.drop 0 = dktX1_ways_0 := by decide +kernel
theorem dksX1_ways_1 : cX1_ways.data.toList.drop 22 = dktX1_ways_1 := dk_seg dksX1_ways_0 22 rfl rfl
theorem dX1_ways_0 : decode cX1_ways 0 = .ok (.aload_n 0, 1) := dk_42 (dk_at dksX1_ways_0 0 rfl rfl)
theorem dX1_ways_1 : decode cX1_ways 1 = .ok (.iload_n 1, 1) := dk_27 (dk_at dksX1_ways_0 1 rfl rfl)
theorem dX1_ways_2 : decode cX1_ways 2 = .ok (.invokevirtual 182, 3) := dk_182 0 182 (dk_at dksX1_ways_0 2 rfl rfl)
theorem dX1_ways_5 : decode cX1_ways 5 = .ok (.ifCond .eq 10, 3) := dk_153 0 10 (dk_at dksX1_ways_0 5 rfl rfl)
theorem dX1_ways_8 : decode cX1_ways 8 = .ok (.iload_n 2, 1) := dk_28 (dk_at dksX1_ways_0 8 rfl rfl)
theorem dX1_ways_9 : decode cX1_ways 9 = .ok (.invokestatic 222, 3) := dk_184 0 222 (dk_at dksX1_ways_0 9 rfl rfl)
theorem dX1_ways_12 : decode cX1_ways 12 = .ok (.ifCond .ne 7, 3) := dk_154 0 7 (dk_at dksX1_ways_0 12 rfl rfl)
theorem dX1_ways_15 : decode cX1_ways 15 = .ok (.ldc2_w 258, 3) := dk_20 1 2 (dk_at dksX1_ways_0 15 rfl rfl)
theorem dX1_ways_18 : decode cX1_ways 18 = .ok (.lreturn, 1) := dk_173 (dk_at dksX1_ways_0 18 rfl rfl)
theorem dX1_ways_19 : decode cX1_ways 19 = .ok (.aload_n 0, 1) := dk_42 (dk_at dksX1_ways_0 19 rfl rfl)
theorem dX1_ways_20 : decode cX1_ways 20 = .ok (.iload_n 1, 1) := dk_27 (dk_at dksX1_ways_0 20 rfl rfl)
theorem dX1_ways_21 : decode cX1_ways 21 = .ok (.iload_n 2, 1) := dk_28 (dk_at dksX1_ways_0 21 rfl rfl)
theorem dX1_ways_22 : decode cX1_ways 22 = .ok (.invokevirtual 260, 3) := dk_182 1 4 (dk_at dksX1_ways_1 0 rfl rfl)
theorem dX1_ways_25 : decode cX1_ways 25 = .ok (.aload_n 0, 1) := dk_42 (dk_at dksX1_ways_1 3 rfl rfl)
theorem dX1_ways_26 : decode cX1_ways 26 = .ok (.getfield 79, 3) := dk_180 0 79 (dk_at dksX1_ways_1 4 rfl rfl)
theorem dX1_ways_29 : decode cX1_ways 29 = .ok (.iconst 0, 1) := dk_3 (dk_at dksX1_ways_1 7 rfl rfl)
theorem dX1_ways_30 : decode cX1_ways 30 = .ok (.laload, 1) := dk_47 (dk_at dksX1_ways_1 8 rfl rfl)
theorem dX1_ways_31 : decode cX1_ways 31 = .ok (.lreturn, 1) := dk_173 (dk_at dksX1_ways_1 9 rfl rfl)
theorem gX1_ways_0 {v1 : Int32} {v2 : Int32} {T : zT} {I : zI} {L : zL} {R : zR} {P : zP} (hx : zXok T R) (h : zMet mX1_isSign 2 0 [.ref 1000, .int v1] T I L R (zqI_ T I L R  (fun (r1 : Int32)  => ((r1 = 0 → P 0 (.long (-1 : Int64)) T I L R) ∧ (¬ r1 = 0 → zMet mX1_isTongue 2 0 [.int v2] T I L R (zqI_ T I L R  (fun (r2 : Int32)  => ((r2 = 0 → P 0 (.long (-1 : Int64)) T I L R) ∧ (¬ r2 = 0 → zMet mX1_read 5 0 [.ref 1000, .int v1, .int v2] T I L R (zqV_IL T R  (fun (I3 : zI) (L4 : zL)  => P 0 (.long (L4 1016 0)) T I3 L4 R))))))))))) : zAW mX1_ways 6 0 0 [(0, .ref 1000), (1, .int v1), (2, .int v2)] [] T I L R P := by
  refine za_aload_n (pc' := 1) 0 dX1_ways_0 rfl rfl rfl ?_
  refine za_iload_n (pc' := 2) 1 dX1_ways_1 rfl rfl rfl ?_
  refine za_callV (κ := 1000) (M2 := mX1_isSign) (d2 := 2) (b2 := 0) (n := 1) (As := [.int v1]) (st := []) (pc' := 5) zc0 (by decide) (congrArg Prod.fst (zX_t1000 hx)) dX1_ways_2 rfl (lw_V q1066 q1068 qs32 q131 q1069) ⟨rfl, hd_X1_isSign⟩ rfl (by decide) (by decide) (Nat.zero_le _) (Or.inl rfl) (Nat.le_of_ble_eq_true rfl) h (zqI__k rfl (fun r1 h => ?_)) (fun _ _ _ _ _ _ h9 h8 => absurd h8.1 h9) rfl
  refine za_if_eq (pc' := 8) (tgt := 15) dX1_ways_5 (by decide) rfl (fun c9 => ?_) (fun c9 => ?_)
  · replace h := h.1 c9
    refine za_ldc2 (pc' := 18) (v := (-1 : Int64)) (own := "") dX1_ways_15 q1082 rfl ?_
    exact za_lreturn rfl dX1_ways_18 h
  · replace h := h.2 c9
    refine za_iload_n (pc' := 9) 2 dX1_ways_8 rfl rfl rfl ?_
    refine za_callS (M2 := mX1_isTongue) (d2 := 2) (b2 := 0) (n := 1) (As := [.int v2]) (st := []) (pc' := 12) dX1_ways_9 rfl (lw_S q1075 q1076 q131 q1077) hd_X1_isTongue rfl (by decide) (by decide) (Nat.zero_le _) (Or.inl rfl) (Nat.le_of_ble_eq_true rfl) h (zqI__k rfl (fun r2 h => ?_)) (fun _ _ _ _ _ _ h9 h8 => absurd h8.1 h9) rfl
    refine za_if_ne (pc' := 15) (tgt := 19) dX1_ways_12 (by decide) rfl (fun c9 => ?_) (fun c9 => ?_)
    · replace h := h.2 c9
      refine za_aload_n (pc' := 20) 0 dX1_ways_19 rfl rfl rfl ?_
      refine za_iload_n (pc' := 21) 1 dX1_ways_20 rfl rfl rfl ?_
      refine za_iload_n (pc' := 22) 2 dX1_ways_21 rfl rfl rfl ?_
      refine za_callV (κ := 1000) (M2 := mX1_read) (d2 := 5) (b2 := 0) (n := 2) (As := [.int v1, .int v2]) (st := []) (pc' := 25) zc0 (by decide) (congrArg Prod.fst (zX_t1000 hx)) dX1_ways_22 rfl (lw_V q1083 q1085 qs33 q131 q1086) ⟨rfl, hd_X1_read⟩ rfl (by decide) (by decide) (Nat.zero_le _) (Or.inl rfl) (Nat.le_of_ble_eq_true rfl) h (zqV_IL_k rfl (fun I3 L4 h => ?_)) (fun _ _ _ _ _ _ h9 h8 => absurd h8.1 h9) rfl
      refine za_aload_n (pc' := 26) 0 dX1_ways_25 rfl rfl rfl ?_
      refine za_get (fi := 15) (v := .ref 1016) (pc' := 29) dX1_ways_26 zc0 (by decide) in_X1 (by decide) q505 (Or.inl rfl) (congrArg Prod.fst (zX_t1000 hx)) (congrArg Value.ref (zX_r1000_15 hx)) rfl ?_
      refine za_iconst (pc' := 30) dX1_ways_29 zi_0 rfl ?_
      refine za_lald (v := .long (L4 1016 0)) (pc' := 31) dX1_ways_30 (zX_t1016 hx) (zin (by decide)) (congrArg Value.long (zix zn_0 (rfl))) rfl ?_
      exact za_lreturn rfl dX1_ways_31 h
    · replace h := h.1 c9
      refine za_ldc2 (pc' := 18) (v := (-1 : Int64)) (own := "") dX1_ways_15 q1082 rfl ?_
      exact za_lreturn rfl dX1_ways_18 h
theorem sX1_ways {d b : Nat} {v1 : Int32} {v2 : Int32} {T : zT} {I : zI} {L : zL} {R : zR} {P : zP} (h : zAW mX1_ways d b 0 [(0, .ref 1000), (1, .int v1), (2, .int v2)] [] T I L R P) : zMet mX1_ways d b [.ref 1000, .int v1, .int v2] T I L R P := zMet_of (by decide +kernel) rfl (Nat.le_of_ble_eq_true rfl) rfl h
/-! TwoTongues.read (II)V -/
def dkwX1_read_1 : List UInt8 := [28, 182, 0, 252, 182, 0, 255, 177]
abbrev dktX1_read_1 : List UInt8 := dkwX1_read_1 ++ []
def dkwX1_read_0 : List UInt8 := [42, 42, 180, 0, 64, 180, 0, 161, 28, 50, 42, 180, 0, 64, 180, 0, 186, 27, 50, 42, 27, 182, 0, 248]
abbrev dktX1_read_0 : List UInt8 := dkwX1_read_0 ++ dktX1_read_1
theorem dksX1_read_0 : cX1_read.data.toList.drop 0 = dktX1_read_0 := by decide +kernel
theorem dksX1_read_1 : cX1_read.data.toList.drop 24 = dktX1_read_1 := dk_seg dksX1_read_0 24 rfl rfl
theorem dX1_read_0 : decode cX1_read 0 = .ok (.aload_n 0, 1) := dk_42 (dk_at dksX1_read_0 0 rfl rfl)
theorem dX1_read_1 : decode cX1_read 1 = .ok (.aload_n 0, 1) := dk_42 (dk_at dksX1_read_0 1 rfl rfl)
theorem dX1_read_2 : decode cX1_read 2 = .ok (.getfield 64, 3) := dk_180 0 64 (dk_at dksX1_read_0 2 rfl rfl)
theorem dX1_read_5 : decode cX1_read 5 = .ok (.getfield 161, 3) := dk_180 0 161 (dk_at dksX1_read_0 5 rfl rfl)
theorem dX1_read_8 : decode cX1_read 8 = .ok (.iload_n 2, 1) := dk_28 (dk_at dksX1_read_0 8 rfl rfl)
theorem dX1_read_9 : decode cX1_read 9 = .ok (.aaload, 1) := dk_50 (dk_at dksX1_read_0 9 rfl rfl)
theorem dX1_read_10 : decode cX1_read 10 = .ok (.aload_n 0, 1) := dk_42 (dk_at dksX1_read_0 10 rfl rfl)
theorem dX1_read_11 : decode cX1_read 11 = .ok (.getfield 64, 3) := dk_180 0 64 (dk_at dksX1_read_0 11 rfl rfl)
theorem dX1_read_14 : decode cX1_read 14 = .ok (.getfield 186, 3) := dk_180 0 186 (dk_at dksX1_read_0 14 rfl rfl)
theorem dX1_read_17 : decode cX1_read 17 = .ok (.iload_n 1, 1) := dk_27 (dk_at dksX1_read_0 17 rfl rfl)
theorem dX1_read_18 : decode cX1_read 18 = .ok (.aaload, 1) := dk_50 (dk_at dksX1_read_0 18 rfl rfl)
theorem dX1_read_19 : decode cX1_read 19 = .ok (.aload_n 0, 1) := dk_42 (dk_at dksX1_read_0 19 rfl rfl)
theorem dX1_read_20 : decode cX1_read 20 = .ok (.iload_n 1, 1) := dk_27 (dk_at dksX1_read_0 20 rfl rfl)
theorem dX1_read_21 : decode cX1_read 21 = .ok (.invokevirtual 248, 3) := dk_182 0 248 (dk_at dksX1_read_0 21 rfl rfl)
theorem dX1_read_24 : decode cX1_read 24 = .ok (.iload_n 2, 1) := dk_28 (dk_at dksX1_read_1 0 rfl rfl)
theorem dX1_read_25 : decode cX1_read 25 = .ok (.invokevirtual 252, 3) := dk_182 0 252 (dk_at dksX1_read_1 1 rfl rfl)
theorem dX1_read_28 : decode cX1_read 28 = .ok (.invokevirtual 255, 3) := dk_182 0 255 (dk_at dksX1_read_1 4 rfl rfl)
theorem dX1_read_31 : decode cX1_read 31 = .ok (.return_, 1) := dk_177 (dk_at dksX1_read_1 7 rfl rfl)
theorem gX1_read_0 {v1 : Int32} {v2 : Int32} {T : zT} {I : zI} {L : zL} {R : zR} {P : zP} (hx : zXok T R) (h : vp_in v2 2 ∧ vp_in v1 6 ∧ zMet mX1_kindOf 4 0 [.ref 1000, .int v1] T I L R (zqR_ T I L R  (fun (r3 : Nat)  => ((((T r3).1 = 6 ∧ zMet mX6_isFromRight 1 0 [.ref r3, .int v2] T I L R (zqI_ T I L R  (fun (r4 : Int32)  => zAW mX1_read 5 0 28 [] [.int r4, .ref (R 1202 (v1.toNatClampNeg)), .ref (R 1201 (v2.toNatClampNeg)), .ref 1000] T I L R P)))) ∨ (((T r3).1 = 7 ∧ zMet mX7_isFromRight 1 0 [.ref r3, .int v2] T I L R (zqI_ T I L R  (fun (r5 : Int32)  => zAW mX1_read 5 0 28 [] [.int r5, .ref (R 1202 (v1.toNatClampNeg)), .ref (R 1201 (v2.toNatClampNeg)), .ref 1000] T I L R P)))) ∨ (((T r3).1 = 8 ∧ zMet mX8_isFromRight 1 0 [.ref r3, .int v2] T I L R (zqI_ T I L R  (fun (r6 : Int32)  => zAW mX1_read 5 0 28 [] [.int r6, .ref (R 1202 (v1.toNatClampNeg)), .ref (R 1201 (v2.toNatClampNeg)), .ref 1000] T I L R P)))) ∨ (((T r3).1 = 9 ∧ zMet mX9_isFromRight 2 0 [.ref r3, .int v2] T I L R (zqI_ T I L R  (fun (r7 : Int32)  => zAW mX1_read 5 0 28 [] [.int r7, .ref (R 1202 (v1.toNatClampNeg)), .ref (R 1201 (v2.toNatClampNeg)), .ref 1000] T I L R P)))))))) : zAW mX1_read 5 0 0 [(0, .ref 1000), (1, .int v1), (2, .int v2)] [] T I L R P := by
  refine za_aload_n (pc' := 1) 0 dX1_read_0 rfl rfl rfl ?_
  refine za_aload_n (pc' := 2) 0 dX1_read_1 rfl rfl rfl ?_
  refine za_get (fi := 10) (v := .ref 1200) (pc' := 5) dX1_read_2 zc0 (by decide) in_X1 (by decide) q500 (Or.inl rfl) (congrArg Prod.fst (zX_t1000 hx)) (congrArg Value.ref (zX_r1000_10 hx)) rfl ?_
  refine za_getN (fi := 0) (v := .ref 1201) (pc' := 8) dX1_read_5 zc9 (by decide) in_X10 (by decide) q416 (Or.inl rfl) (congrArg Prod.fst (zX_t1200 hx)) (congrArg Value.ref (zX_r1200_0 hx)) rfl ?_
  refine za_iload_n (pc' := 9) 2 dX1_read_8 rfl rfl rfl ?_
  obtain ⟨hi1, h⟩ := h
  refine za_aald (r := (R 1201 (v2.toNatClampNeg))) (t := 4) (C := RX4) (pc' := 10) dX1_read_9 (by decide) (fun _ => rfl) (zX_t1201 hx) hi1 (rfl) rfl ?_
  refine za_aload_n (pc' := 11) 0 dX1_read_10 rfl rfl rfl ?_
  refine za_get (fi := 10) (v := .ref 1200) (pc' := 14) dX1_read_11 zc0 (by decide) in_X1 (by decide) q500 (Or.inl rfl) (congrArg Prod.fst (zX_t1000 hx)) (congrArg Value.ref (zX_r1000_10 hx)) rfl ?_
  refine za_getN (fi := 1) (v := .ref 1202) (pc' := 17) dX1_read_14 zc9 (by decide) in_X10 (by decide) q418 (Or.inl rfl) (congrArg Prod.fst (zX_t1200 hx)) (congrArg Value.ref (zX_r1200_1 hx)) rfl ?_
  refine za_iload_n (pc' := 18) 1 dX1_read_17 rfl rfl rfl ?_
  obtain ⟨hi2, h⟩ := h
  refine za_aald (r := (R 1202 (v1.toNatClampNeg))) (t := 5) (C := RX11) (pc' := 19) dX1_read_18 (by decide) (fun _ => rfl) (zX_t1202 hx) hi2 (rfl) rfl ?_
  refine za_aload_n (pc' := 20) 0 dX1_read_19 rfl rfl rfl ?_
  refine za_iload_n (pc' := 21) 1 dX1_read_20 rfl rfl rfl ?_
  refine za_callV (κ := 1000) (M2 := mX1_kindOf) (d2 := 4) (b2 := 0) (n := 1) (As := [.int v1]) (st := [.ref (R 1202 (v1.toNatClampNeg)), .ref (R 1201 (v2.toNatClampNeg)), .ref 1000]) (pc' := 24) zc0 (by decide) (congrArg Prod.fst (zX_t1000 hx)) dX1_read_21 rfl (lw_V q1087 q1089 qs34 q131 q1090) ⟨rfl, hd_X1_kindOf⟩ rfl (by decide) (by decide) (Nat.zero_le _) (Or.inl rfl) (Nat.le_of_ble_eq_true rfl) h (zqR__k rfl (fun r3 h => ?_)) (fun _ _ _ _ _ _ h9 h8 => absurd h8.1 h9) rfl
  refine za_iload_n (pc' := 25) 2 dX1_read_24 rfl rfl rfl ?_
  rcases h with h | h | h | h
  · obtain ⟨h0, h⟩ := h
    exact za_callU (κ := r3) (owner := "TwoTongues$Kind") (x9 := ⟨"TwoTongues$Kind", "isFromRight", "(I)Z"⟩) (M2 := mX6_isFromRight) (d2 := 1) (b2 := 0) (n := 1) (As := [.int v2]) (st := [.ref (R 1202 (v1.toNatClampNeg)), .ref (R 1201 (v2.toNatClampNeg)), .ref 1000]) (pc' := 28) zc5 (by decide) h0 dX1_read_25 rfl (lw_U q1093 q1095 q1105 q1106 q139 q1107) q1094 hdx_kind rfl (by decide) (by decide) (Nat.zero_le _) (Or.inl rfl) (Nat.le_of_ble_eq_true rfl) h (zqI__k rfl (fun r4 h => zAW_sub [] rfl h)) (fun _ _ _ _ _ _ h9 h8 => absurd h8.1 h9) rfl
  · obtain ⟨h0, h⟩ := h
    exact za_callU (κ := r3) (owner := "TwoTongues$Kind") (x9 := ⟨"TwoTongues$Kind", "isFromRight", "(I)Z"⟩) (M2 := mX7_isFromRight) (d2 := 1) (b2 := 0) (n := 1) (As := [.int v2]) (st := [.ref (R 1202 (v1.toNatClampNeg)), .ref (R 1201 (v2.toNatClampNeg)), .ref 1000]) (pc' := 28) zc6 (by decide) h0 dX1_read_25 rfl (lw_U q1093 q1095 q1102 q1103 q140 q1104) q1094 hdx_kind rfl (by decide) (by decide) (Nat.zero_le _) (Or.inl rfl) (Nat.le_of_ble_eq_true rfl) h (zqI__k rfl (fun r5 h => zAW_sub [] rfl h)) (fun _ _ _ _ _ _ h9 h8 => absurd h8.1 h9) rfl
  · obtain ⟨h0, h⟩ := h
    exact za_callU (κ := r3) (owner := "TwoTongues$Kind") (x9 := ⟨"TwoTongues$Kind", "isFromRight", "(I)Z"⟩) (M2 := mX8_isFromRight) (d2 := 1) (b2 := 0) (n := 1) (As := [.int v2]) (st := [.ref (R 1202 (v1.toNatClampNeg)), .ref (R 1201 (v2.toNatClampNeg)), .ref 1000]) (pc' := 28) zc7 (by decide) h0 dX1_read_25 rfl (lw_U q1093 q1095 q1108 q1100 q141 q1101) q1094 hdx_kind rfl (by decide) (by decide) (Nat.zero_le _) (Or.inl rfl) (Nat.le_of_ble_eq_true rfl) h (zqI__k rfl (fun r6 h => zAW_sub [] rfl h)) (fun _ _ _ _ _ _ h9 h8 => absurd h8.1 h9) rfl
  · obtain ⟨h0, h⟩ := h
    exact za_callU (κ := r3) (owner := "TwoTongues$Kind") (x9 := ⟨"TwoTongues$Kind", "isFromRight", "(I)Z"⟩) (M2 := mX9_isFromRight) (d2 := 2) (b2 := 0) (n := 1) (As := [.int v2]) (st := [.ref (R 1202 (v1.toNatClampNeg)), .ref (R 1201 (v2.toNatClampNeg)), .ref 1000]) (pc' := 28) zc8 (by decide) h0 dX1_read_25 rfl (lw_U q1093 q1095 q1096 q1097 q142 q1098) q1094 hdx_kind rfl (by decide) (by decide) (Nat.zero_le _) (Or.inl rfl) (Nat.le_of_ble_eq_true rfl) h (zqI__k rfl (fun r7 h => zAW_sub [] rfl h)) (fun _ _ _ _ _ _ h9 h8 => absurd h8.1 h9) rfl
theorem gX1_read_28 {s0 : Int32} {s1 : Nat} {s2 : Nat} {s3 : Nat} {T : zT} {I : zI} {L : zL} {R : zR} {P : zP} (hx : zXok T R) (h : (T s3).1 = 1 ∧ zMet mX1_read_2 4 0 [.ref s3, .ref s2, .ref s1, .int s0] T I L R (zqV_IL T R  (fun (I8 : zI) (L9 : zL)  => P 0 (.int 0) T I8 L9 R))) : zAW mX1_read 5 0 28 [] [.int s0, .ref s1, .ref s2, .ref s3] T I L R P := by
  obtain ⟨ht10, h⟩ := h
  refine za_callV (κ := s3) (M2 := mX1_read_2) (d2 := 4) (b2 := 0) (n := 3) (As := [.ref s2, .ref s1, .int s0]) (st := []) (pc' := 31) zc0 (by decide) ht10 dX1_read_28 rfl (lw_V q1109 q1111 qs35 q131 q1112) ⟨rfl, hd_X1_read_2⟩ rfl (by decide) (by decide) (Nat.zero_le _) (Or.inl rfl) (Nat.le_of_ble_eq_true rfl) h (zqV_IL_k rfl (fun I8 L9 h => ?_)) (fun _ _ _ _ _ _ h9 h8 => absurd h8.1 h9) rfl
  exact za_return rfl dX1_read_31 h
theorem sX1_read {d b : Nat} {v1 : Int32} {v2 : Int32} {T : zT} {I : zI} {L : zL} {R : zR} {P : zP} (h : zAW mX1_read d b 0 [(0, .ref 1000), (1, .int v1), (2, .int v2)] [] T I L R P) : zMet mX1_read d b [.ref 1000, .int v1, .int v2] T I L R P := zMet_of (by decide +kernel) rfl (Nat.le_of_ble_eq_true rfl) rfl h
/-! TwoTongues.kindOf (I)LTwoTongues$Kind; -/
def dkwX1_kindOf_0 : List UInt8 := [42, 180, 0, 57, 42, 180, 0, 39, 180, 0, 172, 27, 182, 0, 195, 192, 0, 199, 180, 0, 201, 50, 176]
abbrev dktX1_kindOf_0 : List UInt8 := dkwX1_kindOf_0 ++ []
theorem dksX1_kindOf_0 : cX1_kindOf.data.toList.drop 0 = dktX1_kindOf_0 := by decide +kernel
theorem dX1_kindOf_0 : decode cX1_kindOf 0 = .ok (.aload_n 0, 1) := dk_42 (dk_at dksX1_kindOf_0 0 rfl rfl)
theorem dX1_kindOf_1 : decode cX1_kindOf 1 = .ok (.getfield 57, 3) := dk_180 0 57 (dk_at dksX1_kindOf_0 1 rfl rfl)
theorem dX1_kindOf_4 : decode cX1_kindOf 4 = .ok (.aload_n 0, 1) := dk_42 (dk_at dksX1_kindOf_0 4 rfl rfl)
theorem dX1_kindOf_5 : decode cX1_kindOf 5 = .ok (.getfield 39, 3) := dk_180 0 39 (dk_at dksX1_kindOf_0 5 rfl rfl)
theorem dX1_kindOf_8 : decode cX1_kindOf 8 = .ok (.getfield 172, 3) := dk_180 0 172 (dk_at dksX1_kindOf_0 8 rfl rfl)
theorem dX1_kindOf_11 : decode cX1_kindOf 11 = .ok (.iload_n 1, 1) := dk_27 (dk_at dksX1_kindOf_0 11 rfl rfl)
theorem dX1_kindOf_12 : decode cX1_kindOf 12 = .ok (.invokevirtual 195, 3) := dk_182 0 195 (dk_at dksX1_kindOf_0 12 rfl rfl)
theorem dX1_kindOf_15 : decode cX1_kindOf 15 = .ok (.checkcast 199, 3) := dk_192 0 199 (dk_at dksX1_kindOf_0 15 rfl rfl)
theorem dX1_kindOf_18 : decode cX1_kindOf 18 = .ok (.getfield 201, 3) := dk_180 0 201 (dk_at dksX1_kindOf_0 18 rfl rfl)
theorem dX1_kindOf_21 : decode cX1_kindOf 21 = .ok (.aaload, 1) := dk_50 (dk_at dksX1_kindOf_0 21 rfl rfl)
theorem dX1_kindOf_22 : decode cX1_kindOf 22 = .ok (.areturn, 1) := dk_176 (dk_at dksX1_kindOf_0 22 rfl rfl)
theorem gX1_kindOf_0 {v1 : Int32} {T : zT} {I : zI} {L : zL} {R : zR} {P : zP} (hx : zXok T R) (h : (T (R 1000 8)).1 = 3 ∧ (T (R (R 1000 8) 2)).1 = 5 ∧ zMet mJ2_get 3 0 [.ref (R (R 1000 8) 2), .int v1] T I L R (zqR_ T I L R  (fun (r2 : Nat)  => (T r2).1 = 15 ∧ vp_in (I r2 1) 4 ∧ P 0 (.ref (R 1010 ((I r2 1).toNatClampNeg))) T I L R))) : zAW mX1_kindOf 4 0 0 [(0, .ref 1000), (1, .int v1)] [] T I L R P := by
  refine za_aload_n (pc' := 1) 0 dX1_kindOf_0 rfl rfl rfl ?_
  refine za_get (fi := 9) (v := .ref 1010) (pc' := 4) dX1_kindOf_1 zc0 (by decide) in_X1 (by decide) q499 (Or.inl rfl) (congrArg Prod.fst (zX_t1000 hx)) (congrArg Value.ref (zX_r1000_9 hx)) rfl ?_
  refine za_aload_n (pc' := 5) 0 dX1_kindOf_4 rfl rfl rfl ?_
  refine za_get (fi := 8) (v := .ref (R 1000 8)) (pc' := 8) dX1_kindOf_5 zc0 (by decide) in_X1 (by decide) q498 (Or.inl rfl) (congrArg Prod.fst (zX_t1000 hx)) rfl rfl ?_
  obtain ⟨ht1, h⟩ := h
  refine za_getN (fi := 2) (v := .ref (R (R 1000 8) 2)) (pc' := 11) dX1_kindOf_8 zc2 (by decide) in_X3 (by decide) q278 (Or.inl rfl) ht1 rfl rfl ?_
  refine za_iload_n (pc' := 12) 1 dX1_kindOf_11 rfl rfl rfl ?_
  obtain ⟨ht3, h⟩ := h
  refine za_callV (κ := (R (R 1000 8) 2)) (M2 := mJ2_get) (d2 := 3) (b2 := 0) (n := 1) (As := [.int v1]) (st := [.ref 1010]) (pc' := 15) zc4 (by decide) ht3 dX1_kindOf_12 rfl (lw_V q1091 q470 q471 q137 q472) ⟨rfl, hd_J2_get⟩ rfl (by decide) (by decide) (Nat.zero_le _) (Or.inl rfl) (Nat.le_of_ble_eq_true rfl) h (zqR__k rfl (fun r2 h => ?_)) (fun _ _ _ _ _ _ h9 h8 => absurd h8.1 h9) rfl
  obtain ⟨ht4, h⟩ := h
  refine za_cast (pc' := 18) dX1_kindOf_15 q1092 zc14 (by decide) ht4 rfl ?_
  refine za_getN (fi := 1) (v := .int (I r2 1)) (pc' := 21) dX1_kindOf_18 zc14 (by decide) in_X15 (by decide) q859 (Or.inl rfl) ht4 rfl rfl ?_
  obtain ⟨hi5, h⟩ := h
  refine za_aald (r := (R 1010 ((I r2 1).toNatClampNeg))) (t := 8) (C := RX5) (pc' := 22) dX1_kindOf_21 (by decide) (fun _ => rfl) (zX_t1010 hx) hi5 (rfl) rfl ?_
  exact za_areturn rfl dX1_kindOf_22 (Or.inl ⟨_, rfl⟩) h
theorem sX1_kindOf {d b : Nat} {v1 : Int32} {T : zT} {I : zI} {L : zL} {R : zR} {P : zP} (h : zAW mX1_kindOf d b 0 [(0, .ref 1000), (1, .int v1)] [] T I L R P) : zMet mX1_kindOf d b [.ref 1000, .int v1] T I L R P := zMet_of (by decide +kernel) rfl (Nat.le_of_ble_eq_true rfl) rfl h
/-! TwoTongues.read (LTwoTongues$Store;LTwoTongues$Row;Z)V -/
def dkwX1_read_2_6 : List UInt8 := [21, 6, 46, 96, 184, 0, 243, 79, 132, 5, 1, 167, 255, 157, 132, 4, 255, 167, 255, 127, 177]
abbrev dktX1_read_2_6 : List UInt8 := dkwX1_read_2_6 ++ []
def dkwX1_read_2_5 : List UInt8 := [180, 0, 82, 21, 4, 42, 180, 0, 82, 21, 4, 46, 43, 180, 0, 229, 21, 5, 46, 42, 180, 0, 82]
abbrev dktX1_read_2_5 : List UInt8 := dkwX1_read_2_5 ++ dktX1_read_2_6
def dkwX1_read_2_4 : List UInt8 := [47, 42, 180, 0, 79, 21, 6, 47, 97, 80, 42, 180, 0, 82, 21, 6, 46, 2, 159, 0, 35, 42]
abbrev dktX1_read_2_4 : List UInt8 := dkwX1_read_2_4 ++ dktX1_read_2_5
def dkwX1_read_2_3 : List UInt8 := [154, 0, 6, 167, 0, 74, 21, 4, 43, 21, 5, 182, 0, 232, 96, 54, 6, 42, 180, 0, 79, 21, 4, 92]
abbrev dktX1_read_2_3 : List UInt8 := dkwX1_read_2_3 ++ dktX1_read_2_4
def dkwX1_read_2_2 : List UInt8 := [79, 3, 54, 5, 21, 5, 43, 180, 0, 225, 162, 0, 96, 43, 21, 5, 44, 29, 21, 4, 184, 0, 239]
abbrev dktX1_read_2_2 : List UInt8 := dkwX1_read_2_2 ++ dktX1_read_2_3
def dkwX1_read_2_1 : List UInt8 := [4, 100, 54, 4, 21, 4, 155, 0, 130, 42, 180, 0, 79, 21, 4, 9, 80, 42, 180, 0, 82, 21, 4, 2]
abbrev dktX1_read_2_1 : List UInt8 := dkwX1_read_2_1 ++ dktX1_read_2_2
def dkwX1_read_2_0 : List UInt8 := [42, 180, 0, 79, 44, 180, 0, 190, 10, 80, 42, 180, 0, 82, 44, 180, 0, 190, 3, 79, 44, 180, 0, 190]
abbrev dktX1_read_2_0 : List UInt8 := dkwX1_read_2_0 ++ dktX1_read_2_1
theorem dksX1_read_2_0 : cX1_read_2.data.toList.drop 0 = dktX1_read_2_0 := by decide +kernel
theorem dksX1_read_2_1 : cX1_read_2.data.toList.drop 24 = dktX1_read_2_1 := dk_seg dksX1_read_2_0 24 rfl rfl
theorem dksX1_read_2_2 : cX1_read_2.data.toList.drop 48 = dktX1_read_2_2 := dk_seg dksX1_read_2_1 24 rfl rfl
theorem dksX1_read_2_3 : cX1_read_2.data.toList.drop 71 = dktX1_read_2_3 := dk_seg dksX1_read_2_2 23 rfl rfl
theorem dksX1_read_2_4 : cX1_read_2.data.toList.drop 95 = dktX1_read_2_4 := dk_seg dksX1_read_2_3 24 rfl rfl
theorem dksX1_read_2_5 : cX1_read_2.data.toList.drop 117 = dktX1_read_2_5 := dk_seg dksX1_read_2_4 22 rfl rfl
theorem dksX1_read_2_6 : cX1_read_2.data.toList.drop 140 = dktX1_read_2_6 := dk_seg dksX1_read_2_5 23 rfl rfl
theorem dX1_read_2_0 : decode cX1_read_2 0 = .ok (.aload_n 0, 1) := dk_42 (dk_at dksX1_read_2_0 0 rfl rfl)
theorem dX1_read_2_1 : decode cX1_read_2 1 = .ok (.getfield 79, 3) := dk_180 0 79 (dk_at dksX1_read_2_0 1 rfl rfl)
theorem dX1_read_2_4 : decode cX1_read_2 4 = .ok (.aload_n 2, 1) := dk_44 (dk_at dksX1_read_2_0 4 rfl rfl)
theorem dX1_read_2_5 : decode cX1_read_2 5 = .ok (.getfield 190, 3) := dk_180 0 190 (dk_at dksX1_read_2_0 5 rfl rfl)
theorem dX1_read_2_8 : decode cX1_read_2 8 = .ok (.lconst 1, 1) := dk_10 (dk_at dksX1_read_2_0 8 rfl rfl)
theorem dX1_read_2_9 : decode cX1_read_2 9 = .ok (.lastore, 1) := dk_80 (dk_at dksX1_read_2_0 9 rfl rfl)
theorem dX1_read_2_10 : decode cX1_read_2 10 = .ok (.aload_n 0, 1) := dk_42 (dk_at dksX1_read_2_0 10 rfl rfl)
theorem dX1_read_2_11 : decode cX1_read_2 11 = .ok (.getfield 82, 3) := dk_180 0 82 (dk_at dksX1_read_2_0 11 rfl rfl)
theorem dX1_read_2_14 : decode cX1_read_2 14 = .ok (.aload_n 2, 1) := dk_44 (dk_at dksX1_read_2_0 14 rfl rfl)
theorem dX1_read_2_15 : decode cX1_read_2 15 = .ok (.getfield 190, 3) := dk_180 0 190 (dk_at dksX1_read_2_0 15 rfl rfl)
theorem dX1_read_2_18 : decode cX1_read_2 18 = .ok (.iconst 0, 1) := dk_3 (dk_at dksX1_read_2_0 18 rfl rfl)
theorem dX1_read_2_19 : decode cX1_read_2 19 = .ok (.iastore, 1) := dk_79 (dk_at dksX1_read_2_0 19 rfl rfl)
theorem dX1_read_2_20 : decode cX1_read_2 20 = .ok (.aload_n 2, 1) := dk_44 (dk_at dksX1_read_2_0 20 rfl rfl)
theorem dX1_read_2_21 : decode cX1_read_2 21 = .ok (.getfield 190, 3) := dk_180 0 190 (dk_at dksX1_read_2_0 21 rfl rfl)
theorem dX1_read_2_24 : decode cX1_read_2 24 = .ok (.iconst 1, 1) := dk_4 (dk_at dksX1_read_2_1 0 rfl rfl)
theorem dX1_read_2_25 : decode cX1_read_2 25 = .ok (.isub, 1) := dk_100 (dk_at dksX1_read_2_1 1 rfl rfl)
theorem dX1_read_2_26 : decode cX1_read_2 26 = .ok (.istore 4, 2) := dk_54 4 (dk_at dksX1_read_2_1 2 rfl rfl)
theorem dX1_read_2_28 : decode cX1_read_2 28 = .ok (.iload 4, 2) := dk_21 4 (dk_at dksX1_read_2_1 4 rfl rfl)
theorem dX1_read_2_30 : decode cX1_read_2 30 = .ok (.ifCond .lt 130, 3) := dk_155 0 130 (dk_at dksX1_read_2_1 6 rfl rfl)
theorem dX1_read_2_33 : decode cX1_read_2 33 = .ok (.aload_n 0, 1) := dk_42 (dk_at dksX1_read_2_1 9 rfl rfl)
theorem dX1_read_2_34 : decode cX1_read_2 34 = .ok (.getfield 79, 3) := dk_180 0 79 (dk_at dksX1_read_2_1 10 rfl rfl)
theorem dX1_read_2_37 : decode cX1_read_2 37 = .ok (.iload 4, 2) := dk_21 4 (dk_at dksX1_read_2_1 13 rfl rfl)
theorem dX1_read_2_39 : decode cX1_read_2 39 = .ok (.lconst 0, 1) := dk_9 (dk_at dksX1_read_2_1 15 rfl rfl)
theorem dX1_read_2_40 : decode cX1_read_2 40 = .ok (.lastore, 1) := dk_80 (dk_at dksX1_read_2_1 16 rfl rfl)
theorem dX1_read_2_41 : decode cX1_read_2 41 = .ok (.aload_n 0, 1) := dk_42 (dk_at dksX1_read_2_1 17 rfl rfl)
theorem dX1_read_2_42 : decode cX1_read_2 42 = .ok (.getfield 82, 3) := dk_180 0 82 (dk_at dksX1_read_2_1 18 rfl rfl)
theorem dX1_read_2_45 : decode cX1_read_2 45 = .ok (.iload 4, 2) := dk_21 4 (dk_at dksX1_read_2_1 21 rfl rfl)
theorem dX1_read_2_47 : decode cX1_read_2 47 = .ok (.iconst (-1), 1) := dk_2 (dk_at dksX1_read_2_1 23 rfl rfl)
theorem dX1_read_2_48 : decode cX1_read_2 48 = .ok (.iastore, 1) := dk_79 (dk_at dksX1_read_2_2 0 rfl rfl)
theorem dX1_read_2_49 : decode cX1_read_2 49 = .ok (.iconst 0, 1) := dk_3 (dk_at dksX1_read_2_2 1 rfl rfl)
theorem dX1_read_2_50 : decode cX1_read_2 50 = .ok (.istore 5, 2) := dk_54 5 (dk_at dksX1_read_2_2 2 rfl rfl)
theorem dX1_read_2_52 : decode cX1_read_2 52 = .ok (.iload 5, 2) := dk_21 5 (dk_at dksX1_read_2_2 4 rfl rfl)
theorem dX1_read_2_54 : decode cX1_read_2 54 = .ok (.aload_n 1, 1) := dk_43 (dk_at dksX1_read_2_2 6 rfl rfl)
theorem dX1_read_2_55 : decode cX1_read_2 55 = .ok (.getfield 225, 3) := dk_180 0 225 (dk_at dksX1_read_2_2 7 rfl rfl)
theorem dX1_read_2_58 : decode cX1_read_2 58 = .ok (.if_icmp .ge 96, 3) := dk_162 0 96 (dk_at dksX1_read_2_2 10 rfl rfl)
theorem dX1_read_2_61 : decode cX1_read_2 61 = .ok (.aload_n 1, 1) := dk_43 (dk_at dksX1_read_2_2 13 rfl rfl)
theorem dX1_read_2_62 : decode cX1_read_2 62 = .ok (.iload 5, 2) := dk_21 5 (dk_at dksX1_read_2_2 14 rfl rfl)
theorem dX1_read_2_64 : decode cX1_read_2 64 = .ok (.aload_n 2, 1) := dk_44 (dk_at dksX1_read_2_2 16 rfl rfl)
theorem dX1_read_2_65 : decode cX1_read_2 65 = .ok (.iload_n 3, 1) := dk_29 (dk_at dksX1_read_2_2 17 rfl rfl)
theorem dX1_read_2_66 : decode cX1_read_2 66 = .ok (.iload 4, 2) := dk_21 4 (dk_at dksX1_read_2_2 18 rfl rfl)
theorem dX1_read_2_68 : decode cX1_read_2 68 = .ok (.invokestatic 239, 3) := dk_184 0 239 (dk_at dksX1_read_2_2 20 rfl rfl)
theorem dX1_read_2_71 : decode cX1_read_2 71 = .ok (.ifCond .ne 6, 3) := dk_154 0 6 (dk_at dksX1_read_2_3 0 rfl rfl)
theorem dX1_read_2_74 : decode cX1_read_2 74 = .ok (.goto 74, 3) := dk_167 0 74 (dk_at dksX1_read_2_3 3 rfl rfl)
theorem dX1_read_2_77 : decode cX1_read_2 77 = .ok (.iload 4, 2) := dk_21 4 (dk_at dksX1_read_2_3 6 rfl rfl)
theorem dX1_read_2_79 : decode cX1_read_2 79 = .ok (.aload_n 1, 1) := dk_43 (dk_at dksX1_read_2_3 8 rfl rfl)
theorem dX1_read_2_80 : decode cX1_read_2 80 = .ok (.iload 5, 2) := dk_21 5 (dk_at dksX1_read_2_3 9 rfl rfl)
theorem dX1_read_2_82 : decode cX1_read_2 82 = .ok (.invokevirtual 232, 3) := dk_182 0 232 (dk_at dksX1_read_2_3 11 rfl rfl)
theorem dX1_read_2_85 : decode cX1_read_2 85 = .ok (.iadd, 1) := dk_96 (dk_at dksX1_read_2_3 14 rfl rfl)
theorem dX1_read_2_86 : decode cX1_read_2 86 = .ok (.istore 6, 2) := dk_54 6 (dk_at dksX1_read_2_3 15 rfl rfl)
theorem dX1_read_2_88 : decode cX1_read_2 88 = .ok (.aload_n 0, 1) := dk_42 (dk_at dksX1_read_2_3 17 rfl rfl)
theorem dX1_read_2_89 : decode cX1_read_2 89 = .ok (.getfield 79, 3) := dk_180 0 79 (dk_at dksX1_read_2_3 18 rfl rfl)
theorem dX1_read_2_92 : decode cX1_read_2 92 = .ok (.iload 4, 2) := dk_21 4 (dk_at dksX1_read_2_3 21 rfl rfl)
theorem dX1_read_2_94 : decode cX1_read_2 94 = .ok (.dup2, 1) := dk_92 (dk_at dksX1_read_2_3 23 rfl rfl)
theorem dX1_read_2_95 : decode cX1_read_2 95 = .ok (.laload, 1) := dk_47 (dk_at dksX1_read_2_4 0 rfl rfl)
theorem dX1_read_2_96 : decode cX1_read_2 96 = .ok (.aload_n 0, 1) := dk_42 (dk_at dksX1_read_2_4 1 rfl rfl)
theorem dX1_read_2_97 : decode cX1_read_2 97 = .ok (.getfield 79, 3) := dk_180 0 79 (dk_at dksX1_read_2_4 2 rfl rfl)
theorem dX1_read_2_100 : decode cX1_read_2 100 = .ok (.iload 6, 2) := dk_21 6 (dk_at dksX1_read_2_4 5 rfl rfl)
theorem dX1_read_2_102 : decode cX1_read_2 102 = .ok (.laload, 1) := dk_47 (dk_at dksX1_read_2_4 7 rfl rfl)
theorem dX1_read_2_103 : decode cX1_read_2 103 = .ok (.ladd, 1) := dk_97 (dk_at dksX1_read_2_4 8 rfl rfl)
theorem dX1_read_2_104 : decode cX1_read_2 104 = .ok (.lastore, 1) := dk_80 (dk_at dksX1_read_2_4 9 rfl rfl)
theorem dX1_read_2_105 : decode cX1_read_2 105 = .ok (.aload_n 0, 1) := dk_42 (dk_at dksX1_read_2_4 10 rfl rfl)
theorem dX1_read_2_106 : decode cX1_read_2 106 = .ok (.getfield 82, 3) := dk_180 0 82 (dk_at dksX1_read_2_4 11 rfl rfl)
theorem dX1_read_2_109 : decode cX1_read_2 109 = .ok (.iload 6, 2) := dk_21 6 (dk_at dksX1_read_2_4 14 rfl rfl)
theorem dX1_read_2_111 : decode cX1_read_2 111 = .ok (.iaload, 1) := dk_46 (dk_at dksX1_read_2_4 16 rfl rfl)
theorem dX1_read_2_112 : decode cX1_read_2 112 = .ok (.iconst (-1), 1) := dk_2 (dk_at dksX1_read_2_4 17 rfl rfl)
theorem dX1_read_2_113 : decode cX1_read_2 113 = .ok (.if_icmp .eq 35, 3) := dk_159 0 35 (dk_at dksX1_read_2_4 18 rfl rfl)
theorem dX1_read_2_116 : decode cX1_read_2 116 = .ok (.aload_n 0, 1) := dk_42 (dk_at dksX1_read_2_4 21 rfl rfl)
theorem dX1_read_2_117 : decode cX1_read_2 117 = .ok (.getfield 82, 3) := dk_180 0 82 (dk_at dksX1_read_2_5 0 rfl rfl)
theorem dX1_read_2_120 : decode cX1_read_2 120 = .ok (.iload 4, 2) := dk_21 4 (dk_at dksX1_read_2_5 3 rfl rfl)
theorem dX1_read_2_122 : decode cX1_read_2 122 = .ok (.aload_n 0, 1) := dk_42 (dk_at dksX1_read_2_5 5 rfl rfl)
theorem dX1_read_2_123 : decode cX1_read_2 123 = .ok (.getfield 82, 3) := dk_180 0 82 (dk_at dksX1_read_2_5 6 rfl rfl)
theorem dX1_read_2_126 : decode cX1_read_2 126 = .ok (.iload 4, 2) := dk_21 4 (dk_at dksX1_read_2_5 9 rfl rfl)
theorem dX1_read_2_128 : decode cX1_read_2 128 = .ok (.iaload, 1) := dk_46 (dk_at dksX1_read_2_5 11 rfl rfl)
theorem dX1_read_2_129 : decode cX1_read_2 129 = .ok (.aload_n 1, 1) := dk_43 (dk_at dksX1_read_2_5 12 rfl rfl)
theorem dX1_read_2_130 : decode cX1_read_2 130 = .ok (.getfield 229, 3) := dk_180 0 229 (dk_at dksX1_read_2_5 13 rfl rfl)
theorem dX1_read_2_133 : decode cX1_read_2 133 = .ok (.iload 5, 2) := dk_21 5 (dk_at dksX1_read_2_5 16 rfl rfl)
theorem dX1_read_2_135 : decode cX1_read_2 135 = .ok (.iaload, 1) := dk_46 (dk_at dksX1_read_2_5 18 rfl rfl)
theorem dX1_read_2_136 : decode cX1_read_2 136 = .ok (.aload_n 0, 1) := dk_42 (dk_at dksX1_read_2_5 19 rfl rfl)
theorem dX1_read_2_137 : decode cX1_read_2 137 = .ok (.getfield 82, 3) := dk_180 0 82 (dk_at dksX1_read_2_5 20 rfl rfl)
theorem dX1_read_2_140 : decode cX1_read_2 140 = .ok (.iload 6, 2) := dk_21 6 (dk_at dksX1_read_2_6 0 rfl rfl)
theorem dX1_read_2_142 : decode cX1_read_2 142 = .ok (.iaload, 1) := dk_46 (dk_at dksX1_read_2_6 2 rfl rfl)
theorem dX1_read_2_143 : decode cX1_read_2 143 = .ok (.iadd, 1) := dk_96 (dk_at dksX1_read_2_6 3 rfl rfl)
theorem dX1_read_2_144 : decode cX1_read_2 144 = .ok (.invokestatic 243, 3) := dk_184 0 243 (dk_at dksX1_read_2_6 4 rfl rfl)
theorem dX1_read_2_147 : decode cX1_read_2 147 = .ok (.iastore, 1) := dk_79 (dk_at dksX1_read_2_6 7 rfl rfl)
theorem dX1_read_2_148 : decode cX1_read_2 148 = .ok (.iinc 5 1, 3) := dk_132 5 1 (dk_at dksX1_read_2_6 8 rfl rfl)
theorem dX1_read_2_151 : decode cX1_read_2 151 = .ok (.goto (-99), 3) := dk_167 255 157 (dk_at dksX1_read_2_6 11 rfl rfl)
theorem dX1_read_2_154 : decode cX1_read_2 154 = .ok (.iinc 4 (-1), 3) := dk_132 4 255 (dk_at dksX1_read_2_6 14 rfl rfl)
theorem dX1_read_2_157 : decode cX1_read_2 157 = .ok (.goto (-129), 3) := dk_167 255 127 (dk_at dksX1_read_2_6 17 rfl rfl)
theorem dX1_read_2_160 : decode cX1_read_2 160 = .ok (.return_, 1) := dk_177 (dk_at dksX1_read_2_6 20 rfl rfl)
theorem gX1_read_2_0 {v1 : Nat} {v2 : Nat} {v3 : Int32} {T : zT} {I : zI} {L : zL} {R : zR} {P : zP} (hx : zXok T R) (h : (T v2).1 = 11 ∧ vp_in (I v2 1) 13 ∧ zAW mX1_read_2 4 0 28 [(0, .ref 1000), (1, .ref v1), (2, .ref v2), (3, .int v3), (4, .int (((z2 I 1017 ((I v2 1).toNatClampNeg) (0 : Int32)) v2 1) - (1 : Int32)))] [] T (z2 I 1017 ((I v2 1).toNatClampNeg) (0 : Int32)) (z2 L 1016 ((I v2 1).toNatClampNeg) (1 : Int64)) R P) : zAW mX1_read_2 4 0 0 [(0, .ref 1000), (1, .ref v1), (2, .ref v2), (3, .int v3)] [] T I L R P := by
  refine za_aload_n (pc' := 1) 0 dX1_read_2_0 rfl rfl rfl ?_
  refine za_get (fi := 15) (v := .ref 1016) (pc' := 4) dX1_read_2_1 zc0 (by decide) in_X1 (by decide) q505 (Or.inl rfl) (congrArg Prod.fst (zX_t1000 hx)) (congrArg Value.ref (zX_r1000_15 hx)) rfl ?_
  refine za_aload_n (pc' := 5) 2 dX1_read_2_4 rfl rfl rfl ?_
  obtain ⟨ht1, h⟩ := h
  refine za_getN (fi := 1) (v := .int (I v2 1)) (pc' := 8) dX1_read_2_5 zc10 (by decide) in_X11 (by decide) q408 (Or.inl rfl) ht1 rfl rfl ?_
  refine za_lconst (pc' := 9) dX1_read_2_8 zl_1 rfl ?_
  obtain ⟨hi2, h⟩ := h
  refine za_last (k := (I v2 1).toNatClampNeg) (pc' := 10) dX1_read_2_9 (zX_t1016 hx) hi2 rfl rfl ?_
  refine za_aload_n (pc' := 11) 0 dX1_read_2_10 rfl rfl rfl ?_
  refine za_get (fi := 16) (v := .ref 1017) (pc' := 14) dX1_read_2_11 zc0 (by decide) in_X1 (by decide) q506 (Or.inl rfl) (congrArg Prod.fst (zX_t1000 hx)) (congrArg Value.ref (zX_r1000_16 hx)) rfl ?_
  refine za_aload_n (pc' := 15) 2 dX1_read_2_14 rfl rfl rfl ?_
  refine za_getN (fi := 1) (v := .int (I v2 1)) (pc' := 18) dX1_read_2_15 zc10 (by decide) in_X11 (by decide) q408 (Or.inl rfl) ht1 rfl rfl ?_
  refine za_iconst (pc' := 19) dX1_read_2_18 zi_0 rfl ?_
  refine za_iast (k := (I v2 1).toNatClampNeg) (pc' := 20) dX1_read_2_19 (zX_t1017 hx) hi2 rfl rfl ?_
  refine za_aload_n (pc' := 21) 2 dX1_read_2_20 rfl rfl rfl ?_
  refine za_getN (fi := 1) (v := .int ((z2 I 1017 ((I v2 1).toNatClampNeg) (0 : Int32)) v2 1)) (pc' := 24) dX1_read_2_21 zc10 (by decide) in_X11 (by decide) q408 (Or.inl rfl) ht1 rfl rfl ?_
  refine za_iconst (pc' := 25) dX1_read_2_24 zi_1 rfl ?_
  refine za_isub (pc' := 26) dX1_read_2_25 rfl ?_
  refine za_istore (pc' := 28) (l' := [(4, .int (((z2 I 1017 ((I v2 1).toNatClampNeg) (0 : Int32)) v2 1) - (1 : Int32))), (0, .ref 1000), (1, .ref v1), (2, .ref v2), (3, .int v3)]) dX1_read_2_26 (Nat.le_of_ble_eq_true rfl) rfl rfl ?_
  exact zAW_sub [1, 2, 3, 4, 0] rfl h
theorem gX1_read_2_28 {v1 : Nat} {v2 : Nat} {v3 : Int32} {v4 : Int32} {T : zT} {I : zI} {L : zL} {R : zR} {P : zP} (hx : zXok T R) (h : ((v4 < 0 → P 0 (.int 0) T I L R) ∧ (¬ v4 < 0 → vp_in v4 13 ∧ zAW mX1_read_2 4 0 52 [(0, .ref 1000), (1, .ref v1), (2, .ref v2), (3, .int v3), (4, .int v4), (5, .int (0 : Int32))] [] T (z2 I 1017 (v4.toNatClampNeg) (-1 : Int32)) (z2 L 1016 (v4.toNatClampNeg) (0 : Int64)) R P))) : zAW mX1_read_2 4 0 28 [(0, .ref 1000), (1, .ref v1), (2, .ref v2), (3, .int v3), (4, .int v4)] [] T I L R P := by
  refine za_iload (pc' := 30) 4 dX1_read_2_28 rfl rfl ?_
  refine za_if_lt (pc' := 33) (tgt := 160) dX1_read_2_30 (by decide) rfl (fun c9 => ?_) (fun c9 => ?_)
  · replace h := h.1 c9
    exact za_return rfl dX1_read_2_160 h
  · replace h := h.2 c9
    refine za_aload_n (pc' := 34) 0 dX1_read_2_33 rfl rfl rfl ?_
    refine za_get (fi := 15) (v := .ref 1016) (pc' := 37) dX1_read_2_34 zc0 (by decide) in_X1 (by decide) q505 (Or.inl rfl) (congrArg Prod.fst (zX_t1000 hx)) (congrArg Value.ref (zX_r1000_15 hx)) rfl ?_
    refine za_iload (pc' := 39) 4 dX1_read_2_37 rfl rfl ?_
    refine za_lconst (pc' := 40) dX1_read_2_39 zl_0 rfl ?_
    obtain ⟨hi3, h⟩ := h
    refine za_last (k := v4.toNatClampNeg) (pc' := 41) dX1_read_2_40 (zX_t1016 hx) hi3 rfl rfl ?_
    refine za_aload_n (pc' := 42) 0 dX1_read_2_41 rfl rfl rfl ?_
    refine za_get (fi := 16) (v := .ref 1017) (pc' := 45) dX1_read_2_42 zc0 (by decide) in_X1 (by decide) q506 (Or.inl rfl) (congrArg Prod.fst (zX_t1000 hx)) (congrArg Value.ref (zX_r1000_16 hx)) rfl ?_
    refine za_iload (pc' := 47) 4 dX1_read_2_45 rfl rfl ?_
    refine za_iconst (pc' := 48) dX1_read_2_47 zi_m1 rfl ?_
    refine za_iast (k := v4.toNatClampNeg) (pc' := 49) dX1_read_2_48 (zX_t1017 hx) hi3 rfl rfl ?_
    refine za_iconst (pc' := 50) dX1_read_2_49 zi_0 rfl ?_
    refine za_istore (pc' := 52) (l' := [(5, .int (0 : Int32)), (0, .ref 1000), (1, .ref v1), (2, .ref v2), (3, .int v3), (4, .int v4)]) dX1_read_2_50 (Nat.le_of_ble_eq_true rfl) rfl rfl ?_
    exact zAW_sub [1, 2, 3, 4, 5, 0] rfl h
theorem gX1_read_2_52 {v1 : Nat} {v2 : Nat} {v3 : Int32} {v4 : Int32} {v5 : Int32} {T : zT} {I : zI} {L : zL} {R : zR} {P : zP} (hx : zXok T R) (h : (T v1).1 = 4 ∧ (((I v1 2) ≤ v5 → zAW mX1_read_2 4 0 28 [(0, .ref 1000), (1, .ref v1), (2, .ref v2), (3, .int v3), (4, .int (v4 + (-1 : Int32)))] [] T I L R P) ∧ (¬ (I v1 2) ≤ v5 → zMet mX1_stands 3 0 [.ref v1, .int v5, .ref v2, .int v3, .int v4] T I L R (zqI_ T I L R  (fun (r5 : Int32)  => ((r5 = 0 → zAW mX1_read_2 4 0 52 [(0, .ref 1000), (1, .ref v1), (2, .ref v2), (3, .int v3), (4, .int v4), (5, .int (v5 + (1 : Int32)))] [] T I L R P) ∧ (¬ r5 = 0 → zMet mX4_length 2 0 [.ref v1, .int v5] T I L R (zqI_ T I L R  (fun (r6 : Int32)  => vp_in v4 13 ∧ vp_in (v4 + r6) 13 ∧ (((I 1017 ((v4 + r6).toNatClampNeg)) = (-1 : Int32) → zAW mX1_read_2 4 0 52 [(0, .ref 1000), (1, .ref v1), (2, .ref v2), (3, .int v3), (4, .int v4), (5, .int (v5 + (1 : Int32)))] [] T I (z2 L 1016 (v4.toNatClampNeg) ((L 1016 (v4.toNatClampNeg)) + (L 1016 ((v4 + r6).toNatClampNeg)))) R P) ∧ (¬ (I 1017 ((v4 + r6).toNatClampNeg)) = (-1 : Int32) → (T (R v1 1)).1 = 100 ∧ vp_in v5 ((T (R v1 1)).2) ∧ zAW mX1_read_2 4 0 52 [(0, .ref 1000), (1, .ref v1), (2, .ref v2), (3, .int v3), (4, .int v4), (5, .int (v5 + (1 : Int32)))] [] T (z2 I 1017 (v4.toNatClampNeg) (if (I 1017 (v4.toNatClampNeg)) < ((I (R v1 1) (v5.toNatClampNeg)) + (I 1017 ((v4 + r6).toNatClampNeg))) then ((I (R v1 1) (v5.toNatClampNeg)) + (I 1017 ((v4 + r6).toNatClampNeg))) else (I 1017 (v4.toNatClampNeg)))) (z2 L 1016 (v4.toNatClampNeg) ((L 1016 (v4.toNatClampNeg)) + (L 1016 ((v4 + r6).toNatClampNeg)))) R P))))))))))) : zAW mX1_read_2 4 0 52 [(0, .ref 1000), (1, .ref v1), (2, .ref v2), (3, .int v3), (4, .int v4), (5, .int v5)] [] T I L R P := by
  refine za_iload (pc' := 54) 5 dX1_read_2_52 rfl rfl ?_
  refine za_aload_n (pc' := 55) 1 dX1_read_2_54 rfl rfl rfl ?_
  obtain ⟨ht4, h⟩ := h
  refine za_getN (fi := 2) (v := .int (I v1 2)) (pc' := 58) dX1_read_2_55 zc3 (by decide) in_X4 (by decide) q233 (Or.inl rfl) ht4 rfl rfl ?_
  refine za_icmp_ge (pc' := 61) (tgt := 154) dX1_read_2_58 (by decide) rfl (fun c9 => ?_) (fun c9 => ?_)
  · replace h := h.1 c9
    refine za_iinc (pc' := 157) (l' := [(4, .int (v4 + (-1 : Int32))), (0, .ref 1000), (1, .ref v1), (2, .ref v2), (3, .int v3), (5, .int v5)]) 4 dX1_read_2_154 rfl (zinc zi_m1) (Nat.le_of_ble_eq_true rfl) rfl rfl ?_
    refine za_goto (tgt := 28) dX1_read_2_157 (by decide) ?_
    exact zAW_sub [1, 2, 3, 4, 0] rfl h
  · replace h := h.2 c9
    refine za_aload_n (pc' := 62) 1 dX1_read_2_61 rfl rfl rfl ?_
    refine za_iload (pc' := 64) 5 dX1_read_2_62 rfl rfl ?_
    refine za_aload_n (pc' := 65) 2 dX1_read_2_64 rfl rfl rfl ?_
    refine za_iload_n (pc' := 66) 3 dX1_read_2_65 rfl rfl rfl ?_
    refine za_iload (pc' := 68) 4 dX1_read_2_66 rfl rfl ?_
    refine za_callS (M2 := mX1_stands) (d2 := 3) (b2 := 0) (n := 5) (As := [.ref v1, .int v5, .ref v2, .int v3, .int v4]) (st := []) (pc' := 71) dX1_read_2_68 rfl (lw_S q1113 q1114 q131 q1115) hd_X1_stands rfl (by decide) (by decide) (Nat.zero_le _) (Or.inl rfl) (Nat.le_of_ble_eq_true rfl) h (zqI__k rfl (fun r5 h => ?_)) (fun _ _ _ _ _ _ h9 h8 => absurd h8.1 h9) rfl
    refine za_if_ne (pc' := 74) (tgt := 77) dX1_read_2_71 (by decide) rfl (fun c9 => ?_) (fun c9 => ?_)
    · replace h := h.2 c9
      refine za_iload (pc' := 79) 4 dX1_read_2_77 rfl rfl ?_
      refine za_aload_n (pc' := 80) 1 dX1_read_2_79 rfl rfl rfl ?_
      refine za_iload (pc' := 82) 5 dX1_read_2_80 rfl rfl ?_
      refine za_callV (κ := v1) (M2 := mX4_length) (d2 := 2) (b2 := 0) (n := 1) (As := [.int v5]) (st := [.int v4]) (pc' := 85) zc3 (by decide) ht4 dX1_read_2_82 rfl (lw_V q1116 q1117 q1118 q134 q1119) ⟨rfl, hd_X4_length⟩ rfl (by decide) (by decide) (Nat.zero_le _) (Or.inl rfl) (Nat.le_of_ble_eq_true rfl) h (zqI__k rfl (fun r6 h => ?_)) (fun _ _ _ _ _ _ h9 h8 => absurd h8.1 h9) rfl
      refine za_iadd (pc' := 86) dX1_read_2_85 rfl ?_
      refine za_istore (pc' := 88) (l' := [(6, .int (v4 + r6)), (0, .ref 1000), (1, .ref v1), (2, .ref v2), (3, .int v3), (4, .int v4), (5, .int v5)]) dX1_read_2_86 (Nat.le_of_ble_eq_true rfl) rfl rfl ?_
      refine za_aload_n (pc' := 89) 1 dX1_read_2_88 rfl rfl rfl ?_
      refine za_get (fi := 15) (v := .ref 1016) (pc' := 92) dX1_read_2_89 zc0 (by decide) in_X1 (by decide) q505 (Or.inl rfl) (congrArg Prod.fst (zX_t1000 hx)) (congrArg Value.ref (zX_r1000_15 hx)) rfl ?_
      refine za_iload (pc' := 94) 5 dX1_read_2_92 rfl rfl ?_
      refine za_dup2 (pc' := 95) dX1_read_2_94 rfl rfl rfl ?_
      obtain ⟨hi7, h⟩ := h
      refine za_lald (v := .long (L 1016 (v4.toNatClampNeg))) (pc' := 96) dX1_read_2_95 (zX_t1016 hx) hi7 rfl rfl ?_
      refine za_aload_n (pc' := 97) 1 dX1_read_2_96 rfl rfl rfl ?_
      refine za_get (fi := 15) (v := .ref 1016) (pc' := 100) dX1_read_2_97 zc0 (by decide) in_X1 (by decide) q505 (Or.inl rfl) (congrArg Prod.fst (zX_t1000 hx)) (congrArg Value.ref (zX_r1000_15 hx)) rfl ?_
      refine za_iload (pc' := 102) 0 dX1_read_2_100 rfl rfl ?_
      obtain ⟨hi8, h⟩ := h
      refine za_lald (v := .long (L 1016 ((v4 + r6).toNatClampNeg))) (pc' := 103) dX1_read_2_102 (zX_t1016 hx) hi8 rfl rfl ?_
      refine za_ladd (pc' := 104) dX1_read_2_103 rfl ?_
      refine za_last (k := v4.toNatClampNeg) (pc' := 105) dX1_read_2_104 (zX_t1016 hx) hi7 rfl rfl ?_
      refine za_aload_n (pc' := 106) 1 dX1_read_2_105 rfl rfl rfl ?_
      refine za_get (fi := 16) (v := .ref 1017) (pc' := 109) dX1_read_2_106 zc0 (by decide) in_X1 (by decide) q506 (Or.inl rfl) (congrArg Prod.fst (zX_t1000 hx)) (congrArg Value.ref (zX_r1000_16 hx)) rfl ?_
      refine za_iload (pc' := 111) 0 dX1_read_2_109 rfl rfl ?_
      refine za_iald (v := .int (I 1017 ((v4 + r6).toNatClampNeg))) (pc' := 112) dX1_read_2_111 (zX_t1017 hx) hi8 rfl rfl ?_
      refine za_iconst (pc' := 113) dX1_read_2_112 zi_m1 rfl ?_
      refine za_icmp_eq (pc' := 116) (tgt := 148) dX1_read_2_113 (by decide) rfl (fun c9 => ?_) (fun c9 => ?_)
      · replace h := h.1 c9
        refine za_iinc (pc' := 151) (l' := [(5, .int (v5 + (1 : Int32))), (6, .int (v4 + r6)), (0, .ref 1000), (1, .ref v1), (2, .ref v2), (3, .int v3), (4, .int v4)]) 6 dX1_read_2_148 rfl (zinc zi_1) (Nat.le_of_ble_eq_true rfl) rfl rfl ?_
        refine za_goto (tgt := 52) dX1_read_2_151 (by decide) ?_
        exact zAW_sub [2, 3, 4, 5, 6, 0] rfl h
      · replace h := h.2 c9
        refine za_aload_n (pc' := 117) 1 dX1_read_2_116 rfl rfl rfl ?_
        refine za_get (fi := 16) (v := .ref 1017) (pc' := 120) dX1_read_2_117 zc0 (by decide) in_X1 (by decide) q506 (Or.inl rfl) (congrArg Prod.fst (zX_t1000 hx)) (congrArg Value.ref (zX_r1000_16 hx)) rfl ?_
        refine za_iload (pc' := 122) 5 dX1_read_2_120 rfl rfl ?_
        refine za_aload_n (pc' := 123) 1 dX1_read_2_122 rfl rfl rfl ?_
        refine za_get (fi := 16) (v := .ref 1017) (pc' := 126) dX1_read_2_123 zc0 (by decide) in_X1 (by decide) q506 (Or.inl rfl) (congrArg Prod.fst (zX_t1000 hx)) (congrArg Value.ref (zX_r1000_16 hx)) rfl ?_
        refine za_iload (pc' := 128) 5 dX1_read_2_126 rfl rfl ?_
        refine za_iald (v := .int (I 1017 (v4.toNatClampNeg))) (pc' := 129) dX1_read_2_128 (zX_t1017 hx) hi7 rfl rfl ?_
        refine za_aload_n (pc' := 130) 2 dX1_read_2_129 rfl rfl rfl ?_
        refine za_getN (fi := 1) (v := .ref (R v1 1)) (pc' := 133) dX1_read_2_130 zc3 (by decide) in_X4 (by decide) q229 (Or.inl rfl) ht4 rfl rfl ?_
        refine za_iload (pc' := 135) 6 dX1_read_2_133 rfl rfl ?_
        obtain ⟨ht9, h⟩ := h
        obtain ⟨hi10, h⟩ := h
        refine za_iald (v := .int (I (R v1 1) (v5.toNatClampNeg))) (pc' := 136) dX1_read_2_135 (zpair ht9) hi10 rfl rfl ?_
        refine za_aload_n (pc' := 137) 1 dX1_read_2_136 rfl rfl rfl ?_
        refine za_get (fi := 16) (v := .ref 1017) (pc' := 140) dX1_read_2_137 zc0 (by decide) in_X1 (by decide) q506 (Or.inl rfl) (congrArg Prod.fst (zX_t1000 hx)) (congrArg Value.ref (zX_r1000_16 hx)) rfl ?_
        refine za_iload (pc' := 142) 0 dX1_read_2_140 rfl rfl ?_
        refine za_iald (v := .int (I 1017 ((v4 + r6).toNatClampNeg))) (pc' := 143) dX1_read_2_142 (zX_t1017 hx) hi8 rfl rfl ?_
        refine za_iadd (pc' := 144) dX1_read_2_143 rfl ?_
        refine za_mmax (pc' := 147) dX1_read_2_144 q1125 (by decide) (Nat.le_of_ble_eq_true rfl) rfl ?_
        refine za_iast (k := v4.toNatClampNeg) (pc' := 148) dX1_read_2_147 (zX_t1017 hx) hi7 rfl rfl ?_
        refine za_iinc (pc' := 151) (l' := [(5, .int (v5 + (1 : Int32))), (6, .int (v4 + r6)), (0, .ref 1000), (1, .ref v1), (2, .ref v2), (3, .int v3), (4, .int v4)]) 6 dX1_read_2_148 rfl (zinc zi_1) (Nat.le_of_ble_eq_true rfl) rfl rfl ?_
        refine za_goto (tgt := 52) dX1_read_2_151 (by decide) ?_
        exact zAW_sub [2, 3, 4, 5, 6, 0] rfl h
    · replace h := h.1 c9
      refine za_goto (tgt := 148) dX1_read_2_74 (by decide) ?_
      refine za_iinc (pc' := 151) (l' := [(5, .int (v5 + (1 : Int32))), (0, .ref 1000), (1, .ref v1), (2, .ref v2), (3, .int v3), (4, .int v4)]) 5 dX1_read_2_148 rfl (zinc zi_1) (Nat.le_of_ble_eq_true rfl) rfl rfl ?_
      refine za_goto (tgt := 52) dX1_read_2_151 (by decide) ?_
      exact zAW_sub [1, 2, 3, 4, 5, 0] rfl h
theorem sX1_read_2 {d b : Nat} {v1 : Nat} {v2 : Nat} {v3 : Int32} {T : zT} {I : zI} {L : zL} {R : zR} {P : zP} (h : zAW mX1_read_2 d b 0 [(0, .ref 1000), (1, .ref v1), (2, .ref v2), (3, .int v3)] [] T I L R P) : zMet mX1_read_2 d b [.ref 1000, .ref v1, .ref v2, .int v3] T I L R P := zMet_of (by decide +kernel) rfl (Nat.le_of_ble_eq_true rfl) rfl h
/-! TwoTongues.stands (LTwoTongues$Store;ILTwoTongues$Row;ZI)Z -/
def dkwX1_stands_3 : List UInt8 := [172, 132, 6, 1, 167, 255, 205, 4, 172]
abbrev dktX1_stands_3 : List UInt8 := dkwX1_stands_3 ++ []
def dkwX1_stands_2 : List UInt8 := [180, 0, 190, 4, 100, 21, 4, 100, 21, 6, 100, 167, 0, 8, 21, 4, 21, 6, 96, 46, 159, 0, 5, 3]
abbrev dktX1_stands_2 : List UInt8 := dkwX1_stands_2 ++ dktX1_stands_3
def dkwX1_stands_1 : List UInt8 := [21, 6, 21, 5, 162, 0, 50, 42, 27, 21, 6, 182, 0, 235, 44, 180, 0, 219, 29, 153, 0, 18, 44]
abbrev dktX1_stands_1 : List UInt8 := dkwX1_stands_1 ++ dktX1_stands_2
def dkwX1_stands_0 : List UInt8 := [42, 27, 182, 0, 232, 54, 5, 21, 4, 21, 5, 96, 44, 180, 0, 190, 164, 0, 5, 3, 172, 3, 54, 6]
abbrev dktX1_stands_0 : List UInt8 := dkwX1_stands_0 ++ dktX1_stands_1
theorem dksX1_stands_0 : cX1_stands.data.toList.drop 0 = dktX1_stands_0 := by decide +kernel
theorem dksX1_stands_1 : cX1_stands.data.toList.drop 24 = dktX1_stands_1 := dk_seg dksX1_stands_0 24 rfl rfl
theorem dksX1_stands_2 : cX1_stands.data.toList.drop 47 = dktX1_stands_2 := dk_seg dksX1_stands_1 23 rfl rfl
theorem dksX1_stands_3 : cX1_stands.data.toList.drop 71 = dktX1_stands_3 := dk_seg dksX1_stands_2 24 rfl rfl
theorem dX1_stands_0 : decode cX1_stands 0 = .ok (.aload_n 0, 1) := dk_42 (dk_at dksX1_stands_0 0 rfl rfl)
theorem dX1_stands_1 : decode cX1_stands 1 = .ok (.iload_n 1, 1) := dk_27 (dk_at dksX1_stands_0 1 rfl rfl)
theorem dX1_stands_2 : decode cX1_stands 2 = .ok (.invokevirtual 232, 3) := dk_182 0 232 (dk_at dksX1_stands_0 2 rfl rfl)
theorem dX1_stands_5 : decode cX1_stands 5 = .ok (.istore 5, 2) := dk_54 5 (dk_at dksX1_stands_0 5 rfl rfl)
theorem dX1_stands_7 : decode cX1_stands 7 = .ok (.iload 4, 2) := dk_21 4 (dk_at dksX1_stands_0 7 rfl rfl)
theorem dX1_stands_9 : decode cX1_stands 9 = .ok (.iload 5, 2) := dk_21 5 (dk_at dksX1_stands_0 9 rfl rfl)
theorem dX1_stands_11 : decode cX1_stands 11 = .ok (.iadd, 1) := dk_96 (dk_at dksX1_stands_0 11 rfl rfl)
theorem dX1_stands_12 : decode cX1_stands 12 = .ok (.aload_n 2, 1) := dk_44 (dk_at dksX1_stands_0 12 rfl rfl)
theorem dX1_stands_13 : decode cX1_stands 13 = .ok (.getfield 190, 3) := dk_180 0 190 (dk_at dksX1_stands_0 13 rfl rfl)
theorem dX1_stands_16 : decode cX1_stands 16 = .ok (.if_icmp .le 5, 3) := dk_164 0 5 (dk_at dksX1_stands_0 16 rfl rfl)
theorem dX1_stands_19 : decode cX1_stands 19 = .ok (.iconst 0, 1) := dk_3 (dk_at dksX1_stands_0 19 rfl rfl)
theorem dX1_stands_20 : decode cX1_stands 20 = .ok (.ireturn, 1) := dk_172 (dk_at dksX1_stands_0 20 rfl rfl)
theorem dX1_stands_21 : decode cX1_stands 21 = .ok (.iconst 0, 1) := dk_3 (dk_at dksX1_stands_0 21 rfl rfl)
theorem dX1_stands_22 : decode cX1_stands 22 = .ok (.istore 6, 2) := dk_54 6 (dk_at dksX1_stands_0 22 rfl rfl)
theorem dX1_stands_24 : decode cX1_stands 24 = .ok (.iload 6, 2) := dk_21 6 (dk_at dksX1_stands_1 0 rfl rfl)
theorem dX1_stands_26 : decode cX1_stands 26 = .ok (.iload 5, 2) := dk_21 5 (dk_at dksX1_stands_1 2 rfl rfl)
theorem dX1_stands_28 : decode cX1_stands 28 = .ok (.if_icmp .ge 50, 3) := dk_162 0 50 (dk_at dksX1_stands_1 4 rfl rfl)
theorem dX1_stands_31 : decode cX1_stands 31 = .ok (.aload_n 0, 1) := dk_42 (dk_at dksX1_stands_1 7 rfl rfl)
theorem dX1_stands_32 : decode cX1_stands 32 = .ok (.iload_n 1, 1) := dk_27 (dk_at dksX1_stands_1 8 rfl rfl)
theorem dX1_stands_33 : decode cX1_stands 33 = .ok (.iload 6, 2) := dk_21 6 (dk_at dksX1_stands_1 9 rfl rfl)
theorem dX1_stands_35 : decode cX1_stands 35 = .ok (.invokevirtual 235, 3) := dk_182 0 235 (dk_at dksX1_stands_1 11 rfl rfl)
theorem dX1_stands_38 : decode cX1_stands 38 = .ok (.aload_n 2, 1) := dk_44 (dk_at dksX1_stands_1 14 rfl rfl)
theorem dX1_stands_39 : decode cX1_stands 39 = .ok (.getfield 219, 3) := dk_180 0 219 (dk_at dksX1_stands_1 15 rfl rfl)
theorem dX1_stands_42 : decode cX1_stands 42 = .ok (.iload_n 3, 1) := dk_29 (dk_at dksX1_stands_1 18 rfl rfl)
theorem dX1_stands_43 : decode cX1_stands 43 = .ok (.ifCond .eq 18, 3) := dk_153 0 18 (dk_at dksX1_stands_1 19 rfl rfl)
theorem dX1_stands_46 : decode cX1_stands 46 = .ok (.aload_n 2, 1) := dk_44 (dk_at dksX1_stands_1 22 rfl rfl)
theorem dX1_stands_47 : decode cX1_stands 47 = .ok (.getfield 190, 3) := dk_180 0 190 (dk_at dksX1_stands_2 0 rfl rfl)
theorem dX1_stands_50 : decode cX1_stands 50 = .ok (.iconst 1, 1) := dk_4 (dk_at dksX1_stands_2 3 rfl rfl)
theorem dX1_stands_51 : decode cX1_stands 51 = .ok (.isub, 1) := dk_100 (dk_at dksX1_stands_2 4 rfl rfl)
theorem dX1_stands_52 : decode cX1_stands 52 = .ok (.iload 4, 2) := dk_21 4 (dk_at dksX1_stands_2 5 rfl rfl)
theorem dX1_stands_54 : decode cX1_stands 54 = .ok (.isub, 1) := dk_100 (dk_at dksX1_stands_2 7 rfl rfl)
theorem dX1_stands_55 : decode cX1_stands 55 = .ok (.iload 6, 2) := dk_21 6 (dk_at dksX1_stands_2 8 rfl rfl)
theorem dX1_stands_57 : decode cX1_stands 57 = .ok (.isub, 1) := dk_100 (dk_at dksX1_stands_2 10 rfl rfl)
theorem dX1_stands_58 : decode cX1_stands 58 = .ok (.goto 8, 3) := dk_167 0 8 (dk_at dksX1_stands_2 11 rfl rfl)
theorem dX1_stands_61 : decode cX1_stands 61 = .ok (.iload 4, 2) := dk_21 4 (dk_at dksX1_stands_2 14 rfl rfl)
theorem dX1_stands_63 : decode cX1_stands 63 = .ok (.iload 6, 2) := dk_21 6 (dk_at dksX1_stands_2 16 rfl rfl)
theorem dX1_stands_65 : decode cX1_stands 65 = .ok (.iadd, 1) := dk_96 (dk_at dksX1_stands_2 18 rfl rfl)
theorem dX1_stands_66 : decode cX1_stands 66 = .ok (.iaload, 1) := dk_46 (dk_at dksX1_stands_2 19 rfl rfl)
theorem dX1_stands_67 : decode cX1_stands 67 = .ok (.if_icmp .eq 5, 3) := dk_159 0 5 (dk_at dksX1_stands_2 20 rfl rfl)
theorem dX1_stands_70 : decode cX1_stands 70 = .ok (.iconst 0, 1) := dk_3 (dk_at dksX1_stands_2 23 rfl rfl)
theorem dX1_stands_71 : decode cX1_stands 71 = .ok (.ireturn, 1) := dk_172 (dk_at dksX1_stands_3 0 rfl rfl)
theorem dX1_stands_72 : decode cX1_stands 72 = .ok (.iinc 6 1, 3) := dk_132 6 1 (dk_at dksX1_stands_3 1 rfl rfl)
theorem dX1_stands_75 : decode cX1_stands 75 = .ok (.goto (-51), 3) := dk_167 255 205 (dk_at dksX1_stands_3 4 rfl rfl)
theorem dX1_stands_78 : decode cX1_stands 78 = .ok (.iconst 1, 1) := dk_4 (dk_at dksX1_stands_3 7 rfl rfl)
theorem dX1_stands_79 : decode cX1_stands 79 = .ok (.ireturn, 1) := dk_172 (dk_at dksX1_stands_3 8 rfl rfl)
theorem gX1_stands_0 {v0 : Nat} {v1 : Int32} {v2 : Nat} {v3 : Int32} {v4 : Int32} {T : zT} {I : zI} {L : zL} {R : zR} {P : zP} (h : (T v0).1 = 4 ∧ zMet mX4_length 2 0 [.ref v0, .int v1] T I L R (zqI_ T I L R  (fun (r1 : Int32)  => (T v2).1 = 11 ∧ (((v4 + r1) ≤ (I v2 1) → zAW mX1_stands 3 0 24 [(0, .ref v0), (1, .int v1), (2, .ref v2), (3, .int v3), (4, .int v4), (5, .int r1), (6, .int (0 : Int32))] [] T I L R P) ∧ (¬ (v4 + r1) ≤ (I v2 1) → P 0 (.int (0 : Int32)) T I L R))))) : zAW mX1_stands 3 0 0 [(0, .ref v0), (1, .int v1), (2, .ref v2), (3, .int v3), (4, .int v4)] [] T I L R P := by
  refine za_aload_n (pc' := 1) 0 dX1_stands_0 rfl rfl rfl ?_
  refine za_iload_n (pc' := 2) 1 dX1_stands_1 rfl rfl rfl ?_
  obtain ⟨ht2, h⟩ := h
  refine za_callV (κ := v0) (M2 := mX4_length) (d2 := 2) (b2 := 0) (n := 1) (As := [.int v1]) (st := []) (pc' := 5) zc3 (by decide) ht2 dX1_stands_2 rfl (lw_V q1116 q1117 q1118 q134 q1119) ⟨rfl, hd_X4_length⟩ rfl (by decide) (by decide) (Nat.zero_le _) (Or.inl rfl) (Nat.le_of_ble_eq_true rfl) h (zqI__k rfl (fun r1 h => ?_)) (fun _ _ _ _ _ _ h9 h8 => absurd h8.1 h9) rfl
  refine za_istore (pc' := 7) (l' := [(5, .int r1), (0, .ref v0), (1, .int v1), (2, .ref v2), (3, .int v3), (4, .int v4)]) dX1_stands_5 (Nat.le_of_ble_eq_true rfl) rfl rfl ?_
  refine za_iload (pc' := 9) 5 dX1_stands_7 rfl rfl ?_
  refine za_iload (pc' := 11) 0 dX1_stands_9 rfl rfl ?_
  refine za_iadd (pc' := 12) dX1_stands_11 rfl ?_
  refine za_aload_n (pc' := 13) 3 dX1_stands_12 rfl rfl rfl ?_
  obtain ⟨ht3, h⟩ := h
  refine za_getN (fi := 1) (v := .int (I v2 1)) (pc' := 16) dX1_stands_13 zc10 (by decide) in_X11 (by decide) q408 (Or.inl rfl) ht3 rfl rfl ?_
  refine za_icmp_le (pc' := 19) (tgt := 21) dX1_stands_16 (by decide) rfl (fun c9 => ?_) (fun c9 => ?_)
  · replace h := h.1 c9
    refine za_iconst (pc' := 22) dX1_stands_21 zi_0 rfl ?_
    refine za_istore (pc' := 24) (l' := [(6, .int (0 : Int32)), (5, .int r1), (0, .ref v0), (1, .int v1), (2, .ref v2), (3, .int v3), (4, .int v4)]) dX1_stands_22 (Nat.le_of_ble_eq_true rfl) rfl rfl ?_
    exact zAW_sub [2, 3, 4, 5, 6, 1, 0] rfl h
  · replace h := h.2 c9
    refine za_iconst (pc' := 20) dX1_stands_19 zi_0 rfl ?_
    exact za_zreturn rfl dX1_stands_20 (by decide) h
theorem gX1_stands_24 {v0 : Nat} {v1 : Int32} {v2 : Nat} {v3 : Int32} {v4 : Int32} {v5 : Int32} {v6 : Int32} {T : zT} {I : zI} {L : zL} {R : zR} {P : zP} (h : ((v5 ≤ v6 → P 0 (.int (1 : Int32)) T I L R) ∧ (¬ v5 ≤ v6 → (T v0).1 = 4 ∧ zMet mX4_letter 1 0 [.ref v0, .int v1, .int v6] T I L R (zqI_ T I L R  (fun (r4 : Int32)  => (T v2).1 = 11 ∧ ((v3 = 0 → zAW mX1_stands 3 0 66 [(0, .ref v0), (1, .int v1), (2, .ref v2), (3, .int v3), (4, .int v4), (5, .int v5), (6, .int v6)] [.int (v4 + v6), .ref (R v2 0), .int r4] T I L R P) ∧ (¬ v3 = 0 → zAW mX1_stands 3 0 66 [(0, .ref v0), (1, .int v1), (2, .ref v2), (3, .int v3), (4, .int v4), (5, .int v5), (6, .int v6)] [.int ((((I v2 1) - (1 : Int32)) - v4) - v6), .ref (R v2 0), .int r4] T I L R P))))))) : zAW mX1_stands 3 0 24 [(0, .ref v0), (1, .int v1), (2, .ref v2), (3, .int v3), (4, .int v4), (5, .int v5), (6, .int v6)] [] T I L R P := by
  refine za_iload (pc' := 26) 6 dX1_stands_24 rfl rfl ?_
  refine za_iload (pc' := 28) 5 dX1_stands_26 rfl rfl ?_
  refine za_icmp_ge (pc' := 31) (tgt := 78) dX1_stands_28 (by decide) rfl (fun c9 => ?_) (fun c9 => ?_)
  · replace h := h.1 c9
    refine za_iconst (pc' := 79) dX1_stands_78 zi_1 rfl ?_
    exact za_zreturn rfl dX1_stands_79 (by decide) h
  · replace h := h.2 c9
    refine za_aload_n (pc' := 32) 0 dX1_stands_31 rfl rfl rfl ?_
    refine za_iload_n (pc' := 33) 1 dX1_stands_32 rfl rfl rfl ?_
    refine za_iload (pc' := 35) 6 dX1_stands_33 rfl rfl ?_
    obtain ⟨ht5, h⟩ := h
    refine za_callV (κ := v0) (M2 := mX4_letter) (d2 := 1) (b2 := 0) (n := 2) (As := [.int v1, .int v6]) (st := []) (pc' := 38) zc3 (by decide) ht5 dX1_stands_35 rfl (lw_V q1124 q1121 q1122 q134 q1123) ⟨rfl, hd_X4_letter⟩ rfl (by decide) (by decide) (Nat.zero_le _) (Or.inl rfl) (Nat.le_of_ble_eq_true rfl) h (zqI__k rfl (fun r4 h => ?_)) (fun _ _ _ _ _ _ h9 h8 => absurd h8.1 h9) rfl
    refine za_aload_n (pc' := 39) 2 dX1_stands_38 rfl rfl rfl ?_
    obtain ⟨ht6, h⟩ := h
    refine za_getN (fi := 0) (v := .ref (R v2 0)) (pc' := 42) dX1_stands_39 zc10 (by decide) in_X11 (by decide) q404 (Or.inl rfl) ht6 rfl rfl ?_
    refine za_iload_n (pc' := 43) 3 dX1_stands_42 rfl rfl rfl ?_
    refine za_if_eq (pc' := 46) (tgt := 61) dX1_stands_43 (by decide) rfl (fun c9 => ?_) (fun c9 => ?_)
    · replace h := h.1 c9
      refine za_iload (pc' := 63) 4 dX1_stands_61 rfl rfl ?_
      refine za_iload (pc' := 65) 6 dX1_stands_63 rfl rfl ?_
      refine za_iadd (pc' := 66) dX1_stands_65 rfl ?_
      exact zAW_sub [0, 1, 2, 3, 4, 5, 6] rfl h
    · replace h := h.2 c9
      refine za_aload_n (pc' := 47) 2 dX1_stands_46 rfl rfl rfl ?_
      refine za_getN (fi := 1) (v := .int (I v2 1)) (pc' := 50) dX1_stands_47 zc10 (by decide) in_X11 (by decide) q408 (Or.inl rfl) ht6 rfl rfl ?_
      refine za_iconst (pc' := 51) dX1_stands_50 zi_1 rfl ?_
      refine za_isub (pc' := 52) dX1_stands_51 rfl ?_
      refine za_iload (pc' := 54) 4 dX1_stands_52 rfl rfl ?_
      refine za_isub (pc' := 55) dX1_stands_54 rfl ?_
      refine za_iload (pc' := 57) 6 dX1_stands_55 rfl rfl ?_
      refine za_isub (pc' := 58) dX1_stands_57 rfl ?_
      refine za_goto (tgt := 66) dX1_stands_58 (by decide) ?_
      exact zAW_sub [0, 1, 2, 3, 4, 5, 6] rfl h
theorem gX1_stands_66 {v0 : Nat} {v1 : Int32} {v2 : Nat} {v3 : Int32} {v4 : Int32} {v5 : Int32} {v6 : Int32} {s0 : Int32} {s1 : Nat} {s2 : Int32} {T : zT} {I : zI} {L : zL} {R : zR} {P : zP} (h : (T s1).1 = 100 ∧ vp_in s0 ((T s1).2) ∧ ((s2 = (I s1 (s0.toNatClampNeg)) → zAW mX1_stands 3 0 24 [(0, .ref v0), (1, .int v1), (2, .ref v2), (3, .int v3), (4, .int v4), (5, .int v5), (6, .int (v6 + (1 : Int32)))] [] T I L R P) ∧ (¬ s2 = (I s1 (s0.toNatClampNeg)) → P 0 (.int (0 : Int32)) T I L R))) : zAW mX1_stands 3 0 66 [(0, .ref v0), (1, .int v1), (2, .ref v2), (3, .int v3), (4, .int v4), (5, .int v5), (6, .int v6)] [.int s0, .ref s1, .int s2] T I L R P := by
  obtain ⟨ht7, h⟩ := h
  obtain ⟨hi8, h⟩ := h
  refine za_iald (v := .int (I s1 (s0.toNatClampNeg))) (pc' := 67) dX1_stands_66 (zpair ht7) hi8 rfl rfl ?_
  refine za_icmp_eq (pc' := 70) (tgt := 72) dX1_stands_67 (by decide) rfl (fun c9 => ?_) (fun c9 => ?_)
  · replace h := h.1 c9
    refine za_iinc (pc' := 75) (l' := [(6, .int (v6 + (1 : Int32))), (0, .ref v0), (1, .int v1), (2, .ref v2), (3, .int v3), (4, .int v4), (5, .int v5)]) 6 dX1_stands_72 rfl (zinc zi_1) (Nat.le_of_ble_eq_true rfl) rfl rfl ?_
    refine za_goto (tgt := 24) dX1_stands_75 (by decide) ?_
    exact zAW_sub [1, 2, 3, 4, 5, 6, 0] rfl h
  · replace h := h.2 c9
    refine za_iconst (pc' := 71) dX1_stands_70 zi_0 rfl ?_
    exact za_zreturn rfl dX1_stands_71 (by decide) h
theorem sX1_stands {d b : Nat} {v0 : Nat} {v1 : Int32} {v2 : Nat} {v3 : Int32} {v4 : Int32} {T : zT} {I : zI} {L : zL} {R : zR} {P : zP} (h : zAW mX1_stands d b 0 [(0, .ref v0), (1, .int v1), (2, .ref v2), (3, .int v3), (4, .int v4)] [] T I L R P) : zMet mX1_stands d b [.ref v0, .int v1, .ref v2, .int v3, .int v4] T I L R P := zMet_of (by decide +kernel) rfl (Nat.le_of_ble_eq_true rfl) rfl h
/-! TwoTongues.worth (II)I -/
def dkwX1_worth_1 : List UInt8 := [180, 0, 82, 3, 46, 2, 160, 0, 8, 16, 254, 167, 0, 9, 42, 180, 0, 82, 3, 46, 172]
abbrev dktX1_worth_1 : List UInt8 := dkwX1_worth_1 ++ []
def dkwX1_worth_0 : List UInt8 := [42, 27, 182, 0, 182, 153, 0, 10, 28, 184, 0, 222, 154, 0, 5, 2, 172, 42, 27, 28, 182, 1, 4, 42]
abbrev dktX1_worth_0 : List UInt8 := dkwX1_worth_0 ++ dktX1_worth_1
theorem dksX1_worth_0 : cX1_worth.data.toList.drop 0 = dktX1_worth_0 := by decide +kernel
theorem dksX1_worth_1 : cX1_worth.data.toList.drop 24 = dktX1_worth_1 := dk_seg dksX1_worth_0 24 rfl rfl
theorem dX1_worth_0 : decode cX1_worth 0 = .ok (.aload_n 0, 1) := dk_42 (dk_at dksX1_worth_0 0 rfl rfl)
theorem dX1_worth_1 : decode cX1_worth 1 = .ok (.iload_n 1, 1) := dk_27 (dk_at dksX1_worth_0 1 rfl rfl)
theorem dX1_worth_2 : decode cX1_worth 2 = .ok (.invokevirtual 182, 3) := dk_182 0 182 (dk_at dksX1_worth_0 2 rfl rfl)
theorem dX1_worth_5 : decode cX1_worth 5 = .ok (.ifCond .eq 10, 3) := dk_153 0 10 (dk_at dksX1_worth_0 5 rfl rfl)
theorem dX1_worth_8 : decode cX1_worth 8 = .ok (.iload_n 2, 1) := dk_28 (dk_at dksX1_worth_0 8 rfl rfl)
theorem dX1_worth_9 : decode cX1_worth 9 = .ok (.invokestatic 222, 3) := dk_184 0 222 (dk_at dksX1_worth_0 9 rfl rfl)
theorem dX1_worth_12 : decode cX1_worth 12 = .ok (.ifCond .ne 5, 3) := dk_154 0 5 (dk_at dksX1_worth_0 12 rfl rfl)
theorem dX1_worth_15 : decode cX1_worth 15 = .ok (.iconst (-1), 1) := dk_2 (dk_at dksX1_worth_0 15 rfl rfl)
theorem dX1_worth_16 : decode cX1_worth 16 = .ok (.ireturn, 1) := dk_172 (dk_at dksX1_worth_0 16 rfl rfl)
theorem dX1_worth_17 : decode cX1_worth 17 = .ok (.aload_n 0, 1) := dk_42 (dk_at dksX1_worth_0 17 rfl rfl)
theorem dX1_worth_18 : decode cX1_worth 18 = .ok (.iload_n 1, 1) := dk_27 (dk_at dksX1_worth_0 18 rfl rfl)
theorem dX1_worth_19 : decode cX1_worth 19 = .ok (.iload_n 2, 1) := dk_28 (dk_at dksX1_worth_0 19 rfl rfl)
theorem dX1_worth_20 : decode cX1_worth 20 = .ok (.invokevirtual 260, 3) := dk_182 1 4 (dk_at dksX1_worth_0 20 rfl rfl)
theorem dX1_worth_23 : decode cX1_worth 23 = .ok (.aload_n 0, 1) := dk_42 (dk_at dksX1_worth_0 23 rfl rfl)
theorem dX1_worth_24 : decode cX1_worth 24 = .ok (.getfield 82, 3) := dk_180 0 82 (dk_at dksX1_worth_1 0 rfl rfl)
theorem dX1_worth_27 : decode cX1_worth 27 = .ok (.iconst 0, 1) := dk_3 (dk_at dksX1_worth_1 3 rfl rfl)
theorem dX1_worth_28 : decode cX1_worth 28 = .ok (.iaload, 1) := dk_46 (dk_at dksX1_worth_1 4 rfl rfl)
theorem dX1_worth_29 : decode cX1_worth 29 = .ok (.iconst (-1), 1) := dk_2 (dk_at dksX1_worth_1 5 rfl rfl)
theorem dX1_worth_30 : decode cX1_worth 30 = .ok (.if_icmp .ne 8, 3) := dk_160 0 8 (dk_at dksX1_worth_1 6 rfl rfl)
theorem dX1_worth_33 : decode cX1_worth 33 = .ok (.bipush (-2), 2) := dk_16 254 (dk_at dksX1_worth_1 9 rfl rfl)
theorem dX1_worth_35 : decode cX1_worth 35 = .ok (.goto 9, 3) := dk_167 0 9 (dk_at dksX1_worth_1 11 rfl rfl)
theorem dX1_worth_38 : decode cX1_worth 38 = .ok (.aload_n 0, 1) := dk_42 (dk_at dksX1_worth_1 14 rfl rfl)
theorem dX1_worth_39 : decode cX1_worth 39 = .ok (.getfield 82, 3) := dk_180 0 82 (dk_at dksX1_worth_1 15 rfl rfl)
theorem dX1_worth_42 : decode cX1_worth 42 = .ok (.iconst 0, 1) := dk_3 (dk_at dksX1_worth_1 18 rfl rfl)
theorem dX1_worth_43 : decode cX1_worth 43 = .ok (.iaload, 1) := dk_46 (dk_at dksX1_worth_1 19 rfl rfl)
theorem dX1_worth_44 : decode cX1_worth 44 = .ok (.ireturn, 1) := dk_172 (dk_at dksX1_worth_1 20 rfl rfl)
theorem gX1_worth_0 {v1 : Int32} {v2 : Int32} {T : zT} {I : zI} {L : zL} {R : zR} {P : zP} (hx : zXok T R) (h : zMet mX1_isSign 2 0 [.ref 1000, .int v1] T I L R (zqI_ T I L R  (fun (r1 : Int32)  => ((r1 = 0 → P 0 (.int (-1 : Int32)) T I L R) ∧ (¬ r1 = 0 → zMet mX1_isTongue 2 0 [.int v2] T I L R (zqI_ T I L R  (fun (r2 : Int32)  => ((r2 = 0 → P 0 (.int (-1 : Int32)) T I L R) ∧ (¬ r2 = 0 → zMet mX1_read 5 0 [.ref 1000, .int v1, .int v2] T I L R (zqV_IL T R  (fun (I3 : zI) (L4 : zL)  => (((I3 1017 0) = (-1 : Int32) → P 0 (.int (-2 : Int32)) T I3 L4 R) ∧ (¬ (I3 1017 0) = (-1 : Int32) → P 0 (.int (I3 1017 0)) T I3 L4 R))))))))))))) : zAW mX1_worth 6 0 0 [(0, .ref 1000), (1, .int v1), (2, .int v2)] [] T I L R P := by
  refine za_aload_n (pc' := 1) 0 dX1_worth_0 rfl rfl rfl ?_
  refine za_iload_n (pc' := 2) 1 dX1_worth_1 rfl rfl rfl ?_
  refine za_callV (κ := 1000) (M2 := mX1_isSign) (d2 := 2) (b2 := 0) (n := 1) (As := [.int v1]) (st := []) (pc' := 5) zc0 (by decide) (congrArg Prod.fst (zX_t1000 hx)) dX1_worth_2 rfl (lw_V q1066 q1068 qs32 q131 q1069) ⟨rfl, hd_X1_isSign⟩ rfl (by decide) (by decide) (Nat.zero_le _) (Or.inl rfl) (Nat.le_of_ble_eq_true rfl) h (zqI__k rfl (fun r1 h => ?_)) (fun _ _ _ _ _ _ h9 h8 => absurd h8.1 h9) rfl
  refine za_if_eq (pc' := 8) (tgt := 15) dX1_worth_5 (by decide) rfl (fun c9 => ?_) (fun c9 => ?_)
  · replace h := h.1 c9
    refine za_iconst (pc' := 16) dX1_worth_15 zi_m1 rfl ?_
    exact za_ireturn rfl dX1_worth_16 h
  · replace h := h.2 c9
    refine za_iload_n (pc' := 9) 2 dX1_worth_8 rfl rfl rfl ?_
    refine za_callS (M2 := mX1_isTongue) (d2 := 2) (b2 := 0) (n := 1) (As := [.int v2]) (st := []) (pc' := 12) dX1_worth_9 rfl (lw_S q1075 q1076 q131 q1077) hd_X1_isTongue rfl (by decide) (by decide) (Nat.zero_le _) (Or.inl rfl) (Nat.le_of_ble_eq_true rfl) h (zqI__k rfl (fun r2 h => ?_)) (fun _ _ _ _ _ _ h9 h8 => absurd h8.1 h9) rfl
    refine za_if_ne (pc' := 15) (tgt := 17) dX1_worth_12 (by decide) rfl (fun c9 => ?_) (fun c9 => ?_)
    · replace h := h.2 c9
      refine za_aload_n (pc' := 18) 0 dX1_worth_17 rfl rfl rfl ?_
      refine za_iload_n (pc' := 19) 1 dX1_worth_18 rfl rfl rfl ?_
      refine za_iload_n (pc' := 20) 2 dX1_worth_19 rfl rfl rfl ?_
      refine za_callV (κ := 1000) (M2 := mX1_read) (d2 := 5) (b2 := 0) (n := 2) (As := [.int v1, .int v2]) (st := []) (pc' := 23) zc0 (by decide) (congrArg Prod.fst (zX_t1000 hx)) dX1_worth_20 rfl (lw_V q1083 q1085 qs33 q131 q1086) ⟨rfl, hd_X1_read⟩ rfl (by decide) (by decide) (Nat.zero_le _) (Or.inl rfl) (Nat.le_of_ble_eq_true rfl) h (zqV_IL_k rfl (fun I3 L4 h => ?_)) (fun _ _ _ _ _ _ h9 h8 => absurd h8.1 h9) rfl
      refine za_aload_n (pc' := 24) 0 dX1_worth_23 rfl rfl rfl ?_
      refine za_get (fi := 16) (v := .ref 1017) (pc' := 27) dX1_worth_24 zc0 (by decide) in_X1 (by decide) q506 (Or.inl rfl) (congrArg Prod.fst (zX_t1000 hx)) (congrArg Value.ref (zX_r1000_16 hx)) rfl ?_
      refine za_iconst (pc' := 28) dX1_worth_27 zi_0 rfl ?_
      refine za_iald (v := .int (I3 1017 0)) (pc' := 29) dX1_worth_28 (zX_t1017 hx) (zin (by decide)) (congrArg Value.int (zix zn_0 (rfl))) rfl ?_
      refine za_iconst (pc' := 30) dX1_worth_29 zi_m1 rfl ?_
      refine za_icmp_ne (pc' := 33) (tgt := 38) dX1_worth_30 (by decide) rfl (fun c9 => ?_) (fun c9 => ?_)
      · replace h := h.2 c9
        refine za_aload_n (pc' := 39) 0 dX1_worth_38 rfl rfl rfl ?_
        refine za_get (fi := 16) (v := .ref 1017) (pc' := 42) dX1_worth_39 zc0 (by decide) in_X1 (by decide) q506 (Or.inl rfl) (congrArg Prod.fst (zX_t1000 hx)) (congrArg Value.ref (zX_r1000_16 hx)) rfl ?_
        refine za_iconst (pc' := 43) dX1_worth_42 zi_0 rfl ?_
        refine za_iald (v := .int (I3 1017 0)) (pc' := 44) dX1_worth_43 (zX_t1017 hx) (zin (by decide)) (congrArg Value.int (zix zn_0 (rfl))) rfl ?_
        exact za_ireturn rfl dX1_worth_44 h
      · replace h := h.1 c9
        refine za_bipush (pc' := 35) dX1_worth_33 zb8_m2 rfl ?_
        refine za_goto (tgt := 44) dX1_worth_35 (by decide) ?_
        exact za_ireturn rfl dX1_worth_44 h
    · replace h := h.1 c9
      refine za_iconst (pc' := 16) dX1_worth_15 zi_m1 rfl ?_
      exact za_ireturn rfl dX1_worth_16 h
theorem sX1_worth {d b : Nat} {v1 : Int32} {v2 : Int32} {T : zT} {I : zI} {L : zL} {R : zR} {P : zP} (h : zAW mX1_worth d b 0 [(0, .ref 1000), (1, .int v1), (2, .int v2)] [] T I L R P) : zMet mX1_worth d b [.ref 1000, .int v1, .int v2] T I L R P := zMet_of (by decide +kernel) rfl (Nat.le_of_ble_eq_true rfl) rfl h
/-! TwoTongues.said (III)I -/
def dkwX1_said_8 : List UInt8 := [167, 255, 137, 16, 254, 172]
abbrev dktX1_said_8 : List UInt8 := dkwX1_said_8 ++ []
def dkwX1_said_7 : List UInt8 := [29, 160, 0, 6, 21, 8, 172, 21, 6, 25, 4, 21, 8, 182, 0, 232, 96, 54, 6, 132, 7, 1]
abbrev dktX1_said_7 : List UInt8 := dkwX1_said_7 ++ dktX1_said_8
def dkwX1_said_6 : List UInt8 := [182, 0, 232, 96, 46, 96, 42, 180, 0, 82, 21, 6, 46, 159, 0, 9, 132, 8, 1, 167, 255, 177, 21, 7]
abbrev dktX1_said_6 : List UInt8 := dkwX1_said_6 ++ dktX1_said_7
def dkwX1_said_5 : List UInt8 := [96, 46, 2, 159, 0, 37, 25, 4, 180, 0, 229, 21, 8, 46, 42, 180, 0, 82, 21, 6, 25, 4, 21, 8]
abbrev dktX1_said_5 : List UInt8 := dkwX1_said_5 ++ dktX1_said_6
def dkwX1_said_4 : List UInt8 := [182, 0, 252, 21, 6, 184, 0, 239, 153, 0, 56, 42, 180, 0, 82, 21, 6, 25, 4, 21, 8, 182, 0, 232]
abbrev dktX1_said_4 : List UInt8 := dkwX1_said_4 ++ dktX1_said_5
def dkwX1_said_3 : List UInt8 := [25, 5, 180, 0, 190, 162, 0, 115, 3, 54, 8, 25, 4, 21, 8, 25, 5, 42, 27, 182, 0, 248, 28]
abbrev dktX1_said_3 : List UInt8 := dkwX1_said_3 ++ dktX1_said_4
def dkwX1_said_2 : List UInt8 := [58, 5, 42, 180, 0, 82, 3, 46, 2, 160, 0, 6, 16, 254, 172, 3, 54, 6, 3, 54, 7, 21, 6]
abbrev dktX1_said_2 : List UInt8 := dkwX1_said_2 ++ dktX1_said_3
def dkwX1_said_1 : List UInt8 := [182, 1, 4, 42, 180, 0, 64, 180, 0, 161, 28, 50, 58, 4, 42, 180, 0, 64, 180, 0, 186, 27, 50]
abbrev dktX1_said_1 : List UInt8 := dkwX1_said_1 ++ dktX1_said_2
def dkwX1_said_0 : List UInt8 := [42, 27, 182, 0, 182, 153, 0, 14, 28, 184, 0, 222, 153, 0, 7, 29, 156, 0, 5, 2, 172, 42, 27, 28]
abbrev dktX1_said_0 : List UInt8 := dkwX1_said_0 ++ dktX1_said_1
theorem dksX1_said_0 : cX1_said.data.toList.drop 0 = dktX1_said_0 := by decide +kernel
theorem dksX1_said_1 : cX1_said.data.toList.drop 24 = dktX1_said_1 := dk_seg dksX1_said_0 24 rfl rfl
theorem dksX1_said_2 : cX1_said.data.toList.drop 47 = dktX1_said_2 := dk_seg dksX1_said_1 23 rfl rfl
theorem dksX1_said_3 : cX1_said.data.toList.drop 70 = dktX1_said_3 := dk_seg dksX1_said_2 23 rfl rfl
theorem dksX1_said_4 : cX1_said.data.toList.drop 93 = dktX1_said_4 := dk_seg dksX1_said_3 23 rfl rfl
theorem dksX1_said_5 : cX1_said.data.toList.drop 117 = dktX1_said_5 := dk_seg dksX1_said_4 24 rfl rfl
theorem dksX1_said_6 : cX1_said.data.toList.drop 141 = dktX1_said_6 := dk_seg dksX1_said_5 24 rfl rfl
theorem dksX1_said_7 : cX1_said.data.toList.drop 165 = dktX1_said_7 := dk_seg dksX1_said_6 24 rfl rfl
theorem dksX1_said_8 : cX1_said.data.toList.drop 187 = dktX1_said_8 := dk_seg dksX1_said_7 22 rfl rfl
theorem dX1_said_0 : decode cX1_said 0 = .ok (.aload_n 0, 1) := dk_42 (dk_at dksX1_said_0 0 rfl rfl)
theorem dX1_said_1 : decode cX1_said 1 = .ok (.iload_n 1, 1) := dk_27 (dk_at dksX1_said_0 1 rfl rfl)
theorem dX1_said_2 : decode cX1_said 2 = .ok (.invokevirtual 182, 3) := dk_182 0 182 (dk_at dksX1_said_0 2 rfl rfl)
theorem dX1_said_5 : decode cX1_said 5 = .ok (.ifCond .eq 14, 3) := dk_153 0 14 (dk_at dksX1_said_0 5 rfl rfl)
theorem dX1_said_8 : decode cX1_said 8 = .ok (.iload_n 2, 1) := dk_28 (dk_at dksX1_said_0 8 rfl rfl)
theorem dX1_said_9 : decode cX1_said 9 = .ok (.invokestatic 222, 3) := dk_184 0 222 (dk_at dksX1_said_0 9 rfl rfl)
theorem dX1_said_12 : decode cX1_said 12 = .ok (.ifCond .eq 7, 3) := dk_153 0 7 (dk_at dksX1_said_0 12 rfl rfl)
theorem dX1_said_15 : decode cX1_said 15 = .ok (.iload_n 3, 1) := dk_29 (dk_at dksX1_said_0 15 rfl rfl)
theorem dX1_said_16 : decode cX1_said 16 = .ok (.ifCond .ge 5, 3) := dk_156 0 5 (dk_at dksX1_said_0 16 rfl rfl)
theorem dX1_said_19 : decode cX1_said 19 = .ok (.iconst (-1), 1) := dk_2 (dk_at dksX1_said_0 19 rfl rfl)
theorem dX1_said_20 : decode cX1_said 20 = .ok (.ireturn, 1) := dk_172 (dk_at dksX1_said_0 20 rfl rfl)
theorem dX1_said_21 : decode cX1_said 21 = .ok (.aload_n 0, 1) := dk_42 (dk_at dksX1_said_0 21 rfl rfl)
theorem dX1_said_22 : decode cX1_said 22 = .ok (.iload_n 1, 1) := dk_27 (dk_at dksX1_said_0 22 rfl rfl)
theorem dX1_said_23 : decode cX1_said 23 = .ok (.iload_n 2, 1) := dk_28 (dk_at dksX1_said_0 23 rfl rfl)
theorem dX1_said_24 : decode cX1_said 24 = .ok (.invokevirtual 260, 3) := dk_182 1 4 (dk_at dksX1_said_1 0 rfl rfl)
theorem dX1_said_27 : decode cX1_said 27 = .ok (.aload_n 0, 1) := dk_42 (dk_at dksX1_said_1 3 rfl rfl)
theorem dX1_said_28 : decode cX1_said 28 = .ok (.getfield 64, 3) := dk_180 0 64 (dk_at dksX1_said_1 4 rfl rfl)
theorem dX1_said_31 : decode cX1_said 31 = .ok (.getfield 161, 3) := dk_180 0 161 (dk_at dksX1_said_1 7 rfl rfl)
theorem dX1_said_34 : decode cX1_said 34 = .ok (.iload_n 2, 1) := dk_28 (dk_at dksX1_said_1 10 rfl rfl)
theorem dX1_said_35 : decode cX1_said 35 = .ok (.aaload, 1) := dk_50 (dk_at dksX1_said_1 11 rfl rfl)
theorem dX1_said_36 : decode cX1_said 36 = .ok (.astore 4, 2) := dk_58 4 (dk_at dksX1_said_1 12 rfl rfl)
theorem dX1_said_38 : decode cX1_said 38 = .ok (.aload_n 0, 1) := dk_42 (dk_at dksX1_said_1 14 rfl rfl)
theorem dX1_said_39 : decode cX1_said 39 = .ok (.getfield 64, 3) := dk_180 0 64 (dk_at dksX1_said_1 15 rfl rfl)
theorem dX1_said_42 : decode cX1_said 42 = .ok (.getfield 186, 3) := dk_180 0 186 (dk_at dksX1_said_1 18 rfl rfl)
theorem dX1_said_45 : decode cX1_said 45 = .ok (.iload_n 1, 1) := dk_27 (dk_at dksX1_said_1 21 rfl rfl)
theorem dX1_said_46 : decode cX1_said 46 = .ok (.aaload, 1) := dk_50 (dk_at dksX1_said_1 22 rfl rfl)
theorem dX1_said_47 : decode cX1_said 47 = .ok (.astore 5, 2) := dk_58 5 (dk_at dksX1_said_2 0 rfl rfl)
theorem dX1_said_49 : decode cX1_said 49 = .ok (.aload_n 0, 1) := dk_42 (dk_at dksX1_said_2 2 rfl rfl)
theorem dX1_said_50 : decode cX1_said 50 = .ok (.getfield 82, 3) := dk_180 0 82 (dk_at dksX1_said_2 3 rfl rfl)
theorem dX1_said_53 : decode cX1_said 53 = .ok (.iconst 0, 1) := dk_3 (dk_at dksX1_said_2 6 rfl rfl)
theorem dX1_said_54 : decode cX1_said 54 = .ok (.iaload, 1) := dk_46 (dk_at dksX1_said_2 7 rfl rfl)
theorem dX1_said_55 : decode cX1_said 55 = .ok (.iconst (-1), 1) := dk_2 (dk_at dksX1_said_2 8 rfl rfl)
theorem dX1_said_56 : decode cX1_said 56 = .ok (.if_icmp .ne 6, 3) := dk_160 0 6 (dk_at dksX1_said_2 9 rfl rfl)
theorem dX1_said_59 : decode cX1_said 59 = .ok (.bipush (-2), 2) := dk_16 254 (dk_at dksX1_said_2 12 rfl rfl)
theorem dX1_said_61 : decode cX1_said 61 = .ok (.ireturn, 1) := dk_172 (dk_at dksX1_said_2 14 rfl rfl)
theorem dX1_said_62 : decode cX1_said 62 = .ok (.iconst 0, 1) := dk_3 (dk_at dksX1_said_2 15 rfl rfl)
theorem dX1_said_63 : decode cX1_said 63 = .ok (.istore 6, 2) := dk_54 6 (dk_at dksX1_said_2 16 rfl rfl)
theorem dX1_said_65 : decode cX1_said 65 = .ok (.iconst 0, 1) := dk_3 (dk_at dksX1_said_2 18 rfl rfl)
theorem dX1_said_66 : decode cX1_said 66 = .ok (.istore 7, 2) := dk_54 7 (dk_at dksX1_said_2 19 rfl rfl)
theorem dX1_said_68 : decode cX1_said 68 = .ok (.iload 6, 2) := dk_21 6 (dk_at dksX1_said_2 21 rfl rfl)
theorem dX1_said_70 : decode cX1_said 70 = .ok (.aload 5, 2) := dk_25 5 (dk_at dksX1_said_3 0 rfl rfl)
theorem dX1_said_72 : decode cX1_said 72 = .ok (.getfield 190, 3) := dk_180 0 190 (dk_at dksX1_said_3 2 rfl rfl)
theorem dX1_said_75 : decode cX1_said 75 = .ok (.if_icmp .ge 115, 3) := dk_162 0 115 (dk_at dksX1_said_3 5 rfl rfl)
theorem dX1_said_78 : decode cX1_said 78 = .ok (.iconst 0, 1) := dk_3 (dk_at dksX1_said_3 8 rfl rfl)
theorem dX1_said_79 : decode cX1_said 79 = .ok (.istore 8, 2) := dk_54 8 (dk_at dksX1_said_3 9 rfl rfl)
theorem dX1_said_81 : decode cX1_said 81 = .ok (.aload 4, 2) := dk_25 4 (dk_at dksX1_said_3 11 rfl rfl)
theorem dX1_said_83 : decode cX1_said 83 = .ok (.iload 8, 2) := dk_21 8 (dk_at dksX1_said_3 13 rfl rfl)
theorem dX1_said_85 : decode cX1_said 85 = .ok (.aload 5, 2) := dk_25 5 (dk_at dksX1_said_3 15 rfl rfl)
theorem dX1_said_87 : decode cX1_said 87 = .ok (.aload_n 0, 1) := dk_42 (dk_at dksX1_said_3 17 rfl rfl)
theorem dX1_said_88 : decode cX1_said 88 = .ok (.iload_n 1, 1) := dk_27 (dk_at dksX1_said_3 18 rfl rfl)
theorem dX1_said_89 : decode cX1_said 89 = .ok (.invokevirtual 248, 3) := dk_182 0 248 (dk_at dksX1_said_3 19 rfl rfl)
theorem dX1_said_92 : decode cX1_said 92 = .ok (.iload_n 2, 1) := dk_28 (dk_at dksX1_said_3 22 rfl rfl)
theorem dX1_said_93 : decode cX1_said 93 = .ok (.invokevirtual 252, 3) := dk_182 0 252 (dk_at dksX1_said_4 0 rfl rfl)
theorem dX1_said_96 : decode cX1_said 96 = .ok (.iload 6, 2) := dk_21 6 (dk_at dksX1_said_4 3 rfl rfl)
theorem dX1_said_98 : decode cX1_said 98 = .ok (.invokestatic 239, 3) := dk_184 0 239 (dk_at dksX1_said_4 5 rfl rfl)
theorem dX1_said_101 : decode cX1_said 101 = .ok (.ifCond .eq 56, 3) := dk_153 0 56 (dk_at dksX1_said_4 8 rfl rfl)
theorem dX1_said_104 : decode cX1_said 104 = .ok (.aload_n 0, 1) := dk_42 (dk_at dksX1_said_4 11 rfl rfl)
theorem dX1_said_105 : decode cX1_said 105 = .ok (.getfield 82, 3) := dk_180 0 82 (dk_at dksX1_said_4 12 rfl rfl)
theorem dX1_said_108 : decode cX1_said 108 = .ok (.iload 6, 2) := dk_21 6 (dk_at dksX1_said_4 15 rfl rfl)
theorem dX1_said_110 : decode cX1_said 110 = .ok (.aload 4, 2) := dk_25 4 (dk_at dksX1_said_4 17 rfl rfl)
theorem dX1_said_112 : decode cX1_said 112 = .ok (.iload 8, 2) := dk_21 8 (dk_at dksX1_said_4 19 rfl rfl)
theorem dX1_said_114 : decode cX1_said 114 = .ok (.invokevirtual 232, 3) := dk_182 0 232 (dk_at dksX1_said_4 21 rfl rfl)
theorem dX1_said_117 : decode cX1_said 117 = .ok (.iadd, 1) := dk_96 (dk_at dksX1_said_5 0 rfl rfl)
theorem dX1_said_118 : decode cX1_said 118 = .ok (.iaload, 1) := dk_46 (dk_at dksX1_said_5 1 rfl rfl)
theorem dX1_said_119 : decode cX1_said 119 = .ok (.iconst (-1), 1) := dk_2 (dk_at dksX1_said_5 2 rfl rfl)
theorem dX1_said_120 : decode cX1_said 120 = .ok (.if_icmp .eq 37, 3) := dk_159 0 37 (dk_at dksX1_said_5 3 rfl rfl)
theorem dX1_said_123 : decode cX1_said 123 = .ok (.aload 4, 2) := dk_25 4 (dk_at dksX1_said_5 6 rfl rfl)
theorem dX1_said_125 : decode cX1_said 125 = .ok (.getfield 229, 3) := dk_180 0 229 (dk_at dksX1_said_5 8 rfl rfl)
theorem dX1_said_128 : decode cX1_said 128 = .ok (.iload 8, 2) := dk_21 8 (dk_at dksX1_said_5 11 rfl rfl)
theorem dX1_said_130 : decode cX1_said 130 = .ok (.iaload, 1) := dk_46 (dk_at dksX1_said_5 13 rfl rfl)
theorem dX1_said_131 : decode cX1_said 131 = .ok (.aload_n 0, 1) := dk_42 (dk_at dksX1_said_5 14 rfl rfl)
theorem dX1_said_132 : decode cX1_said 132 = .ok (.getfield 82, 3) := dk_180 0 82 (dk_at dksX1_said_5 15 rfl rfl)
theorem dX1_said_135 : decode cX1_said 135 = .ok (.iload 6, 2) := dk_21 6 (dk_at dksX1_said_5 18 rfl rfl)
theorem dX1_said_137 : decode cX1_said 137 = .ok (.aload 4, 2) := dk_25 4 (dk_at dksX1_said_5 20 rfl rfl)
theorem dX1_said_139 : decode cX1_said 139 = .ok (.iload 8, 2) := dk_21 8 (dk_at dksX1_said_5 22 rfl rfl)
theorem dX1_said_141 : decode cX1_said 141 = .ok (.invokevirtual 232, 3) := dk_182 0 232 (dk_at dksX1_said_6 0 rfl rfl)
theorem dX1_said_144 : decode cX1_said 144 = .ok (.iadd, 1) := dk_96 (dk_at dksX1_said_6 3 rfl rfl)
theorem dX1_said_145 : decode cX1_said 145 = .ok (.iaload, 1) := dk_46 (dk_at dksX1_said_6 4 rfl rfl)
theorem dX1_said_146 : decode cX1_said 146 = .ok (.iadd, 1) := dk_96 (dk_at dksX1_said_6 5 rfl rfl)
theorem dX1_said_147 : decode cX1_said 147 = .ok (.aload_n 0, 1) := dk_42 (dk_at dksX1_said_6 6 rfl rfl)
theorem dX1_said_148 : decode cX1_said 148 = .ok (.getfield 82, 3) := dk_180 0 82 (dk_at dksX1_said_6 7 rfl rfl)
theorem dX1_said_151 : decode cX1_said 151 = .ok (.iload 6, 2) := dk_21 6 (dk_at dksX1_said_6 10 rfl rfl)
theorem dX1_said_153 : decode cX1_said 153 = .ok (.iaload, 1) := dk_46 (dk_at dksX1_said_6 12 rfl rfl)
theorem dX1_said_154 : decode cX1_said 154 = .ok (.if_icmp .eq 9, 3) := dk_159 0 9 (dk_at dksX1_said_6 13 rfl rfl)
theorem dX1_said_157 : decode cX1_said 157 = .ok (.iinc 8 1, 3) := dk_132 8 1 (dk_at dksX1_said_6 16 rfl rfl)
theorem dX1_said_160 : decode cX1_said 160 = .ok (.goto (-79), 3) := dk_167 255 177 (dk_at dksX1_said_6 19 rfl rfl)
theorem dX1_said_163 : decode cX1_said 163 = .ok (.iload 7, 2) := dk_21 7 (dk_at dksX1_said_6 22 rfl rfl)
theorem dX1_said_165 : decode cX1_said 165 = .ok (.iload_n 3, 1) := dk_29 (dk_at dksX1_said_7 0 rfl rfl)
theorem dX1_said_166 : decode cX1_said 166 = .ok (.if_icmp .ne 6, 3) := dk_160 0 6 (dk_at dksX1_said_7 1 rfl rfl)
theorem dX1_said_169 : decode cX1_said 169 = .ok (.iload 8, 2) := dk_21 8 (dk_at dksX1_said_7 4 rfl rfl)
theorem dX1_said_171 : decode cX1_said 171 = .ok (.ireturn, 1) := dk_172 (dk_at dksX1_said_7 6 rfl rfl)
theorem dX1_said_172 : decode cX1_said 172 = .ok (.iload 6, 2) := dk_21 6 (dk_at dksX1_said_7 7 rfl rfl)
theorem dX1_said_174 : decode cX1_said 174 = .ok (.aload 4, 2) := dk_25 4 (dk_at dksX1_said_7 9 rfl rfl)
theorem dX1_said_176 : decode cX1_said 176 = .ok (.iload 8, 2) := dk_21 8 (dk_at dksX1_said_7 11 rfl rfl)
theorem dX1_said_178 : decode cX1_said 178 = .ok (.invokevirtual 232, 3) := dk_182 0 232 (dk_at dksX1_said_7 13 rfl rfl)
theorem dX1_said_181 : decode cX1_said 181 = .ok (.iadd, 1) := dk_96 (dk_at dksX1_said_7 16 rfl rfl)
theorem dX1_said_182 : decode cX1_said 182 = .ok (.istore 6, 2) := dk_54 6 (dk_at dksX1_said_7 17 rfl rfl)
theorem dX1_said_184 : decode cX1_said 184 = .ok (.iinc 7 1, 3) := dk_132 7 1 (dk_at dksX1_said_7 19 rfl rfl)
theorem dX1_said_187 : decode cX1_said 187 = .ok (.goto (-119), 3) := dk_167 255 137 (dk_at dksX1_said_8 0 rfl rfl)
theorem dX1_said_190 : decode cX1_said 190 = .ok (.bipush (-2), 2) := dk_16 254 (dk_at dksX1_said_8 3 rfl rfl)
theorem dX1_said_192 : decode cX1_said 192 = .ok (.ireturn, 1) := dk_172 (dk_at dksX1_said_8 5 rfl rfl)
theorem gX1_said_0 {v1 : Int32} {v2 : Int32} {v3 : Int32} {T : zT} {I : zI} {L : zL} {R : zR} {P : zP} (hx : zXok T R) (h : zMet mX1_isSign 2 0 [.ref 1000, .int v1] T I L R (zqI_ T I L R  (fun (r1 : Int32)  => ((r1 = 0 → P 0 (.int (-1 : Int32)) T I L R) ∧ (¬ r1 = 0 → zMet mX1_isTongue 2 0 [.int v2] T I L R (zqI_ T I L R  (fun (r2 : Int32)  => ((r2 = 0 → P 0 (.int (-1 : Int32)) T I L R) ∧ (¬ r2 = 0 → ((0 ≤ v3 → zMet mX1_read 5 0 [.ref 1000, .int v1, .int v2] T I L R (zqV_IL T R  (fun (I3 : zI) (L4 : zL)  => vp_in v2 2 ∧ vp_in v1 6 ∧ (((I3 1017 0) = (-1 : Int32) → P 0 (.int (-2 : Int32)) T I3 L4 R) ∧ (¬ (I3 1017 0) = (-1 : Int32) → zAW mX1_said 6 0 68 [(0, .ref 1000), (1, .int v1), (2, .int v2), (3, .int v3), (4, .ref (R 1201 (v2.toNatClampNeg))), (5, .ref (R 1202 (v1.toNatClampNeg))), (6, .int (0 : Int32)), (7, .int (0 : Int32))] [] T I3 L4 R P))))) ∧ (¬ 0 ≤ v3 → P 0 (.int (-1 : Int32)) T I L R))))))))))) : zAW mX1_said 6 0 0 [(0, .ref 1000), (1, .int v1), (2, .int v2), (3, .int v3)] [] T I L R P := by
  refine za_aload_n (pc' := 1) 0 dX1_said_0 rfl rfl rfl ?_
  refine za_iload_n (pc' := 2) 1 dX1_said_1 rfl rfl rfl ?_
  refine za_callV (κ := 1000) (M2 := mX1_isSign) (d2 := 2) (b2 := 0) (n := 1) (As := [.int v1]) (st := []) (pc' := 5) zc0 (by decide) (congrArg Prod.fst (zX_t1000 hx)) dX1_said_2 rfl (lw_V q1066 q1068 qs32 q131 q1069) ⟨rfl, hd_X1_isSign⟩ rfl (by decide) (by decide) (Nat.zero_le _) (Or.inl rfl) (Nat.le_of_ble_eq_true rfl) h (zqI__k rfl (fun r1 h => ?_)) (fun _ _ _ _ _ _ h9 h8 => absurd h8.1 h9) rfl
  refine za_if_eq (pc' := 8) (tgt := 19) dX1_said_5 (by decide) rfl (fun c9 => ?_) (fun c9 => ?_)
  · replace h := h.1 c9
    refine za_iconst (pc' := 20) dX1_said_19 zi_m1 rfl ?_
    exact za_ireturn rfl dX1_said_20 h
  · replace h := h.2 c9
    refine za_iload_n (pc' := 9) 2 dX1_said_8 rfl rfl rfl ?_
    refine za_callS (M2 := mX1_isTongue) (d2 := 2) (b2 := 0) (n := 1) (As := [.int v2]) (st := []) (pc' := 12) dX1_said_9 rfl (lw_S q1075 q1076 q131 q1077) hd_X1_isTongue rfl (by decide) (by decide) (Nat.zero_le _) (Or.inl rfl) (Nat.le_of_ble_eq_true rfl) h (zqI__k rfl (fun r2 h => ?_)) (fun _ _ _ _ _ _ h9 h8 => absurd h8.1 h9) rfl
    refine za_if_eq (pc' := 15) (tgt := 19) dX1_said_12 (by decide) rfl (fun c9 => ?_) (fun c9 => ?_)
    · replace h := h.1 c9
      refine za_iconst (pc' := 20) dX1_said_19 zi_m1 rfl ?_
      exact za_ireturn rfl dX1_said_20 h
    · replace h := h.2 c9
      refine za_iload_n (pc' := 16) 3 dX1_said_15 rfl rfl rfl ?_
      refine za_if_ge (pc' := 19) (tgt := 21) dX1_said_16 (by decide) rfl (fun c9 => ?_) (fun c9 => ?_)
      · replace h := h.1 c9
        refine za_aload_n (pc' := 22) 0 dX1_said_21 rfl rfl rfl ?_
        refine za_iload_n (pc' := 23) 1 dX1_said_22 rfl rfl rfl ?_
        refine za_iload_n (pc' := 24) 2 dX1_said_23 rfl rfl rfl ?_
        refine za_callV (κ := 1000) (M2 := mX1_read) (d2 := 5) (b2 := 0) (n := 2) (As := [.int v1, .int v2]) (st := []) (pc' := 27) zc0 (by decide) (congrArg Prod.fst (zX_t1000 hx)) dX1_said_24 rfl (lw_V q1083 q1085 qs33 q131 q1086) ⟨rfl, hd_X1_read⟩ rfl (by decide) (by decide) (Nat.zero_le _) (Or.inl rfl) (Nat.le_of_ble_eq_true rfl) h (zqV_IL_k rfl (fun I3 L4 h => ?_)) (fun _ _ _ _ _ _ h9 h8 => absurd h8.1 h9) rfl
        refine za_aload_n (pc' := 28) 0 dX1_said_27 rfl rfl rfl ?_
        refine za_get (fi := 10) (v := .ref 1200) (pc' := 31) dX1_said_28 zc0 (by decide) in_X1 (by decide) q500 (Or.inl rfl) (congrArg Prod.fst (zX_t1000 hx)) (congrArg Value.ref (zX_r1000_10 hx)) rfl ?_
        refine za_getN (fi := 0) (v := .ref 1201) (pc' := 34) dX1_said_31 zc9 (by decide) in_X10 (by decide) q416 (Or.inl rfl) (congrArg Prod.fst (zX_t1200 hx)) (congrArg Value.ref (zX_r1200_0 hx)) rfl ?_
        refine za_iload_n (pc' := 35) 2 dX1_said_34 rfl rfl rfl ?_
        obtain ⟨hi5, h⟩ := h
        refine za_aald (r := (R 1201 (v2.toNatClampNeg))) (t := 4) (C := RX4) (pc' := 36) dX1_said_35 (by decide) (fun _ => rfl) (zX_t1201 hx) hi5 (rfl) rfl ?_
        refine za_astore (pc' := 38) (l' := [(4, .ref (R 1201 (v2.toNatClampNeg))), (0, .ref 1000), (1, .int v1), (2, .int v2), (3, .int v3)]) dX1_said_36 (Nat.le_of_ble_eq_true rfl) rfl rfl ?_
        refine za_aload_n (pc' := 39) 1 dX1_said_38 rfl rfl rfl ?_
        refine za_get (fi := 10) (v := .ref 1200) (pc' := 42) dX1_said_39 zc0 (by decide) in_X1 (by decide) q500 (Or.inl rfl) (congrArg Prod.fst (zX_t1000 hx)) (congrArg Value.ref (zX_r1000_10 hx)) rfl ?_
        refine za_getN (fi := 1) (v := .ref 1202) (pc' := 45) dX1_said_42 zc9 (by decide) in_X10 (by decide) q418 (Or.inl rfl) (congrArg Prod.fst (zX_t1200 hx)) (congrArg Value.ref (zX_r1200_1 hx)) rfl ?_
        refine za_iload_n (pc' := 46) 2 dX1_said_45 rfl rfl rfl ?_
        obtain ⟨hi6, h⟩ := h
        refine za_aald (r := (R 1202 (v1.toNatClampNeg))) (t := 5) (C := RX11) (pc' := 47) dX1_said_46 (by decide) (fun _ => rfl) (zX_t1202 hx) hi6 (rfl) rfl ?_
        refine za_astore (pc' := 49) (l' := [(5, .ref (R 1202 (v1.toNatClampNeg))), (4, .ref (R 1201 (v2.toNatClampNeg))), (0, .ref 1000), (1, .int v1), (2, .int v2), (3, .int v3)]) dX1_said_47 (Nat.le_of_ble_eq_true rfl) rfl rfl ?_
        refine za_aload_n (pc' := 50) 2 dX1_said_49 rfl rfl rfl ?_
        refine za_get (fi := 16) (v := .ref 1017) (pc' := 53) dX1_said_50 zc0 (by decide) in_X1 (by decide) q506 (Or.inl rfl) (congrArg Prod.fst (zX_t1000 hx)) (congrArg Value.ref (zX_r1000_16 hx)) rfl ?_
        refine za_iconst (pc' := 54) dX1_said_53 zi_0 rfl ?_
        refine za_iald (v := .int (I3 1017 0)) (pc' := 55) dX1_said_54 (zX_t1017 hx) (zin (by decide)) (congrArg Value.int (zix zn_0 (rfl))) rfl ?_
        refine za_iconst (pc' := 56) dX1_said_55 zi_m1 rfl ?_
        refine za_icmp_ne (pc' := 59) (tgt := 62) dX1_said_56 (by decide) rfl (fun c9 => ?_) (fun c9 => ?_)
        · replace h := h.2 c9
          refine za_iconst (pc' := 63) dX1_said_62 zi_0 rfl ?_
          refine za_istore (pc' := 65) (l' := [(6, .int (0 : Int32)), (5, .ref (R 1202 (v1.toNatClampNeg))), (4, .ref (R 1201 (v2.toNatClampNeg))), (0, .ref 1000), (1, .int v1), (2, .int v2), (3, .int v3)]) dX1_said_63 (Nat.le_of_ble_eq_true rfl) rfl rfl ?_
          refine za_iconst (pc' := 66) dX1_said_65 zi_0 rfl ?_
          refine za_istore (pc' := 68) (l' := [(7, .int (0 : Int32)), (6, .int (0 : Int32)), (5, .ref (R 1202 (v1.toNatClampNeg))), (4, .ref (R 1201 (v2.toNatClampNeg))), (0, .ref 1000), (1, .int v1), (2, .int v2), (3, .int v3)]) dX1_said_66 (Nat.le_of_ble_eq_true rfl) rfl rfl ?_
          exact zAW_sub [4, 5, 6, 7, 3, 2, 1, 0] rfl h
        · replace h := h.1 c9
          refine za_bipush (pc' := 61) dX1_said_59 zb8_m2 rfl ?_
          exact za_ireturn rfl dX1_said_61 h
      · replace h := h.2 c9
        refine za_iconst (pc' := 20) dX1_said_19 zi_m1 rfl ?_
        exact za_ireturn rfl dX1_said_20 h
theorem gX1_said_68 {v1 : Int32} {v2 : Int32} {v3 : Int32} {v4 : Nat} {v5 : Nat} {v6 : Int32} {v7 : Int32} {T : zT} {I : zI} {L : zL} {R : zR} {P : zP} (hx : zXok T R) (h : (T v5).1 = 11 ∧ (((I v5 1) ≤ v6 → P 0 (.int (-2 : Int32)) T I L R) ∧ (¬ (I v5 1) ≤ v6 → zAW mX1_said 6 0 81 [(0, .ref 1000), (1, .int v1), (2, .int v2), (3, .int v3), (4, .ref v4), (5, .ref v5), (6, .int v6), (7, .int v7), (8, .int (0 : Int32))] [] T I L R P))) : zAW mX1_said 6 0 68 [(0, .ref 1000), (1, .int v1), (2, .int v2), (3, .int v3), (4, .ref v4), (5, .ref v5), (6, .int v6), (7, .int v7)] [] T I L R P := by
  refine za_iload (pc' := 70) 6 dX1_said_68 rfl rfl ?_
  refine za_aload (pc' := 72) 5 dX1_said_70 rfl rfl ?_
  obtain ⟨ht7, h⟩ := h
  refine za_getN (fi := 1) (v := .int (I v5 1)) (pc' := 75) dX1_said_72 zc10 (by decide) in_X11 (by decide) q408 (Or.inl rfl) ht7 rfl rfl ?_
  refine za_icmp_ge (pc' := 78) (tgt := 190) dX1_said_75 (by decide) rfl (fun c9 => ?_) (fun c9 => ?_)
  · replace h := h.1 c9
    refine za_bipush (pc' := 192) dX1_said_190 zb8_m2 rfl ?_
    exact za_ireturn rfl dX1_said_192 h
  · replace h := h.2 c9
    refine za_iconst (pc' := 79) dX1_said_78 zi_0 rfl ?_
    refine za_istore (pc' := 81) (l' := [(8, .int (0 : Int32)), (0, .ref 1000), (1, .int v1), (2, .int v2), (3, .int v3), (4, .ref v4), (5, .ref v5), (6, .int v6), (7, .int v7)]) dX1_said_79 (Nat.le_of_ble_eq_true rfl) rfl rfl ?_
    exact zAW_sub [1, 2, 3, 4, 5, 6, 7, 8, 0] rfl h
theorem gX1_said_81 {v1 : Int32} {v2 : Int32} {v3 : Int32} {v4 : Nat} {v5 : Nat} {v6 : Int32} {v7 : Int32} {v8 : Int32} {T : zT} {I : zI} {L : zL} {R : zR} {P : zP} (hx : zXok T R) (h : zMet mX1_kindOf 4 0 [.ref 1000, .int v1] T I L R (zqR_ T I L R  (fun (r8 : Nat)  => ((((T r8).1 = 6 ∧ zMet mX6_isFromRight 1 0 [.ref r8, .int v2] T I L R (zqI_ T I L R  (fun (r9 : Int32)  => zAW mX1_said 6 0 96 [(0, .ref 1000), (1, .int v1), (2, .int v2), (3, .int v3), (4, .ref v4), (5, .ref v5), (6, .int v6), (7, .int v7), (8, .int v8)] [.int r9, .ref v5, .int v8, .ref v4] T I L R P)))) ∨ (((T r8).1 = 7 ∧ zMet mX7_isFromRight 1 0 [.ref r8, .int v2] T I L R (zqI_ T I L R  (fun (r10 : Int32)  => zAW mX1_said 6 0 96 [(0, .ref 1000), (1, .int v1), (2, .int v2), (3, .int v3), (4, .ref v4), (5, .ref v5), (6, .int v6), (7, .int v7), (8, .int v8)] [.int r10, .ref v5, .int v8, .ref v4] T I L R P)))) ∨ (((T r8).1 = 8 ∧ zMet mX8_isFromRight 1 0 [.ref r8, .int v2] T I L R (zqI_ T I L R  (fun (r11 : Int32)  => zAW mX1_said 6 0 96 [(0, .ref 1000), (1, .int v1), (2, .int v2), (3, .int v3), (4, .ref v4), (5, .ref v5), (6, .int v6), (7, .int v7), (8, .int v8)] [.int r11, .ref v5, .int v8, .ref v4] T I L R P)))) ∨ (((T r8).1 = 9 ∧ zMet mX9_isFromRight 2 0 [.ref r8, .int v2] T I L R (zqI_ T I L R  (fun (r12 : Int32)  => zAW mX1_said 6 0 96 [(0, .ref 1000), (1, .int v1), (2, .int v2), (3, .int v3), (4, .ref v4), (5, .ref v5), (6, .int v6), (7, .int v7), (8, .int v8)] [.int r12, .ref v5, .int v8, .ref v4] T I L R P)))))))) : zAW mX1_said 6 0 81 [(0, .ref 1000), (1, .int v1), (2, .int v2), (3, .int v3), (4, .ref v4), (5, .ref v5), (6, .int v6), (7, .int v7), (8, .int v8)] [] T I L R P := by
  refine za_aload (pc' := 83) 4 dX1_said_81 rfl rfl ?_
  refine za_iload (pc' := 85) 8 dX1_said_83 rfl rfl ?_
  refine za_aload (pc' := 87) 5 dX1_said_85 rfl rfl ?_
  refine za_aload_n (pc' := 88) 0 dX1_said_87 rfl rfl rfl ?_
  refine za_iload_n (pc' := 89) 1 dX1_said_88 rfl rfl rfl ?_
  refine za_callV (κ := 1000) (M2 := mX1_kindOf) (d2 := 4) (b2 := 0) (n := 1) (As := [.int v1]) (st := [.ref v5, .int v8, .ref v4]) (pc' := 92) zc0 (by decide) (congrArg Prod.fst (zX_t1000 hx)) dX1_said_89 rfl (lw_V q1087 q1089 qs34 q131 q1090) ⟨rfl, hd_X1_kindOf⟩ rfl (by decide) (by decide) (Nat.zero_le _) (Or.inl rfl) (Nat.le_of_ble_eq_true rfl) h (zqR__k rfl (fun r8 h => ?_)) (fun _ _ _ _ _ _ h9 h8 => absurd h8.1 h9) rfl
  refine za_iload_n (pc' := 93) 2 dX1_said_92 rfl rfl rfl ?_
  rcases h with h | h | h | h
  · obtain ⟨h0, h⟩ := h
    exact za_callU (κ := r8) (owner := "TwoTongues$Kind") (x9 := ⟨"TwoTongues$Kind", "isFromRight", "(I)Z"⟩) (M2 := mX6_isFromRight) (d2 := 1) (b2 := 0) (n := 1) (As := [.int v2]) (st := [.ref v5, .int v8, .ref v4]) (pc' := 96) zc5 (by decide) h0 dX1_said_93 rfl (lw_U q1093 q1095 q1105 q1106 q139 q1107) q1094 hdx_kind rfl (by decide) (by decide) (Nat.zero_le _) (Or.inl rfl) (Nat.le_of_ble_eq_true rfl) h (zqI__k rfl (fun r9 h => zAW_sub [0, 1, 2, 3, 4, 5, 6, 7, 8] rfl h)) (fun _ _ _ _ _ _ h9 h8 => absurd h8.1 h9) rfl
  · obtain ⟨h0, h⟩ := h
    exact za_callU (κ := r8) (owner := "TwoTongues$Kind") (x9 := ⟨"TwoTongues$Kind", "isFromRight", "(I)Z"⟩) (M2 := mX7_isFromRight) (d2 := 1) (b2 := 0) (n := 1) (As := [.int v2]) (st := [.ref v5, .int v8, .ref v4]) (pc' := 96) zc6 (by decide) h0 dX1_said_93 rfl (lw_U q1093 q1095 q1102 q1103 q140 q1104) q1094 hdx_kind rfl (by decide) (by decide) (Nat.zero_le _) (Or.inl rfl) (Nat.le_of_ble_eq_true rfl) h (zqI__k rfl (fun r10 h => zAW_sub [0, 1, 2, 3, 4, 5, 6, 7, 8] rfl h)) (fun _ _ _ _ _ _ h9 h8 => absurd h8.1 h9) rfl
  · obtain ⟨h0, h⟩ := h
    exact za_callU (κ := r8) (owner := "TwoTongues$Kind") (x9 := ⟨"TwoTongues$Kind", "isFromRight", "(I)Z"⟩) (M2 := mX8_isFromRight) (d2 := 1) (b2 := 0) (n := 1) (As := [.int v2]) (st := [.ref v5, .int v8, .ref v4]) (pc' := 96) zc7 (by decide) h0 dX1_said_93 rfl (lw_U q1093 q1095 q1108 q1100 q141 q1101) q1094 hdx_kind rfl (by decide) (by decide) (Nat.zero_le _) (Or.inl rfl) (Nat.le_of_ble_eq_true rfl) h (zqI__k rfl (fun r11 h => zAW_sub [0, 1, 2, 3, 4, 5, 6, 7, 8] rfl h)) (fun _ _ _ _ _ _ h9 h8 => absurd h8.1 h9) rfl
  · obtain ⟨h0, h⟩ := h
    exact za_callU (κ := r8) (owner := "TwoTongues$Kind") (x9 := ⟨"TwoTongues$Kind", "isFromRight", "(I)Z"⟩) (M2 := mX9_isFromRight) (d2 := 2) (b2 := 0) (n := 1) (As := [.int v2]) (st := [.ref v5, .int v8, .ref v4]) (pc' := 96) zc8 (by decide) h0 dX1_said_93 rfl (lw_U q1093 q1095 q1096 q1097 q142 q1098) q1094 hdx_kind rfl (by decide) (by decide) (Nat.zero_le _) (Or.inl rfl) (Nat.le_of_ble_eq_true rfl) h (zqI__k rfl (fun r12 h => zAW_sub [0, 1, 2, 3, 4, 5, 6, 7, 8] rfl h)) (fun _ _ _ _ _ _ h9 h8 => absurd h8.1 h9) rfl
theorem gX1_said_96 {v1 : Int32} {v2 : Int32} {v3 : Int32} {v4 : Nat} {v5 : Nat} {v6 : Int32} {v7 : Int32} {v8 : Int32} {s0 : Int32} {s1 : Nat} {s2 : Int32} {s3 : Nat} {T : zT} {I : zI} {L : zL} {R : zR} {P : zP} (hx : zXok T R) (h : zMet mX1_stands 3 0 [.ref s3, .int s2, .ref s1, .int s0, .int v6] T I L R (zqI_ T I L R  (fun (r13 : Int32)  => ((r13 = 0 → zAW mX1_said 6 0 81 [(0, .ref 1000), (1, .int v1), (2, .int v2), (3, .int v3), (4, .ref v4), (5, .ref v5), (6, .int v6), (7, .int v7), (8, .int (v8 + (1 : Int32)))] [] T I L R P) ∧ (¬ r13 = 0 → (T v4).1 = 4 ∧ zMet mX4_length 2 0 [.ref v4, .int v8] T I L R (zqI_ T I L R  (fun (r14 : Int32)  => vp_in (v6 + r14) 13 ∧ (((I 1017 ((v6 + r14).toNatClampNeg)) = (-1 : Int32) → zAW mX1_said 6 0 81 [(0, .ref 1000), (1, .int v1), (2, .int v2), (3, .int v3), (4, .ref v4), (5, .ref v5), (6, .int v6), (7, .int v7), (8, .int (v8 + (1 : Int32)))] [] T I L R P) ∧ (¬ (I 1017 ((v6 + r14).toNatClampNeg)) = (-1 : Int32) → (T (R v4 1)).1 = 100 ∧ vp_in v8 ((T (R v4 1)).2) ∧ zMet mX4_length 2 0 [.ref v4, .int v8] T I L R (zqI_ T I L R  (fun (r19 : Int32)  => vp_in (v6 + r19) 13 ∧ vp_in v6 13 ∧ ((((I (R v4 1) (v8.toNatClampNeg)) + (I 1017 ((v6 + r19).toNatClampNeg))) = (I 1017 (v6.toNatClampNeg)) → ((v7 = v3 → P 0 (.int v8) T I L R) ∧ (¬ v7 = v3 → zMet mX4_length 2 0 [.ref v4, .int v8] T I L R (zqI_ T I L R  (fun (r22 : Int32)  => zAW mX1_said 6 0 68 [(0, .ref 1000), (1, .int v1), (2, .int v2), (3, .int v3), (4, .ref v4), (5, .ref v5), (6, .int (v6 + r22)), (7, .int (v7 + (1 : Int32)))] [] T I L R P))))) ∧ (¬ ((I (R v4 1) (v8.toNatClampNeg)) + (I 1017 ((v6 + r19).toNatClampNeg))) = (I 1017 (v6.toNatClampNeg)) → zAW mX1_said 6 0 81 [(0, .ref 1000), (1, .int v1), (2, .int v2), (3, .int v3), (4, .ref v4), (5, .ref v5), (6, .int v6), (7, .int v7), (8, .int (v8 + (1 : Int32)))] [] T I L R P))))))))))))) : zAW mX1_said 6 0 96 [(0, .ref 1000), (1, .int v1), (2, .int v2), (3, .int v3), (4, .ref v4), (5, .ref v5), (6, .int v6), (7, .int v7), (8, .int v8)] [.int s0, .ref s1, .int s2, .ref s3] T I L R P := by
  refine za_iload (pc' := 98) 6 dX1_said_96 rfl rfl ?_
  refine za_callS (M2 := mX1_stands) (d2 := 3) (b2 := 0) (n := 5) (As := [.ref s3, .int s2, .ref s1, .int s0, .int v6]) (st := []) (pc' := 101) dX1_said_98 rfl (lw_S q1113 q1114 q131 q1115) hd_X1_stands rfl (by decide) (by decide) (Nat.zero_le _) (Or.inl rfl) (Nat.le_of_ble_eq_true rfl) h (zqI__k rfl (fun r13 h => ?_)) (fun _ _ _ _ _ _ h9 h8 => absurd h8.1 h9) rfl
  refine za_if_eq (pc' := 104) (tgt := 157) dX1_said_101 (by decide) rfl (fun c9 => ?_) (fun c9 => ?_)
  · replace h := h.1 c9
    refine za_iinc (pc' := 160) (l' := [(8, .int (v8 + (1 : Int32))), (0, .ref 1000), (1, .int v1), (2, .int v2), (3, .int v3), (4, .ref v4), (5, .ref v5), (6, .int v6), (7, .int v7)]) 8 dX1_said_157 rfl (zinc zi_1) (Nat.le_of_ble_eq_true rfl) rfl rfl ?_
    refine za_goto (tgt := 81) dX1_said_160 (by decide) ?_
    exact zAW_sub [1, 2, 3, 4, 5, 6, 7, 8, 0] rfl h
  · replace h := h.2 c9
    refine za_aload_n (pc' := 105) 0 dX1_said_104 rfl rfl rfl ?_
    refine za_get (fi := 16) (v := .ref 1017) (pc' := 108) dX1_said_105 zc0 (by decide) in_X1 (by decide) q506 (Or.inl rfl) (congrArg Prod.fst (zX_t1000 hx)) (congrArg Value.ref (zX_r1000_16 hx)) rfl ?_
    refine za_iload (pc' := 110) 6 dX1_said_108 rfl rfl ?_
    refine za_aload (pc' := 112) 4 dX1_said_110 rfl rfl ?_
    refine za_iload (pc' := 114) 8 dX1_said_112 rfl rfl ?_
    obtain ⟨ht15, h⟩ := h
    refine za_callV (κ := v4) (M2 := mX4_length) (d2 := 2) (b2 := 0) (n := 1) (As := [.int v8]) (st := [.int v6, .ref 1017]) (pc' := 117) zc3 (by decide) ht15 dX1_said_114 rfl (lw_V q1116 q1117 q1118 q134 q1119) ⟨rfl, hd_X4_length⟩ rfl (by decide) (by decide) (Nat.zero_le _) (Or.inl rfl) (Nat.le_of_ble_eq_true rfl) h (zqI__k rfl (fun r14 h => ?_)) (fun _ _ _ _ _ _ h9 h8 => absurd h8.1 h9) rfl
    refine za_iadd (pc' := 118) dX1_said_117 rfl ?_
    obtain ⟨hi16, h⟩ := h
    refine za_iald (v := .int (I 1017 ((v6 + r14).toNatClampNeg))) (pc' := 119) dX1_said_118 (zX_t1017 hx) hi16 rfl rfl ?_
    refine za_iconst (pc' := 120) dX1_said_119 zi_m1 rfl ?_
    refine za_icmp_eq (pc' := 123) (tgt := 157) dX1_said_120 (by decide) rfl (fun c9 => ?_) (fun c9 => ?_)
    · replace h := h.1 c9
      refine za_iinc (pc' := 160) (l' := [(8, .int (v8 + (1 : Int32))), (0, .ref 1000), (1, .int v1), (2, .int v2), (3, .int v3), (4, .ref v4), (5, .ref v5), (6, .int v6), (7, .int v7)]) 8 dX1_said_157 rfl (zinc zi_1) (Nat.le_of_ble_eq_true rfl) rfl rfl ?_
      refine za_goto (tgt := 81) dX1_said_160 (by decide) ?_
      exact zAW_sub [1, 2, 3, 4, 5, 6, 7, 8, 0] rfl h
    · replace h := h.2 c9
      refine za_aload (pc' := 125) 4 dX1_said_123 rfl rfl ?_
      refine za_getN (fi := 1) (v := .ref (R v4 1)) (pc' := 128) dX1_said_125 zc3 (by decide) in_X4 (by decide) q229 (Or.inl rfl) ht15 rfl rfl ?_
      refine za_iload (pc' := 130) 8 dX1_said_128 rfl rfl ?_
      obtain ⟨ht17, h⟩ := h
      obtain ⟨hi18, h⟩ := h
      refine za_iald (v := .int (I (R v4 1) (v8.toNatClampNeg))) (pc' := 131) dX1_said_130 (zpair ht17) hi18 rfl rfl ?_
      refine za_aload_n (pc' := 132) 0 dX1_said_131 rfl rfl rfl ?_
      refine za_get (fi := 16) (v := .ref 1017) (pc' := 135) dX1_said_132 zc0 (by decide) in_X1 (by decide) q506 (Or.inl rfl) (congrArg Prod.fst (zX_t1000 hx)) (congrArg Value.ref (zX_r1000_16 hx)) rfl ?_
      refine za_iload (pc' := 137) 6 dX1_said_135 rfl rfl ?_
      refine za_aload (pc' := 139) 4 dX1_said_137 rfl rfl ?_
      refine za_iload (pc' := 141) 8 dX1_said_139 rfl rfl ?_
      refine za_callV (κ := v4) (M2 := mX4_length) (d2 := 2) (b2 := 0) (n := 1) (As := [.int v8]) (st := [.int v6, .ref 1017, .int (I (R v4 1) (v8.toNatClampNeg))]) (pc' := 144) zc3 (by decide) ht15 dX1_said_141 rfl (lw_V q1116 q1117 q1118 q134 q1119) ⟨rfl, hd_X4_length⟩ rfl (by decide) (by decide) (Nat.zero_le _) (Or.inl rfl) (Nat.le_of_ble_eq_true rfl) h (zqI__k rfl (fun r19 h => ?_)) (fun _ _ _ _ _ _ h9 h8 => absurd h8.1 h9) rfl
      refine za_iadd (pc' := 145) dX1_said_144 rfl ?_
      obtain ⟨hi20, h⟩ := h
      refine za_iald (v := .int (I 1017 ((v6 + r19).toNatClampNeg))) (pc' := 146) dX1_said_145 (zX_t1017 hx) hi20 rfl rfl ?_
      refine za_iadd (pc' := 147) dX1_said_146 rfl ?_
      refine za_aload_n (pc' := 148) 0 dX1_said_147 rfl rfl rfl ?_
      refine za_get (fi := 16) (v := .ref 1017) (pc' := 151) dX1_said_148 zc0 (by decide) in_X1 (by decide) q506 (Or.inl rfl) (congrArg Prod.fst (zX_t1000 hx)) (congrArg Value.ref (zX_r1000_16 hx)) rfl ?_
      refine za_iload (pc' := 153) 6 dX1_said_151 rfl rfl ?_
      obtain ⟨hi21, h⟩ := h
      refine za_iald (v := .int (I 1017 (v6.toNatClampNeg))) (pc' := 154) dX1_said_153 (zX_t1017 hx) hi21 rfl rfl ?_
      refine za_icmp_eq (pc' := 157) (tgt := 163) dX1_said_154 (by decide) rfl (fun c9 => ?_) (fun c9 => ?_)
      · replace h := h.1 c9
        refine za_iload (pc' := 165) 7 dX1_said_163 rfl rfl ?_
        refine za_iload_n (pc' := 166) 3 dX1_said_165 rfl rfl rfl ?_
        refine za_icmp_ne (pc' := 169) (tgt := 172) dX1_said_166 (by decide) rfl (fun c9 => ?_) (fun c9 => ?_)
        · replace h := h.2 c9
          refine za_iload (pc' := 174) 6 dX1_said_172 rfl rfl ?_
          refine za_aload (pc' := 176) 4 dX1_said_174 rfl rfl ?_
          refine za_iload (pc' := 178) 8 dX1_said_176 rfl rfl ?_
          refine za_callV (κ := v4) (M2 := mX4_length) (d2 := 2) (b2 := 0) (n := 1) (As := [.int v8]) (st := [.int v6]) (pc' := 181) zc3 (by decide) ht15 dX1_said_178 rfl (lw_V q1116 q1117 q1118 q134 q1119) ⟨rfl, hd_X4_length⟩ rfl (by decide) (by decide) (Nat.zero_le _) (Or.inl rfl) (Nat.le_of_ble_eq_true rfl) h (zqI__k rfl (fun r22 h => ?_)) (fun _ _ _ _ _ _ h9 h8 => absurd h8.1 h9) rfl
          refine za_iadd (pc' := 182) dX1_said_181 rfl ?_
          refine za_istore (pc' := 184) (l' := [(6, .int (v6 + r22)), (0, .ref 1000), (1, .int v1), (2, .int v2), (3, .int v3), (4, .ref v4), (5, .ref v5), (7, .int v7), (8, .int v8)]) dX1_said_182 (Nat.le_of_ble_eq_true rfl) rfl rfl ?_
          refine za_iinc (pc' := 187) (l' := [(7, .int (v7 + (1 : Int32))), (6, .int (v6 + r22)), (0, .ref 1000), (1, .int v1), (2, .int v2), (3, .int v3), (4, .ref v4), (5, .ref v5), (8, .int v8)]) 7 dX1_said_184 rfl (zinc zi_1) (Nat.le_of_ble_eq_true rfl) rfl rfl ?_
          refine za_goto (tgt := 68) dX1_said_187 (by decide) ?_
          exact zAW_sub [2, 3, 4, 5, 6, 7, 1, 0] rfl h
        · replace h := h.1 c9
          refine za_iload (pc' := 171) 8 dX1_said_169 rfl rfl ?_
          exact za_ireturn rfl dX1_said_171 h
      · replace h := h.2 c9
        refine za_iinc (pc' := 160) (l' := [(8, .int (v8 + (1 : Int32))), (0, .ref 1000), (1, .int v1), (2, .int v2), (3, .int v3), (4, .ref v4), (5, .ref v5), (6, .int v6), (7, .int v7)]) 8 dX1_said_157 rfl (zinc zi_1) (Nat.le_of_ble_eq_true rfl) rfl rfl ?_
        refine za_goto (tgt := 81) dX1_said_160 (by decide) ?_
        exact zAW_sub [1, 2, 3, 4, 5, 6, 7, 8, 0] rfl h
theorem sX1_said {d b : Nat} {v1 : Int32} {v2 : Int32} {v3 : Int32} {T : zT} {I : zI} {L : zL} {R : zR} {P : zP} (h : zAW mX1_said d b 0 [(0, .ref 1000), (1, .int v1), (2, .int v2), (3, .int v3)] [] T I L R P) : zMet mX1_said d b [.ref 1000, .int v1, .int v2, .int v3] T I L R P := zMet_of (by decide +kernel) rfl (Nat.le_of_ble_eq_true rfl) rfl h
/-! TwoTongues.says (III)I -/
def dkwX1_says_1 : List UInt8 := [167, 0, 18, 42, 27, 28, 29, 182, 1, 13, 153, 0, 7, 4, 167, 0, 4, 3, 172]
abbrev dktX1_says_1 : List UInt8 := dkwX1_says_1 ++ []
def dkwX1_says_0 : List UInt8 := [42, 27, 182, 0, 182, 153, 0, 17, 28, 184, 0, 222, 153, 0, 10, 29, 184, 1, 10, 154, 0, 7, 2]
abbrev dktX1_says_0 : List UInt8 := dkwX1_says_0 ++ dktX1_says_1
theorem dksX1_says_0 : cX1_says.data.toList.drop 0 = dktX1_says_0 := by decide +kernel
theorem dksX1_says_1 : cX1_says.data.toList.drop 23 = dktX1_says_1 := dk_seg dksX1_says_0 23 rfl rfl
theorem dX1_says_0 : decode cX1_says 0 = .ok (.aload_n 0, 1) := dk_42 (dk_at dksX1_says_0 0 rfl rfl)
theorem dX1_says_1 : decode cX1_says 1 = .ok (.iload_n 1, 1) := dk_27 (dk_at dksX1_says_0 1 rfl rfl)
theorem dX1_says_2 : decode cX1_says 2 = .ok (.invokevirtual 182, 3) := dk_182 0 182 (dk_at dksX1_says_0 2 rfl rfl)
theorem dX1_says_5 : decode cX1_says 5 = .ok (.ifCond .eq 17, 3) := dk_153 0 17 (dk_at dksX1_says_0 5 rfl rfl)
theorem dX1_says_8 : decode cX1_says 8 = .ok (.iload_n 2, 1) := dk_28 (dk_at dksX1_says_0 8 rfl rfl)
theorem dX1_says_9 : decode cX1_says 9 = .ok (.invokestatic 222, 3) := dk_184 0 222 (dk_at dksX1_says_0 9 rfl rfl)
theorem dX1_says_12 : decode cX1_says 12 = .ok (.ifCond .eq 10, 3) := dk_153 0 10 (dk_at dksX1_says_0 12 rfl rfl)
theorem dX1_says_15 : decode cX1_says 15 = .ok (.iload_n 3, 1) := dk_29 (dk_at dksX1_says_0 15 rfl rfl)
theorem dX1_says_16 : decode cX1_says 16 = .ok (.invokestatic 266, 3) := dk_184 1 10 (dk_at dksX1_says_0 16 rfl rfl)
theorem dX1_says_19 : decode cX1_says 19 = .ok (.ifCond .ne 7, 3) := dk_154 0 7 (dk_at dksX1_says_0 19 rfl rfl)
theorem dX1_says_22 : decode cX1_says 22 = .ok (.iconst (-1), 1) := dk_2 (dk_at dksX1_says_0 22 rfl rfl)
theorem dX1_says_23 : decode cX1_says 23 = .ok (.goto 18, 3) := dk_167 0 18 (dk_at dksX1_says_1 0 rfl rfl)
theorem dX1_says_26 : decode cX1_says 26 = .ok (.aload_n 0, 1) := dk_42 (dk_at dksX1_says_1 3 rfl rfl)
theorem dX1_says_27 : decode cX1_says 27 = .ok (.iload_n 1, 1) := dk_27 (dk_at dksX1_says_1 4 rfl rfl)
theorem dX1_says_28 : decode cX1_says 28 = .ok (.iload_n 2, 1) := dk_28 (dk_at dksX1_says_1 5 rfl rfl)
theorem dX1_says_29 : decode cX1_says 29 = .ok (.iload_n 3, 1) := dk_29 (dk_at dksX1_says_1 6 rfl rfl)
theorem dX1_says_30 : decode cX1_says 30 = .ok (.invokevirtual 269, 3) := dk_182 1 13 (dk_at dksX1_says_1 7 rfl rfl)
theorem dX1_says_33 : decode cX1_says 33 = .ok (.ifCond .eq 7, 3) := dk_153 0 7 (dk_at dksX1_says_1 10 rfl rfl)
theorem dX1_says_36 : decode cX1_says 36 = .ok (.iconst 1, 1) := dk_4 (dk_at dksX1_says_1 13 rfl rfl)
theorem dX1_says_37 : decode cX1_says 37 = .ok (.goto 4, 3) := dk_167 0 4 (dk_at dksX1_says_1 14 rfl rfl)
theorem dX1_says_40 : decode cX1_says 40 = .ok (.iconst 0, 1) := dk_3 (dk_at dksX1_says_1 17 rfl rfl)
theorem dX1_says_41 : decode cX1_says 41 = .ok (.ireturn, 1) := dk_172 (dk_at dksX1_says_1 18 rfl rfl)
theorem gX1_says_0 {v1 : Int32} {v2 : Int32} {v3 : Int32} {T : zT} {I : zI} {L : zL} {R : zR} {P : zP} (hx : zXok T R) (h : zMet mX1_isSign 2 0 [.ref 1000, .int v1] T I L R (zqI_ T I L R  (fun (r1 : Int32)  => ((r1 = 0 → P 0 (.int (-1 : Int32)) T I L R) ∧ (¬ r1 = 0 → zMet mX1_isTongue 2 0 [.int v2] T I L R (zqI_ T I L R  (fun (r2 : Int32)  => ((r2 = 0 → P 0 (.int (-1 : Int32)) T I L R) ∧ (¬ r2 = 0 → zMet mX1_isDay 2 0 [.int v3] T I L R (zqI_ T I L R  (fun (r3 : Int32)  => ((r3 = 0 → P 0 (.int (-1 : Int32)) T I L R) ∧ (¬ r3 = 0 → zMet mX1_isSaid 6 0 [.ref 1000, .int v1, .int v2, .int v3] T I L R (zqI_IL T R  (fun (r4 : Int32) (I5 : zI) (L6 : zL)  => ((r4 = 0 → P 0 (.int (0 : Int32)) T I5 L6 R) ∧ (¬ r4 = 0 → P 0 (.int (1 : Int32)) T I5 L6 R))))))))))))))))) : zAW mX1_says 7 0 0 [(0, .ref 1000), (1, .int v1), (2, .int v2), (3, .int v3)] [] T I L R P := by
  refine za_aload_n (pc' := 1) 0 dX1_says_0 rfl rfl rfl ?_
  refine za_iload_n (pc' := 2) 1 dX1_says_1 rfl rfl rfl ?_
  refine za_callV (κ := 1000) (M2 := mX1_isSign) (d2 := 2) (b2 := 0) (n := 1) (As := [.int v1]) (st := []) (pc' := 5) zc0 (by decide) (congrArg Prod.fst (zX_t1000 hx)) dX1_says_2 rfl (lw_V q1066 q1068 qs32 q131 q1069) ⟨rfl, hd_X1_isSign⟩ rfl (by decide) (by decide) (Nat.zero_le _) (Or.inl rfl) (Nat.le_of_ble_eq_true rfl) h (zqI__k rfl (fun r1 h => ?_)) (fun _ _ _ _ _ _ h9 h8 => absurd h8.1 h9) rfl
  refine za_if_eq (pc' := 8) (tgt := 22) dX1_says_5 (by decide) rfl (fun c9 => ?_) (fun c9 => ?_)
  · replace h := h.1 c9
    refine za_iconst (pc' := 23) dX1_says_22 zi_m1 rfl ?_
    refine za_goto (tgt := 41) dX1_says_23 (by decide) ?_
    exact za_ireturn rfl dX1_says_41 h
  · replace h := h.2 c9
    refine za_iload_n (pc' := 9) 2 dX1_says_8 rfl rfl rfl ?_
    refine za_callS (M2 := mX1_isTongue) (d2 := 2) (b2 := 0) (n := 1) (As := [.int v2]) (st := []) (pc' := 12) dX1_says_9 rfl (lw_S q1075 q1076 q131 q1077) hd_X1_isTongue rfl (by decide) (by decide) (Nat.zero_le _) (Or.inl rfl) (Nat.le_of_ble_eq_true rfl) h (zqI__k rfl (fun r2 h => ?_)) (fun _ _ _ _ _ _ h9 h8 => absurd h8.1 h9) rfl
    refine za_if_eq (pc' := 15) (tgt := 22) dX1_says_12 (by decide) rfl (fun c9 => ?_) (fun c9 => ?_)
    · replace h := h.1 c9
      refine za_iconst (pc' := 23) dX1_says_22 zi_m1 rfl ?_
      refine za_goto (tgt := 41) dX1_says_23 (by decide) ?_
      exact za_ireturn rfl dX1_says_41 h
    · replace h := h.2 c9
      refine za_iload_n (pc' := 16) 3 dX1_says_15 rfl rfl rfl ?_
      refine za_callS (M2 := mX1_isDay) (d2 := 2) (b2 := 0) (n := 1) (As := [.int v3]) (st := []) (pc' := 19) dX1_says_16 rfl (lw_S q1138 q1139 q131 q1140) hd_X1_isDay rfl (by decide) (by decide) (Nat.zero_le _) (Or.inl rfl) (Nat.le_of_ble_eq_true rfl) h (zqI__k rfl (fun r3 h => ?_)) (fun _ _ _ _ _ _ h9 h8 => absurd h8.1 h9) rfl
      refine za_if_ne (pc' := 22) (tgt := 26) dX1_says_19 (by decide) rfl (fun c9 => ?_) (fun c9 => ?_)
      · replace h := h.2 c9
        refine za_aload_n (pc' := 27) 0 dX1_says_26 rfl rfl rfl ?_
        refine za_iload_n (pc' := 28) 1 dX1_says_27 rfl rfl rfl ?_
        refine za_iload_n (pc' := 29) 2 dX1_says_28 rfl rfl rfl ?_
        refine za_iload_n (pc' := 30) 3 dX1_says_29 rfl rfl rfl ?_
        refine za_callV (κ := 1000) (M2 := mX1_isSaid) (d2 := 6) (b2 := 0) (n := 3) (As := [.int v1, .int v2, .int v3]) (st := []) (pc' := 33) zc0 (by decide) (congrArg Prod.fst (zX_t1000 hx)) dX1_says_30 rfl (lw_V q1142 q1144 qs36 q131 q1145) ⟨rfl, hd_X1_isSaid⟩ rfl (by decide) (by decide) (Nat.zero_le _) (Or.inl rfl) (Nat.le_of_ble_eq_true rfl) h (zqI_IL_k rfl (fun r4 I5 L6 h => ?_)) (fun _ _ _ _ _ _ h9 h8 => absurd h8.1 h9) rfl
        refine za_if_eq (pc' := 36) (tgt := 40) dX1_says_33 (by decide) rfl (fun c9 => ?_) (fun c9 => ?_)
        · replace h := h.1 c9
          refine za_iconst (pc' := 41) dX1_says_40 zi_0 rfl ?_
          exact za_ireturn rfl dX1_says_41 h
        · replace h := h.2 c9
          refine za_iconst (pc' := 37) dX1_says_36 zi_1 rfl ?_
          refine za_goto (tgt := 41) dX1_says_37 (by decide) ?_
          exact za_ireturn rfl dX1_says_41 h
      · replace h := h.1 c9
        refine za_iconst (pc' := 23) dX1_says_22 zi_m1 rfl ?_
        refine za_goto (tgt := 41) dX1_says_23 (by decide) ?_
        exact za_ireturn rfl dX1_says_41 h
theorem sX1_says {d b : Nat} {v1 : Int32} {v2 : Int32} {v3 : Int32} {T : zT} {I : zI} {L : zL} {R : zR} {P : zP} (h : zAW mX1_says d b 0 [(0, .ref 1000), (1, .int v1), (2, .int v2), (3, .int v3)] [] T I L R P) : zMet mX1_says d b [.ref 1000, .int v1, .int v2, .int v3] T I L R P := zMet_of (by decide +kernel) rfl (Nat.le_of_ble_eq_true rfl) rfl h
/-! TwoTongues.isDay (I)Z -/
def dkwX1_isDay_0 : List UInt8 := [26, 133, 9, 20, 0, 193, 184, 0, 126, 172]
abbrev dktX1_isDay_0 : List UInt8 := dkwX1_isDay_0 ++ []
theorem dksX1_isDay_0 : cX1_isDay.data.toList.drop 0 = dktX1_isDay_0 := by decide +kernel
theorem dX1_isDay_0 : decode cX1_isDay 0 = .ok (.iload_n 0, 1) := dk_26 (dk_at dksX1_isDay_0 0 rfl rfl)
theorem dX1_isDay_1 : decode cX1_isDay 1 = .ok (.i2l, 1) := dk_133 (dk_at dksX1_isDay_0 1 rfl rfl)
theorem dX1_isDay_2 : decode cX1_isDay 2 = .ok (.lconst 0, 1) := dk_9 (dk_at dksX1_isDay_0 2 rfl rfl)
theorem dX1_isDay_3 : decode cX1_isDay 3 = .ok (.ldc2_w 193, 3) := dk_20 0 193 (dk_at dksX1_isDay_0 3 rfl rfl)
theorem dX1_isDay_6 : decode cX1_isDay 6 = .ok (.invokestatic 126, 3) := dk_184 0 126 (dk_at dksX1_isDay_0 6 rfl rfl)
theorem dX1_isDay_9 : decode cX1_isDay 9 = .ok (.ireturn, 1) := dk_172 (dk_at dksX1_isDay_0 9 rfl rfl)
theorem gX1_isDay_0 {v0 : Int32} {T : zT} {I : zI} {L : zL} {R : zR} {P : zP} (h : zMet mX1_in 1 0 [.long (v0.toInt64), .long (0 : Int64), .long (999 : Int64)] T I L R (zqI_ T I L R  (fun (r1 : Int32)  => zB r1 ∧ P 0 (.int r1) T I L R))) : zAW mX1_isDay 2 0 0 [(0, .int v0)] [] T I L R P := by
  refine za_iload_n (pc' := 1) 0 dX1_isDay_0 rfl rfl rfl ?_
  refine za_i2l (pc' := 2) dX1_isDay_1 rfl rfl ?_
  refine za_lconst (pc' := 3) dX1_isDay_2 zl_0 rfl ?_
  refine za_ldc2 (pc' := 6) (v := (999 : Int64)) (own := "") dX1_isDay_3 q1141 rfl ?_
  refine za_callS (M2 := mX1_in) (d2 := 1) (b2 := 0) (n := 3) (As := [.long (v0.toInt64), .long (0 : Int64), .long (999 : Int64)]) (st := []) (pc' := 9) dX1_isDay_6 rfl (lw_S q588 q589 q131 q590) hd_X1_in rfl (by decide) (by decide) (Nat.zero_le _) (Or.inl rfl) (Nat.le_of_ble_eq_true rfl) h (zqI__k rfl (fun r1 h => ?_)) (fun _ _ _ _ _ _ h9 h8 => absurd h8.1 h9) rfl
  exact za_zreturn rfl dX1_isDay_9 (zB_n h.1) h.2
theorem sX1_isDay {d b : Nat} {v0 : Int32} {T : zT} {I : zI} {L : zL} {R : zR} {P : zP} (h : zAW mX1_isDay d b 0 [(0, .int v0)] [] T I L R P) : zMet mX1_isDay d b [.int v0] T I L R P := zMet_of (by decide +kernel) rfl (Nat.le_of_ble_eq_true rfl) rfl h
/-! TwoTongues.isSaid (III)Z -/
def dkwX1_isSaid_1 : List UInt8 := [182, 1, 7, 154, 0, 7, 4, 167, 0, 4, 3, 172]
abbrev dktX1_isSaid_1 : List UInt8 := dkwX1_isSaid_1 ++ []
def dkwX1_isSaid_0 : List UInt8 := [42, 27, 28, 182, 1, 4, 42, 180, 0, 79, 3, 47, 9, 148, 158, 0, 19, 42, 180, 0, 39, 28, 29]
abbrev dktX1_isSaid_0 : List UInt8 := dkwX1_isSaid_0 ++ dktX1_isSaid_1
theorem dksX1_isSaid_0 : cX1_isSaid.data.toList.drop 0 = dktX1_isSaid_0 := by decide +kernel
theorem dksX1_isSaid_1 : cX1_isSaid.data.toList.drop 23 = dktX1_isSaid_1 := dk_seg dksX1_isSaid_0 23 rfl rfl
theorem dX1_isSaid_0 : decode cX1_isSaid 0 = .ok (.aload_n 0, 1) := dk_42 (dk_at dksX1_isSaid_0 0 rfl rfl)
theorem dX1_isSaid_1 : decode cX1_isSaid 1 = .ok (.iload_n 1, 1) := dk_27 (dk_at dksX1_isSaid_0 1 rfl rfl)
theorem dX1_isSaid_2 : decode cX1_isSaid 2 = .ok (.iload_n 2, 1) := dk_28 (dk_at dksX1_isSaid_0 2 rfl rfl)
theorem dX1_isSaid_3 : decode cX1_isSaid 3 = .ok (.invokevirtual 260, 3) := dk_182 1 4 (dk_at dksX1_isSaid_0 3 rfl rfl)
theorem dX1_isSaid_6 : decode cX1_isSaid 6 = .ok (.aload_n 0, 1) := dk_42 (dk_at dksX1_isSaid_0 6 rfl rfl)
theorem dX1_isSaid_7 : decode cX1_isSaid 7 = .ok (.getfield 79, 3) := dk_180 0 79 (dk_at dksX1_isSaid_0 7 rfl rfl)
theorem dX1_isSaid_10 : decode cX1_isSaid 10 = .ok (.iconst 0, 1) := dk_3 (dk_at dksX1_isSaid_0 10 rfl rfl)
theorem dX1_isSaid_11 : decode cX1_isSaid 11 = .ok (.laload, 1) := dk_47 (dk_at dksX1_isSaid_0 11 rfl rfl)
theorem dX1_isSaid_12 : decode cX1_isSaid 12 = .ok (.lconst 0, 1) := dk_9 (dk_at dksX1_isSaid_0 12 rfl rfl)
theorem dX1_isSaid_13 : decode cX1_isSaid 13 = .ok (.lcmp, 1) := dk_148 (dk_at dksX1_isSaid_0 13 rfl rfl)
theorem dX1_isSaid_14 : decode cX1_isSaid 14 = .ok (.ifCond .le 19, 3) := dk_158 0 19 (dk_at dksX1_isSaid_0 14 rfl rfl)
theorem dX1_isSaid_17 : decode cX1_isSaid 17 = .ok (.aload_n 0, 1) := dk_42 (dk_at dksX1_isSaid_0 17 rfl rfl)
theorem dX1_isSaid_18 : decode cX1_isSaid 18 = .ok (.getfield 39, 3) := dk_180 0 39 (dk_at dksX1_isSaid_0 18 rfl rfl)
theorem dX1_isSaid_21 : decode cX1_isSaid 21 = .ok (.iload_n 2, 1) := dk_28 (dk_at dksX1_isSaid_0 21 rfl rfl)
theorem dX1_isSaid_22 : decode cX1_isSaid 22 = .ok (.iload_n 3, 1) := dk_29 (dk_at dksX1_isSaid_0 22 rfl rfl)
theorem dX1_isSaid_23 : decode cX1_isSaid 23 = .ok (.invokevirtual 263, 3) := dk_182 1 7 (dk_at dksX1_isSaid_1 0 rfl rfl)
theorem dX1_isSaid_26 : decode cX1_isSaid 26 = .ok (.ifCond .ne 7, 3) := dk_154 0 7 (dk_at dksX1_isSaid_1 3 rfl rfl)
theorem dX1_isSaid_29 : decode cX1_isSaid 29 = .ok (.iconst 1, 1) := dk_4 (dk_at dksX1_isSaid_1 6 rfl rfl)
theorem dX1_isSaid_30 : decode cX1_isSaid 30 = .ok (.goto 4, 3) := dk_167 0 4 (dk_at dksX1_isSaid_1 7 rfl rfl)
theorem dX1_isSaid_33 : decode cX1_isSaid 33 = .ok (.iconst 0, 1) := dk_3 (dk_at dksX1_isSaid_1 10 rfl rfl)
theorem dX1_isSaid_34 : decode cX1_isSaid 34 = .ok (.ireturn, 1) := dk_172 (dk_at dksX1_isSaid_1 11 rfl rfl)
theorem gX1_isSaid_0 {v1 : Int32} {v2 : Int32} {v3 : Int32} {T : zT} {I : zI} {L : zL} {R : zR} {P : zP} (hx : zXok T R) (h : zMet mX1_read 5 0 [.ref 1000, .int v1, .int v2] T I L R (zqV_IL T R  (fun (I1 : zI) (L2 : zL)  => (((L2 1016 0) ≤ (0 : Int64) → P 0 (.int (0 : Int32)) T I1 L2 R) ∧ (¬ (L2 1016 0) ≤ (0 : Int64) → (T (R 1000 8)).1 = 3 ∧ zMet mX3_isCovered 1 0 [.ref (R 1000 8), .int v2, .int v3] T I1 L2 R (zqI_ T I1 L2 R  (fun (r3 : Int32)  => ((r3 = 0 → P 0 (.int (1 : Int32)) T I1 L2 R) ∧ (¬ r3 = 0 → P 0 (.int (0 : Int32)) T I1 L2 R))))))))) : zAW mX1_isSaid 6 0 0 [(0, .ref 1000), (1, .int v1), (2, .int v2), (3, .int v3)] [] T I L R P := by
  refine za_aload_n (pc' := 1) 0 dX1_isSaid_0 rfl rfl rfl ?_
  refine za_iload_n (pc' := 2) 1 dX1_isSaid_1 rfl rfl rfl ?_
  refine za_iload_n (pc' := 3) 2 dX1_isSaid_2 rfl rfl rfl ?_
  refine za_callV (κ := 1000) (M2 := mX1_read) (d2 := 5) (b2 := 0) (n := 2) (As := [.int v1, .int v2]) (st := []) (pc' := 6) zc0 (by decide) (congrArg Prod.fst (zX_t1000 hx)) dX1_isSaid_3 rfl (lw_V q1083 q1085 qs33 q131 q1086) ⟨rfl, hd_X1_read⟩ rfl (by decide) (by decide) (Nat.zero_le _) (Or.inl rfl) (Nat.le_of_ble_eq_true rfl) h (zqV_IL_k rfl (fun I1 L2 h => ?_)) (fun _ _ _ _ _ _ h9 h8 => absurd h8.1 h9) rfl
  refine za_aload_n (pc' := 7) 0 dX1_isSaid_6 rfl rfl rfl ?_
  refine za_get (fi := 15) (v := .ref 1016) (pc' := 10) dX1_isSaid_7 zc0 (by decide) in_X1 (by decide) q505 (Or.inl rfl) (congrArg Prod.fst (zX_t1000 hx)) (congrArg Value.ref (zX_r1000_15 hx)) rfl ?_
  refine za_iconst (pc' := 11) dX1_isSaid_10 zi_0 rfl ?_
  refine za_lald (v := .long (L2 1016 0)) (pc' := 12) dX1_isSaid_11 (zX_t1016 hx) (zin (by decide)) (congrArg Value.long (zix zn_0 (rfl))) rfl ?_
  refine za_lconst (pc' := 13) dX1_isSaid_12 zl_0 rfl ?_
  refine za_lcmp (pc' := 14) dX1_isSaid_13 rfl ?_
  refine za_if_le (pc' := 17) (tgt := 33) dX1_isSaid_14 (by decide) rfl (fun c9 => ?_) (fun c9 => ?_)
  · replace h := h.1 ((lg_cmp_le (L2 1016 0) (0 : Int64)).mp c9)
    refine za_iconst (pc' := 34) dX1_isSaid_33 zi_0 rfl ?_
    exact za_zreturn rfl dX1_isSaid_34 (by decide) h
  · replace h := h.2 (fun c8 => c9 ((lg_cmp_le (L2 1016 0) (0 : Int64)).mpr c8))
    refine za_aload_n (pc' := 18) 0 dX1_isSaid_17 rfl rfl rfl ?_
    refine za_get (fi := 8) (v := .ref (R 1000 8)) (pc' := 21) dX1_isSaid_18 zc0 (by decide) in_X1 (by decide) q498 (Or.inl rfl) (congrArg Prod.fst (zX_t1000 hx)) rfl rfl ?_
    refine za_iload_n (pc' := 22) 2 dX1_isSaid_21 rfl rfl rfl ?_
    refine za_iload_n (pc' := 23) 3 dX1_isSaid_22 rfl rfl rfl ?_
    obtain ⟨ht4, h⟩ := h
    refine za_callV (κ := (R 1000 8)) (M2 := mX3_isCovered) (d2 := 1) (b2 := 0) (n := 2) (As := [.int v2, .int v3]) (st := []) (pc' := 26) zc2 (by decide) ht4 dX1_isSaid_23 rfl (lw_V q1146 q958 q959 q133 q960) ⟨rfl, hd_X3_isCovered⟩ rfl (by decide) (by decide) (Nat.zero_le _) (Or.inl rfl) (Nat.le_of_ble_eq_true rfl) h (zqI__k rfl (fun r3 h => ?_)) (fun _ _ _ _ _ _ h9 h8 => absurd h8.1 h9) rfl
    refine za_if_ne (pc' := 29) (tgt := 33) dX1_isSaid_26 (by decide) rfl (fun c9 => ?_) (fun c9 => ?_)
    · replace h := h.2 c9
      refine za_iconst (pc' := 34) dX1_isSaid_33 zi_0 rfl ?_
      exact za_zreturn rfl dX1_isSaid_34 (by decide) h
    · replace h := h.1 c9
      refine za_iconst (pc' := 30) dX1_isSaid_29 zi_1 rfl ?_
      refine za_goto (tgt := 34) dX1_isSaid_30 (by decide) ?_
      exact za_zreturn rfl dX1_isSaid_34 (by decide) h
theorem sX1_isSaid {d b : Nat} {v1 : Int32} {v2 : Int32} {v3 : Int32} {T : zT} {I : zI} {L : zL} {R : zR} {P : zP} (h : zAW mX1_isSaid d b 0 [(0, .ref 1000), (1, .int v1), (2, .int v2), (3, .int v3)] [] T I L R P) : zMet mX1_isSaid d b [.ref 1000, .int v1, .int v2, .int v3] T I L R P := zMet_of (by decide +kernel) rfl (Nat.le_of_ble_eq_true rfl) rfl h
/-! TwoTongues.nights (I)I -/
def dkwX1_nights_5 : List UInt8 := [180, 1, 23, 172]
abbrev dktX1_nights_5 : List UInt8 := dkwX1_nights_5 ++ []
def dkwX1_nights_4 : List UInt8 := [79, 42, 180, 0, 64, 89, 180, 1, 23, 4, 96, 181, 1, 23, 132, 2, 1, 167, 255, 185, 42, 180, 0, 64]
abbrev dktX1_nights_4 : List UInt8 := dkwX1_nights_4 ++ dktX1_nights_5
def dkwX1_nights_3 : List UInt8 := [180, 0, 172, 182, 0, 176, 182, 1, 30, 50, 78, 45, 180, 0, 219, 42, 45, 180, 0, 190, 182, 1, 30, 3]
abbrev dktX1_nights_3 : List UInt8 := dkwX1_nights_3 ++ dktX1_nights_4
def dkwX1_nights_2 : List UInt8 := [180, 0, 39, 180, 0, 172, 182, 1, 26, 154, 0, 40, 42, 180, 0, 64, 180, 0, 186, 42, 42, 180, 0, 39]
abbrev dktX1_nights_2 : List UInt8 := dkwX1_nights_2 ++ dktX1_nights_3
def dkwX1_nights_1 : List UInt8 := [164, 0, 5, 2, 172, 27, 158, 0, 8, 42, 3, 181, 0, 151, 3, 61, 28, 27, 162, 0, 72, 42]
abbrev dktX1_nights_1 : List UInt8 := dkwX1_nights_1 ++ dktX1_nights_2
def dkwX1_nights_0 : List UInt8 := [27, 133, 9, 20, 1, 21, 184, 0, 126, 153, 0, 18, 42, 180, 0, 64, 180, 1, 23, 27, 96, 17, 3, 231]
abbrev dktX1_nights_0 : List UInt8 := dkwX1_nights_0 ++ dktX1_nights_1
theorem dksX1_nights_0 : cX1_nights.data.toList.drop 0 = dktX1_nights_0 := by decide +kernel
theorem dksX1_nights_1 : cX1_nights.data.toList.drop 24 = dktX1_nights_1 := dk_seg dksX1_nights_0 24 rfl rfl
theorem dksX1_nights_2 : cX1_nights.data.toList.drop 46 = dktX1_nights_2 := dk_seg dksX1_nights_1 22 rfl rfl
theorem dksX1_nights_3 : cX1_nights.data.toList.drop 70 = dktX1_nights_3 := dk_seg dksX1_nights_2 24 rfl rfl
theorem dksX1_nights_4 : cX1_nights.data.toList.drop 94 = dktX1_nights_4 := dk_seg dksX1_nights_3 24 rfl rfl
theorem dksX1_nights_5 : cX1_nights.data.toList.drop 118 = dktX1_nights_5 := dk_seg dksX1_nights_4 24 rfl rfl
theorem dX1_nights_0 : decode cX1_nights 0 = .ok (.iload_n 1, 1) := dk_27 (dk_at dksX1_nights_0 0 rfl rfl)
theorem dX1_nights_1 : decode cX1_nights 1 = .ok (.i2l, 1) := dk_133 (dk_at dksX1_nights_0 1 rfl rfl)
theorem dX1_nights_2 : decode cX1_nights 2 = .ok (.lconst 0, 1) := dk_9 (dk_at dksX1_nights_0 2 rfl rfl)
theorem dX1_nights_3 : decode cX1_nights 3 = .ok (.ldc2_w 277, 3) := dk_20 1 21 (dk_at dksX1_nights_0 3 rfl rfl)
theorem dX1_nights_6 : decode cX1_nights 6 = .ok (.invokestatic 126, 3) := dk_184 0 126 (dk_at dksX1_nights_0 6 rfl rfl)
theorem dX1_nights_9 : decode cX1_nights 9 = .ok (.ifCond .eq 18, 3) := dk_153 0 18 (dk_at dksX1_nights_0 9 rfl rfl)
theorem dX1_nights_12 : decode cX1_nights 12 = .ok (.aload_n 0, 1) := dk_42 (dk_at dksX1_nights_0 12 rfl rfl)
theorem dX1_nights_13 : decode cX1_nights 13 = .ok (.getfield 64, 3) := dk_180 0 64 (dk_at dksX1_nights_0 13 rfl rfl)
theorem dX1_nights_16 : decode cX1_nights 16 = .ok (.getfield 279, 3) := dk_180 1 23 (dk_at dksX1_nights_0 16 rfl rfl)
theorem dX1_nights_19 : decode cX1_nights 19 = .ok (.iload_n 1, 1) := dk_27 (dk_at dksX1_nights_0 19 rfl rfl)
theorem dX1_nights_20 : decode cX1_nights 20 = .ok (.iadd, 1) := dk_96 (dk_at dksX1_nights_0 20 rfl rfl)
theorem dX1_nights_21 : decode cX1_nights 21 = .ok (.sipush 999, 3) := dk_17 3 231 (dk_at dksX1_nights_0 21 rfl rfl)
theorem dX1_nights_24 : decode cX1_nights 24 = .ok (.if_icmp .le 5, 3) := dk_164 0 5 (dk_at dksX1_nights_1 0 rfl rfl)
theorem dX1_nights_27 : decode cX1_nights 27 = .ok (.iconst (-1), 1) := dk_2 (dk_at dksX1_nights_1 3 rfl rfl)
theorem dX1_nights_28 : decode cX1_nights 28 = .ok (.ireturn, 1) := dk_172 (dk_at dksX1_nights_1 4 rfl rfl)
theorem dX1_nights_29 : decode cX1_nights 29 = .ok (.iload_n 1, 1) := dk_27 (dk_at dksX1_nights_1 5 rfl rfl)
theorem dX1_nights_30 : decode cX1_nights 30 = .ok (.ifCond .le 8, 3) := dk_158 0 8 (dk_at dksX1_nights_1 6 rfl rfl)
theorem dX1_nights_33 : decode cX1_nights 33 = .ok (.aload_n 0, 1) := dk_42 (dk_at dksX1_nights_1 9 rfl rfl)
theorem dX1_nights_34 : decode cX1_nights 34 = .ok (.iconst 0, 1) := dk_3 (dk_at dksX1_nights_1 10 rfl rfl)
theorem dX1_nights_35 : decode cX1_nights 35 = .ok (.putfield 151, 3) := dk_181 0 151 (dk_at dksX1_nights_1 11 rfl rfl)
theorem dX1_nights_38 : decode cX1_nights 38 = .ok (.iconst 0, 1) := dk_3 (dk_at dksX1_nights_1 14 rfl rfl)
theorem dX1_nights_39 : decode cX1_nights 39 = .ok (.istore_n 2, 1) := dk_61 (dk_at dksX1_nights_1 15 rfl rfl)
theorem dX1_nights_40 : decode cX1_nights 40 = .ok (.iload_n 2, 1) := dk_28 (dk_at dksX1_nights_1 16 rfl rfl)
theorem dX1_nights_41 : decode cX1_nights 41 = .ok (.iload_n 1, 1) := dk_27 (dk_at dksX1_nights_1 17 rfl rfl)
theorem dX1_nights_42 : decode cX1_nights 42 = .ok (.if_icmp .ge 72, 3) := dk_162 0 72 (dk_at dksX1_nights_1 18 rfl rfl)
theorem dX1_nights_45 : decode cX1_nights 45 = .ok (.aload_n 0, 1) := dk_42 (dk_at dksX1_nights_1 21 rfl rfl)
theorem dX1_nights_46 : decode cX1_nights 46 = .ok (.getfield 39, 3) := dk_180 0 39 (dk_at dksX1_nights_2 0 rfl rfl)
theorem dX1_nights_49 : decode cX1_nights 49 = .ok (.getfield 172, 3) := dk_180 0 172 (dk_at dksX1_nights_2 3 rfl rfl)
theorem dX1_nights_52 : decode cX1_nights 52 = .ok (.invokevirtual 282, 3) := dk_182 1 26 (dk_at dksX1_nights_2 6 rfl rfl)
theorem dX1_nights_55 : decode cX1_nights 55 = .ok (.ifCond .ne 40, 3) := dk_154 0 40 (dk_at dksX1_nights_2 9 rfl rfl)
theorem dX1_nights_58 : decode cX1_nights 58 = .ok (.aload_n 0, 1) := dk_42 (dk_at dksX1_nights_2 12 rfl rfl)
theorem dX1_nights_59 : decode cX1_nights 59 = .ok (.getfield 64, 3) := dk_180 0 64 (dk_at dksX1_nights_2 13 rfl rfl)
theorem dX1_nights_62 : decode cX1_nights 62 = .ok (.getfield 186, 3) := dk_180 0 186 (dk_at dksX1_nights_2 16 rfl rfl)
theorem dX1_nights_65 : decode cX1_nights 65 = .ok (.aload_n 0, 1) := dk_42 (dk_at dksX1_nights_2 19 rfl rfl)
theorem dX1_nights_66 : decode cX1_nights 66 = .ok (.aload_n 0, 1) := dk_42 (dk_at dksX1_nights_2 20 rfl rfl)
theorem dX1_nights_67 : decode cX1_nights 67 = .ok (.getfield 39, 3) := dk_180 0 39 (dk_at dksX1_nights_2 21 rfl rfl)
theorem dX1_nights_70 : decode cX1_nights 70 = .ok (.getfield 172, 3) := dk_180 0 172 (dk_at dksX1_nights_3 0 rfl rfl)
theorem dX1_nights_73 : decode cX1_nights 73 = .ok (.invokevirtual 176, 3) := dk_182 0 176 (dk_at dksX1_nights_3 3 rfl rfl)
theorem dX1_nights_76 : decode cX1_nights 76 = .ok (.invokevirtual 286, 3) := dk_182 1 30 (dk_at dksX1_nights_3 6 rfl rfl)
theorem dX1_nights_79 : decode cX1_nights 79 = .ok (.aaload, 1) := dk_50 (dk_at dksX1_nights_3 9 rfl rfl)
theorem dX1_nights_80 : decode cX1_nights 80 = .ok (.astore_n 3, 1) := dk_78 (dk_at dksX1_nights_3 10 rfl rfl)
theorem dX1_nights_81 : decode cX1_nights 81 = .ok (.aload_n 3, 1) := dk_45 (dk_at dksX1_nights_3 11 rfl rfl)
theorem dX1_nights_82 : decode cX1_nights 82 = .ok (.getfield 219, 3) := dk_180 0 219 (dk_at dksX1_nights_3 12 rfl rfl)
theorem dX1_nights_85 : decode cX1_nights 85 = .ok (.aload_n 0, 1) := dk_42 (dk_at dksX1_nights_3 15 rfl rfl)
theorem dX1_nights_86 : decode cX1_nights 86 = .ok (.aload_n 3, 1) := dk_45 (dk_at dksX1_nights_3 16 rfl rfl)
theorem dX1_nights_87 : decode cX1_nights 87 = .ok (.getfield 190, 3) := dk_180 0 190 (dk_at dksX1_nights_3 17 rfl rfl)
theorem dX1_nights_90 : decode cX1_nights 90 = .ok (.invokevirtual 286, 3) := dk_182 1 30 (dk_at dksX1_nights_3 20 rfl rfl)
theorem dX1_nights_93 : decode cX1_nights 93 = .ok (.iconst 0, 1) := dk_3 (dk_at dksX1_nights_3 23 rfl rfl)
theorem dX1_nights_94 : decode cX1_nights 94 = .ok (.iastore, 1) := dk_79 (dk_at dksX1_nights_4 0 rfl rfl)
theorem dX1_nights_95 : decode cX1_nights 95 = .ok (.aload_n 0, 1) := dk_42 (dk_at dksX1_nights_4 1 rfl rfl)
theorem dX1_nights_96 : decode cX1_nights 96 = .ok (.getfield 64, 3) := dk_180 0 64 (dk_at dksX1_nights_4 2 rfl rfl)
theorem dX1_nights_99 : decode cX1_nights 99 = .ok (.dup, 1) := dk_89 (dk_at dksX1_nights_4 5 rfl rfl)
theorem dX1_nights_100 : decode cX1_nights 100 = .ok (.getfield 279, 3) := dk_180 1 23 (dk_at dksX1_nights_4 6 rfl rfl)
theorem dX1_nights_103 : decode cX1_nights 103 = .ok (.iconst 1, 1) := dk_4 (dk_at dksX1_nights_4 9 rfl rfl)
theorem dX1_nights_104 : decode cX1_nights 104 = .ok (.iadd, 1) := dk_96 (dk_at dksX1_nights_4 10 rfl rfl)
theorem dX1_nights_105 : decode cX1_nights 105 = .ok (.putfield 279, 3) := dk_181 1 23 (dk_at dksX1_nights_4 11 rfl rfl)
theorem dX1_nights_108 : decode cX1_nights 108 = .ok (.iinc 2 1, 3) := dk_132 2 1 (dk_at dksX1_nights_4 14 rfl rfl)
theorem dX1_nights_111 : decode cX1_nights 111 = .ok (.goto (-71), 3) := dk_167 255 185 (dk_at dksX1_nights_4 17 rfl rfl)
theorem dX1_nights_114 : decode cX1_nights 114 = .ok (.aload_n 0, 1) := dk_42 (dk_at dksX1_nights_4 20 rfl rfl)
theorem dX1_nights_115 : decode cX1_nights 115 = .ok (.getfield 64, 3) := dk_180 0 64 (dk_at dksX1_nights_4 21 rfl rfl)
theorem dX1_nights_118 : decode cX1_nights 118 = .ok (.getfield 279, 3) := dk_180 1 23 (dk_at dksX1_nights_5 0 rfl rfl)
theorem dX1_nights_121 : decode cX1_nights 121 = .ok (.ireturn, 1) := dk_172 (dk_at dksX1_nights_5 3 rfl rfl)
theorem gX1_nights_0 {v1 : Int32} {T : zT} {I : zI} {L : zL} {R : zR} {P : zP} (hx : zXok T R) (h : zMet mX1_in 1 0 [.long (v1.toInt64), .long (0 : Int64), .long (99 : Int64)] T I L R (zqI_ T I L R  (fun (r1 : Int32)  => ((r1 = 0 → P 0 (.int (-1 : Int32)) T I L R) ∧ (¬ r1 = 0 → ((((I 1200 2) + v1) ≤ (999 : Int32) → ((v1 ≤ 0 → zAW mX1_nights 2 0 40 [(0, .ref 1000), (1, .int v1), (2, .int (0 : Int32))] [] T I L R P) ∧ (¬ v1 ≤ 0 → zAW mX1_nights 2 0 40 [(0, .ref 1000), (1, .int v1), (2, .int (0 : Int32))] [] T (z2 I 1000 4 (0 : Int32)) L R P))) ∧ (¬ ((I 1200 2) + v1) ≤ (999 : Int32) → P 0 (.int (-1 : Int32)) T I L R))))))) : zAW mX1_nights 2 0 0 [(0, .ref 1000), (1, .int v1)] [] T I L R P := by
  refine za_iload_n (pc' := 1) 1 dX1_nights_0 rfl rfl rfl ?_
  refine za_i2l (pc' := 2) dX1_nights_1 rfl rfl ?_
  refine za_lconst (pc' := 3) dX1_nights_2 zl_0 rfl ?_
  refine za_ldc2 (pc' := 6) (v := (99 : Int64)) (own := "") dX1_nights_3 q1151 rfl ?_
  refine za_callS (M2 := mX1_in) (d2 := 1) (b2 := 0) (n := 3) (As := [.long (v1.toInt64), .long (0 : Int64), .long (99 : Int64)]) (st := []) (pc' := 9) dX1_nights_6 rfl (lw_S q588 q589 q131 q590) hd_X1_in rfl (by decide) (by decide) (Nat.zero_le _) (Or.inl rfl) (Nat.le_of_ble_eq_true rfl) h (zqI__k rfl (fun r1 h => ?_)) (fun _ _ _ _ _ _ h9 h8 => absurd h8.1 h9) rfl
  refine za_if_eq (pc' := 12) (tgt := 27) dX1_nights_9 (by decide) rfl (fun c9 => ?_) (fun c9 => ?_)
  · replace h := h.1 c9
    refine za_iconst (pc' := 28) dX1_nights_27 zi_m1 rfl ?_
    exact za_ireturn rfl dX1_nights_28 h
  · replace h := h.2 c9
    refine za_aload_n (pc' := 13) 0 dX1_nights_12 rfl rfl rfl ?_
    refine za_get (fi := 10) (v := .ref 1200) (pc' := 16) dX1_nights_13 zc0 (by decide) in_X1 (by decide) q500 (Or.inl rfl) (congrArg Prod.fst (zX_t1000 hx)) (congrArg Value.ref (zX_r1000_10 hx)) rfl ?_
    refine za_getN (fi := 2) (v := .int (I 1200 2)) (pc' := 19) dX1_nights_16 zc9 (by decide) in_X10 (by decide) q420 (Or.inl rfl) (congrArg Prod.fst (zX_t1200 hx)) rfl rfl ?_
    refine za_iload_n (pc' := 20) 1 dX1_nights_19 rfl rfl rfl ?_
    refine za_iadd (pc' := 21) dX1_nights_20 rfl ?_
    refine za_sipush (pc' := 24) dX1_nights_21 zb16_999 rfl ?_
    refine za_icmp_le (pc' := 27) (tgt := 29) dX1_nights_24 (by decide) rfl (fun c9 => ?_) (fun c9 => ?_)
    · replace h := h.1 c9
      refine za_iload_n (pc' := 30) 1 dX1_nights_29 rfl rfl rfl ?_
      refine za_if_le (pc' := 33) (tgt := 38) dX1_nights_30 (by decide) rfl (fun c9 => ?_) (fun c9 => ?_)
      · replace h := h.1 c9
        refine za_iconst (pc' := 39) dX1_nights_38 zi_0 rfl ?_
        refine za_istore_n (pc' := 40) (l' := [(2, .int (0 : Int32)), (0, .ref 1000), (1, .int v1)]) dX1_nights_39 rfl (Nat.le_of_ble_eq_true rfl) rfl rfl ?_
        exact zAW_sub [1, 2, 0] rfl h
      · replace h := h.2 c9
        refine za_aload_n (pc' := 34) 0 dX1_nights_33 rfl rfl rfl ?_
        refine za_iconst (pc' := 35) dX1_nights_34 zi_0 rfl ?_
        refine za_putI (fi := 4) (pc' := 38) dX1_nights_35 zc0 (by decide) in_X1 zok0 znm0 (by decide) q493 (Or.inl rfl) rfl rfl (fun _ _ _ => rfl) rfl rfl (congrArg Prod.fst (zX_t1000 hx)) rfl ?_
        refine za_iconst (pc' := 39) dX1_nights_38 zi_0 rfl ?_
        refine za_istore_n (pc' := 40) (l' := [(2, .int (0 : Int32)), (0, .ref 1000), (1, .int v1)]) dX1_nights_39 rfl (Nat.le_of_ble_eq_true rfl) rfl rfl ?_
        exact zAW_sub [1, 2, 0] rfl h
    · replace h := h.2 c9
      refine za_iconst (pc' := 28) dX1_nights_27 zi_m1 rfl ?_
      exact za_ireturn rfl dX1_nights_28 h
theorem gX1_nights_40 {v1 : Int32} {v2 : Int32} {T : zT} {I : zI} {L : zL} {R : zR} {P : zP} (hx : zXok T R) (h : ((v1 ≤ v2 → P 0 (.int (I 1200 2)) T I L R) ∧ (¬ v1 ≤ v2 → (T (R 1000 8)).1 = 3 ∧ (T (R (R 1000 8) 2)).1 = 5 ∧ zMet mJ2_isEmpty 1 0 [.ref (R (R 1000 8) 2)] T I L R (zqI_ T I L R  (fun (r3 : Int32)  => ((r3 = 0 → zMet mJ2_size 1 0 [.ref (R (R 1000 8) 2)] T I L R (zqI_ T I L R  (fun (r5 : Int32)  => zMet mX1_draw 1 0 [.ref 1000, .int r5] T I L R (zqI_I T L R  (fun (r6 : Int32) (I7 : zI)  => vp_in r6 6 ∧ (T (R 1202 (r6.toNatClampNeg))).1 = 11 ∧ zMet mX1_draw 1 0 [.ref 1000, .int (I7 (R 1202 (r6.toNatClampNeg)) 1)] T I7 L R (zqI_I T L R  (fun (r10 : Int32) (I11 : zI)  => (T (R (R 1202 (r6.toNatClampNeg)) 0)).1 = 100 ∧ vp_in r10 ((T (R (R 1202 (r6.toNatClampNeg)) 0)).2) ∧ zAW mX1_nights 2 0 40 [(0, .ref 1000), (1, .int v1), (2, .int (v2 + (1 : Int32)))] [] T (z2 (z2 I11 (R (R 1202 (r6.toNatClampNeg)) 0) (r10.toNatClampNeg) (0 : Int32)) 1200 2 (((z2 I11 (R (R 1202 (r6.toNatClampNeg)) 0) (r10.toNatClampNeg) (0 : Int32)) 1200 2) + (1 : Int32))) L R P))))))) ∧ (¬ r3 = 0 → zAW mX1_nights 2 0 40 [(0, .ref 1000), (1, .int v1), (2, .int (v2 + (1 : Int32)))] [] T (z2 I 1200 2 ((I 1200 2) + (1 : Int32))) L R P))))))) : zAW mX1_nights 2 0 40 [(0, .ref 1000), (1, .int v1), (2, .int v2)] [] T I L R P := by
  refine za_iload_n (pc' := 41) 2 dX1_nights_40 rfl rfl rfl ?_
  refine za_iload_n (pc' := 42) 1 dX1_nights_41 rfl rfl rfl ?_
  refine za_icmp_ge (pc' := 45) (tgt := 114) dX1_nights_42 (by decide) rfl (fun c9 => ?_) (fun c9 => ?_)
  · replace h := h.1 c9
    refine za_aload_n (pc' := 115) 0 dX1_nights_114 rfl rfl rfl ?_
    refine za_get (fi := 10) (v := .ref 1200) (pc' := 118) dX1_nights_115 zc0 (by decide) in_X1 (by decide) q500 (Or.inl rfl) (congrArg Prod.fst (zX_t1000 hx)) (congrArg Value.ref (zX_r1000_10 hx)) rfl ?_
    refine za_getN (fi := 2) (v := .int (I 1200 2)) (pc' := 121) dX1_nights_118 zc9 (by decide) in_X10 (by decide) q420 (Or.inl rfl) (congrArg Prod.fst (zX_t1200 hx)) rfl rfl ?_
    exact za_ireturn rfl dX1_nights_121 h
  · replace h := h.2 c9
    refine za_aload_n (pc' := 46) 0 dX1_nights_45 rfl rfl rfl ?_
    refine za_get (fi := 8) (v := .ref (R 1000 8)) (pc' := 49) dX1_nights_46 zc0 (by decide) in_X1 (by decide) q498 (Or.inl rfl) (congrArg Prod.fst (zX_t1000 hx)) rfl rfl ?_
    obtain ⟨ht2, h⟩ := h
    refine za_getN (fi := 2) (v := .ref (R (R 1000 8) 2)) (pc' := 52) dX1_nights_49 zc2 (by decide) in_X3 (by decide) q278 (Or.inl rfl) ht2 rfl rfl ?_
    obtain ⟨ht4, h⟩ := h
    refine za_callV (κ := (R (R 1000 8) 2)) (M2 := mJ2_isEmpty) (d2 := 1) (b2 := 0) (n := 0) (As := []) (st := []) (pc' := 55) zc4 (by decide) ht4 dX1_nights_52 rfl (lw_V q1152 q1153 q1154 q137 q1155) ⟨rfl, hd_J2_isEmpty⟩ rfl (by decide) (by decide) (Nat.zero_le _) (Or.inl rfl) (Nat.le_of_ble_eq_true rfl) h (zqI__k rfl (fun r3 h => ?_)) (fun _ _ _ _ _ _ h9 h8 => absurd h8.1 h9) rfl
    refine za_if_ne (pc' := 58) (tgt := 95) dX1_nights_55 (by decide) rfl (fun c9 => ?_) (fun c9 => ?_)
    · replace h := h.2 c9
      refine za_aload_n (pc' := 96) 0 dX1_nights_95 rfl rfl rfl ?_
      refine za_get (fi := 10) (v := .ref 1200) (pc' := 99) dX1_nights_96 zc0 (by decide) in_X1 (by decide) q500 (Or.inl rfl) (congrArg Prod.fst (zX_t1000 hx)) (congrArg Value.ref (zX_r1000_10 hx)) rfl ?_
      refine za_dup (pc' := 100) dX1_nights_99 rfl rfl ?_
      refine za_getN (fi := 2) (v := .int (I 1200 2)) (pc' := 103) dX1_nights_100 zc9 (by decide) in_X10 (by decide) q420 (Or.inl rfl) (congrArg Prod.fst (zX_t1200 hx)) rfl rfl ?_
      refine za_iconst (pc' := 104) dX1_nights_103 zi_1 rfl ?_
      refine za_iadd (pc' := 105) dX1_nights_104 rfl ?_
      refine za_putNI (fi := 2) (pc' := 108) dX1_nights_105 zc9 (by decide) in_X10 zok9 znm9 (by decide) q420 (Or.inl rfl) rfl rfl (fun _ _ _ => rfl) rfl rfl (congrArg Prod.fst (zX_t1200 hx)) rfl ?_
      refine za_iinc (pc' := 111) (l' := [(2, .int (v2 + (1 : Int32))), (0, .ref 1000), (1, .int v1)]) 2 dX1_nights_108 rfl (zinc zi_1) (Nat.le_of_ble_eq_true rfl) rfl rfl ?_
      refine za_goto (tgt := 40) dX1_nights_111 (by decide) ?_
      exact zAW_sub [1, 2, 0] rfl h
    · replace h := h.1 c9
      refine za_aload_n (pc' := 59) 0 dX1_nights_58 rfl rfl rfl ?_
      refine za_get (fi := 10) (v := .ref 1200) (pc' := 62) dX1_nights_59 zc0 (by decide) in_X1 (by decide) q500 (Or.inl rfl) (congrArg Prod.fst (zX_t1000 hx)) (congrArg Value.ref (zX_r1000_10 hx)) rfl ?_
      refine za_getN (fi := 1) (v := .ref 1202) (pc' := 65) dX1_nights_62 zc9 (by decide) in_X10 (by decide) q418 (Or.inl rfl) (congrArg Prod.fst (zX_t1200 hx)) (congrArg Value.ref (zX_r1200_1 hx)) rfl ?_
      refine za_aload_n (pc' := 66) 0 dX1_nights_65 rfl rfl rfl ?_
      refine za_aload_n (pc' := 67) 0 dX1_nights_66 rfl rfl rfl ?_
      refine za_get (fi := 8) (v := .ref (R 1000 8)) (pc' := 70) dX1_nights_67 zc0 (by decide) in_X1 (by decide) q498 (Or.inl rfl) (congrArg Prod.fst (zX_t1000 hx)) rfl rfl ?_
      refine za_getN (fi := 2) (v := .ref (R (R 1000 8) 2)) (pc' := 73) dX1_nights_70 zc2 (by decide) in_X3 (by decide) q278 (Or.inl rfl) ht2 rfl rfl ?_
      refine za_callV (κ := (R (R 1000 8) 2)) (M2 := mJ2_size) (d2 := 1) (b2 := 0) (n := 0) (As := []) (st := [.ref 1000, .ref 1202]) (pc' := 76) zc4 (by decide) ht4 dX1_nights_73 rfl (lw_V q1070 q466 q467 q137 q468) ⟨rfl, hd_J2_size⟩ rfl (by decide) (by decide) (Nat.zero_le _) (Or.inl rfl) (Nat.le_of_ble_eq_true rfl) h (zqI__k rfl (fun r5 h => ?_)) (fun _ _ _ _ _ _ h9 h8 => absurd h8.1 h9) rfl
      refine za_callV (κ := 1000) (M2 := mX1_draw) (d2 := 1) (b2 := 0) (n := 1) (As := [.int r5]) (st := [.ref 1202]) (pc' := 79) zc0 (by decide) (congrArg Prod.fst (zX_t1000 hx)) dX1_nights_76 rfl (lw_V q1156 q1158 qs37 q131 q1159) ⟨rfl, hd_X1_draw⟩ rfl (by decide) (by decide) (Nat.zero_le _) (Or.inl rfl) (Nat.le_of_ble_eq_true rfl) h (zqI_I_k rfl (fun r6 I7 h => ?_)) (fun _ _ _ _ _ _ h9 h8 => absurd h8.1 h9) rfl
      obtain ⟨hi8, h⟩ := h
      refine za_aald (r := (R 1202 (r6.toNatClampNeg))) (t := 5) (C := RX11) (pc' := 80) dX1_nights_79 (by decide) (fun _ => rfl) (zX_t1202 hx) hi8 (rfl) rfl ?_
      refine za_astore_n (pc' := 81) (l' := [(3, .ref (R 1202 (r6.toNatClampNeg))), (0, .ref 1000), (1, .int v1), (2, .int v2)]) dX1_nights_80 rfl (Nat.le_of_ble_eq_true rfl) rfl rfl ?_
      refine za_aload_n (pc' := 82) 0 dX1_nights_81 rfl rfl rfl ?_
      obtain ⟨ht9, h⟩ := h
      refine za_getN (fi := 0) (v := .ref (R (R 1202 (r6.toNatClampNeg)) 0)) (pc' := 85) dX1_nights_82 zc10 (by decide) in_X11 (by decide) q404 (Or.inl rfl) ht9 rfl rfl ?_
      refine za_aload_n (pc' := 86) 1 dX1_nights_85 rfl rfl rfl ?_
      refine za_aload_n (pc' := 87) 0 dX1_nights_86 rfl rfl rfl ?_
      refine za_getN (fi := 1) (v := .int (I7 (R 1202 (r6.toNatClampNeg)) 1)) (pc' := 90) dX1_nights_87 zc10 (by decide) in_X11 (by decide) q408 (Or.inl rfl) ht9 rfl rfl ?_
      refine za_callV (κ := 1000) (M2 := mX1_draw) (d2 := 1) (b2 := 0) (n := 1) (As := [.int (I7 (R 1202 (r6.toNatClampNeg)) 1)]) (st := [.ref (R (R 1202 (r6.toNatClampNeg)) 0)]) (pc' := 93) zc0 (by decide) (congrArg Prod.fst (zX_t1000 hx)) dX1_nights_90 rfl (lw_V q1156 q1158 qs37 q131 q1159) ⟨rfl, hd_X1_draw⟩ rfl (by decide) (by decide) (Nat.zero_le _) (Or.inl rfl) (Nat.le_of_ble_eq_true rfl) h (zqI_I_k rfl (fun r10 I11 h => ?_)) (fun _ _ _ _ _ _ h9 h8 => absurd h8.1 h9) rfl
      refine za_iconst (pc' := 94) dX1_nights_93 zi_0 rfl ?_
      obtain ⟨ht12, h⟩ := h
      obtain ⟨hi13, h⟩ := h
      refine za_iast (k := r10.toNatClampNeg) (pc' := 95) dX1_nights_94 (zpair ht12) hi13 rfl rfl ?_
      refine za_aload_n (pc' := 96) 1 dX1_nights_95 rfl rfl rfl ?_
      refine za_get (fi := 10) (v := .ref 1200) (pc' := 99) dX1_nights_96 zc0 (by decide) in_X1 (by decide) q500 (Or.inl rfl) (congrArg Prod.fst (zX_t1000 hx)) (congrArg Value.ref (zX_r1000_10 hx)) rfl ?_
      refine za_dup (pc' := 100) dX1_nights_99 rfl rfl ?_
      refine za_getN (fi := 2) (v := .int ((z2 I11 (R (R 1202 (r6.toNatClampNeg)) 0) (r10.toNatClampNeg) (0 : Int32)) 1200 2)) (pc' := 103) dX1_nights_100 zc9 (by decide) in_X10 (by decide) q420 (Or.inl rfl) (congrArg Prod.fst (zX_t1200 hx)) rfl rfl ?_
      refine za_iconst (pc' := 104) dX1_nights_103 zi_1 rfl ?_
      refine za_iadd (pc' := 105) dX1_nights_104 rfl ?_
      refine za_putNI (fi := 2) (pc' := 108) dX1_nights_105 zc9 (by decide) in_X10 zok9 znm9 (by decide) q420 (Or.inl rfl) rfl rfl (fun _ _ _ => rfl) rfl rfl (congrArg Prod.fst (zX_t1200 hx)) rfl ?_
      refine za_iinc (pc' := 111) (l' := [(2, .int (v2 + (1 : Int32))), (3, .ref (R 1202 (r6.toNatClampNeg))), (0, .ref 1000), (1, .int v1)]) 3 dX1_nights_108 rfl (zinc zi_1) (Nat.le_of_ble_eq_true rfl) rfl rfl ?_
      refine za_goto (tgt := 40) dX1_nights_111 (by decide) ?_
      exact zAW_sub [2, 3, 0] rfl h
theorem sX1_nights {d b : Nat} {v1 : Int32} {T : zT} {I : zI} {L : zL} {R : zR} {P : zP} (h : zAW mX1_nights d b 0 [(0, .ref 1000), (1, .int v1)] [] T I L R P) : zMet mX1_nights d b [.ref 1000, .int v1] T I L R P := zMet_of (by decide +kernel) rfl (Nat.le_of_ble_eq_true rfl) rfl h
/-! TwoTongues.draw (I)I -/
def dkwX1_draw_1 : List UInt8 := [16, 16, 122, 27, 112, 172]
abbrev dktX1_draw_1 : List UInt8 := dkwX1_draw_1 ++ []
def dkwX1_draw_0 : List UInt8 := [42, 42, 180, 0, 148, 19, 1, 17, 104, 17, 48, 57, 96, 19, 1, 20, 126, 181, 0, 148, 42, 180, 0, 148]
abbrev dktX1_draw_0 : List UInt8 := dkwX1_draw_0 ++ dktX1_draw_1
theorem dksX1_draw_0 : cX1_draw.data.toList.drop 0 = dktX1_draw_0 := by decide +kernel
theorem dksX1_draw_1 : cX1_draw.data.toList.drop 24 = dktX1_draw_1 := dk_seg dksX1_draw_0 24 rfl rfl
theorem dX1_draw_0 : decode cX1_draw 0 = .ok (.aload_n 0, 1) := dk_42 (dk_at dksX1_draw_0 0 rfl rfl)
theorem dX1_draw_1 : decode cX1_draw 1 = .ok (.aload_n 0, 1) := dk_42 (dk_at dksX1_draw_0 1 rfl rfl)
theorem dX1_draw_2 : decode cX1_draw 2 = .ok (.getfield 148, 3) := dk_180 0 148 (dk_at dksX1_draw_0 2 rfl rfl)
theorem dX1_draw_5 : decode cX1_draw 5 = .ok (.ldc_w 273, 3) := dk_19 1 17 (dk_at dksX1_draw_0 5 rfl rfl)
theorem dX1_draw_8 : decode cX1_draw 8 = .ok (.imul, 1) := dk_104 (dk_at dksX1_draw_0 8 rfl rfl)
theorem dX1_draw_9 : decode cX1_draw 9 = .ok (.sipush 12345, 3) := dk_17 48 57 (dk_at dksX1_draw_0 9 rfl rfl)
theorem dX1_draw_12 : decode cX1_draw 12 = .ok (.iadd, 1) := dk_96 (dk_at dksX1_draw_0 12 rfl rfl)
theorem dX1_draw_13 : decode cX1_draw 13 = .ok (.ldc_w 276, 3) := dk_19 1 20 (dk_at dksX1_draw_0 13 rfl rfl)
theorem dX1_draw_16 : decode cX1_draw 16 = .ok (.iand, 1) := dk_126 (dk_at dksX1_draw_0 16 rfl rfl)
theorem dX1_draw_17 : decode cX1_draw 17 = .ok (.putfield 148, 3) := dk_181 0 148 (dk_at dksX1_draw_0 17 rfl rfl)
theorem dX1_draw_20 : decode cX1_draw 20 = .ok (.aload_n 0, 1) := dk_42 (dk_at dksX1_draw_0 20 rfl rfl)
theorem dX1_draw_21 : decode cX1_draw 21 = .ok (.getfield 148, 3) := dk_180 0 148 (dk_at dksX1_draw_0 21 rfl rfl)
theorem dX1_draw_24 : decode cX1_draw 24 = .ok (.bipush 16, 2) := dk_16 16 (dk_at dksX1_draw_1 0 rfl rfl)
theorem dX1_draw_26 : decode cX1_draw 26 = .ok (.ishr, 1) := dk_122 (dk_at dksX1_draw_1 2 rfl rfl)
theorem dX1_draw_27 : decode cX1_draw 27 = .ok (.iload_n 1, 1) := dk_27 (dk_at dksX1_draw_1 3 rfl rfl)
theorem dX1_draw_28 : decode cX1_draw 28 = .ok (.irem, 1) := dk_112 (dk_at dksX1_draw_1 4 rfl rfl)
theorem dX1_draw_29 : decode cX1_draw 29 = .ok (.ireturn, 1) := dk_172 (dk_at dksX1_draw_1 5 rfl rfl)
theorem gX1_draw_0 {v1 : Int32} {T : zT} {I : zI} {L : zL} {R : zR} {P : zP} (hx : zXok T R) (h : ¬ v1 = 0 ∧ (P 0 (.int ((((((I 1000 5) * (1103515245 : Int32)) + (12345 : Int32)) &&& (2147483647 : Int32)) >>> ((16 : Int32) &&& 31)) - (((((I 1000 5) * (1103515245 : Int32)) + (12345 : Int32)) &&& (2147483647 : Int32)) >>> ((16 : Int32) &&& 31)) / v1 * v1)) T (z2 I 1000 5 ((((I 1000 5) * (1103515245 : Int32)) + (12345 : Int32)) &&& (2147483647 : Int32))) L R)) : zAW mX1_draw 1 0 0 [(0, .ref 1000), (1, .int v1)] [] T I L R P := by
  refine za_aload_n (pc' := 1) 0 dX1_draw_0 rfl rfl rfl ?_
  refine za_aload_n (pc' := 2) 0 dX1_draw_1 rfl rfl rfl ?_
  refine za_get (fi := 5) (v := .int (I 1000 5)) (pc' := 5) dX1_draw_2 zc0 (by decide) in_X1 (by decide) q494 (Or.inl rfl) (congrArg Prod.fst (zX_t1000 hx)) rfl rfl ?_
  refine za_ldc_w (pc' := 8) (v := (1103515245 : Int32)) (own := "") dX1_draw_5 q1160 rfl ?_
  refine za_imul (pc' := 9) dX1_draw_8 rfl ?_
  refine za_sipush (pc' := 12) dX1_draw_9 zb16_12345 rfl ?_
  refine za_iadd (pc' := 13) dX1_draw_12 rfl ?_
  refine za_ldc_w (pc' := 16) (v := (2147483647 : Int32)) (own := "") dX1_draw_13 q1161 rfl ?_
  refine za_iand (pc' := 17) dX1_draw_16 rfl ?_
  refine za_putI (fi := 5) (pc' := 20) dX1_draw_17 zc0 (by decide) in_X1 zok0 znm0 (by decide) q494 (Or.inl rfl) rfl rfl (fun _ _ _ => rfl) rfl rfl (congrArg Prod.fst (zX_t1000 hx)) rfl ?_
  refine za_aload_n (pc' := 21) 0 dX1_draw_20 rfl rfl rfl ?_
  refine za_get (fi := 5) (v := .int ((((I 1000 5) * (1103515245 : Int32)) + (12345 : Int32)) &&& (2147483647 : Int32))) (pc' := 24) dX1_draw_21 zc0 (by decide) in_X1 (by decide) q494 (Or.inl rfl) (congrArg Prod.fst (zX_t1000 hx)) (congrArg Value.int (z2_s)) rfl ?_
  refine za_bipush (pc' := 26) dX1_draw_24 zb8_16 rfl ?_
  refine za_ishr (pc' := 27) dX1_draw_26 rfl ?_
  refine za_iload_n (pc' := 28) 1 dX1_draw_27 rfl rfl rfl ?_
  obtain ⟨hn1, h⟩ := h
  refine za_irem (pc' := 29) dX1_draw_28 hn1 rfl ?_
  exact za_ireturn rfl dX1_draw_29 h
theorem sX1_draw {d b : Nat} {v1 : Int32} {T : zT} {I : zI} {L : zL} {R : zR} {P : zP} (h : zAW mX1_draw d b 0 [(0, .ref 1000), (1, .int v1)] [] T I L R P) : zMet mX1_draw d b [.ref 1000, .int v1] T I L R P := zMet_of (by decide +kernel) rfl (Nat.le_of_ble_eq_true rfl) rfl h
/-! TwoTongues.put (III)I -/
def dkwX1_put_2_4 : List UInt8 := [180, 0, 186, 27, 50, 180, 0, 219, 28, 29, 79, 42, 180, 0, 39, 180, 1, 39, 29, 46, 172]
abbrev dktX1_put_2_4 : List UInt8 := dkwX1_put_2_4 ++ []
def dkwX1_put_2_3 : List UInt8 := [180, 0, 64, 89, 180, 1, 42, 42, 180, 0, 39, 180, 1, 39, 29, 46, 100, 181, 1, 42, 42, 180, 0, 64]
abbrev dktX1_put_2_3 : List UInt8 := dkwX1_put_2_3 ++ dktX1_put_2_4
def dkwX1_put_2_2 : List UInt8 := [180, 1, 39, 29, 46, 42, 180, 0, 64, 180, 1, 42, 164, 0, 6, 16, 254, 172, 42, 182, 1, 45, 42]
abbrev dktX1_put_2_2 : List UInt8 := dkwX1_put_2_2 ++ dktX1_put_2_3
def dkwX1_put_2_1 : List UInt8 := [180, 0, 64, 180, 0, 186, 27, 50, 180, 0, 219, 28, 46, 29, 160, 0, 5, 2, 172, 42, 180, 0, 39]
abbrev dktX1_put_2_1 : List UInt8 := dkwX1_put_2_1 ++ dktX1_put_2_2
def dkwX1_put_2_0 : List UInt8 := [42, 27, 28, 182, 0, 215, 153, 0, 33, 29, 133, 10, 20, 1, 37, 184, 0, 126, 153, 0, 21, 42]
abbrev dktX1_put_2_0 : List UInt8 := dkwX1_put_2_0 ++ dktX1_put_2_1
theorem dksX1_put_2_0 : cX1_put_2.data.toList.drop 0 = dktX1_put_2_0 := by decide +kernel
theorem dksX1_put_2_1 : cX1_put_2.data.toList.drop 22 = dktX1_put_2_1 := dk_seg dksX1_put_2_0 22 rfl rfl
theorem dksX1_put_2_2 : cX1_put_2.data.toList.drop 45 = dktX1_put_2_2 := dk_seg dksX1_put_2_1 23 rfl rfl
theorem dksX1_put_2_3 : cX1_put_2.data.toList.drop 68 = dktX1_put_2_3 := dk_seg dksX1_put_2_2 23 rfl rfl
theorem dksX1_put_2_4 : cX1_put_2.data.toList.drop 92 = dktX1_put_2_4 := dk_seg dksX1_put_2_3 24 rfl rfl
theorem dX1_put_2_0 : decode cX1_put_2 0 = .ok (.aload_n 0, 1) := dk_42 (dk_at dksX1_put_2_0 0 rfl rfl)
theorem dX1_put_2_1 : decode cX1_put_2 1 = .ok (.iload_n 1, 1) := dk_27 (dk_at dksX1_put_2_0 1 rfl rfl)
theorem dX1_put_2_2 : decode cX1_put_2 2 = .ok (.iload_n 2, 1) := dk_28 (dk_at dksX1_put_2_0 2 rfl rfl)
theorem dX1_put_2_3 : decode cX1_put_2 3 = .ok (.invokevirtual 215, 3) := dk_182 0 215 (dk_at dksX1_put_2_0 3 rfl rfl)
theorem dX1_put_2_6 : decode cX1_put_2 6 = .ok (.ifCond .eq 33, 3) := dk_153 0 33 (dk_at dksX1_put_2_0 6 rfl rfl)
theorem dX1_put_2_9 : decode cX1_put_2 9 = .ok (.iload_n 3, 1) := dk_29 (dk_at dksX1_put_2_0 9 rfl rfl)
theorem dX1_put_2_10 : decode cX1_put_2 10 = .ok (.i2l, 1) := dk_133 (dk_at dksX1_put_2_0 10 rfl rfl)
theorem dX1_put_2_11 : decode cX1_put_2 11 = .ok (.lconst 1, 1) := dk_10 (dk_at dksX1_put_2_0 11 rfl rfl)
theorem dX1_put_2_12 : decode cX1_put_2 12 = .ok (.ldc2_w 293, 3) := dk_20 1 37 (dk_at dksX1_put_2_0 12 rfl rfl)
theorem dX1_put_2_15 : decode cX1_put_2 15 = .ok (.invokestatic 126, 3) := dk_184 0 126 (dk_at dksX1_put_2_0 15 rfl rfl)
theorem dX1_put_2_18 : decode cX1_put_2 18 = .ok (.ifCond .eq 21, 3) := dk_153 0 21 (dk_at dksX1_put_2_0 18 rfl rfl)
theorem dX1_put_2_21 : decode cX1_put_2 21 = .ok (.aload_n 0, 1) := dk_42 (dk_at dksX1_put_2_0 21 rfl rfl)
theorem dX1_put_2_22 : decode cX1_put_2 22 = .ok (.getfield 64, 3) := dk_180 0 64 (dk_at dksX1_put_2_1 0 rfl rfl)
theorem dX1_put_2_25 : decode cX1_put_2 25 = .ok (.getfield 186, 3) := dk_180 0 186 (dk_at dksX1_put_2_1 3 rfl rfl)
theorem dX1_put_2_28 : decode cX1_put_2 28 = .ok (.iload_n 1, 1) := dk_27 (dk_at dksX1_put_2_1 6 rfl rfl)
theorem dX1_put_2_29 : decode cX1_put_2 29 = .ok (.aaload, 1) := dk_50 (dk_at dksX1_put_2_1 7 rfl rfl)
theorem dX1_put_2_30 : decode cX1_put_2 30 = .ok (.getfield 219, 3) := dk_180 0 219 (dk_at dksX1_put_2_1 8 rfl rfl)
theorem dX1_put_2_33 : decode cX1_put_2 33 = .ok (.iload_n 2, 1) := dk_28 (dk_at dksX1_put_2_1 11 rfl rfl)
theorem dX1_put_2_34 : decode cX1_put_2 34 = .ok (.iaload, 1) := dk_46 (dk_at dksX1_put_2_1 12 rfl rfl)
theorem dX1_put_2_35 : decode cX1_put_2 35 = .ok (.iload_n 3, 1) := dk_29 (dk_at dksX1_put_2_1 13 rfl rfl)
theorem dX1_put_2_36 : decode cX1_put_2 36 = .ok (.if_icmp .ne 5, 3) := dk_160 0 5 (dk_at dksX1_put_2_1 14 rfl rfl)
theorem dX1_put_2_39 : decode cX1_put_2 39 = .ok (.iconst (-1), 1) := dk_2 (dk_at dksX1_put_2_1 17 rfl rfl)
theorem dX1_put_2_40 : decode cX1_put_2 40 = .ok (.ireturn, 1) := dk_172 (dk_at dksX1_put_2_1 18 rfl rfl)
theorem dX1_put_2_41 : decode cX1_put_2 41 = .ok (.aload_n 0, 1) := dk_42 (dk_at dksX1_put_2_1 19 rfl rfl)
theorem dX1_put_2_42 : decode cX1_put_2 42 = .ok (.getfield 39, 3) := dk_180 0 39 (dk_at dksX1_put_2_1 20 rfl rfl)
theorem dX1_put_2_45 : decode cX1_put_2 45 = .ok (.getfield 295, 3) := dk_180 1 39 (dk_at dksX1_put_2_2 0 rfl rfl)
theorem dX1_put_2_48 : decode cX1_put_2 48 = .ok (.iload_n 3, 1) := dk_29 (dk_at dksX1_put_2_2 3 rfl rfl)
theorem dX1_put_2_49 : decode cX1_put_2 49 = .ok (.iaload, 1) := dk_46 (dk_at dksX1_put_2_2 4 rfl rfl)
theorem dX1_put_2_50 : decode cX1_put_2 50 = .ok (.aload_n 0, 1) := dk_42 (dk_at dksX1_put_2_2 5 rfl rfl)
theorem dX1_put_2_51 : decode cX1_put_2 51 = .ok (.getfield 64, 3) := dk_180 0 64 (dk_at dksX1_put_2_2 6 rfl rfl)
theorem dX1_put_2_54 : decode cX1_put_2 54 = .ok (.getfield 298, 3) := dk_180 1 42 (dk_at dksX1_put_2_2 9 rfl rfl)
theorem dX1_put_2_57 : decode cX1_put_2 57 = .ok (.if_icmp .le 6, 3) := dk_164 0 6 (dk_at dksX1_put_2_2 12 rfl rfl)
theorem dX1_put_2_60 : decode cX1_put_2 60 = .ok (.bipush (-2), 2) := dk_16 254 (dk_at dksX1_put_2_2 15 rfl rfl)
theorem dX1_put_2_62 : decode cX1_put_2 62 = .ok (.ireturn, 1) := dk_172 (dk_at dksX1_put_2_2 17 rfl rfl)
theorem dX1_put_2_63 : decode cX1_put_2 63 = .ok (.aload_n 0, 1) := dk_42 (dk_at dksX1_put_2_2 18 rfl rfl)
theorem dX1_put_2_64 : decode cX1_put_2 64 = .ok (.invokevirtual 301, 3) := dk_182 1 45 (dk_at dksX1_put_2_2 19 rfl rfl)
theorem dX1_put_2_67 : decode cX1_put_2 67 = .ok (.aload_n 0, 1) := dk_42 (dk_at dksX1_put_2_2 22 rfl rfl)
theorem dX1_put_2_68 : decode cX1_put_2 68 = .ok (.getfield 64, 3) := dk_180 0 64 (dk_at dksX1_put_2_3 0 rfl rfl)
theorem dX1_put_2_71 : decode cX1_put_2 71 = .ok (.dup, 1) := dk_89 (dk_at dksX1_put_2_3 3 rfl rfl)
theorem dX1_put_2_72 : decode cX1_put_2 72 = .ok (.getfield 298, 3) := dk_180 1 42 (dk_at dksX1_put_2_3 4 rfl rfl)
theorem dX1_put_2_75 : decode cX1_put_2 75 = .ok (.aload_n 0, 1) := dk_42 (dk_at dksX1_put_2_3 7 rfl rfl)
theorem dX1_put_2_76 : decode cX1_put_2 76 = .ok (.getfield 39, 3) := dk_180 0 39 (dk_at dksX1_put_2_3 8 rfl rfl)
theorem dX1_put_2_79 : decode cX1_put_2 79 = .ok (.getfield 295, 3) := dk_180 1 39 (dk_at dksX1_put_2_3 11 rfl rfl)
theorem dX1_put_2_82 : decode cX1_put_2 82 = .ok (.iload_n 3, 1) := dk_29 (dk_at dksX1_put_2_3 14 rfl rfl)
theorem dX1_put_2_83 : decode cX1_put_2 83 = .ok (.iaload, 1) := dk_46 (dk_at dksX1_put_2_3 15 rfl rfl)
theorem dX1_put_2_84 : decode cX1_put_2 84 = .ok (.isub, 1) := dk_100 (dk_at dksX1_put_2_3 16 rfl rfl)
theorem dX1_put_2_85 : decode cX1_put_2 85 = .ok (.putfield 298, 3) := dk_181 1 42 (dk_at dksX1_put_2_3 17 rfl rfl)
theorem dX1_put_2_88 : decode cX1_put_2 88 = .ok (.aload_n 0, 1) := dk_42 (dk_at dksX1_put_2_3 20 rfl rfl)
theorem dX1_put_2_89 : decode cX1_put_2 89 = .ok (.getfield 64, 3) := dk_180 0 64 (dk_at dksX1_put_2_3 21 rfl rfl)
theorem dX1_put_2_92 : decode cX1_put_2 92 = .ok (.getfield 186, 3) := dk_180 0 186 (dk_at dksX1_put_2_4 0 rfl rfl)
theorem dX1_put_2_95 : decode cX1_put_2 95 = .ok (.iload_n 1, 1) := dk_27 (dk_at dksX1_put_2_4 3 rfl rfl)
theorem dX1_put_2_96 : decode cX1_put_2 96 = .ok (.aaload, 1) := dk_50 (dk_at dksX1_put_2_4 4 rfl rfl)
theorem dX1_put_2_97 : decode cX1_put_2 97 = .ok (.getfield 219, 3) := dk_180 0 219 (dk_at dksX1_put_2_4 5 rfl rfl)
theorem dX1_put_2_100 : decode cX1_put_2 100 = .ok (.iload_n 2, 1) := dk_28 (dk_at dksX1_put_2_4 8 rfl rfl)
theorem dX1_put_2_101 : decode cX1_put_2 101 = .ok (.iload_n 3, 1) := dk_29 (dk_at dksX1_put_2_4 9 rfl rfl)
theorem dX1_put_2_102 : decode cX1_put_2 102 = .ok (.iastore, 1) := dk_79 (dk_at dksX1_put_2_4 10 rfl rfl)
theorem dX1_put_2_103 : decode cX1_put_2 103 = .ok (.aload_n 0, 1) := dk_42 (dk_at dksX1_put_2_4 11 rfl rfl)
theorem dX1_put_2_104 : decode cX1_put_2 104 = .ok (.getfield 39, 3) := dk_180 0 39 (dk_at dksX1_put_2_4 12 rfl rfl)
theorem dX1_put_2_107 : decode cX1_put_2 107 = .ok (.getfield 295, 3) := dk_180 1 39 (dk_at dksX1_put_2_4 15 rfl rfl)
theorem dX1_put_2_110 : decode cX1_put_2 110 = .ok (.iload_n 3, 1) := dk_29 (dk_at dksX1_put_2_4 18 rfl rfl)
theorem dX1_put_2_111 : decode cX1_put_2 111 = .ok (.iaload, 1) := dk_46 (dk_at dksX1_put_2_4 19 rfl rfl)
theorem dX1_put_2_112 : decode cX1_put_2 112 = .ok (.ireturn, 1) := dk_172 (dk_at dksX1_put_2_4 20 rfl rfl)
theorem gX1_put_2_0 {b : Nat} {v1 : Int32} {v2 : Int32} {v3 : Int32} {T : zT} {I : zI} {L : zL} {R : zR} {P : zP} (hx : zXok T R) (h : zMet mX1_isLetter 3 0 [.ref 1000, .int v1, .int v2] T I L R (zqI_ T I L R  (fun (r1 : Int32)  => ((r1 = 0 → P 0 (.int (-1 : Int32)) T I L R) ∧ (¬ r1 = 0 → zMet mX1_in 1 0 [.long (v3.toInt64), .long (1 : Int64), .long (26 : Int64)] T I L R (zqI_ T I L R  (fun (r2 : Int32)  => ((r2 = 0 → P 0 (.int (-1 : Int32)) T I L R) ∧ (¬ r2 = 0 → vp_in v1 6 ∧ (T (R 1202 (v1.toNatClampNeg))).1 = 11 ∧ (T (R (R 1202 (v1.toNatClampNeg)) 0)).1 = 100 ∧ vp_in v2 ((T (R (R 1202 (v1.toNatClampNeg)) 0)).2) ∧ (((I (R (R 1202 (v1.toNatClampNeg)) 0) (v2.toNatClampNeg)) = v3 → P 0 (.int (-1 : Int32)) T I L R) ∧ (¬ (I (R (R 1202 (v1.toNatClampNeg)) 0) (v2.toNatClampNeg)) = v3 → (T (R 1000 8)).1 = 3 ∧ (T (R (R 1000 8) 8)).1 = 100 ∧ vp_in v3 ((T (R (R 1000 8) 8)).2) ∧ (((I (R (R 1000 8) 8) (v3.toNatClampNeg)) ≤ (I 1200 3) → ∃ b15, b15 ≤ ((b - 0) - 0) ∧ zMet mX1_keepNow 3 b15 [.ref 1000] T I L R (zqV_TILR   (fun (T10 : zT) (I11 : zI) (L12 : zL) (R13 : zR)  => zXok T10 R13 ∧ (T10 (R13 1000 8)).1 = 3 ∧ (T10 (R13 (R13 1000 8) 8)).1 = 100 ∧ vp_in v3 ((T10 (R13 (R13 1000 8) 8)).2) ∧ (T10 (R13 1202 (v1.toNatClampNeg))).1 = 11 ∧ (T10 (R13 (R13 1202 (v1.toNatClampNeg)) 0)).1 = 100 ∧ vp_in v2 ((T10 (R13 (R13 1202 (v1.toNatClampNeg)) 0)).2) ∧ P 0 (.int ((z2 (z2 I11 1200 3 ((I11 1200 3) - (I11 (R13 (R13 1000 8) 8) (v3.toNatClampNeg)))) (R13 (R13 1202 (v1.toNatClampNeg)) 0) (v2.toNatClampNeg) v3) (R13 (R13 1000 8) 8) (v3.toNatClampNeg))) T10 (z2 (z2 I11 1200 3 ((I11 1200 3) - (I11 (R13 (R13 1000 8) 8) (v3.toNatClampNeg)))) (R13 (R13 1202 (v1.toNatClampNeg)) 0) (v2.toNatClampNeg) v3) L12 R13))) ∧ (¬ (I (R (R 1000 8) 8) (v3.toNatClampNeg)) ≤ (I 1200 3) → P 0 (.int (-2 : Int32)) T I L R))))))))))))) : zAW mX1_put_2 4 b 0 [(0, .ref 1000), (1, .int v1), (2, .int v2), (3, .int v3)] [] T I L R P := by
  refine za_aload_n (pc' := 1) 0 dX1_put_2_0 rfl rfl rfl ?_
  refine za_iload_n (pc' := 2) 1 dX1_put_2_1 rfl rfl rfl ?_
  refine za_iload_n (pc' := 3) 2 dX1_put_2_2 rfl rfl rfl ?_
  refine za_callV (κ := 1000) (M2 := mX1_isLetter) (d2 := 3) (b2 := 0) (n := 2) (As := [.int v1, .int v2]) (st := []) (pc' := 6) zc0 (by decide) (congrArg Prod.fst (zX_t1000 hx)) dX1_put_2_3 rfl (lw_V q1062 q1064 qs31 q131 q1065) ⟨rfl, hd_X1_isLetter⟩ rfl (by decide) (by decide) (Nat.zero_le _) (Or.inl rfl) (Nat.le_of_ble_eq_true rfl) h (zqI__k rfl (fun r1 h => ?_)) (fun _ _ _ _ _ _ h9 h8 => absurd h8.1 h9) rfl
  refine za_if_eq (pc' := 9) (tgt := 39) dX1_put_2_6 (by decide) rfl (fun c9 => ?_) (fun c9 => ?_)
  · replace h := h.1 c9
    refine za_iconst (pc' := 40) dX1_put_2_39 zi_m1 rfl ?_
    exact za_ireturn rfl dX1_put_2_40 h
  · replace h := h.2 c9
    refine za_iload_n (pc' := 10) 3 dX1_put_2_9 rfl rfl rfl ?_
    refine za_i2l (pc' := 11) dX1_put_2_10 rfl rfl ?_
    refine za_lconst (pc' := 12) dX1_put_2_11 zl_1 rfl ?_
    refine za_ldc2 (pc' := 15) (v := (26 : Int64)) (own := "") dX1_put_2_12 q1166 rfl ?_
    refine za_callS (M2 := mX1_in) (d2 := 1) (b2 := 0) (n := 3) (As := [.long (v3.toInt64), .long (1 : Int64), .long (26 : Int64)]) (st := []) (pc' := 18) dX1_put_2_15 rfl (lw_S q588 q589 q131 q590) hd_X1_in rfl (by decide) (by decide) (Nat.zero_le _) (Or.inl rfl) (Nat.le_of_ble_eq_true rfl) h (zqI__k rfl (fun r2 h => ?_)) (fun _ _ _ _ _ _ h9 h8 => absurd h8.1 h9) rfl
    refine za_if_eq (pc' := 21) (tgt := 39) dX1_put_2_18 (by decide) rfl (fun c9 => ?_) (fun c9 => ?_)
    · replace h := h.1 c9
      refine za_iconst (pc' := 40) dX1_put_2_39 zi_m1 rfl ?_
      exact za_ireturn rfl dX1_put_2_40 h
    · replace h := h.2 c9
      refine za_aload_n (pc' := 22) 0 dX1_put_2_21 rfl rfl rfl ?_
      refine za_get (fi := 10) (v := .ref 1200) (pc' := 25) dX1_put_2_22 zc0 (by decide) in_X1 (by decide) q500 (Or.inl rfl) (congrArg Prod.fst (zX_t1000 hx)) (congrArg Value.ref (zX_r1000_10 hx)) rfl ?_
      refine za_getN (fi := 1) (v := .ref 1202) (pc' := 28) dX1_put_2_25 zc9 (by decide) in_X10 (by decide) q418 (Or.inl rfl) (congrArg Prod.fst (zX_t1200 hx)) (congrArg Value.ref (zX_r1200_1 hx)) rfl ?_
      refine za_iload_n (pc' := 29) 1 dX1_put_2_28 rfl rfl rfl ?_
      obtain ⟨hi3, h⟩ := h
      refine za_aald (r := (R 1202 (v1.toNatClampNeg))) (t := 5) (C := RX11) (pc' := 30) dX1_put_2_29 (by decide) (fun _ => rfl) (zX_t1202 hx) hi3 (rfl) rfl ?_
      obtain ⟨ht4, h⟩ := h
      refine za_getN (fi := 0) (v := .ref (R (R 1202 (v1.toNatClampNeg)) 0)) (pc' := 33) dX1_put_2_30 zc10 (by decide) in_X11 (by decide) q404 (Or.inl rfl) ht4 rfl rfl ?_
      refine za_iload_n (pc' := 34) 2 dX1_put_2_33 rfl rfl rfl ?_
      obtain ⟨ht5, h⟩ := h
      obtain ⟨hi6, h⟩ := h
      refine za_iald (v := .int (I (R (R 1202 (v1.toNatClampNeg)) 0) (v2.toNatClampNeg))) (pc' := 35) dX1_put_2_34 (zpair ht5) hi6 rfl rfl ?_
      refine za_iload_n (pc' := 36) 3 dX1_put_2_35 rfl rfl rfl ?_
      refine za_icmp_ne (pc' := 39) (tgt := 41) dX1_put_2_36 (by decide) rfl (fun c9 => ?_) (fun c9 => ?_)
      · replace h := h.2 c9
        refine za_aload_n (pc' := 42) 0 dX1_put_2_41 rfl rfl rfl ?_
        refine za_get (fi := 8) (v := .ref (R 1000 8)) (pc' := 45) dX1_put_2_42 zc0 (by decide) in_X1 (by decide) q498 (Or.inl rfl) (congrArg Prod.fst (zX_t1000 hx)) rfl rfl ?_
        obtain ⟨ht7, h⟩ := h
        refine za_getN (fi := 8) (v := .ref (R (R 1000 8) 8)) (pc' := 48) dX1_put_2_45 zc2 (by decide) in_X3 (by decide) q297 (Or.inl rfl) ht7 rfl rfl ?_
        refine za_iload_n (pc' := 49) 3 dX1_put_2_48 rfl rfl rfl ?_
        obtain ⟨ht8, h⟩ := h
        obtain ⟨hi9, h⟩ := h
        refine za_iald (v := .int (I (R (R 1000 8) 8) (v3.toNatClampNeg))) (pc' := 50) dX1_put_2_49 (zpair ht8) hi9 rfl rfl ?_
        refine za_aload_n (pc' := 51) 0 dX1_put_2_50 rfl rfl rfl ?_
        refine za_get (fi := 10) (v := .ref 1200) (pc' := 54) dX1_put_2_51 zc0 (by decide) in_X1 (by decide) q500 (Or.inl rfl) (congrArg Prod.fst (zX_t1000 hx)) (congrArg Value.ref (zX_r1000_10 hx)) rfl ?_
        refine za_getN (fi := 3) (v := .int (I 1200 3)) (pc' := 57) dX1_put_2_54 zc9 (by decide) in_X10 (by decide) q422 (Or.inl rfl) (congrArg Prod.fst (zX_t1200 hx)) rfl rfl ?_
        refine za_icmp_le (pc' := 60) (tgt := 63) dX1_put_2_57 (by decide) rfl (fun c9 => ?_) (fun c9 => ?_)
        · replace h := h.1 c9
          refine za_aload_n (pc' := 64) 0 dX1_put_2_63 rfl rfl rfl ?_
          obtain ⟨b15, hb16, h⟩ := h
          refine za_callV (κ := 1000) (M2 := mX1_keepNow) (d2 := 3) (b2 := b15) (n := 0) (As := []) (st := []) (pc' := 67) zc0 (by decide) (congrArg Prod.fst (zX_t1000 hx)) dX1_put_2_64 rfl (lw_V q1167 q1169 qs38 q131 q1170) ⟨rfl, hd_X1_keepNow⟩ rfl (by decide) (by decide) hb16 (Or.inl rfl) (Nat.le_of_ble_eq_true rfl) h (zqV_TILR_k rfl (fun T10 I11 L12 R13 h => ?_)) (fun _ _ _ _ _ _ h9 h8 => absurd h8.1 h9) rfl
          obtain ⟨hx14, h⟩ := h
          refine za_aload_n (pc' := 68) 0 dX1_put_2_67 rfl rfl rfl ?_
          refine za_get (fi := 10) (v := .ref 1200) (pc' := 71) dX1_put_2_68 zc0 (by decide) in_X1 (by decide) q500 (Or.inl rfl) (congrArg Prod.fst (zX_t1000 hx14)) (congrArg Value.ref (zX_r1000_10 hx14)) rfl ?_
          refine za_dup (pc' := 72) dX1_put_2_71 rfl rfl ?_
          refine za_getN (fi := 3) (v := .int (I11 1200 3)) (pc' := 75) dX1_put_2_72 zc9 (by decide) in_X10 (by decide) q422 (Or.inl rfl) (congrArg Prod.fst (zX_t1200 hx14)) rfl rfl ?_
          refine za_aload_n (pc' := 76) 0 dX1_put_2_75 rfl rfl rfl ?_
          refine za_get (fi := 8) (v := .ref (R13 1000 8)) (pc' := 79) dX1_put_2_76 zc0 (by decide) in_X1 (by decide) q498 (Or.inl rfl) (congrArg Prod.fst (zX_t1000 hx14)) rfl rfl ?_
          obtain ⟨ht17, h⟩ := h
          refine za_getN (fi := 8) (v := .ref (R13 (R13 1000 8) 8)) (pc' := 82) dX1_put_2_79 zc2 (by decide) in_X3 (by decide) q297 (Or.inl rfl) ht17 rfl rfl ?_
          refine za_iload_n (pc' := 83) 3 dX1_put_2_82 rfl rfl rfl ?_
          obtain ⟨ht18, h⟩ := h
          obtain ⟨hi19, h⟩ := h
          refine za_iald (v := .int (I11 (R13 (R13 1000 8) 8) (v3.toNatClampNeg))) (pc' := 84) dX1_put_2_83 (zpair ht18) hi19 rfl rfl ?_
          refine za_isub (pc' := 85) dX1_put_2_84 rfl ?_
          refine za_putNI (fi := 3) (pc' := 88) dX1_put_2_85 zc9 (by decide) in_X10 zok9 znm9 (by decide) q422 (Or.inl rfl) rfl rfl (fun _ _ _ => rfl) rfl rfl (congrArg Prod.fst (zX_t1200 hx14)) rfl ?_
          refine za_aload_n (pc' := 89) 0 dX1_put_2_88 rfl rfl rfl ?_
          refine za_get (fi := 10) (v := .ref 1200) (pc' := 92) dX1_put_2_89 zc0 (by decide) in_X1 (by decide) q500 (Or.inl rfl) (congrArg Prod.fst (zX_t1000 hx14)) (congrArg Value.ref (zX_r1000_10 hx14)) rfl ?_
          refine za_getN (fi := 1) (v := .ref 1202) (pc' := 95) dX1_put_2_92 zc9 (by decide) in_X10 (by decide) q418 (Or.inl rfl) (congrArg Prod.fst (zX_t1200 hx14)) (congrArg Value.ref (zX_r1200_1 hx14)) rfl ?_
          refine za_iload_n (pc' := 96) 1 dX1_put_2_95 rfl rfl rfl ?_
          refine za_aald (r := (R13 1202 (v1.toNatClampNeg))) (t := 5) (C := RX11) (pc' := 97) dX1_put_2_96 (by decide) (fun _ => rfl) (zX_t1202 hx14) hi3 (rfl) rfl ?_
          obtain ⟨ht20, h⟩ := h
          refine za_getN (fi := 0) (v := .ref (R13 (R13 1202 (v1.toNatClampNeg)) 0)) (pc' := 100) dX1_put_2_97 zc10 (by decide) in_X11 (by decide) q404 (Or.inl rfl) ht20 rfl rfl ?_
          refine za_iload_n (pc' := 101) 2 dX1_put_2_100 rfl rfl rfl ?_
          refine za_iload_n (pc' := 102) 3 dX1_put_2_101 rfl rfl rfl ?_
          obtain ⟨ht21, h⟩ := h
          obtain ⟨hi22, h⟩ := h
          refine za_iast (k := v2.toNatClampNeg) (pc' := 103) dX1_put_2_102 (zpair ht21) hi22 rfl rfl ?_
          refine za_aload_n (pc' := 104) 0 dX1_put_2_103 rfl rfl rfl ?_
          refine za_get (fi := 8) (v := .ref (R13 1000 8)) (pc' := 107) dX1_put_2_104 zc0 (by decide) in_X1 (by decide) q498 (Or.inl rfl) (congrArg Prod.fst (zX_t1000 hx14)) rfl rfl ?_
          refine za_getN (fi := 8) (v := .ref (R13 (R13 1000 8) 8)) (pc' := 110) dX1_put_2_107 zc2 (by decide) in_X3 (by decide) q297 (Or.inl rfl) ht17 rfl rfl ?_
          refine za_iload_n (pc' := 111) 3 dX1_put_2_110 rfl rfl rfl ?_
          refine za_iald (v := .int ((z2 (z2 I11 1200 3 ((I11 1200 3) - (I11 (R13 (R13 1000 8) 8) (v3.toNatClampNeg)))) (R13 (R13 1202 (v1.toNatClampNeg)) 0) (v2.toNatClampNeg) v3) (R13 (R13 1000 8) 8) (v3.toNatClampNeg))) (pc' := 112) dX1_put_2_111 (zpair ht18) hi19 rfl rfl ?_
          exact za_ireturn rfl dX1_put_2_112 h
        · replace h := h.2 c9
          refine za_bipush (pc' := 62) dX1_put_2_60 zb8_m2 rfl ?_
          exact za_ireturn rfl dX1_put_2_62 h
      · replace h := h.1 c9
        refine za_iconst (pc' := 40) dX1_put_2_39 zi_m1 rfl ?_
        exact za_ireturn rfl dX1_put_2_40 h
theorem sX1_put_2 {d b : Nat} {v1 : Int32} {v2 : Int32} {v3 : Int32} {T : zT} {I : zI} {L : zL} {R : zR} {P : zP} (h : zAW mX1_put_2 d b 0 [(0, .ref 1000), (1, .int v1), (2, .int v2), (3, .int v3)] [] T I L R P) : zMet mX1_put_2 d b [.ref 1000, .int v1, .int v2, .int v3] T I L R P := zMet_of (by decide +kernel) rfl (Nat.le_of_ble_eq_true rfl) rfl h
/-! TwoTongues.keepNow ()V -/
def dkwX1_keepNow_4 : List UInt8 := [42, 180, 0, 151, 50, 42, 180, 0, 64, 182, 1, 33, 42, 89, 180, 0, 151, 4, 96, 181, 0, 151, 177]
abbrev dktX1_keepNow_4 : List UInt8 := dkwX1_keepNow_4 ++ []
def dkwX1_keepNow_3 : List UInt8 := [199, 0, 20, 42, 180, 0, 71, 42, 180, 0, 151, 187, 0, 61, 89, 42, 183, 0, 63, 83, 42, 180, 0, 71]
abbrev dktX1_keepNow_3 : List UInt8 := dkwX1_keepNow_3 ++ dktX1_keepNow_4
def dkwX1_keepNow_2 : List UInt8 := [16, 19, 43, 83, 42, 89, 180, 0, 151, 4, 100, 181, 0, 151, 42, 180, 0, 71, 42, 180, 0, 151, 50]
abbrev dktX1_keepNow_2 : List UInt8 := dkwX1_keepNow_2 ++ dktX1_keepNow_3
def dkwX1_keepNow_1 : List UInt8 := [42, 180, 0, 71, 28, 4, 100, 42, 180, 0, 71, 28, 50, 83, 132, 2, 1, 167, 255, 233, 42, 180, 0, 71]
abbrev dktX1_keepNow_1 : List UInt8 := dkwX1_keepNow_1 ++ dktX1_keepNow_2
def dkwX1_keepNow_0 : List UInt8 := [42, 180, 0, 151, 16, 20, 160, 0, 56, 42, 180, 0, 71, 3, 50, 76, 4, 61, 28, 16, 20, 162, 0, 23]
abbrev dktX1_keepNow_0 : List UInt8 := dkwX1_keepNow_0 ++ dktX1_keepNow_1
theorem dksX1_keepNow_0 : cX1_keepNow.data.toList.drop 0 = dktX1_keepNow_0 := by decide +kernel
theorem dksX1_keepNow_1 : cX1_keepNow.data.toList.drop 24 = dktX1_keepNow_1 := dk_seg dksX1_keepNow_0 24 rfl rfl
theorem dksX1_keepNow_2 : cX1_keepNow.data.toList.drop 48 = dktX1_keepNow_2 := dk_seg dksX1_keepNow_1 24 rfl rfl
theorem dksX1_keepNow_3 : cX1_keepNow.data.toList.drop 71 = dktX1_keepNow_3 := dk_seg dksX1_keepNow_2 23 rfl rfl
theorem dksX1_keepNow_4 : cX1_keepNow.data.toList.drop 95 = dktX1_keepNow_4 := dk_seg dksX1_keepNow_3 24 rfl rfl
theorem dX1_keepNow_0 : decode cX1_keepNow 0 = .ok (.aload_n 0, 1) := dk_42 (dk_at dksX1_keepNow_0 0 rfl rfl)
theorem dX1_keepNow_1 : decode cX1_keepNow 1 = .ok (.getfield 151, 3) := dk_180 0 151 (dk_at dksX1_keepNow_0 1 rfl rfl)
theorem dX1_keepNow_4 : decode cX1_keepNow 4 = .ok (.bipush 20, 2) := dk_16 20 (dk_at dksX1_keepNow_0 4 rfl rfl)
theorem dX1_keepNow_6 : decode cX1_keepNow 6 = .ok (.if_icmp .ne 56, 3) := dk_160 0 56 (dk_at dksX1_keepNow_0 6 rfl rfl)
theorem dX1_keepNow_9 : decode cX1_keepNow 9 = .ok (.aload_n 0, 1) := dk_42 (dk_at dksX1_keepNow_0 9 rfl rfl)
theorem dX1_keepNow_10 : decode cX1_keepNow 10 = .ok (.getfield 71, 3) := dk_180 0 71 (dk_at dksX1_keepNow_0 10 rfl rfl)
theorem dX1_keepNow_13 : decode cX1_keepNow 13 = .ok (.iconst 0, 1) := dk_3 (dk_at dksX1_keepNow_0 13 rfl rfl)
theorem dX1_keepNow_14 : decode cX1_keepNow 14 = .ok (.aaload, 1) := dk_50 (dk_at dksX1_keepNow_0 14 rfl rfl)
theorem dX1_keepNow_15 : decode cX1_keepNow 15 = .ok (.astore_n 1, 1) := dk_76 (dk_at dksX1_keepNow_0 15 rfl rfl)
theorem dX1_keepNow_16 : decode cX1_keepNow 16 = .ok (.iconst 1, 1) := dk_4 (dk_at dksX1_keepNow_0 16 rfl rfl)
theorem dX1_keepNow_17 : decode cX1_keepNow 17 = .ok (.istore_n 2, 1) := dk_61 (dk_at dksX1_keepNow_0 17 rfl rfl)
theorem dX1_keepNow_18 : decode cX1_keepNow 18 = .ok (.iload_n 2, 1) := dk_28 (dk_at dksX1_keepNow_0 18 rfl rfl)
theorem dX1_keepNow_19 : decode cX1_keepNow 19 = .ok (.bipush 20, 2) := dk_16 20 (dk_at dksX1_keepNow_0 19 rfl rfl)
theorem dX1_keepNow_21 : decode cX1_keepNow 21 = .ok (.if_icmp .ge 23, 3) := dk_162 0 23 (dk_at dksX1_keepNow_0 21 rfl rfl)
theorem dX1_keepNow_24 : decode cX1_keepNow 24 = .ok (.aload_n 0, 1) := dk_42 (dk_at dksX1_keepNow_1 0 rfl rfl)
theorem dX1_keepNow_25 : decode cX1_keepNow 25 = .ok (.getfield 71, 3) := dk_180 0 71 (dk_at dksX1_keepNow_1 1 rfl rfl)
theorem dX1_keepNow_28 : decode cX1_keepNow 28 = .ok (.iload_n 2, 1) := dk_28 (dk_at dksX1_keepNow_1 4 rfl rfl)
theorem dX1_keepNow_29 : decode cX1_keepNow 29 = .ok (.iconst 1, 1) := dk_4 (dk_at dksX1_keepNow_1 5 rfl rfl)
theorem dX1_keepNow_30 : decode cX1_keepNow 30 = .ok (.isub, 1) := dk_100 (dk_at dksX1_keepNow_1 6 rfl rfl)
theorem dX1_keepNow_31 : decode cX1_keepNow 31 = .ok (.aload_n 0, 1) := dk_42 (dk_at dksX1_keepNow_1 7 rfl rfl)
theorem dX1_keepNow_32 : decode cX1_keepNow 32 = .ok (.getfield 71, 3) := dk_180 0 71 (dk_at dksX1_keepNow_1 8 rfl rfl)
theorem dX1_keepNow_35 : decode cX1_keepNow 35 = .ok (.iload_n 2, 1) := dk_28 (dk_at dksX1_keepNow_1 11 rfl rfl)
theorem dX1_keepNow_36 : decode cX1_keepNow 36 = .ok (.aaload, 1) := dk_50 (dk_at dksX1_keepNow_1 12 rfl rfl)
theorem dX1_keepNow_37 : decode cX1_keepNow 37 = .ok (.aastore, 1) := dk_83 (dk_at dksX1_keepNow_1 13 rfl rfl)
theorem dX1_keepNow_38 : decode cX1_keepNow 38 = .ok (.iinc 2 1, 3) := dk_132 2 1 (dk_at dksX1_keepNow_1 14 rfl rfl)
theorem dX1_keepNow_41 : decode cX1_keepNow 41 = .ok (.goto (-23), 3) := dk_167 255 233 (dk_at dksX1_keepNow_1 17 rfl rfl)
theorem dX1_keepNow_44 : decode cX1_keepNow 44 = .ok (.aload_n 0, 1) := dk_42 (dk_at dksX1_keepNow_1 20 rfl rfl)
theorem dX1_keepNow_45 : decode cX1_keepNow 45 = .ok (.getfield 71, 3) := dk_180 0 71 (dk_at dksX1_keepNow_1 21 rfl rfl)
theorem dX1_keepNow_48 : decode cX1_keepNow 48 = .ok (.bipush 19, 2) := dk_16 19 (dk_at dksX1_keepNow_2 0 rfl rfl)
theorem dX1_keepNow_50 : decode cX1_keepNow 50 = .ok (.aload_n 1, 1) := dk_43 (dk_at dksX1_keepNow_2 2 rfl rfl)
theorem dX1_keepNow_51 : decode cX1_keepNow 51 = .ok (.aastore, 1) := dk_83 (dk_at dksX1_keepNow_2 3 rfl rfl)
theorem dX1_keepNow_52 : decode cX1_keepNow 52 = .ok (.aload_n 0, 1) := dk_42 (dk_at dksX1_keepNow_2 4 rfl rfl)
theorem dX1_keepNow_53 : decode cX1_keepNow 53 = .ok (.dup, 1) := dk_89 (dk_at dksX1_keepNow_2 5 rfl rfl)
theorem dX1_keepNow_54 : decode cX1_keepNow 54 = .ok (.getfield 151, 3) := dk_180 0 151 (dk_at dksX1_keepNow_2 6 rfl rfl)
theorem dX1_keepNow_57 : decode cX1_keepNow 57 = .ok (.iconst 1, 1) := dk_4 (dk_at dksX1_keepNow_2 9 rfl rfl)
theorem dX1_keepNow_58 : decode cX1_keepNow 58 = .ok (.isub, 1) := dk_100 (dk_at dksX1_keepNow_2 10 rfl rfl)
theorem dX1_keepNow_59 : decode cX1_keepNow 59 = .ok (.putfield 151, 3) := dk_181 0 151 (dk_at dksX1_keepNow_2 11 rfl rfl)
theorem dX1_keepNow_62 : decode cX1_keepNow 62 = .ok (.aload_n 0, 1) := dk_42 (dk_at dksX1_keepNow_2 14 rfl rfl)
theorem dX1_keepNow_63 : decode cX1_keepNow 63 = .ok (.getfield 71, 3) := dk_180 0 71 (dk_at dksX1_keepNow_2 15 rfl rfl)
theorem dX1_keepNow_66 : decode cX1_keepNow 66 = .ok (.aload_n 0, 1) := dk_42 (dk_at dksX1_keepNow_2 18 rfl rfl)
theorem dX1_keepNow_67 : decode cX1_keepNow 67 = .ok (.getfield 151, 3) := dk_180 0 151 (dk_at dksX1_keepNow_2 19 rfl rfl)
theorem dX1_keepNow_70 : decode cX1_keepNow 70 = .ok (.aaload, 1) := dk_50 (dk_at dksX1_keepNow_2 22 rfl rfl)
theorem dX1_keepNow_71 : decode cX1_keepNow 71 = .ok (.ifnonnull 20, 3) := dk_199 0 20 (dk_at dksX1_keepNow_3 0 rfl rfl)
theorem dX1_keepNow_74 : decode cX1_keepNow 74 = .ok (.aload_n 0, 1) := dk_42 (dk_at dksX1_keepNow_3 3 rfl rfl)
theorem dX1_keepNow_75 : decode cX1_keepNow 75 = .ok (.getfield 71, 3) := dk_180 0 71 (dk_at dksX1_keepNow_3 4 rfl rfl)
theorem dX1_keepNow_78 : decode cX1_keepNow 78 = .ok (.aload_n 0, 1) := dk_42 (dk_at dksX1_keepNow_3 7 rfl rfl)
theorem dX1_keepNow_79 : decode cX1_keepNow 79 = .ok (.getfield 151, 3) := dk_180 0 151 (dk_at dksX1_keepNow_3 8 rfl rfl)
theorem dX1_keepNow_82 : decode cX1_keepNow 82 = .ok (.new 61, 3) := dk_187 0 61 (dk_at dksX1_keepNow_3 11 rfl rfl)
theorem dX1_keepNow_85 : decode cX1_keepNow 85 = .ok (.dup, 1) := dk_89 (dk_at dksX1_keepNow_3 14 rfl rfl)
theorem dX1_keepNow_86 : decode cX1_keepNow 86 = .ok (.aload_n 0, 1) := dk_42 (dk_at dksX1_keepNow_3 15 rfl rfl)
theorem dX1_keepNow_87 : decode cX1_keepNow 87 = .ok (.invokespecial 63, 3) := dk_183 0 63 (dk_at dksX1_keepNow_3 16 rfl rfl)
theorem dX1_keepNow_90 : decode cX1_keepNow 90 = .ok (.aastore, 1) := dk_83 (dk_at dksX1_keepNow_3 19 rfl rfl)
theorem dX1_keepNow_91 : decode cX1_keepNow 91 = .ok (.aload_n 0, 1) := dk_42 (dk_at dksX1_keepNow_3 20 rfl rfl)
theorem dX1_keepNow_92 : decode cX1_keepNow 92 = .ok (.getfield 71, 3) := dk_180 0 71 (dk_at dksX1_keepNow_3 21 rfl rfl)
theorem dX1_keepNow_95 : decode cX1_keepNow 95 = .ok (.aload_n 0, 1) := dk_42 (dk_at dksX1_keepNow_4 0 rfl rfl)
theorem dX1_keepNow_96 : decode cX1_keepNow 96 = .ok (.getfield 151, 3) := dk_180 0 151 (dk_at dksX1_keepNow_4 1 rfl rfl)
theorem dX1_keepNow_99 : decode cX1_keepNow 99 = .ok (.aaload, 1) := dk_50 (dk_at dksX1_keepNow_4 4 rfl rfl)
theorem dX1_keepNow_100 : decode cX1_keepNow 100 = .ok (.aload_n 0, 1) := dk_42 (dk_at dksX1_keepNow_4 5 rfl rfl)
theorem dX1_keepNow_101 : decode cX1_keepNow 101 = .ok (.getfield 64, 3) := dk_180 0 64 (dk_at dksX1_keepNow_4 6 rfl rfl)
theorem dX1_keepNow_104 : decode cX1_keepNow 104 = .ok (.invokevirtual 289, 3) := dk_182 1 33 (dk_at dksX1_keepNow_4 9 rfl rfl)
theorem dX1_keepNow_107 : decode cX1_keepNow 107 = .ok (.aload_n 0, 1) := dk_42 (dk_at dksX1_keepNow_4 12 rfl rfl)
theorem dX1_keepNow_108 : decode cX1_keepNow 108 = .ok (.dup, 1) := dk_89 (dk_at dksX1_keepNow_4 13 rfl rfl)
theorem dX1_keepNow_109 : decode cX1_keepNow 109 = .ok (.getfield 151, 3) := dk_180 0 151 (dk_at dksX1_keepNow_4 14 rfl rfl)
theorem dX1_keepNow_112 : decode cX1_keepNow 112 = .ok (.iconst 1, 1) := dk_4 (dk_at dksX1_keepNow_4 17 rfl rfl)
theorem dX1_keepNow_113 : decode cX1_keepNow 113 = .ok (.iadd, 1) := dk_96 (dk_at dksX1_keepNow_4 18 rfl rfl)
theorem dX1_keepNow_114 : decode cX1_keepNow 114 = .ok (.putfield 151, 3) := dk_181 0 151 (dk_at dksX1_keepNow_4 19 rfl rfl)
theorem dX1_keepNow_117 : decode cX1_keepNow 117 = .ok (.return_, 1) := dk_177 (dk_at dksX1_keepNow_4 22 rfl rfl)
theorem gX1_keepNow_0 {b : Nat}  {T : zT} {I : zI} {L : zL} {R : zR} {P : zP} (hx : zXok T R) (h : (((I 1000 4) = (20 : Int32) → zAW mX1_keepNow 3 b 18 [(0, .ref 1000), (1, .ref (R 1013 0)), (2, .int (1 : Int32))] [] T I L R P) ∧ (¬ (I 1000 4) = (20 : Int32) → zAW mX1_keepNow 3 b 62 [(0, .ref 1000)] [] T I L R P))) : zAW mX1_keepNow 3 b 0 [(0, .ref 1000)] [] T I L R P := by
  refine za_aload_n (pc' := 1) 0 dX1_keepNow_0 rfl rfl rfl ?_
  refine za_get (fi := 4) (v := .int (I 1000 4)) (pc' := 4) dX1_keepNow_1 zc0 (by decide) in_X1 (by decide) q493 (Or.inl rfl) (congrArg Prod.fst (zX_t1000 hx)) rfl rfl ?_
  refine za_bipush (pc' := 6) dX1_keepNow_4 zb8_20 rfl ?_
  refine za_icmp_ne (pc' := 9) (tgt := 62) dX1_keepNow_6 (by decide) rfl (fun c9 => ?_) (fun c9 => ?_)
  · replace h := h.2 c9
    exact zAW_sub [0] rfl h
  · replace h := h.1 c9
    refine za_aload_n (pc' := 10) 0 dX1_keepNow_9 rfl rfl rfl ?_
    refine za_get (fi := 12) (v := .ref 1013) (pc' := 13) dX1_keepNow_10 zc0 (by decide) in_X1 (by decide) q502 (Or.inl rfl) (congrArg Prod.fst (zX_t1000 hx)) (congrArg Value.ref (zX_r1000_12 hx)) rfl ?_
    refine za_iconst (pc' := 14) dX1_keepNow_13 zi_0 rfl ?_
    refine za_aald (r := (R 1013 0)) (t := 6) (C := RX10) (pc' := 15) dX1_keepNow_14 (by decide) (fun _ => rfl) (zX_t1013 hx) (zin (by decide)) (zix zn_0 (rfl)) rfl ?_
    refine za_astore_n (pc' := 16) (l' := [(1, .ref (R 1013 0)), (0, .ref 1000)]) dX1_keepNow_15 rfl (Nat.le_of_ble_eq_true rfl) rfl rfl ?_
    refine za_iconst (pc' := 17) dX1_keepNow_16 zi_1 rfl ?_
    refine za_istore_n (pc' := 18) (l' := [(2, .int (1 : Int32)), (1, .ref (R 1013 0)), (0, .ref 1000)]) dX1_keepNow_17 rfl (Nat.le_of_ble_eq_true rfl) rfl rfl ?_
    exact zAW_sub [2, 1, 0] rfl h
theorem gX1_keepNow_18 {b : Nat} {v1 : Nat} {v2 : Int32} {T : zT} {I : zI} {L : zL} {R : zR} {P : zP} (hx : zXok T R) (h : (((20 : Int32) ≤ v2 → (T v1).1 = 10 ∧ zAW mX1_keepNow 3 b 62 [(0, .ref 1000)] [] T (z2 I 1000 4 ((I 1000 4) - (1 : Int32))) L (z2 R 1013 19 v1) P) ∧ (¬ (20 : Int32) ≤ v2 → vp_in v2 20 ∧ vp_in (v2 - (1 : Int32)) 20 ∧ (T (R 1013 (v2.toNatClampNeg))).1 = 10 ∧ zAW mX1_keepNow 3 b 18 [(0, .ref 1000), (1, .ref v1), (2, .int (v2 + (1 : Int32)))] [] T I L (z2 R 1013 ((v2 - (1 : Int32)).toNatClampNeg) (R 1013 (v2.toNatClampNeg))) P))) : zAW mX1_keepNow 3 b 18 [(0, .ref 1000), (1, .ref v1), (2, .int v2)] [] T I L R P := by
  refine za_iload_n (pc' := 19) 2 dX1_keepNow_18 rfl rfl rfl ?_
  refine za_bipush (pc' := 21) dX1_keepNow_19 zb8_20 rfl ?_
  refine za_icmp_ge (pc' := 24) (tgt := 44) dX1_keepNow_21 (by decide) rfl (fun c9 => ?_) (fun c9 => ?_)
  · replace h := h.1 c9
    refine za_aload_n (pc' := 45) 0 dX1_keepNow_44 rfl rfl rfl ?_
    refine za_get (fi := 12) (v := .ref 1013) (pc' := 48) dX1_keepNow_45 zc0 (by decide) in_X1 (by decide) q502 (Or.inl rfl) (congrArg Prod.fst (zX_t1000 hx)) (congrArg Value.ref (zX_r1000_12 hx)) rfl ?_
    refine za_bipush (pc' := 50) dX1_keepNow_48 zb8_19 rfl ?_
    refine za_aload_n (pc' := 51) 1 dX1_keepNow_50 rfl rfl rfl ?_
    obtain ⟨ht1, h⟩ := h
    refine za_aast (kx := 19) (t := 6) (pc' := 52) dX1_keepNow_51 (by decide) (fun _ => rfl) (zX_t1013 hx) (zin (by decide)) zc9 (by decide) ht1 zn_19 rfl ?_
    refine za_aload_n (pc' := 53) 0 dX1_keepNow_52 rfl rfl rfl ?_
    refine za_dup (pc' := 54) dX1_keepNow_53 rfl rfl ?_
    refine za_get (fi := 4) (v := .int (I 1000 4)) (pc' := 57) dX1_keepNow_54 zc0 (by decide) in_X1 (by decide) q493 (Or.inl rfl) (congrArg Prod.fst (zX_t1000 hx)) rfl rfl ?_
    refine za_iconst (pc' := 58) dX1_keepNow_57 zi_1 rfl ?_
    refine za_isub (pc' := 59) dX1_keepNow_58 rfl ?_
    refine za_putI (fi := 4) (pc' := 62) dX1_keepNow_59 zc0 (by decide) in_X1 zok0 znm0 (by decide) q493 (Or.inl rfl) rfl rfl (fun _ _ _ => rfl) rfl rfl (congrArg Prod.fst (zX_t1000 hx)) rfl ?_
    exact zAW_sub [0] rfl h
  · replace h := h.2 c9
    refine za_aload_n (pc' := 25) 0 dX1_keepNow_24 rfl rfl rfl ?_
    refine za_get (fi := 12) (v := .ref 1013) (pc' := 28) dX1_keepNow_25 zc0 (by decide) in_X1 (by decide) q502 (Or.inl rfl) (congrArg Prod.fst (zX_t1000 hx)) (congrArg Value.ref (zX_r1000_12 hx)) rfl ?_
    refine za_iload_n (pc' := 29) 2 dX1_keepNow_28 rfl rfl rfl ?_
    refine za_iconst (pc' := 30) dX1_keepNow_29 zi_1 rfl ?_
    refine za_isub (pc' := 31) dX1_keepNow_30 rfl ?_
    refine za_aload_n (pc' := 32) 0 dX1_keepNow_31 rfl rfl rfl ?_
    refine za_get (fi := 12) (v := .ref 1013) (pc' := 35) dX1_keepNow_32 zc0 (by decide) in_X1 (by decide) q502 (Or.inl rfl) (congrArg Prod.fst (zX_t1000 hx)) (congrArg Value.ref (zX_r1000_12 hx)) rfl ?_
    refine za_iload_n (pc' := 36) 2 dX1_keepNow_35 rfl rfl rfl ?_
    obtain ⟨hi2, h⟩ := h
    refine za_aald (r := (R 1013 (v2.toNatClampNeg))) (t := 6) (C := RX10) (pc' := 37) dX1_keepNow_36 (by decide) (fun _ => rfl) (zX_t1013 hx) hi2 (rfl) rfl ?_
    obtain ⟨hi3, h⟩ := h
    obtain ⟨ht4, h⟩ := h
    refine za_aast (kx := (v2 - (1 : Int32)).toNatClampNeg) (t := 6) (pc' := 38) dX1_keepNow_37 (by decide) (fun _ => rfl) (zX_t1013 hx) hi3 zc9 (by decide) ht4 rfl rfl ?_
    refine za_iinc (pc' := 41) (l' := [(2, .int (v2 + (1 : Int32))), (0, .ref 1000), (1, .ref v1)]) 2 dX1_keepNow_38 rfl (zinc zi_1) (Nat.le_of_ble_eq_true rfl) rfl rfl ?_
    refine za_goto (tgt := 18) dX1_keepNow_41 (by decide) ?_
    exact zAW_sub [1, 2, 0] rfl h
theorem gX1_keepNow_62 {b : Nat}  {T : zT} {I : zI} {L : zL} {R : zR} {P : zP} (hx : zXok T R) (h : vp_in (I 1000 4) 20 ∧ ((R 1013 ((I 1000 4).toNatClampNeg)) = 0 ∨ 100 ≤ (R 1013 ((I 1000 4).toNatClampNeg))) ∧ (((R 1013 ((I 1000 4).toNatClampNeg)) = 0 → ∃ κ6, 100 ≤ κ6 ∧ (T κ6).1 = 0 ∧ 5 + 1 ≤ b ∧ ∃ b15, b15 ≤ (b - (5 + 1)) ∧ zMet mX10_init 2 b15 [.ref κ6, .ref 1000] (z1 T κ6 (10, 0)) (z1 I κ6 fun _ => 0) (z1 L κ6 fun _ => 0) (z1 R κ6 fun _ => 0) (zqV_TILR   (fun (T10 : zT) (I11 : zI) (L12 : zL) (R13 : zR)  => zXok T10 R13 ∧ (T10 κ6).1 = 10 ∧ zAW mX1_keepNow 3 ((b - (5 + 1)) - b15) 91 [(0, .ref 1000)] [] T10 I11 L12 (z2 R13 1013 ((I 1000 4).toNatClampNeg) κ6) P))) ∧ (¬ (R 1013 ((I 1000 4).toNatClampNeg)) = 0 → zAW mX1_keepNow 3 b 91 [(0, .ref 1000)] [] T I L R P))) : zAW mX1_keepNow 3 b 62 [(0, .ref 1000)] [] T I L R P := by
  refine za_aload_n (pc' := 63) 0 dX1_keepNow_62 rfl rfl rfl ?_
  refine za_get (fi := 12) (v := .ref 1013) (pc' := 66) dX1_keepNow_63 zc0 (by decide) in_X1 (by decide) q502 (Or.inl rfl) (congrArg Prod.fst (zX_t1000 hx)) (congrArg Value.ref (zX_r1000_12 hx)) rfl ?_
  refine za_aload_n (pc' := 67) 0 dX1_keepNow_66 rfl rfl rfl ?_
  refine za_get (fi := 4) (v := .int (I 1000 4)) (pc' := 70) dX1_keepNow_67 zc0 (by decide) in_X1 (by decide) q493 (Or.inl rfl) (congrArg Prod.fst (zX_t1000 hx)) rfl rfl ?_
  obtain ⟨hi5, h⟩ := h
  refine za_aald (r := (R 1013 ((I 1000 4).toNatClampNeg))) (t := 6) (C := RX10) (pc' := 71) dX1_keepNow_70 (by decide) (fun _ => rfl) (zX_t1013 hx) hi5 (rfl) rfl ?_
  obtain ⟨hn18, h⟩ := h
  refine za_ifnonnull (pc' := 74) (tgt := 91) dX1_keepNow_71 hn18 (by decide) rfl (fun c9 => ?_) (fun c9 => ?_)
  · replace h := h.1 c9
    refine za_aload_n (pc' := 75) 0 dX1_keepNow_74 rfl rfl rfl ?_
    refine za_get (fi := 12) (v := .ref 1013) (pc' := 78) dX1_keepNow_75 zc0 (by decide) in_X1 (by decide) q502 (Or.inl rfl) (congrArg Prod.fst (zX_t1000 hx)) (congrArg Value.ref (zX_r1000_12 hx)) rfl ?_
    refine za_aload_n (pc' := 79) 0 dX1_keepNow_78 rfl rfl rfl ?_
    refine za_get (fi := 4) (v := .int (I 1000 4)) (pc' := 82) dX1_keepNow_79 zc0 (by decide) in_X1 (by decide) q493 (Or.inl rfl) (congrArg Prod.fst (zX_t1000 hx)) rfl rfl ?_
    obtain ⟨κ6, hk7, hf8, hb9, h⟩ := h
    refine za_new (κ := κ6) (pc' := 85) dX1_keepNow_82 zc9 (by decide) in_X10 zok9 zdf9 q386 q387 q143 hk7 hf8 hb9 rfl ?_
    refine za_dup (pc' := 86) dX1_keepNow_85 rfl rfl ?_
    refine za_aload_n (pc' := 87) 0 dX1_keepNow_86 rfl rfl rfl ?_
    obtain ⟨b15, hb16, h⟩ := h
    refine za_callIN (κ := κ6) (M2 := mX10_init) (d2 := 2) (b2 := b15) (n := 1) (As := [.ref 1000]) (st := [.ref κ6, .int (I 1000 4), .ref 1013]) (pc' := 90) (by rw [(congrArg Prod.fst z1_s)]; decide) dX1_keepNow_87 rfl (lw_meth q390) rfl q388 q389 q143 rfl hd_X10_init rfl (by decide) (by decide) hb16 (Or.inl rfl) (Nat.le_of_ble_eq_true rfl) h (zqV_TILR_k rfl (fun T10 I11 L12 R13 h => ?_)) (fun _ _ _ _ _ _ h9 h8 => absurd h8.1 h9) rfl
    obtain ⟨hx14, h⟩ := h
    obtain ⟨ht17, h⟩ := h
    refine za_aast (kx := (I 1000 4).toNatClampNeg) (t := 6) (pc' := 91) dX1_keepNow_90 (by decide) (fun _ => rfl) (zX_t1013 hx14) hi5 zc9 (by decide) ht17 rfl rfl ?_
    exact zAW_sub [0] rfl h
  · replace h := h.2 c9
    exact zAW_sub [0] rfl h
theorem gX1_keepNow_91 {b : Nat}  {T : zT} {I : zI} {L : zL} {R : zR} {P : zP} (hx : zXok T R) (h : vp_in (I 1000 4) 20 ∧ (T (R 1013 ((I 1000 4).toNatClampNeg))).1 = 10 ∧ zMet mX10_become 2 0 [.ref (R 1013 ((I 1000 4).toNatClampNeg)), .ref 1200] T I L R (zqV_I T L R  (fun (I20 : zI)  => P 0 (.int 0) T (z2 I20 1000 4 ((I20 1000 4) + (1 : Int32))) L R))) : zAW mX1_keepNow 3 b 91 [(0, .ref 1000)] [] T I L R P := by
  refine za_aload_n (pc' := 92) 0 dX1_keepNow_91 rfl rfl rfl ?_
  refine za_get (fi := 12) (v := .ref 1013) (pc' := 95) dX1_keepNow_92 zc0 (by decide) in_X1 (by decide) q502 (Or.inl rfl) (congrArg Prod.fst (zX_t1000 hx)) (congrArg Value.ref (zX_r1000_12 hx)) rfl ?_
  refine za_aload_n (pc' := 96) 0 dX1_keepNow_95 rfl rfl rfl ?_
  refine za_get (fi := 4) (v := .int (I 1000 4)) (pc' := 99) dX1_keepNow_96 zc0 (by decide) in_X1 (by decide) q493 (Or.inl rfl) (congrArg Prod.fst (zX_t1000 hx)) rfl rfl ?_
  obtain ⟨hi19, h⟩ := h
  refine za_aald (r := (R 1013 ((I 1000 4).toNatClampNeg))) (t := 6) (C := RX10) (pc' := 100) dX1_keepNow_99 (by decide) (fun _ => rfl) (zX_t1013 hx) hi19 (rfl) rfl ?_
  refine za_aload_n (pc' := 101) 0 dX1_keepNow_100 rfl rfl rfl ?_
  refine za_get (fi := 10) (v := .ref 1200) (pc' := 104) dX1_keepNow_101 zc0 (by decide) in_X1 (by decide) q500 (Or.inl rfl) (congrArg Prod.fst (zX_t1000 hx)) (congrArg Value.ref (zX_r1000_10 hx)) rfl ?_
  obtain ⟨ht21, h⟩ := h
  refine za_callV (κ := (R 1013 ((I 1000 4).toNatClampNeg))) (M2 := mX10_become) (d2 := 2) (b2 := 0) (n := 1) (As := [.ref 1200]) (st := []) (pc' := 107) zc9 (by decide) ht21 dX1_keepNow_104 rfl (lw_V q1171 q1172 q1173 q143 q1174) ⟨rfl, hd_X10_become⟩ rfl (by decide) (by decide) (Nat.zero_le _) (Or.inl rfl) (Nat.le_of_ble_eq_true rfl) h (zqV_I_k rfl (fun I20 h => ?_)) (fun _ _ _ _ _ _ h9 h8 => absurd h8.1 h9) rfl
  refine za_aload_n (pc' := 108) 0 dX1_keepNow_107 rfl rfl rfl ?_
  refine za_dup (pc' := 109) dX1_keepNow_108 rfl rfl ?_
  refine za_get (fi := 4) (v := .int (I20 1000 4)) (pc' := 112) dX1_keepNow_109 zc0 (by decide) in_X1 (by decide) q493 (Or.inl rfl) (congrArg Prod.fst (zX_t1000 hx)) rfl rfl ?_
  refine za_iconst (pc' := 113) dX1_keepNow_112 zi_1 rfl ?_
  refine za_iadd (pc' := 114) dX1_keepNow_113 rfl ?_
  refine za_putI (fi := 4) (pc' := 117) dX1_keepNow_114 zc0 (by decide) in_X1 zok0 znm0 (by decide) q493 (Or.inl rfl) rfl rfl (fun _ _ _ => rfl) rfl rfl (congrArg Prod.fst (zX_t1000 hx)) rfl ?_
  exact za_return rfl dX1_keepNow_117 h
theorem sX1_keepNow {d b : Nat}  {T : zT} {I : zI} {L : zL} {R : zR} {P : zP} (h : zAW mX1_keepNow d b 0 [(0, .ref 1000)] [] T I L R P) : zMet mX1_keepNow d b [.ref 1000] T I L R P := zMet_of (by decide +kernel) rfl (Nat.le_of_ble_eq_true rfl) rfl h
/-! TwoTongues.lose (II)Z -/
def dkwX1_lose_2 : List UInt8 := [4, 172]
abbrev dktX1_lose_2 : List UInt8 := dkwX1_lose_2 ++ []
def dkwX1_lose_1 : List UInt8 := [154, 0, 5, 3, 172, 42, 182, 1, 45, 42, 180, 0, 64, 180, 0, 186, 27, 50, 180, 0, 219, 28, 3, 79]
abbrev dktX1_lose_1 : List UInt8 := dkwX1_lose_1 ++ dktX1_lose_2
def dkwX1_lose_0 : List UInt8 := [42, 27, 28, 182, 0, 215, 153, 0, 20, 42, 180, 0, 64, 180, 0, 186, 27, 50, 180, 0, 219, 28, 46]
abbrev dktX1_lose_0 : List UInt8 := dkwX1_lose_0 ++ dktX1_lose_1
theorem dksX1_lose_0 : cX1_lose.data.toList.drop 0 = dktX1_lose_0 := by decide +kernel
theorem dksX1_lose_1 : cX1_lose.data.toList.drop 23 = dktX1_lose_1 := dk_seg dksX1_lose_0 23 rfl rfl
theorem dksX1_lose_2 : cX1_lose.data.toList.drop 47 = dktX1_lose_2 := dk_seg dksX1_lose_1 24 rfl rfl
theorem dX1_lose_0 : decode cX1_lose 0 = .ok (.aload_n 0, 1) := dk_42 (dk_at dksX1_lose_0 0 rfl rfl)
theorem dX1_lose_1 : decode cX1_lose 1 = .ok (.iload_n 1, 1) := dk_27 (dk_at dksX1_lose_0 1 rfl rfl)
theorem dX1_lose_2 : decode cX1_lose 2 = .ok (.iload_n 2, 1) := dk_28 (dk_at dksX1_lose_0 2 rfl rfl)
theorem dX1_lose_3 : decode cX1_lose 3 = .ok (.invokevirtual 215, 3) := dk_182 0 215 (dk_at dksX1_lose_0 3 rfl rfl)
theorem dX1_lose_6 : decode cX1_lose 6 = .ok (.ifCond .eq 20, 3) := dk_153 0 20 (dk_at dksX1_lose_0 6 rfl rfl)
theorem dX1_lose_9 : decode cX1_lose 9 = .ok (.aload_n 0, 1) := dk_42 (dk_at dksX1_lose_0 9 rfl rfl)
theorem dX1_lose_10 : decode cX1_lose 10 = .ok (.getfield 64, 3) := dk_180 0 64 (dk_at dksX1_lose_0 10 rfl rfl)
theorem dX1_lose_13 : decode cX1_lose 13 = .ok (.getfield 186, 3) := dk_180 0 186 (dk_at dksX1_lose_0 13 rfl rfl)
theorem dX1_lose_16 : decode cX1_lose 16 = .ok (.iload_n 1, 1) := dk_27 (dk_at dksX1_lose_0 16 rfl rfl)
theorem dX1_lose_17 : decode cX1_lose 17 = .ok (.aaload, 1) := dk_50 (dk_at dksX1_lose_0 17 rfl rfl)
theorem dX1_lose_18 : decode cX1_lose 18 = .ok (.getfield 219, 3) := dk_180 0 219 (dk_at dksX1_lose_0 18 rfl rfl)
theorem dX1_lose_21 : decode cX1_lose 21 = .ok (.iload_n 2, 1) := dk_28 (dk_at dksX1_lose_0 21 rfl rfl)
theorem dX1_lose_22 : decode cX1_lose 22 = .ok (.iaload, 1) := dk_46 (dk_at dksX1_lose_0 22 rfl rfl)
theorem dX1_lose_23 : decode cX1_lose 23 = .ok (.ifCond .ne 5, 3) := dk_154 0 5 (dk_at dksX1_lose_1 0 rfl rfl)
theorem dX1_lose_26 : decode cX1_lose 26 = .ok (.iconst 0, 1) := dk_3 (dk_at dksX1_lose_1 3 rfl rfl)
theorem dX1_lose_27 : decode cX1_lose 27 = .ok (.ireturn, 1) := dk_172 (dk_at dksX1_lose_1 4 rfl rfl)
theorem dX1_lose_28 : decode cX1_lose 28 = .ok (.aload_n 0, 1) := dk_42 (dk_at dksX1_lose_1 5 rfl rfl)
theorem dX1_lose_29 : decode cX1_lose 29 = .ok (.invokevirtual 301, 3) := dk_182 1 45 (dk_at dksX1_lose_1 6 rfl rfl)
theorem dX1_lose_32 : decode cX1_lose 32 = .ok (.aload_n 0, 1) := dk_42 (dk_at dksX1_lose_1 9 rfl rfl)
theorem dX1_lose_33 : decode cX1_lose 33 = .ok (.getfield 64, 3) := dk_180 0 64 (dk_at dksX1_lose_1 10 rfl rfl)
theorem dX1_lose_36 : decode cX1_lose 36 = .ok (.getfield 186, 3) := dk_180 0 186 (dk_at dksX1_lose_1 13 rfl rfl)
theorem dX1_lose_39 : decode cX1_lose 39 = .ok (.iload_n 1, 1) := dk_27 (dk_at dksX1_lose_1 16 rfl rfl)
theorem dX1_lose_40 : decode cX1_lose 40 = .ok (.aaload, 1) := dk_50 (dk_at dksX1_lose_1 17 rfl rfl)
theorem dX1_lose_41 : decode cX1_lose 41 = .ok (.getfield 219, 3) := dk_180 0 219 (dk_at dksX1_lose_1 18 rfl rfl)
theorem dX1_lose_44 : decode cX1_lose 44 = .ok (.iload_n 2, 1) := dk_28 (dk_at dksX1_lose_1 21 rfl rfl)
theorem dX1_lose_45 : decode cX1_lose 45 = .ok (.iconst 0, 1) := dk_3 (dk_at dksX1_lose_1 22 rfl rfl)
theorem dX1_lose_46 : decode cX1_lose 46 = .ok (.iastore, 1) := dk_79 (dk_at dksX1_lose_1 23 rfl rfl)
theorem dX1_lose_47 : decode cX1_lose 47 = .ok (.iconst 1, 1) := dk_4 (dk_at dksX1_lose_2 0 rfl rfl)
theorem dX1_lose_48 : decode cX1_lose 48 = .ok (.ireturn, 1) := dk_172 (dk_at dksX1_lose_2 1 rfl rfl)
theorem gX1_lose_0 {b : Nat} {v1 : Int32} {v2 : Int32} {T : zT} {I : zI} {L : zL} {R : zR} {P : zP} (hx : zXok T R) (h : zMet mX1_isLetter 3 0 [.ref 1000, .int v1, .int v2] T I L R (zqI_ T I L R  (fun (r1 : Int32)  => ((r1 = 0 → P 0 (.int (0 : Int32)) T I L R) ∧ (¬ r1 = 0 → vp_in v1 6 ∧ (T (R 1202 (v1.toNatClampNeg))).1 = 11 ∧ (T (R (R 1202 (v1.toNatClampNeg)) 0)).1 = 100 ∧ vp_in v2 ((T (R (R 1202 (v1.toNatClampNeg)) 0)).2) ∧ (((I (R (R 1202 (v1.toNatClampNeg)) 0) (v2.toNatClampNeg)) = 0 → P 0 (.int (0 : Int32)) T I L R) ∧ (¬ (I (R (R 1202 (v1.toNatClampNeg)) 0) (v2.toNatClampNeg)) = 0 → ∃ b11, b11 ≤ (b - 0) ∧ zMet mX1_keepNow 3 b11 [.ref 1000] T I L R (zqV_TILR   (fun (T6 : zT) (I7 : zI) (L8 : zL) (R9 : zR)  => zXok T6 R9 ∧ (T6 (R9 1202 (v1.toNatClampNeg))).1 = 11 ∧ (T6 (R9 (R9 1202 (v1.toNatClampNeg)) 0)).1 = 100 ∧ vp_in v2 ((T6 (R9 (R9 1202 (v1.toNatClampNeg)) 0)).2) ∧ P 0 (.int (1 : Int32)) T6 (z2 I7 (R9 (R9 1202 (v1.toNatClampNeg)) 0) (v2.toNatClampNeg) (0 : Int32)) L8 R9))))))))) : zAW mX1_lose 4 b 0 [(0, .ref 1000), (1, .int v1), (2, .int v2)] [] T I L R P := by
  refine za_aload_n (pc' := 1) 0 dX1_lose_0 rfl rfl rfl ?_
  refine za_iload_n (pc' := 2) 1 dX1_lose_1 rfl rfl rfl ?_
  refine za_iload_n (pc' := 3) 2 dX1_lose_2 rfl rfl rfl ?_
  refine za_callV (κ := 1000) (M2 := mX1_isLetter) (d2 := 3) (b2 := 0) (n := 2) (As := [.int v1, .int v2]) (st := []) (pc' := 6) zc0 (by decide) (congrArg Prod.fst (zX_t1000 hx)) dX1_lose_3 rfl (lw_V q1062 q1064 qs31 q131 q1065) ⟨rfl, hd_X1_isLetter⟩ rfl (by decide) (by decide) (Nat.zero_le _) (Or.inl rfl) (Nat.le_of_ble_eq_true rfl) h (zqI__k rfl (fun r1 h => ?_)) (fun _ _ _ _ _ _ h9 h8 => absurd h8.1 h9) rfl
  refine za_if_eq (pc' := 9) (tgt := 26) dX1_lose_6 (by decide) rfl (fun c9 => ?_) (fun c9 => ?_)
  · replace h := h.1 c9
    refine za_iconst (pc' := 27) dX1_lose_26 zi_0 rfl ?_
    exact za_zreturn rfl dX1_lose_27 (by decide) h
  · replace h := h.2 c9
    refine za_aload_n (pc' := 10) 0 dX1_lose_9 rfl rfl rfl ?_
    refine za_get (fi := 10) (v := .ref 1200) (pc' := 13) dX1_lose_10 zc0 (by decide) in_X1 (by decide) q500 (Or.inl rfl) (congrArg Prod.fst (zX_t1000 hx)) (congrArg Value.ref (zX_r1000_10 hx)) rfl ?_
    refine za_getN (fi := 1) (v := .ref 1202) (pc' := 16) dX1_lose_13 zc9 (by decide) in_X10 (by decide) q418 (Or.inl rfl) (congrArg Prod.fst (zX_t1200 hx)) (congrArg Value.ref (zX_r1200_1 hx)) rfl ?_
    refine za_iload_n (pc' := 17) 1 dX1_lose_16 rfl rfl rfl ?_
    obtain ⟨hi2, h⟩ := h
    refine za_aald (r := (R 1202 (v1.toNatClampNeg))) (t := 5) (C := RX11) (pc' := 18) dX1_lose_17 (by decide) (fun _ => rfl) (zX_t1202 hx) hi2 (rfl) rfl ?_
    obtain ⟨ht3, h⟩ := h
    refine za_getN (fi := 0) (v := .ref (R (R 1202 (v1.toNatClampNeg)) 0)) (pc' := 21) dX1_lose_18 zc10 (by decide) in_X11 (by decide) q404 (Or.inl rfl) ht3 rfl rfl ?_
    refine za_iload_n (pc' := 22) 2 dX1_lose_21 rfl rfl rfl ?_
    obtain ⟨ht4, h⟩ := h
    obtain ⟨hi5, h⟩ := h
    refine za_iald (v := .int (I (R (R 1202 (v1.toNatClampNeg)) 0) (v2.toNatClampNeg))) (pc' := 23) dX1_lose_22 (zpair ht4) hi5 rfl rfl ?_
    refine za_if_ne (pc' := 26) (tgt := 28) dX1_lose_23 (by decide) rfl (fun c9 => ?_) (fun c9 => ?_)
    · replace h := h.2 c9
      refine za_aload_n (pc' := 29) 0 dX1_lose_28 rfl rfl rfl ?_
      obtain ⟨b11, hb12, h⟩ := h
      refine za_callV (κ := 1000) (M2 := mX1_keepNow) (d2 := 3) (b2 := b11) (n := 0) (As := []) (st := []) (pc' := 32) zc0 (by decide) (congrArg Prod.fst (zX_t1000 hx)) dX1_lose_29 rfl (lw_V q1167 q1169 qs38 q131 q1170) ⟨rfl, hd_X1_keepNow⟩ rfl (by decide) (by decide) hb12 (Or.inl rfl) (Nat.le_of_ble_eq_true rfl) h (zqV_TILR_k rfl (fun T6 I7 L8 R9 h => ?_)) (fun _ _ _ _ _ _ h9 h8 => absurd h8.1 h9) rfl
      obtain ⟨hx10, h⟩ := h
      refine za_aload_n (pc' := 33) 0 dX1_lose_32 rfl rfl rfl ?_
      refine za_get (fi := 10) (v := .ref 1200) (pc' := 36) dX1_lose_33 zc0 (by decide) in_X1 (by decide) q500 (Or.inl rfl) (congrArg Prod.fst (zX_t1000 hx10)) (congrArg Value.ref (zX_r1000_10 hx10)) rfl ?_
      refine za_getN (fi := 1) (v := .ref 1202) (pc' := 39) dX1_lose_36 zc9 (by decide) in_X10 (by decide) q418 (Or.inl rfl) (congrArg Prod.fst (zX_t1200 hx10)) (congrArg Value.ref (zX_r1200_1 hx10)) rfl ?_
      refine za_iload_n (pc' := 40) 1 dX1_lose_39 rfl rfl rfl ?_
      refine za_aald (r := (R9 1202 (v1.toNatClampNeg))) (t := 5) (C := RX11) (pc' := 41) dX1_lose_40 (by decide) (fun _ => rfl) (zX_t1202 hx10) hi2 (rfl) rfl ?_
      obtain ⟨ht13, h⟩ := h
      refine za_getN (fi := 0) (v := .ref (R9 (R9 1202 (v1.toNatClampNeg)) 0)) (pc' := 44) dX1_lose_41 zc10 (by decide) in_X11 (by decide) q404 (Or.inl rfl) ht13 rfl rfl ?_
      refine za_iload_n (pc' := 45) 2 dX1_lose_44 rfl rfl rfl ?_
      refine za_iconst (pc' := 46) dX1_lose_45 zi_0 rfl ?_
      obtain ⟨ht14, h⟩ := h
      obtain ⟨hi15, h⟩ := h
      refine za_iast (k := v2.toNatClampNeg) (pc' := 47) dX1_lose_46 (zpair ht14) hi15 rfl rfl ?_
      refine za_iconst (pc' := 48) dX1_lose_47 zi_1 rfl ?_
      exact za_zreturn rfl dX1_lose_48 (by decide) h
    · replace h := h.1 c9
      refine za_iconst (pc' := 27) dX1_lose_26 zi_0 rfl ?_
      exact za_zreturn rfl dX1_lose_27 (by decide) h
theorem sX1_lose {d b : Nat} {v1 : Int32} {v2 : Int32} {T : zT} {I : zI} {L : zL} {R : zR} {P : zP} (h : zAW mX1_lose d b 0 [(0, .ref 1000), (1, .int v1), (2, .int v2)] [] T I L R P) : zMet mX1_lose d b [.ref 1000, .int v1, .int v2] T I L R P := zMet_of (by decide +kernel) rfl (Nat.le_of_ble_eq_true rfl) rfl h
/-! TwoTongues.coin (III)I -/
def dkwX1_coin_4 : List UInt8 := [172]
abbrev dktX1_coin_4 : List UInt8 := dkwX1_coin_4 ++ []
def dkwX1_coin_3 : List UInt8 := [180, 0, 161, 27, 50, 28, 29, 182, 1, 51, 42, 180, 0, 64, 180, 0, 161, 27, 50, 180, 0, 225, 4, 100]
abbrev dktX1_coin_3 : List UInt8 := dkwX1_coin_3 ++ dktX1_coin_4
def dkwX1_coin_2 : List UInt8 := [180, 0, 161, 27, 50, 180, 0, 225, 16, 12, 160, 0, 5, 2, 172, 42, 182, 1, 45, 42, 180, 0, 64]
abbrev dktX1_coin_2 : List UInt8 := dkwX1_coin_2 ++ dktX1_coin_3
def dkwX1_coin_1 : List UInt8 := [153, 0, 37, 42, 180, 0, 64, 180, 0, 161, 27, 50, 28, 182, 0, 165, 2, 160, 0, 20, 42, 180, 0, 64]
abbrev dktX1_coin_1 : List UInt8 := dkwX1_coin_1 ++ dktX1_coin_2
def dkwX1_coin_0 : List UInt8 := [27, 184, 0, 222, 153, 0, 56, 28, 184, 1, 48, 153, 0, 49, 29, 133, 9, 20, 1, 21, 184, 0, 126]
abbrev dktX1_coin_0 : List UInt8 := dkwX1_coin_0 ++ dktX1_coin_1
theorem dksX1_coin_0 : cX1_coin.data.toList.drop 0 = dktX1_coin_0 := by decide +kernel
theorem dksX1_coin_1 : cX1_coin.data.toList.drop 23 = dktX1_coin_1 := dk_seg dksX1_coin_0 23 rfl rfl
theorem dksX1_coin_2 : cX1_coin.data.toList.drop 47 = dktX1_coin_2 := dk_seg dksX1_coin_1 24 rfl rfl
theorem dksX1_coin_3 : cX1_coin.data.toList.drop 70 = dktX1_coin_3 := dk_seg dksX1_coin_2 23 rfl rfl
theorem dksX1_coin_4 : cX1_coin.data.toList.drop 94 = dktX1_coin_4 := dk_seg dksX1_coin_3 24 rfl rfl
theorem dX1_coin_0 : decode cX1_coin 0 = .ok (.iload_n 1, 1) := dk_27 (dk_at dksX1_coin_0 0 rfl rfl)
theorem dX1_coin_1 : decode cX1_coin 1 = .ok (.invokestatic 222, 3) := dk_184 0 222 (dk_at dksX1_coin_0 1 rfl rfl)
theorem dX1_coin_4 : decode cX1_coin 4 = .ok (.ifCond .eq 56, 3) := dk_153 0 56 (dk_at dksX1_coin_0 4 rfl rfl)
theorem dX1_coin_7 : decode cX1_coin 7 = .ok (.iload_n 2, 1) := dk_28 (dk_at dksX1_coin_0 7 rfl rfl)
theorem dX1_coin_8 : decode cX1_coin 8 = .ok (.invokestatic 304, 3) := dk_184 1 48 (dk_at dksX1_coin_0 8 rfl rfl)
theorem dX1_coin_11 : decode cX1_coin 11 = .ok (.ifCond .eq 49, 3) := dk_153 0 49 (dk_at dksX1_coin_0 11 rfl rfl)
theorem dX1_coin_14 : decode cX1_coin 14 = .ok (.iload_n 3, 1) := dk_29 (dk_at dksX1_coin_0 14 rfl rfl)
theorem dX1_coin_15 : decode cX1_coin 15 = .ok (.i2l, 1) := dk_133 (dk_at dksX1_coin_0 15 rfl rfl)
theorem dX1_coin_16 : decode cX1_coin 16 = .ok (.lconst 0, 1) := dk_9 (dk_at dksX1_coin_0 16 rfl rfl)
theorem dX1_coin_17 : decode cX1_coin 17 = .ok (.ldc2_w 277, 3) := dk_20 1 21 (dk_at dksX1_coin_0 17 rfl rfl)
theorem dX1_coin_20 : decode cX1_coin 20 = .ok (.invokestatic 126, 3) := dk_184 0 126 (dk_at dksX1_coin_0 20 rfl rfl)
theorem dX1_coin_23 : decode cX1_coin 23 = .ok (.ifCond .eq 37, 3) := dk_153 0 37 (dk_at dksX1_coin_1 0 rfl rfl)
theorem dX1_coin_26 : decode cX1_coin 26 = .ok (.aload_n 0, 1) := dk_42 (dk_at dksX1_coin_1 3 rfl rfl)
theorem dX1_coin_27 : decode cX1_coin 27 = .ok (.getfield 64, 3) := dk_180 0 64 (dk_at dksX1_coin_1 4 rfl rfl)
theorem dX1_coin_30 : decode cX1_coin 30 = .ok (.getfield 161, 3) := dk_180 0 161 (dk_at dksX1_coin_1 7 rfl rfl)
theorem dX1_coin_33 : decode cX1_coin 33 = .ok (.iload_n 1, 1) := dk_27 (dk_at dksX1_coin_1 10 rfl rfl)
theorem dX1_coin_34 : decode cX1_coin 34 = .ok (.aaload, 1) := dk_50 (dk_at dksX1_coin_1 11 rfl rfl)
theorem dX1_coin_35 : decode cX1_coin 35 = .ok (.iload_n 2, 1) := dk_28 (dk_at dksX1_coin_1 12 rfl rfl)
theorem dX1_coin_36 : decode cX1_coin 36 = .ok (.invokevirtual 165, 3) := dk_182 0 165 (dk_at dksX1_coin_1 13 rfl rfl)
theorem dX1_coin_39 : decode cX1_coin 39 = .ok (.iconst (-1), 1) := dk_2 (dk_at dksX1_coin_1 16 rfl rfl)
theorem dX1_coin_40 : decode cX1_coin 40 = .ok (.if_icmp .ne 20, 3) := dk_160 0 20 (dk_at dksX1_coin_1 17 rfl rfl)
theorem dX1_coin_43 : decode cX1_coin 43 = .ok (.aload_n 0, 1) := dk_42 (dk_at dksX1_coin_1 20 rfl rfl)
theorem dX1_coin_44 : decode cX1_coin 44 = .ok (.getfield 64, 3) := dk_180 0 64 (dk_at dksX1_coin_1 21 rfl rfl)
theorem dX1_coin_47 : decode cX1_coin 47 = .ok (.getfield 161, 3) := dk_180 0 161 (dk_at dksX1_coin_2 0 rfl rfl)
theorem dX1_coin_50 : decode cX1_coin 50 = .ok (.iload_n 1, 1) := dk_27 (dk_at dksX1_coin_2 3 rfl rfl)
theorem dX1_coin_51 : decode cX1_coin 51 = .ok (.aaload, 1) := dk_50 (dk_at dksX1_coin_2 4 rfl rfl)
theorem dX1_coin_52 : decode cX1_coin 52 = .ok (.getfield 225, 3) := dk_180 0 225 (dk_at dksX1_coin_2 5 rfl rfl)
theorem dX1_coin_55 : decode cX1_coin 55 = .ok (.bipush 12, 2) := dk_16 12 (dk_at dksX1_coin_2 8 rfl rfl)
theorem dX1_coin_57 : decode cX1_coin 57 = .ok (.if_icmp .ne 5, 3) := dk_160 0 5 (dk_at dksX1_coin_2 10 rfl rfl)
theorem dX1_coin_60 : decode cX1_coin 60 = .ok (.iconst (-1), 1) := dk_2 (dk_at dksX1_coin_2 13 rfl rfl)
theorem dX1_coin_61 : decode cX1_coin 61 = .ok (.ireturn, 1) := dk_172 (dk_at dksX1_coin_2 14 rfl rfl)
theorem dX1_coin_62 : decode cX1_coin 62 = .ok (.aload_n 0, 1) := dk_42 (dk_at dksX1_coin_2 15 rfl rfl)
theorem dX1_coin_63 : decode cX1_coin 63 = .ok (.invokevirtual 301, 3) := dk_182 1 45 (dk_at dksX1_coin_2 16 rfl rfl)
theorem dX1_coin_66 : decode cX1_coin 66 = .ok (.aload_n 0, 1) := dk_42 (dk_at dksX1_coin_2 19 rfl rfl)
theorem dX1_coin_67 : decode cX1_coin 67 = .ok (.getfield 64, 3) := dk_180 0 64 (dk_at dksX1_coin_2 20 rfl rfl)
theorem dX1_coin_70 : decode cX1_coin 70 = .ok (.getfield 161, 3) := dk_180 0 161 (dk_at dksX1_coin_3 0 rfl rfl)
theorem dX1_coin_73 : decode cX1_coin 73 = .ok (.iload_n 1, 1) := dk_27 (dk_at dksX1_coin_3 3 rfl rfl)
theorem dX1_coin_74 : decode cX1_coin 74 = .ok (.aaload, 1) := dk_50 (dk_at dksX1_coin_3 4 rfl rfl)
theorem dX1_coin_75 : decode cX1_coin 75 = .ok (.iload_n 2, 1) := dk_28 (dk_at dksX1_coin_3 5 rfl rfl)
theorem dX1_coin_76 : decode cX1_coin 76 = .ok (.iload_n 3, 1) := dk_29 (dk_at dksX1_coin_3 6 rfl rfl)
theorem dX1_coin_77 : decode cX1_coin 77 = .ok (.invokevirtual 307, 3) := dk_182 1 51 (dk_at dksX1_coin_3 7 rfl rfl)
theorem dX1_coin_80 : decode cX1_coin 80 = .ok (.aload_n 0, 1) := dk_42 (dk_at dksX1_coin_3 10 rfl rfl)
theorem dX1_coin_81 : decode cX1_coin 81 = .ok (.getfield 64, 3) := dk_180 0 64 (dk_at dksX1_coin_3 11 rfl rfl)
theorem dX1_coin_84 : decode cX1_coin 84 = .ok (.getfield 161, 3) := dk_180 0 161 (dk_at dksX1_coin_3 14 rfl rfl)
theorem dX1_coin_87 : decode cX1_coin 87 = .ok (.iload_n 1, 1) := dk_27 (dk_at dksX1_coin_3 17 rfl rfl)
theorem dX1_coin_88 : decode cX1_coin 88 = .ok (.aaload, 1) := dk_50 (dk_at dksX1_coin_3 18 rfl rfl)
theorem dX1_coin_89 : decode cX1_coin 89 = .ok (.getfield 225, 3) := dk_180 0 225 (dk_at dksX1_coin_3 19 rfl rfl)
theorem dX1_coin_92 : decode cX1_coin 92 = .ok (.iconst 1, 1) := dk_4 (dk_at dksX1_coin_3 22 rfl rfl)
theorem dX1_coin_93 : decode cX1_coin 93 = .ok (.isub, 1) := dk_100 (dk_at dksX1_coin_3 23 rfl rfl)
theorem dX1_coin_94 : decode cX1_coin 94 = .ok (.ireturn, 1) := dk_172 (dk_at dksX1_coin_4 0 rfl rfl)
theorem gX1_coin_0 {b : Nat} {v1 : Int32} {v2 : Int32} {v3 : Int32} {T : zT} {I : zI} {L : zL} {R : zR} {P : zP} (hx : zXok T R) (h : zMet mX1_isTongue 2 0 [.int v1] T I L R (zqI_ T I L R  (fun (r1 : Int32)  => ((r1 = 0 → P 0 (.int (-1 : Int32)) T I L R) ∧ (¬ r1 = 0 → zMet mX1_isWord 1 0 [.int v2] T I L R (zqI_ T I L R  (fun (r2 : Int32)  => ((r2 = 0 → P 0 (.int (-1 : Int32)) T I L R) ∧ (¬ r2 = 0 → zMet mX1_in 1 0 [.long (v3.toInt64), .long (0 : Int64), .long (99 : Int64)] T I L R (zqI_ T I L R  (fun (r3 : Int32)  => ((r3 = 0 → P 0 (.int (-1 : Int32)) T I L R) ∧ (¬ r3 = 0 → vp_in v1 2 ∧ (T (R 1201 (v1.toNatClampNeg))).1 = 4 ∧ zMet mX4_find 1 0 [.ref (R 1201 (v1.toNatClampNeg)), .int v2] T I L R (zqI_ T I L R  (fun (r5 : Int32)  => ((r5 = (-1 : Int32) → (((I (R 1201 (v1.toNatClampNeg)) 2) = (12 : Int32) → P 0 (.int (-1 : Int32)) T I L R) ∧ (¬ (I (R 1201 (v1.toNatClampNeg)) 2) = (12 : Int32) → ∃ b12, b12 ≤ ((((b - 0) - 0) - 0) - 0) ∧ zMet mX1_keepNow 3 b12 [.ref 1000] T I L R (zqV_TILR   (fun (T7 : zT) (I8 : zI) (L9 : zL) (R10 : zR)  => zXok T7 R10 ∧ (T7 (R10 1201 (v1.toNatClampNeg))).1 = 4 ∧ zMet mX4_add 1 0 [.ref (R10 1201 (v1.toNatClampNeg)), .int v2, .int v3] T7 I8 L9 R10 (zqV_I T7 L9 R10  (fun (I14 : zI)  => P 0 (.int ((I14 (R10 1201 (v1.toNatClampNeg)) 2) - (1 : Int32))) T7 I14 L9 R10))))))) ∧ (¬ r5 = (-1 : Int32) → P 0 (.int (-1 : Int32)) T I L R))))))))))))))))) : zAW mX1_coin 4 b 0 [(0, .ref 1000), (1, .int v1), (2, .int v2), (3, .int v3)] [] T I L R P := by
  refine za_iload_n (pc' := 1) 1 dX1_coin_0 rfl rfl rfl ?_
  refine za_callS (M2 := mX1_isTongue) (d2 := 2) (b2 := 0) (n := 1) (As := [.int v1]) (st := []) (pc' := 4) dX1_coin_1 rfl (lw_S q1075 q1076 q131 q1077) hd_X1_isTongue rfl (by decide) (by decide) (Nat.zero_le _) (Or.inl rfl) (Nat.le_of_ble_eq_true rfl) h (zqI__k rfl (fun r1 h => ?_)) (fun _ _ _ _ _ _ h9 h8 => absurd h8.1 h9) rfl
  refine za_if_eq (pc' := 7) (tgt := 60) dX1_coin_4 (by decide) rfl (fun c9 => ?_) (fun c9 => ?_)
  · replace h := h.1 c9
    refine za_iconst (pc' := 61) dX1_coin_60 zi_m1 rfl ?_
    exact za_ireturn rfl dX1_coin_61 h
  · replace h := h.2 c9
    refine za_iload_n (pc' := 8) 2 dX1_coin_7 rfl rfl rfl ?_
    refine za_callS (M2 := mX1_isWord) (d2 := 1) (b2 := 0) (n := 1) (As := [.int v2]) (st := []) (pc' := 11) dX1_coin_8 rfl (lw_S q1183 q1184 q131 q1185) hd_X1_isWord rfl (by decide) (by decide) (Nat.zero_le _) (Or.inl rfl) (Nat.le_of_ble_eq_true rfl) h (zqI__k rfl (fun r2 h => ?_)) (fun _ _ _ _ _ _ h9 h8 => absurd h8.1 h9) rfl
    refine za_if_eq (pc' := 14) (tgt := 60) dX1_coin_11 (by decide) rfl (fun c9 => ?_) (fun c9 => ?_)
    · replace h := h.1 c9
      refine za_iconst (pc' := 61) dX1_coin_60 zi_m1 rfl ?_
      exact za_ireturn rfl dX1_coin_61 h
    · replace h := h.2 c9
      refine za_iload_n (pc' := 15) 3 dX1_coin_14 rfl rfl rfl ?_
      refine za_i2l (pc' := 16) dX1_coin_15 rfl rfl ?_
      refine za_lconst (pc' := 17) dX1_coin_16 zl_0 rfl ?_
      refine za_ldc2 (pc' := 20) (v := (99 : Int64)) (own := "") dX1_coin_17 q1151 rfl ?_
      refine za_callS (M2 := mX1_in) (d2 := 1) (b2 := 0) (n := 3) (As := [.long (v3.toInt64), .long (0 : Int64), .long (99 : Int64)]) (st := []) (pc' := 23) dX1_coin_20 rfl (lw_S q588 q589 q131 q590) hd_X1_in rfl (by decide) (by decide) (Nat.zero_le _) (Or.inl rfl) (Nat.le_of_ble_eq_true rfl) h (zqI__k rfl (fun r3 h => ?_)) (fun _ _ _ _ _ _ h9 h8 => absurd h8.1 h9) rfl
      refine za_if_eq (pc' := 26) (tgt := 60) dX1_coin_23 (by decide) rfl (fun c9 => ?_) (fun c9 => ?_)
      · replace h := h.1 c9
        refine za_iconst (pc' := 61) dX1_coin_60 zi_m1 rfl ?_
        exact za_ireturn rfl dX1_coin_61 h
      · replace h := h.2 c9
        refine za_aload_n (pc' := 27) 0 dX1_coin_26 rfl rfl rfl ?_
        refine za_get (fi := 10) (v := .ref 1200) (pc' := 30) dX1_coin_27 zc0 (by decide) in_X1 (by decide) q500 (Or.inl rfl) (congrArg Prod.fst (zX_t1000 hx)) (congrArg Value.ref (zX_r1000_10 hx)) rfl ?_
        refine za_getN (fi := 0) (v := .ref 1201) (pc' := 33) dX1_coin_30 zc9 (by decide) in_X10 (by decide) q416 (Or.inl rfl) (congrArg Prod.fst (zX_t1200 hx)) (congrArg Value.ref (zX_r1200_0 hx)) rfl ?_
        refine za_iload_n (pc' := 34) 1 dX1_coin_33 rfl rfl rfl ?_
        obtain ⟨hi4, h⟩ := h
        refine za_aald (r := (R 1201 (v1.toNatClampNeg))) (t := 4) (C := RX4) (pc' := 35) dX1_coin_34 (by decide) (fun _ => rfl) (zX_t1201 hx) hi4 (rfl) rfl ?_
        refine za_iload_n (pc' := 36) 2 dX1_coin_35 rfl rfl rfl ?_
        obtain ⟨ht6, h⟩ := h
        refine za_callV (κ := (R 1201 (v1.toNatClampNeg))) (M2 := mX4_find) (d2 := 1) (b2 := 0) (n := 1) (As := [.int v2]) (st := []) (pc' := 39) zc3 (by decide) ht6 dX1_coin_36 rfl (lw_V q1056 q826 q827 q134 q828) ⟨rfl, hd_X4_find⟩ rfl (by decide) (by decide) (Nat.zero_le _) (Or.inl rfl) (Nat.le_of_ble_eq_true rfl) h (zqI__k rfl (fun r5 h => ?_)) (fun _ _ _ _ _ _ h9 h8 => absurd h8.1 h9) rfl
        refine za_iconst (pc' := 40) dX1_coin_39 zi_m1 rfl ?_
        refine za_icmp_ne (pc' := 43) (tgt := 60) dX1_coin_40 (by decide) rfl (fun c9 => ?_) (fun c9 => ?_)
        · replace h := h.2 c9
          refine za_iconst (pc' := 61) dX1_coin_60 zi_m1 rfl ?_
          exact za_ireturn rfl dX1_coin_61 h
        · replace h := h.1 c9
          refine za_aload_n (pc' := 44) 0 dX1_coin_43 rfl rfl rfl ?_
          refine za_get (fi := 10) (v := .ref 1200) (pc' := 47) dX1_coin_44 zc0 (by decide) in_X1 (by decide) q500 (Or.inl rfl) (congrArg Prod.fst (zX_t1000 hx)) (congrArg Value.ref (zX_r1000_10 hx)) rfl ?_
          refine za_getN (fi := 0) (v := .ref 1201) (pc' := 50) dX1_coin_47 zc9 (by decide) in_X10 (by decide) q416 (Or.inl rfl) (congrArg Prod.fst (zX_t1200 hx)) (congrArg Value.ref (zX_r1200_0 hx)) rfl ?_
          refine za_iload_n (pc' := 51) 1 dX1_coin_50 rfl rfl rfl ?_
          refine za_aald (r := (R 1201 (v1.toNatClampNeg))) (t := 4) (C := RX4) (pc' := 52) dX1_coin_51 (by decide) (fun _ => rfl) (zX_t1201 hx) hi4 (rfl) rfl ?_
          refine za_getN (fi := 2) (v := .int (I (R 1201 (v1.toNatClampNeg)) 2)) (pc' := 55) dX1_coin_52 zc3 (by decide) in_X4 (by decide) q233 (Or.inl rfl) ht6 rfl rfl ?_
          refine za_bipush (pc' := 57) dX1_coin_55 zb8_12 rfl ?_
          refine za_icmp_ne (pc' := 60) (tgt := 62) dX1_coin_57 (by decide) rfl (fun c9 => ?_) (fun c9 => ?_)
          · replace h := h.2 c9
            refine za_aload_n (pc' := 63) 0 dX1_coin_62 rfl rfl rfl ?_
            obtain ⟨b12, hb13, h⟩ := h
            refine za_callV (κ := 1000) (M2 := mX1_keepNow) (d2 := 3) (b2 := b12) (n := 0) (As := []) (st := []) (pc' := 66) zc0 (by decide) (congrArg Prod.fst (zX_t1000 hx)) dX1_coin_63 rfl (lw_V q1167 q1169 qs38 q131 q1170) ⟨rfl, hd_X1_keepNow⟩ rfl (by decide) (by decide) hb13 (Or.inl rfl) (Nat.le_of_ble_eq_true rfl) h (zqV_TILR_k rfl (fun T7 I8 L9 R10 h => ?_)) (fun _ _ _ _ _ _ h9 h8 => absurd h8.1 h9) rfl
            obtain ⟨hx11, h⟩ := h
            refine za_aload_n (pc' := 67) 0 dX1_coin_66 rfl rfl rfl ?_
            refine za_get (fi := 10) (v := .ref 1200) (pc' := 70) dX1_coin_67 zc0 (by decide) in_X1 (by decide) q500 (Or.inl rfl) (congrArg Prod.fst (zX_t1000 hx11)) (congrArg Value.ref (zX_r1000_10 hx11)) rfl ?_
            refine za_getN (fi := 0) (v := .ref 1201) (pc' := 73) dX1_coin_70 zc9 (by decide) in_X10 (by decide) q416 (Or.inl rfl) (congrArg Prod.fst (zX_t1200 hx11)) (congrArg Value.ref (zX_r1200_0 hx11)) rfl ?_
            refine za_iload_n (pc' := 74) 1 dX1_coin_73 rfl rfl rfl ?_
            refine za_aald (r := (R10 1201 (v1.toNatClampNeg))) (t := 4) (C := RX4) (pc' := 75) dX1_coin_74 (by decide) (fun _ => rfl) (zX_t1201 hx11) hi4 (rfl) rfl ?_
            refine za_iload_n (pc' := 76) 2 dX1_coin_75 rfl rfl rfl ?_
            refine za_iload_n (pc' := 77) 3 dX1_coin_76 rfl rfl rfl ?_
            obtain ⟨ht15, h⟩ := h
            refine za_callV (κ := (R10 1201 (v1.toNatClampNeg))) (M2 := mX4_add) (d2 := 1) (b2 := 0) (n := 2) (As := [.int v2, .int v3]) (st := []) (pc' := 80) zc3 (by decide) ht15 dX1_coin_77 rfl (lw_V q1186 q834 q835 q134 q836) ⟨rfl, hd_X4_add⟩ rfl (by decide) (by decide) (Nat.zero_le _) (Or.inl rfl) (Nat.le_of_ble_eq_true rfl) h (zqV_I_k rfl (fun I14 h => ?_)) (fun _ _ _ _ _ _ h9 h8 => absurd h8.1 h9) rfl
            refine za_aload_n (pc' := 81) 0 dX1_coin_80 rfl rfl rfl ?_
            refine za_get (fi := 10) (v := .ref 1200) (pc' := 84) dX1_coin_81 zc0 (by decide) in_X1 (by decide) q500 (Or.inl rfl) (congrArg Prod.fst (zX_t1000 hx11)) (congrArg Value.ref (zX_r1000_10 hx11)) rfl ?_
            refine za_getN (fi := 0) (v := .ref 1201) (pc' := 87) dX1_coin_84 zc9 (by decide) in_X10 (by decide) q416 (Or.inl rfl) (congrArg Prod.fst (zX_t1200 hx11)) (congrArg Value.ref (zX_r1200_0 hx11)) rfl ?_
            refine za_iload_n (pc' := 88) 1 dX1_coin_87 rfl rfl rfl ?_
            refine za_aald (r := (R10 1201 (v1.toNatClampNeg))) (t := 4) (C := RX4) (pc' := 89) dX1_coin_88 (by decide) (fun _ => rfl) (zX_t1201 hx11) hi4 (rfl) rfl ?_
            refine za_getN (fi := 2) (v := .int (I14 (R10 1201 (v1.toNatClampNeg)) 2)) (pc' := 92) dX1_coin_89 zc3 (by decide) in_X4 (by decide) q233 (Or.inl rfl) ht15 rfl rfl ?_
            refine za_iconst (pc' := 93) dX1_coin_92 zi_1 rfl ?_
            refine za_isub (pc' := 94) dX1_coin_93 rfl ?_
            exact za_ireturn rfl dX1_coin_94 h
          · replace h := h.1 c9
            refine za_iconst (pc' := 61) dX1_coin_60 zi_m1 rfl ?_
            exact za_ireturn rfl dX1_coin_61 h
theorem sX1_coin {d b : Nat} {v1 : Int32} {v2 : Int32} {v3 : Int32} {T : zT} {I : zI} {L : zL} {R : zR} {P : zP} (h : zAW mX1_coin d b 0 [(0, .ref 1000), (1, .int v1), (2, .int v2), (3, .int v3)] [] T I L R P) : zMet mX1_coin d b [.ref 1000, .int v1, .int v2, .int v3] T I L R P := zMet_of (by decide +kernel) rfl (Nat.le_of_ble_eq_true rfl) rfl h
/-! TwoTongues.isWord (I)Z -/
def dkwX1_isWord_3 : List UInt8 := [167, 0, 4, 3, 172]
abbrev dktX1_isWord_3 : List UInt8 := dkwX1_isWord_3 ++ []
def dkwX1_isWord_2 : List UInt8 := [154, 0, 7, 4, 167, 0, 4, 3, 128, 60, 132, 2, 255, 167, 255, 212, 26, 16, 25, 122, 153, 0, 7, 4]
abbrev dktX1_isWord_2 : List UInt8 := dkwX1_isWord_2 ++ dktX1_isWord_3
def dkwX1_isWord_1 : List UInt8 := [104, 122, 16, 31, 126, 62, 29, 16, 26, 163, 0, 11, 27, 153, 0, 9, 29, 153, 0, 5, 3, 172, 27, 29]
abbrev dktX1_isWord_1 : List UInt8 := dkwX1_isWord_1 ++ dktX1_isWord_2
def dkwX1_isWord_0 : List UInt8 := [26, 158, 0, 10, 26, 16, 30, 122, 153, 0, 5, 3, 172, 3, 60, 8, 61, 28, 155, 0, 46, 26, 8, 28]
abbrev dktX1_isWord_0 : List UInt8 := dkwX1_isWord_0 ++ dktX1_isWord_1
theorem dksX1_isWord_0 : cX1_isWord.data.toList.drop 0 = dktX1_isWord_0 := by decide +kernel
theorem dksX1_isWord_1 : cX1_isWord.data.toList.drop 24 = dktX1_isWord_1 := dk_seg dksX1_isWord_0 24 rfl rfl
theorem dksX1_isWord_2 : cX1_isWord.data.toList.drop 48 = dktX1_isWord_2 := dk_seg dksX1_isWord_1 24 rfl rfl
theorem dksX1_isWord_3 : cX1_isWord.data.toList.drop 72 = dktX1_isWord_3 := dk_seg dksX1_isWord_2 24 rfl rfl
theorem dX1_isWord_0 : decode cX1_isWord 0 = .ok (.iload_n 0, 1) := dk_26 (dk_at dksX1_isWord_0 0 rfl rfl)
theorem dX1_isWord_1 : decode cX1_isWord 1 = .ok (.ifCond .le 10, 3) := dk_158 0 10 (dk_at dksX1_isWord_0 1 rfl rfl)
theorem dX1_isWord_4 : decode cX1_isWord 4 = .ok (.iload_n 0, 1) := dk_26 (dk_at dksX1_isWord_0 4 rfl rfl)
theorem dX1_isWord_5 : decode cX1_isWord 5 = .ok (.bipush 30, 2) := dk_16 30 (dk_at dksX1_isWord_0 5 rfl rfl)
theorem dX1_isWord_7 : decode cX1_isWord 7 = .ok (.ishr, 1) := dk_122 (dk_at dksX1_isWord_0 7 rfl rfl)
theorem dX1_isWord_8 : decode cX1_isWord 8 = .ok (.ifCond .eq 5, 3) := dk_153 0 5 (dk_at dksX1_isWord_0 8 rfl rfl)
theorem dX1_isWord_11 : decode cX1_isWord 11 = .ok (.iconst 0, 1) := dk_3 (dk_at dksX1_isWord_0 11 rfl rfl)
theorem dX1_isWord_12 : decode cX1_isWord 12 = .ok (.ireturn, 1) := dk_172 (dk_at dksX1_isWord_0 12 rfl rfl)
theorem dX1_isWord_13 : decode cX1_isWord 13 = .ok (.iconst 0, 1) := dk_3 (dk_at dksX1_isWord_0 13 rfl rfl)
theorem dX1_isWord_14 : decode cX1_isWord 14 = .ok (.istore_n 1, 1) := dk_60 (dk_at dksX1_isWord_0 14 rfl rfl)
theorem dX1_isWord_15 : decode cX1_isWord 15 = .ok (.iconst 5, 1) := dk_8 (dk_at dksX1_isWord_0 15 rfl rfl)
theorem dX1_isWord_16 : decode cX1_isWord 16 = .ok (.istore_n 2, 1) := dk_61 (dk_at dksX1_isWord_0 16 rfl rfl)
theorem dX1_isWord_17 : decode cX1_isWord 17 = .ok (.iload_n 2, 1) := dk_28 (dk_at dksX1_isWord_0 17 rfl rfl)
theorem dX1_isWord_18 : decode cX1_isWord 18 = .ok (.ifCond .lt 46, 3) := dk_155 0 46 (dk_at dksX1_isWord_0 18 rfl rfl)
theorem dX1_isWord_21 : decode cX1_isWord 21 = .ok (.iload_n 0, 1) := dk_26 (dk_at dksX1_isWord_0 21 rfl rfl)
theorem dX1_isWord_22 : decode cX1_isWord 22 = .ok (.iconst 5, 1) := dk_8 (dk_at dksX1_isWord_0 22 rfl rfl)
theorem dX1_isWord_23 : decode cX1_isWord 23 = .ok (.iload_n 2, 1) := dk_28 (dk_at dksX1_isWord_0 23 rfl rfl)
theorem dX1_isWord_24 : decode cX1_isWord 24 = .ok (.imul, 1) := dk_104 (dk_at dksX1_isWord_1 0 rfl rfl)
theorem dX1_isWord_25 : decode cX1_isWord 25 = .ok (.ishr, 1) := dk_122 (dk_at dksX1_isWord_1 1 rfl rfl)
theorem dX1_isWord_26 : decode cX1_isWord 26 = .ok (.bipush 31, 2) := dk_16 31 (dk_at dksX1_isWord_1 2 rfl rfl)
theorem dX1_isWord_28 : decode cX1_isWord 28 = .ok (.iand, 1) := dk_126 (dk_at dksX1_isWord_1 4 rfl rfl)
theorem dX1_isWord_29 : decode cX1_isWord 29 = .ok (.istore_n 3, 1) := dk_62 (dk_at dksX1_isWord_1 5 rfl rfl)
theorem dX1_isWord_30 : decode cX1_isWord 30 = .ok (.iload_n 3, 1) := dk_29 (dk_at dksX1_isWord_1 6 rfl rfl)
theorem dX1_isWord_31 : decode cX1_isWord 31 = .ok (.bipush 26, 2) := dk_16 26 (dk_at dksX1_isWord_1 7 rfl rfl)
theorem dX1_isWord_33 : decode cX1_isWord 33 = .ok (.if_icmp .gt 11, 3) := dk_163 0 11 (dk_at dksX1_isWord_1 9 rfl rfl)
theorem dX1_isWord_36 : decode cX1_isWord 36 = .ok (.iload_n 1, 1) := dk_27 (dk_at dksX1_isWord_1 12 rfl rfl)
theorem dX1_isWord_37 : decode cX1_isWord 37 = .ok (.ifCond .eq 9, 3) := dk_153 0 9 (dk_at dksX1_isWord_1 13 rfl rfl)
theorem dX1_isWord_40 : decode cX1_isWord 40 = .ok (.iload_n 3, 1) := dk_29 (dk_at dksX1_isWord_1 16 rfl rfl)
theorem dX1_isWord_41 : decode cX1_isWord 41 = .ok (.ifCond .eq 5, 3) := dk_153 0 5 (dk_at dksX1_isWord_1 17 rfl rfl)
theorem dX1_isWord_44 : decode cX1_isWord 44 = .ok (.iconst 0, 1) := dk_3 (dk_at dksX1_isWord_1 20 rfl rfl)
theorem dX1_isWord_45 : decode cX1_isWord 45 = .ok (.ireturn, 1) := dk_172 (dk_at dksX1_isWord_1 21 rfl rfl)
theorem dX1_isWord_46 : decode cX1_isWord 46 = .ok (.iload_n 1, 1) := dk_27 (dk_at dksX1_isWord_1 22 rfl rfl)
theorem dX1_isWord_47 : decode cX1_isWord 47 = .ok (.iload_n 3, 1) := dk_29 (dk_at dksX1_isWord_1 23 rfl rfl)
theorem dX1_isWord_48 : decode cX1_isWord 48 = .ok (.ifCond .ne 7, 3) := dk_154 0 7 (dk_at dksX1_isWord_2 0 rfl rfl)
theorem dX1_isWord_51 : decode cX1_isWord 51 = .ok (.iconst 1, 1) := dk_4 (dk_at dksX1_isWord_2 3 rfl rfl)
theorem dX1_isWord_52 : decode cX1_isWord 52 = .ok (.goto 4, 3) := dk_167 0 4 (dk_at dksX1_isWord_2 4 rfl rfl)
theorem dX1_isWord_55 : decode cX1_isWord 55 = .ok (.iconst 0, 1) := dk_3 (dk_at dksX1_isWord_2 7 rfl rfl)
theorem dX1_isWord_56 : decode cX1_isWord 56 = .ok (.ior, 1) := dk_128 (dk_at dksX1_isWord_2 8 rfl rfl)
theorem dX1_isWord_57 : decode cX1_isWord 57 = .ok (.istore_n 1, 1) := dk_60 (dk_at dksX1_isWord_2 9 rfl rfl)
theorem dX1_isWord_58 : decode cX1_isWord 58 = .ok (.iinc 2 (-1), 3) := dk_132 2 255 (dk_at dksX1_isWord_2 10 rfl rfl)
theorem dX1_isWord_61 : decode cX1_isWord 61 = .ok (.goto (-44), 3) := dk_167 255 212 (dk_at dksX1_isWord_2 13 rfl rfl)
theorem dX1_isWord_64 : decode cX1_isWord 64 = .ok (.iload_n 0, 1) := dk_26 (dk_at dksX1_isWord_2 16 rfl rfl)
theorem dX1_isWord_65 : decode cX1_isWord 65 = .ok (.bipush 25, 2) := dk_16 25 (dk_at dksX1_isWord_2 17 rfl rfl)
theorem dX1_isWord_67 : decode cX1_isWord 67 = .ok (.ishr, 1) := dk_122 (dk_at dksX1_isWord_2 19 rfl rfl)
theorem dX1_isWord_68 : decode cX1_isWord 68 = .ok (.ifCond .eq 7, 3) := dk_153 0 7 (dk_at dksX1_isWord_2 20 rfl rfl)
theorem dX1_isWord_71 : decode cX1_isWord 71 = .ok (.iconst 1, 1) := dk_4 (dk_at dksX1_isWord_2 23 rfl rfl)
theorem dX1_isWord_72 : decode cX1_isWord 72 = .ok (.goto 4, 3) := dk_167 0 4 (dk_at dksX1_isWord_3 0 rfl rfl)
theorem dX1_isWord_75 : decode cX1_isWord 75 = .ok (.iconst 0, 1) := dk_3 (dk_at dksX1_isWord_3 3 rfl rfl)
theorem dX1_isWord_76 : decode cX1_isWord 76 = .ok (.ireturn, 1) := dk_172 (dk_at dksX1_isWord_3 4 rfl rfl)
theorem gX1_isWord_0 {v0 : Int32} {T : zT} {I : zI} {L : zL} {R : zR} {P : zP} (h : ((v0 ≤ 0 → P 0 (.int (0 : Int32)) T I L R) ∧ (¬ v0 ≤ 0 → (((v0 >>> ((30 : Int32) &&& 31)) = 0 → zAW mX1_isWord 1 0 17 [(0, .int v0), (1, .int (0 : Int32)), (2, .int (5 : Int32))] [] T I L R P) ∧ (¬ (v0 >>> ((30 : Int32) &&& 31)) = 0 → P 0 (.int (0 : Int32)) T I L R))))) : zAW mX1_isWord 1 0 0 [(0, .int v0)] [] T I L R P := by
  refine za_iload_n (pc' := 1) 0 dX1_isWord_0 rfl rfl rfl ?_
  refine za_if_le (pc' := 4) (tgt := 11) dX1_isWord_1 (by decide) rfl (fun c9 => ?_) (fun c9 => ?_)
  · replace h := h.1 c9
    refine za_iconst (pc' := 12) dX1_isWord_11 zi_0 rfl ?_
    exact za_zreturn rfl dX1_isWord_12 (by decide) h
  · replace h := h.2 c9
    refine za_iload_n (pc' := 5) 0 dX1_isWord_4 rfl rfl rfl ?_
    refine za_bipush (pc' := 7) dX1_isWord_5 zb8_30 rfl ?_
    refine za_ishr (pc' := 8) dX1_isWord_7 rfl ?_
    refine za_if_eq (pc' := 11) (tgt := 13) dX1_isWord_8 (by decide) rfl (fun c9 => ?_) (fun c9 => ?_)
    · replace h := h.1 c9
      refine za_iconst (pc' := 14) dX1_isWord_13 zi_0 rfl ?_
      refine za_istore_n (pc' := 15) (l' := [(1, .int (0 : Int32)), (0, .int v0)]) dX1_isWord_14 rfl (Nat.le_of_ble_eq_true rfl) rfl rfl ?_
      refine za_iconst (pc' := 16) dX1_isWord_15 zi_5 rfl ?_
      refine za_istore_n (pc' := 17) (l' := [(2, .int (5 : Int32)), (1, .int (0 : Int32)), (0, .int v0)]) dX1_isWord_16 rfl (Nat.le_of_ble_eq_true rfl) rfl rfl ?_
      exact zAW_sub [2, 1, 0] rfl h
    · replace h := h.2 c9
      refine za_iconst (pc' := 12) dX1_isWord_11 zi_0 rfl ?_
      exact za_zreturn rfl dX1_isWord_12 (by decide) h
theorem gX1_isWord_17 {v0 : Int32} {v1 : Int32} {v2 : Int32} {T : zT} {I : zI} {L : zL} {R : zR} {P : zP} (h : ((v2 < 0 → (((v0 >>> ((25 : Int32) &&& 31)) = 0 → P 0 (.int (0 : Int32)) T I L R) ∧ (¬ (v0 >>> ((25 : Int32) &&& 31)) = 0 → P 0 (.int (1 : Int32)) T I L R))) ∧ (¬ v2 < 0 → (((26 : Int32) < ((v0 >>> (((5 : Int32) * v2) &&& 31)) &&& (31 : Int32)) → P 0 (.int (0 : Int32)) T I L R) ∧ (¬ (26 : Int32) < ((v0 >>> (((5 : Int32) * v2) &&& 31)) &&& (31 : Int32)) → ((v1 = 0 → zAW mX1_isWord 1 0 46 [(0, .int v0), (1, .int v1), (2, .int v2), (3, .int ((v0 >>> (((5 : Int32) * v2) &&& 31)) &&& (31 : Int32)))] [] T I L R P) ∧ (¬ v1 = 0 → ((((v0 >>> (((5 : Int32) * v2) &&& 31)) &&& (31 : Int32)) = 0 → zAW mX1_isWord 1 0 46 [(0, .int v0), (1, .int v1), (2, .int v2), (3, .int ((v0 >>> (((5 : Int32) * v2) &&& 31)) &&& (31 : Int32)))] [] T I L R P) ∧ (¬ ((v0 >>> (((5 : Int32) * v2) &&& 31)) &&& (31 : Int32)) = 0 → P 0 (.int (0 : Int32)) T I L R))))))))) : zAW mX1_isWord 1 0 17 [(0, .int v0), (1, .int v1), (2, .int v2)] [] T I L R P := by
  refine za_iload_n (pc' := 18) 2 dX1_isWord_17 rfl rfl rfl ?_
  refine za_if_lt (pc' := 21) (tgt := 64) dX1_isWord_18 (by decide) rfl (fun c9 => ?_) (fun c9 => ?_)
  · replace h := h.1 c9
    refine za_iload_n (pc' := 65) 0 dX1_isWord_64 rfl rfl rfl ?_
    refine za_bipush (pc' := 67) dX1_isWord_65 zb8_25 rfl ?_
    refine za_ishr (pc' := 68) dX1_isWord_67 rfl ?_
    refine za_if_eq (pc' := 71) (tgt := 75) dX1_isWord_68 (by decide) rfl (fun c9 => ?_) (fun c9 => ?_)
    · replace h := h.1 c9
      refine za_iconst (pc' := 76) dX1_isWord_75 zi_0 rfl ?_
      exact za_zreturn rfl dX1_isWord_76 (by decide) h
    · replace h := h.2 c9
      refine za_iconst (pc' := 72) dX1_isWord_71 zi_1 rfl ?_
      refine za_goto (tgt := 76) dX1_isWord_72 (by decide) ?_
      exact za_zreturn rfl dX1_isWord_76 (by decide) h
  · replace h := h.2 c9
    refine za_iload_n (pc' := 22) 0 dX1_isWord_21 rfl rfl rfl ?_
    refine za_iconst (pc' := 23) dX1_isWord_22 zi_5 rfl ?_
    refine za_iload_n (pc' := 24) 2 dX1_isWord_23 rfl rfl rfl ?_
    refine za_imul (pc' := 25) dX1_isWord_24 rfl ?_
    refine za_ishr (pc' := 26) dX1_isWord_25 rfl ?_
    refine za_bipush (pc' := 28) dX1_isWord_26 zb8_31 rfl ?_
    refine za_iand (pc' := 29) dX1_isWord_28 rfl ?_
    refine za_istore_n (pc' := 30) (l' := [(3, .int ((v0 >>> (((5 : Int32) * v2) &&& 31)) &&& (31 : Int32))), (0, .int v0), (1, .int v1), (2, .int v2)]) dX1_isWord_29 rfl (Nat.le_of_ble_eq_true rfl) rfl rfl ?_
    refine za_iload_n (pc' := 31) 0 dX1_isWord_30 rfl rfl rfl ?_
    refine za_bipush (pc' := 33) dX1_isWord_31 zb8_26 rfl ?_
    refine za_icmp_gt (pc' := 36) (tgt := 44) dX1_isWord_33 (by decide) rfl (fun c9 => ?_) (fun c9 => ?_)
    · replace h := h.1 c9
      refine za_iconst (pc' := 45) dX1_isWord_44 zi_0 rfl ?_
      exact za_zreturn rfl dX1_isWord_45 (by decide) h
    · replace h := h.2 c9
      refine za_iload_n (pc' := 37) 2 dX1_isWord_36 rfl rfl rfl ?_
      refine za_if_eq (pc' := 40) (tgt := 46) dX1_isWord_37 (by decide) rfl (fun c9 => ?_) (fun c9 => ?_)
      · replace h := h.1 c9
        exact zAW_sub [1, 2, 3, 0] rfl h
      · replace h := h.2 c9
        refine za_iload_n (pc' := 41) 0 dX1_isWord_40 rfl rfl rfl ?_
        refine za_if_eq (pc' := 44) (tgt := 46) dX1_isWord_41 (by decide) rfl (fun c9 => ?_) (fun c9 => ?_)
        · replace h := h.1 c9
          exact zAW_sub [1, 2, 3, 0] rfl h
        · replace h := h.2 c9
          refine za_iconst (pc' := 45) dX1_isWord_44 zi_0 rfl ?_
          exact za_zreturn rfl dX1_isWord_45 (by decide) h
theorem gX1_isWord_46 {v0 : Int32} {v1 : Int32} {v2 : Int32} {v3 : Int32} {T : zT} {I : zI} {L : zL} {R : zR} {P : zP} (h : ((v3 = 0 → zAW mX1_isWord 1 0 17 [(0, .int v0), (1, .int (v1 ||| (1 : Int32))), (2, .int (v2 + (-1 : Int32)))] [] T I L R P) ∧ (¬ v3 = 0 → zAW mX1_isWord 1 0 17 [(0, .int v0), (1, .int (v1 ||| (0 : Int32))), (2, .int (v2 + (-1 : Int32)))] [] T I L R P))) : zAW mX1_isWord 1 0 46 [(0, .int v0), (1, .int v1), (2, .int v2), (3, .int v3)] [] T I L R P := by
  refine za_iload_n (pc' := 47) 1 dX1_isWord_46 rfl rfl rfl ?_
  refine za_iload_n (pc' := 48) 3 dX1_isWord_47 rfl rfl rfl ?_
  refine za_if_ne (pc' := 51) (tgt := 55) dX1_isWord_48 (by decide) rfl (fun c9 => ?_) (fun c9 => ?_)
  · replace h := h.2 c9
    refine za_iconst (pc' := 56) dX1_isWord_55 zi_0 rfl ?_
    refine za_ior (pc' := 57) dX1_isWord_56 rfl ?_
    refine za_istore_n (pc' := 58) (l' := [(1, .int (v1 ||| (0 : Int32))), (0, .int v0), (2, .int v2), (3, .int v3)]) dX1_isWord_57 rfl (Nat.le_of_ble_eq_true rfl) rfl rfl ?_
    refine za_iinc (pc' := 61) (l' := [(2, .int (v2 + (-1 : Int32))), (1, .int (v1 ||| (0 : Int32))), (0, .int v0), (3, .int v3)]) 2 dX1_isWord_58 rfl (zinc zi_m1) (Nat.le_of_ble_eq_true rfl) rfl rfl ?_
    refine za_goto (tgt := 17) dX1_isWord_61 (by decide) ?_
    exact zAW_sub [2, 1, 0] rfl h
  · replace h := h.1 c9
    refine za_iconst (pc' := 52) dX1_isWord_51 zi_1 rfl ?_
    refine za_goto (tgt := 56) dX1_isWord_52 (by decide) ?_
    refine za_ior (pc' := 57) dX1_isWord_56 rfl ?_
    refine za_istore_n (pc' := 58) (l' := [(1, .int (v1 ||| (1 : Int32))), (0, .int v0), (2, .int v2), (3, .int v3)]) dX1_isWord_57 rfl (Nat.le_of_ble_eq_true rfl) rfl rfl ?_
    refine za_iinc (pc' := 61) (l' := [(2, .int (v2 + (-1 : Int32))), (1, .int (v1 ||| (1 : Int32))), (0, .int v0), (3, .int v3)]) 2 dX1_isWord_58 rfl (zinc zi_m1) (Nat.le_of_ble_eq_true rfl) rfl rfl ?_
    refine za_goto (tgt := 17) dX1_isWord_61 (by decide) ?_
    exact zAW_sub [2, 1, 0] rfl h
theorem sX1_isWord {d b : Nat} {v0 : Int32} {T : zT} {I : zI} {L : zL} {R : zR} {P : zP} (h : zAW mX1_isWord d b 0 [(0, .int v0)] [] T I L R P) : zMet mX1_isWord d b [.int v0] T I L R P := zMet_of (by decide +kernel) rfl (Nat.le_of_ble_eq_true rfl) rfl h
/-! TwoTongues.serving (II)I -/
def dkwX1_serving_1 : List UInt8 := [17, 1, 244, 182, 1, 119, 184, 1, 122, 172]
abbrev dktX1_serving_1 : List UInt8 := dkwX1_serving_1 ++ []
def dkwX1_serving_0 : List UInt8 := [27, 184, 1, 110, 153, 0, 10, 28, 184, 1, 113, 154, 0, 5, 2, 172, 42, 27, 28, 182, 1, 116, 42]
abbrev dktX1_serving_0 : List UInt8 := dkwX1_serving_0 ++ dktX1_serving_1
theorem dksX1_serving_0 : cX1_serving.data.toList.drop 0 = dktX1_serving_0 := by decide +kernel
theorem dksX1_serving_1 : cX1_serving.data.toList.drop 23 = dktX1_serving_1 := dk_seg dksX1_serving_0 23 rfl rfl
theorem dX1_serving_0 : decode cX1_serving 0 = .ok (.iload_n 1, 1) := dk_27 (dk_at dksX1_serving_0 0 rfl rfl)
theorem dX1_serving_1 : decode cX1_serving 1 = .ok (.invokestatic 366, 3) := dk_184 1 110 (dk_at dksX1_serving_0 1 rfl rfl)
theorem dX1_serving_4 : decode cX1_serving 4 = .ok (.ifCond .eq 10, 3) := dk_153 0 10 (dk_at dksX1_serving_0 4 rfl rfl)
theorem dX1_serving_7 : decode cX1_serving 7 = .ok (.iload_n 2, 1) := dk_28 (dk_at dksX1_serving_0 7 rfl rfl)
theorem dX1_serving_8 : decode cX1_serving 8 = .ok (.invokestatic 369, 3) := dk_184 1 113 (dk_at dksX1_serving_0 8 rfl rfl)
theorem dX1_serving_11 : decode cX1_serving 11 = .ok (.ifCond .ne 5, 3) := dk_154 0 5 (dk_at dksX1_serving_0 11 rfl rfl)
theorem dX1_serving_14 : decode cX1_serving 14 = .ok (.iconst (-1), 1) := dk_2 (dk_at dksX1_serving_0 14 rfl rfl)
theorem dX1_serving_15 : decode cX1_serving 15 = .ok (.ireturn, 1) := dk_172 (dk_at dksX1_serving_0 15 rfl rfl)
theorem dX1_serving_16 : decode cX1_serving 16 = .ok (.aload_n 0, 1) := dk_42 (dk_at dksX1_serving_0 16 rfl rfl)
theorem dX1_serving_17 : decode cX1_serving 17 = .ok (.iload_n 1, 1) := dk_27 (dk_at dksX1_serving_0 17 rfl rfl)
theorem dX1_serving_18 : decode cX1_serving 18 = .ok (.iload_n 2, 1) := dk_28 (dk_at dksX1_serving_0 18 rfl rfl)
theorem dX1_serving_19 : decode cX1_serving 19 = .ok (.invokevirtual 372, 3) := dk_182 1 116 (dk_at dksX1_serving_0 19 rfl rfl)
theorem dX1_serving_22 : decode cX1_serving 22 = .ok (.aload_n 0, 1) := dk_42 (dk_at dksX1_serving_0 22 rfl rfl)
theorem dX1_serving_23 : decode cX1_serving 23 = .ok (.sipush 500, 3) := dk_17 1 244 (dk_at dksX1_serving_1 0 rfl rfl)
theorem dX1_serving_26 : decode cX1_serving 26 = .ok (.invokevirtual 375, 3) := dk_182 1 119 (dk_at dksX1_serving_1 3 rfl rfl)
theorem dX1_serving_29 : decode cX1_serving 29 = .ok (.invokestatic 378, 3) := dk_184 1 122 (dk_at dksX1_serving_1 6 rfl rfl)
theorem dX1_serving_32 : decode cX1_serving 32 = .ok (.ireturn, 1) := dk_172 (dk_at dksX1_serving_1 9 rfl rfl)
theorem gX1_serving_0 {v1 : Int32} {v2 : Int32} {T : zT} {I : zI} {L : zL} {R : zR} {P : zP} (hx : zXok T R) (h : zMet mX1_isKind 2 0 [.int v1] T I L R (zqI_ T I L R  (fun (r1 : Int32)  => ((r1 = 0 → P 0 (.int (-1 : Int32)) T I L R) ∧ (¬ r1 = 0 → zMet mX1_isLength 2 0 [.int v2] T I L R (zqI_ T I L R  (fun (r2 : Int32)  => ((r2 = 0 → P 0 (.int (-1 : Int32)) T I L R) ∧ (¬ r2 = 0 → zMet mX1_layFree 7 0 [.ref 1000, .int v1, .int v2] T I L R (zqV_IR T L  (fun (I3 : zI) (R4 : zR)  => zXok T R4 ∧ zMet mX1_walks 41 0 [.ref 1000, .int (500 : Int32)] T I3 L R4 (zqI_IL T R4  (fun (r6 : Int32) (I7 : zI) (L8 : zL)  => zMet mX1_orMany 1 0 [.int r6] T I7 L8 R4 (zqI_ T I7 L8 R4  (fun (r9 : Int32)  => P 0 (.int r9) T I7 L8 R4))))))))))))))) : zAW mX1_serving 42 0 0 [(0, .ref 1000), (1, .int v1), (2, .int v2)] [] T I L R P := by
  refine za_iload_n (pc' := 1) 1 dX1_serving_0 rfl rfl rfl ?_
  refine za_callS (M2 := mX1_isKind) (d2 := 2) (b2 := 0) (n := 1) (As := [.int v1]) (st := []) (pc' := 4) dX1_serving_1 rfl (lw_S q1191 q1192 q131 q1193) hd_X1_isKind rfl (by decide) (by decide) (Nat.zero_le _) (Or.inl rfl) (Nat.le_of_ble_eq_true rfl) h (zqI__k rfl (fun r1 h => ?_)) (fun _ _ _ _ _ _ h9 h8 => absurd h8.1 h9) rfl
  refine za_if_eq (pc' := 7) (tgt := 14) dX1_serving_4 (by decide) rfl (fun c9 => ?_) (fun c9 => ?_)
  · replace h := h.1 c9
    refine za_iconst (pc' := 15) dX1_serving_14 zi_m1 rfl ?_
    exact za_ireturn rfl dX1_serving_15 h
  · replace h := h.2 c9
    refine za_iload_n (pc' := 8) 2 dX1_serving_7 rfl rfl rfl ?_
    refine za_callS (M2 := mX1_isLength) (d2 := 2) (b2 := 0) (n := 1) (As := [.int v2]) (st := []) (pc' := 11) dX1_serving_8 rfl (lw_S q1195 q1196 q131 q1197) hd_X1_isLength rfl (by decide) (by decide) (Nat.zero_le _) (Or.inl rfl) (Nat.le_of_ble_eq_true rfl) h (zqI__k rfl (fun r2 h => ?_)) (fun _ _ _ _ _ _ h9 h8 => absurd h8.1 h9) rfl
    refine za_if_ne (pc' := 14) (tgt := 16) dX1_serving_11 (by decide) rfl (fun c9 => ?_) (fun c9 => ?_)
    · replace h := h.2 c9
      refine za_aload_n (pc' := 17) 0 dX1_serving_16 rfl rfl rfl ?_
      refine za_iload_n (pc' := 18) 1 dX1_serving_17 rfl rfl rfl ?_
      refine za_iload_n (pc' := 19) 2 dX1_serving_18 rfl rfl rfl ?_
      refine za_callV (κ := 1000) (M2 := mX1_layFree) (d2 := 7) (b2 := 0) (n := 2) (As := [.int v1, .int v2]) (st := []) (pc' := 22) zc0 (by decide) (congrArg Prod.fst (zX_t1000 hx)) dX1_serving_19 rfl (lw_V q1199 q1201 qs39 q131 q1202) ⟨rfl, hd_X1_layFree⟩ rfl (by decide) (by decide) (Nat.zero_le _) (Or.inl rfl) (Nat.le_of_ble_eq_true rfl) h (zqV_IR_k rfl (fun I3 R4 h => ?_)) (fun _ _ _ _ _ _ h9 h8 => absurd h8.1 h9) rfl
      obtain ⟨hx5, h⟩ := h
      refine za_aload_n (pc' := 23) 0 dX1_serving_22 rfl rfl rfl ?_
      refine za_sipush (pc' := 26) dX1_serving_23 zb16_500 rfl ?_
      refine za_callV (κ := 1000) (M2 := mX1_walks) (d2 := 41) (b2 := 0) (n := 1) (As := [.int (500 : Int32)]) (st := []) (pc' := 29) zc0 (by decide) (congrArg Prod.fst (zX_t1000 hx)) dX1_serving_26 rfl (lw_V q1239 q1241 qs44 q131 q1242) ⟨rfl, hd_X1_walks⟩ rfl (by decide) (by decide) (Nat.zero_le _) (Or.inl rfl) (Nat.le_of_ble_eq_true rfl) h (zqI_IL_k rfl (fun r6 I7 L8 h => ?_)) (fun _ _ _ _ _ _ h9 h8 => absurd h8.1 h9) rfl
      refine za_callS (M2 := mX1_orMany) (d2 := 1) (b2 := 0) (n := 1) (As := [.int r6]) (st := []) (pc' := 32) dX1_serving_29 rfl (lw_S q1260 q1261 q131 q1262) hd_X1_orMany rfl (by decide) (by decide) (Nat.zero_le _) (Or.inl rfl) (Nat.le_of_ble_eq_true rfl) h (zqI__k rfl (fun r9 h => ?_)) (fun _ _ _ _ _ _ h9 h8 => absurd h8.1 h9) rfl
      exact za_ireturn rfl dX1_serving_32 h
    · replace h := h.1 c9
      refine za_iconst (pc' := 15) dX1_serving_14 zi_m1 rfl ?_
      exact za_ireturn rfl dX1_serving_15 h
theorem sX1_serving {d b : Nat} {v1 : Int32} {v2 : Int32} {T : zT} {I : zI} {L : zL} {R : zR} {P : zP} (h : zAW mX1_serving d b 0 [(0, .ref 1000), (1, .int v1), (2, .int v2)] [] T I L R P) : zMet mX1_serving d b [.ref 1000, .int v1, .int v2] T I L R P := zMet_of (by decide +kernel) rfl (Nat.le_of_ble_eq_true rfl) rfl h
/-! TwoTongues.isKind (I)Z -/
def dkwX1_isKind_0 : List UInt8 := [26, 133, 9, 20, 1, 103, 184, 0, 126, 172]
abbrev dktX1_isKind_0 : List UInt8 := dkwX1_isKind_0 ++ []
theorem dksX1_isKind_0 : cX1_isKind.data.toList.drop 0 = dktX1_isKind_0 := by decide +kernel
theorem dX1_isKind_0 : decode cX1_isKind 0 = .ok (.iload_n 0, 1) := dk_26 (dk_at dksX1_isKind_0 0 rfl rfl)
theorem dX1_isKind_1 : decode cX1_isKind 1 = .ok (.i2l, 1) := dk_133 (dk_at dksX1_isKind_0 1 rfl rfl)
theorem dX1_isKind_2 : decode cX1_isKind 2 = .ok (.lconst 0, 1) := dk_9 (dk_at dksX1_isKind_0 2 rfl rfl)
theorem dX1_isKind_3 : decode cX1_isKind 3 = .ok (.ldc2_w 359, 3) := dk_20 1 103 (dk_at dksX1_isKind_0 3 rfl rfl)
theorem dX1_isKind_6 : decode cX1_isKind 6 = .ok (.invokestatic 126, 3) := dk_184 0 126 (dk_at dksX1_isKind_0 6 rfl rfl)
theorem dX1_isKind_9 : decode cX1_isKind 9 = .ok (.ireturn, 1) := dk_172 (dk_at dksX1_isKind_0 9 rfl rfl)
theorem gX1_isKind_0 {v0 : Int32} {T : zT} {I : zI} {L : zL} {R : zR} {P : zP} (h : zMet mX1_in 1 0 [.long (v0.toInt64), .long (0 : Int64), .long (3 : Int64)] T I L R (zqI_ T I L R  (fun (r1 : Int32)  => zB r1 ∧ P 0 (.int r1) T I L R))) : zAW mX1_isKind 2 0 0 [(0, .int v0)] [] T I L R P := by
  refine za_iload_n (pc' := 1) 0 dX1_isKind_0 rfl rfl rfl ?_
  refine za_i2l (pc' := 2) dX1_isKind_1 rfl rfl ?_
  refine za_lconst (pc' := 3) dX1_isKind_2 zl_0 rfl ?_
  refine za_ldc2 (pc' := 6) (v := (3 : Int64)) (own := "") dX1_isKind_3 q1194 rfl ?_
  refine za_callS (M2 := mX1_in) (d2 := 1) (b2 := 0) (n := 3) (As := [.long (v0.toInt64), .long (0 : Int64), .long (3 : Int64)]) (st := []) (pc' := 9) dX1_isKind_6 rfl (lw_S q588 q589 q131 q590) hd_X1_in rfl (by decide) (by decide) (Nat.zero_le _) (Or.inl rfl) (Nat.le_of_ble_eq_true rfl) h (zqI__k rfl (fun r1 h => ?_)) (fun _ _ _ _ _ _ h9 h8 => absurd h8.1 h9) rfl
  exact za_zreturn rfl dX1_isKind_9 (zB_n h.1) h.2
theorem sX1_isKind {d b : Nat} {v0 : Int32} {T : zT} {I : zI} {L : zL} {R : zR} {P : zP} (h : zAW mX1_isKind d b 0 [(0, .int v0)] [] T I L R P) : zMet mX1_isKind d b [.int v0] T I L R P := zMet_of (by decide +kernel) rfl (Nat.le_of_ble_eq_true rfl) rfl h
/-! TwoTongues.isLength (I)Z -/
def dkwX1_isLength_0 : List UInt8 := [26, 133, 10, 20, 1, 105, 184, 0, 126, 172]
abbrev dktX1_isLength_0 : List UInt8 := dkwX1_isLength_0 ++ []
theorem dksX1_isLength_0 : cX1_isLength.data.toList.drop 0 = dktX1_isLength_0 := by decide +kernel
theorem dX1_isLength_0 : decode cX1_isLength 0 = .ok (.iload_n 0, 1) := dk_26 (dk_at dksX1_isLength_0 0 rfl rfl)
theorem dX1_isLength_1 : decode cX1_isLength 1 = .ok (.i2l, 1) := dk_133 (dk_at dksX1_isLength_0 1 rfl rfl)
theorem dX1_isLength_2 : decode cX1_isLength 2 = .ok (.lconst 1, 1) := dk_10 (dk_at dksX1_isLength_0 2 rfl rfl)
theorem dX1_isLength_3 : decode cX1_isLength 3 = .ok (.ldc2_w 361, 3) := dk_20 1 105 (dk_at dksX1_isLength_0 3 rfl rfl)
theorem dX1_isLength_6 : decode cX1_isLength 6 = .ok (.invokestatic 126, 3) := dk_184 0 126 (dk_at dksX1_isLength_0 6 rfl rfl)
theorem dX1_isLength_9 : decode cX1_isLength 9 = .ok (.ireturn, 1) := dk_172 (dk_at dksX1_isLength_0 9 rfl rfl)
theorem gX1_isLength_0 {v0 : Int32} {T : zT} {I : zI} {L : zL} {R : zR} {P : zP} (h : zMet mX1_in 1 0 [.long (v0.toInt64), .long (1 : Int64), .long (12 : Int64)] T I L R (zqI_ T I L R  (fun (r1 : Int32)  => zB r1 ∧ P 0 (.int r1) T I L R))) : zAW mX1_isLength 2 0 0 [(0, .int v0)] [] T I L R P := by
  refine za_iload_n (pc' := 1) 0 dX1_isLength_0 rfl rfl rfl ?_
  refine za_i2l (pc' := 2) dX1_isLength_1 rfl rfl ?_
  refine za_lconst (pc' := 3) dX1_isLength_2 zl_1 rfl ?_
  refine za_ldc2 (pc' := 6) (v := (12 : Int64)) (own := "") dX1_isLength_3 q1198 rfl ?_
  refine za_callS (M2 := mX1_in) (d2 := 1) (b2 := 0) (n := 3) (As := [.long (v0.toInt64), .long (1 : Int64), .long (12 : Int64)]) (st := []) (pc' := 9) dX1_isLength_6 rfl (lw_S q588 q589 q131 q590) hd_X1_in rfl (by decide) (by decide) (Nat.zero_le _) (Or.inl rfl) (Nat.le_of_ble_eq_true rfl) h (zqI__k rfl (fun r1 h => ?_)) (fun _ _ _ _ _ _ h9 h8 => absurd h8.1 h9) rfl
  exact za_zreturn rfl dX1_isLength_9 (zB_n h.1) h.2
theorem sX1_isLength {d b : Nat} {v0 : Int32} {T : zT} {I : zI} {L : zL} {R : zR} {P : zP} (h : zAW mX1_isLength d b 0 [(0, .int v0)] [] T I L R P) : zMet mX1_isLength d b [.int v0] T I L R P := zMet_of (by decide +kernel) rfl (Nat.le_of_ble_eq_true rfl) rfl h
/-! TwoTongues.layFree (II)V -/
def dkwX1_layFree_1 : List UInt8 := [3, 79, 132, 3, 1, 167, 255, 237, 42, 42, 180, 0, 107, 42, 180, 0, 57, 27, 50, 182, 1, 107, 177]
abbrev dktX1_layFree_1 : List UInt8 := dkwX1_layFree_1 ++ []
def dkwX1_layFree_0 : List UInt8 := [42, 180, 0, 107, 28, 181, 0, 190, 3, 62, 29, 16, 12, 162, 0, 19, 42, 180, 0, 107, 180, 0, 219, 29]
abbrev dktX1_layFree_0 : List UInt8 := dkwX1_layFree_0 ++ dktX1_layFree_1
theorem dksX1_layFree_0 : cX1_layFree.data.toList.drop 0 = dktX1_layFree_0 := by decide +kernel
theorem dksX1_layFree_1 : cX1_layFree.data.toList.drop 24 = dktX1_layFree_1 := dk_seg dksX1_layFree_0 24 rfl rfl
theorem dX1_layFree_0 : decode cX1_layFree 0 = .ok (.aload_n 0, 1) := dk_42 (dk_at dksX1_layFree_0 0 rfl rfl)
theorem dX1_layFree_1 : decode cX1_layFree 1 = .ok (.getfield 107, 3) := dk_180 0 107 (dk_at dksX1_layFree_0 1 rfl rfl)
theorem dX1_layFree_4 : decode cX1_layFree 4 = .ok (.iload_n 2, 1) := dk_28 (dk_at dksX1_layFree_0 4 rfl rfl)
theorem dX1_layFree_5 : decode cX1_layFree 5 = .ok (.putfield 190, 3) := dk_181 0 190 (dk_at dksX1_layFree_0 5 rfl rfl)
theorem dX1_layFree_8 : decode cX1_layFree 8 = .ok (.iconst 0, 1) := dk_3 (dk_at dksX1_layFree_0 8 rfl rfl)
theorem dX1_layFree_9 : decode cX1_layFree 9 = .ok (.istore_n 3, 1) := dk_62 (dk_at dksX1_layFree_0 9 rfl rfl)
theorem dX1_layFree_10 : decode cX1_layFree 10 = .ok (.iload_n 3, 1) := dk_29 (dk_at dksX1_layFree_0 10 rfl rfl)
theorem dX1_layFree_11 : decode cX1_layFree 11 = .ok (.bipush 12, 2) := dk_16 12 (dk_at dksX1_layFree_0 11 rfl rfl)
theorem dX1_layFree_13 : decode cX1_layFree 13 = .ok (.if_icmp .ge 19, 3) := dk_162 0 19 (dk_at dksX1_layFree_0 13 rfl rfl)
theorem dX1_layFree_16 : decode cX1_layFree 16 = .ok (.aload_n 0, 1) := dk_42 (dk_at dksX1_layFree_0 16 rfl rfl)
theorem dX1_layFree_17 : decode cX1_layFree 17 = .ok (.getfield 107, 3) := dk_180 0 107 (dk_at dksX1_layFree_0 17 rfl rfl)
theorem dX1_layFree_20 : decode cX1_layFree 20 = .ok (.getfield 219, 3) := dk_180 0 219 (dk_at dksX1_layFree_0 20 rfl rfl)
theorem dX1_layFree_23 : decode cX1_layFree 23 = .ok (.iload_n 3, 1) := dk_29 (dk_at dksX1_layFree_0 23 rfl rfl)
theorem dX1_layFree_24 : decode cX1_layFree 24 = .ok (.iconst 0, 1) := dk_3 (dk_at dksX1_layFree_1 0 rfl rfl)
theorem dX1_layFree_25 : decode cX1_layFree 25 = .ok (.iastore, 1) := dk_79 (dk_at dksX1_layFree_1 1 rfl rfl)
theorem dX1_layFree_26 : decode cX1_layFree 26 = .ok (.iinc 3 1, 3) := dk_132 3 1 (dk_at dksX1_layFree_1 2 rfl rfl)
theorem dX1_layFree_29 : decode cX1_layFree 29 = .ok (.goto (-19), 3) := dk_167 255 237 (dk_at dksX1_layFree_1 5 rfl rfl)
theorem dX1_layFree_32 : decode cX1_layFree 32 = .ok (.aload_n 0, 1) := dk_42 (dk_at dksX1_layFree_1 8 rfl rfl)
theorem dX1_layFree_33 : decode cX1_layFree 33 = .ok (.aload_n 0, 1) := dk_42 (dk_at dksX1_layFree_1 9 rfl rfl)
theorem dX1_layFree_34 : decode cX1_layFree 34 = .ok (.getfield 107, 3) := dk_180 0 107 (dk_at dksX1_layFree_1 10 rfl rfl)
theorem dX1_layFree_37 : decode cX1_layFree 37 = .ok (.aload_n 0, 1) := dk_42 (dk_at dksX1_layFree_1 13 rfl rfl)
theorem dX1_layFree_38 : decode cX1_layFree 38 = .ok (.getfield 57, 3) := dk_180 0 57 (dk_at dksX1_layFree_1 14 rfl rfl)
theorem dX1_layFree_41 : decode cX1_layFree 41 = .ok (.iload_n 1, 1) := dk_27 (dk_at dksX1_layFree_1 17 rfl rfl)
theorem dX1_layFree_42 : decode cX1_layFree 42 = .ok (.aaload, 1) := dk_50 (dk_at dksX1_layFree_1 18 rfl rfl)
theorem dX1_layFree_43 : decode cX1_layFree 43 = .ok (.invokevirtual 363, 3) := dk_182 1 107 (dk_at dksX1_layFree_1 19 rfl rfl)
theorem dX1_layFree_46 : decode cX1_layFree 46 = .ok (.return_, 1) := dk_177 (dk_at dksX1_layFree_1 22 rfl rfl)
theorem gX1_layFree_0 {v1 : Int32} {v2 : Int32} {T : zT} {I : zI} {L : zL} {R : zR} {P : zP} (hx : zXok T R) (h : zAW mX1_layFree 7 0 10 [(0, .ref 1000), (1, .int v1), (3, .int (0 : Int32))] [] T (z2 I 1025 1 v2) L R P) : zAW mX1_layFree 7 0 0 [(0, .ref 1000), (1, .int v1), (2, .int v2)] [] T I L R P := by
  refine za_aload_n (pc' := 1) 0 dX1_layFree_0 rfl rfl rfl ?_
  refine za_get (fi := 24) (v := .ref 1025) (pc' := 4) dX1_layFree_1 zc0 (by decide) in_X1 (by decide) q514 (Or.inl rfl) (congrArg Prod.fst (zX_t1000 hx)) (congrArg Value.ref (zX_r1000_24 hx)) rfl ?_
  refine za_iload_n (pc' := 5) 2 dX1_layFree_4 rfl rfl rfl ?_
  refine za_putNI (fi := 1) (pc' := 8) dX1_layFree_5 zc10 (by decide) in_X11 zok10 znm10 (by decide) q408 (Or.inl rfl) rfl rfl (fun _ _ _ => rfl) rfl rfl (congrArg Prod.fst (zX_t1025 hx)) rfl ?_
  refine za_iconst (pc' := 9) dX1_layFree_8 zi_0 rfl ?_
  refine za_istore_n (pc' := 10) (l' := [(3, .int (0 : Int32)), (0, .ref 1000), (1, .int v1), (2, .int v2)]) dX1_layFree_9 rfl (Nat.le_of_ble_eq_true rfl) rfl rfl ?_
  exact zAW_sub [1, 2, 0] rfl h
theorem gX1_layFree_10 {v1 : Int32} {v3 : Int32} {T : zT} {I : zI} {L : zL} {R : zR} {P : zP} (hx : zXok T R) (h : (((12 : Int32) ≤ v3 → vp_in v1 4 ∧ zMet mX1_lay 6 0 [.ref 1000, .ref 1025, .ref (R 1010 (v1.toNatClampNeg))] T I L R (zqV_IR T L  (fun (I2 : zI) (R3 : zR)  => zXok T R3 ∧ P 0 (.int 0) T I2 L R3))) ∧ (¬ (12 : Int32) ≤ v3 → vp_in v3 12 ∧ zAW mX1_layFree 7 0 10 [(0, .ref 1000), (1, .int v1), (3, .int (v3 + (1 : Int32)))] [] T (z2 I 1052 (v3.toNatClampNeg) (0 : Int32)) L R P))) : zAW mX1_layFree 7 0 10 [(0, .ref 1000), (1, .int v1), (3, .int v3)] [] T I L R P := by
  refine za_iload_n (pc' := 11) 2 dX1_layFree_10 rfl rfl rfl ?_
  refine za_bipush (pc' := 13) dX1_layFree_11 zb8_12 rfl ?_
  refine za_icmp_ge (pc' := 16) (tgt := 32) dX1_layFree_13 (by decide) rfl (fun c9 => ?_) (fun c9 => ?_)
  · replace h := h.1 c9
    refine za_aload_n (pc' := 33) 0 dX1_layFree_32 rfl rfl rfl ?_
    refine za_aload_n (pc' := 34) 0 dX1_layFree_33 rfl rfl rfl ?_
    refine za_get (fi := 24) (v := .ref 1025) (pc' := 37) dX1_layFree_34 zc0 (by decide) in_X1 (by decide) q514 (Or.inl rfl) (congrArg Prod.fst (zX_t1000 hx)) (congrArg Value.ref (zX_r1000_24 hx)) rfl ?_
    refine za_aload_n (pc' := 38) 0 dX1_layFree_37 rfl rfl rfl ?_
    refine za_get (fi := 9) (v := .ref 1010) (pc' := 41) dX1_layFree_38 zc0 (by decide) in_X1 (by decide) q499 (Or.inl rfl) (congrArg Prod.fst (zX_t1000 hx)) (congrArg Value.ref (zX_r1000_9 hx)) rfl ?_
    refine za_iload_n (pc' := 42) 1 dX1_layFree_41 rfl rfl rfl ?_
    obtain ⟨hi1, h⟩ := h
    refine za_aald (r := (R 1010 (v1.toNatClampNeg))) (t := 8) (C := RX5) (pc' := 43) dX1_layFree_42 (by decide) (fun _ => rfl) (zX_t1010 hx) hi1 (rfl) rfl ?_
    refine za_callV (κ := 1000) (M2 := mX1_lay) (d2 := 6) (b2 := 0) (n := 2) (As := [.ref 1025, .ref (R 1010 (v1.toNatClampNeg))]) (st := []) (pc' := 46) zc0 (by decide) (congrArg Prod.fst (zX_t1000 hx)) dX1_layFree_43 rfl (lw_V q1203 q1205 qs40 q131 q1206) ⟨rfl, hd_X1_lay⟩ rfl (by decide) (by decide) (Nat.zero_le _) (Or.inl rfl) (Nat.le_of_ble_eq_true rfl) h (zqV_IR_k rfl (fun I2 R3 h => ?_)) (fun _ _ _ _ _ _ h9 h8 => absurd h8.1 h9) rfl
    obtain ⟨hx4, h⟩ := h
    exact za_return rfl dX1_layFree_46 h
  · replace h := h.2 c9
    refine za_aload_n (pc' := 17) 0 dX1_layFree_16 rfl rfl rfl ?_
    refine za_get (fi := 24) (v := .ref 1025) (pc' := 20) dX1_layFree_17 zc0 (by decide) in_X1 (by decide) q514 (Or.inl rfl) (congrArg Prod.fst (zX_t1000 hx)) (congrArg Value.ref (zX_r1000_24 hx)) rfl ?_
    refine za_getN (fi := 0) (v := .ref 1052) (pc' := 23) dX1_layFree_20 zc10 (by decide) in_X11 (by decide) q404 (Or.inl rfl) (congrArg Prod.fst (zX_t1025 hx)) (congrArg Value.ref (zX_r1025_0 hx)) rfl ?_
    refine za_iload_n (pc' := 24) 2 dX1_layFree_23 rfl rfl rfl ?_
    refine za_iconst (pc' := 25) dX1_layFree_24 zi_0 rfl ?_
    obtain ⟨hi5, h⟩ := h
    refine za_iast (k := v3.toNatClampNeg) (pc' := 26) dX1_layFree_25 (zX_t1052 hx) hi5 rfl rfl ?_
    refine za_iinc (pc' := 29) (l' := [(3, .int (v3 + (1 : Int32))), (0, .ref 1000), (1, .int v1)]) 2 dX1_layFree_26 rfl (zinc zi_1) (Nat.le_of_ble_eq_true rfl) rfl rfl ?_
    refine za_goto (tgt := 10) dX1_layFree_29 (by decide) ?_
    exact zAW_sub [1, 2, 0] rfl h
theorem sX1_layFree {d b : Nat} {v1 : Int32} {v2 : Int32} {T : zT} {I : zI} {L : zL} {R : zR} {P : zP} (h : zAW mX1_layFree d b 0 [(0, .ref 1000), (1, .int v1), (2, .int v2)] [] T I L R P) : zMet mX1_layFree d b [.ref 1000, .int v1, .int v2] T I L R P := zMet_of (by decide +kernel) rfl (Nat.le_of_ble_eq_true rfl) rfl h
/-! TwoTongues.lay (LTwoTongues$Row;LTwoTongues$Kind;)V -/
def dkwX1_lay_8 : List UInt8 := [132, 3, 255, 167, 255, 189, 177]
abbrev dktX1_lay_8 : List UInt8 := dkwX1_lay_8 ++ []
def dkwX1_lay_7 : List UInt8 := [21, 5, 43, 180, 0, 219, 29, 46, 182, 1, 69, 79, 132, 5, 1, 167, 255, 218, 132, 4, 1, 167, 255, 202]
abbrev dktX1_lay_7 : List UInt8 := dkwX1_lay_7 ++ dktX1_lay_8
def dkwX1_lay_6 : List UInt8 := [21, 5, 16, 61, 162, 0, 37, 42, 180, 0, 94, 29, 21, 4, 21, 5, 184, 1, 64, 42, 29, 21, 4]
abbrev dktX1_lay_6 : List UInt8 := dkwX1_lay_6 ++ dktX1_lay_7
def dkwX1_lay_5 : List UInt8 := [180, 1, 61, 4, 100, 62, 29, 155, 0, 69, 3, 54, 4, 21, 4, 16, 61, 162, 0, 53, 3, 54, 5]
abbrev dktX1_lay_5 : List UInt8 := dkwX1_lay_5 ++ dktX1_lay_6
def dkwX1_lay_4 : List UInt8 := [160, 0, 7, 3, 167, 0, 6, 19, 1, 68, 79, 132, 4, 1, 167, 255, 211, 132, 3, 1, 167, 255, 196, 42]
abbrev dktX1_lay_4 : List UInt8 := dkwX1_lay_4 ++ dktX1_lay_5
def dkwX1_lay_3 : List UInt8 := [42, 180, 0, 94, 42, 180, 1, 61, 29, 21, 4, 184, 1, 64, 29, 16, 60, 160, 0, 14, 21, 4, 16, 60]
abbrev dktX1_lay_3 : List UInt8 := dkwX1_lay_3 ++ dktX1_lay_4
def dkwX1_lay_2 : List UInt8 := [180, 0, 190, 181, 1, 61, 3, 62, 29, 16, 61, 162, 0, 60, 3, 54, 4, 21, 4, 16, 61, 162, 0, 44]
abbrev dktX1_lay_2 : List UInt8 := dkwX1_lay_2 ++ dktX1_lay_3
def dkwX1_lay_1 : List UInt8 := [182, 0, 252, 182, 1, 54, 132, 3, 1, 167, 255, 225, 42, 180, 0, 100, 43, 182, 1, 58, 42, 43]
abbrev dktX1_lay_1 : List UInt8 := dkwX1_lay_1 ++ dktX1_lay_2
def dkwX1_lay_0 : List UInt8 := [3, 62, 29, 5, 162, 0, 32, 42, 180, 0, 89, 29, 50, 42, 180, 0, 64, 180, 0, 161, 29, 50, 44, 29]
abbrev dktX1_lay_0 : List UInt8 := dkwX1_lay_0 ++ dktX1_lay_1
theorem dksX1_lay_0 : cX1_lay.data.toList.drop 0 = dktX1_lay_0 := by decide +kernel
theorem dksX1_lay_1 : cX1_lay.data.toList.drop 24 = dktX1_lay_1 := dk_seg dksX1_lay_0 24 rfl rfl
theorem dksX1_lay_2 : cX1_lay.data.toList.drop 46 = dktX1_lay_2 := dk_seg dksX1_lay_1 22 rfl rfl
theorem dksX1_lay_3 : cX1_lay.data.toList.drop 70 = dktX1_lay_3 := dk_seg dksX1_lay_2 24 rfl rfl
theorem dksX1_lay_4 : cX1_lay.data.toList.drop 94 = dktX1_lay_4 := dk_seg dksX1_lay_3 24 rfl rfl
theorem dksX1_lay_5 : cX1_lay.data.toList.drop 118 = dktX1_lay_5 := dk_seg dksX1_lay_4 24 rfl rfl
theorem dksX1_lay_6 : cX1_lay.data.toList.drop 141 = dktX1_lay_6 := dk_seg dksX1_lay_5 23 rfl rfl
theorem dksX1_lay_7 : cX1_lay.data.toList.drop 164 = dktX1_lay_7 := dk_seg dksX1_lay_6 23 rfl rfl
theorem dksX1_lay_8 : cX1_lay.data.toList.drop 188 = dktX1_lay_8 := dk_seg dksX1_lay_7 24 rfl rfl
theorem dX1_lay_0 : decode cX1_lay 0 = .ok (.iconst 0, 1) := dk_3 (dk_at dksX1_lay_0 0 rfl rfl)
theorem dX1_lay_1 : decode cX1_lay 1 = .ok (.istore_n 3, 1) := dk_62 (dk_at dksX1_lay_0 1 rfl rfl)
theorem dX1_lay_2 : decode cX1_lay 2 = .ok (.iload_n 3, 1) := dk_29 (dk_at dksX1_lay_0 2 rfl rfl)
theorem dX1_lay_3 : decode cX1_lay 3 = .ok (.iconst 2, 1) := dk_5 (dk_at dksX1_lay_0 3 rfl rfl)
theorem dX1_lay_4 : decode cX1_lay 4 = .ok (.if_icmp .ge 32, 3) := dk_162 0 32 (dk_at dksX1_lay_0 4 rfl rfl)
theorem dX1_lay_7 : decode cX1_lay 7 = .ok (.aload_n 0, 1) := dk_42 (dk_at dksX1_lay_0 7 rfl rfl)
theorem dX1_lay_8 : decode cX1_lay 8 = .ok (.getfield 89, 3) := dk_180 0 89 (dk_at dksX1_lay_0 8 rfl rfl)
theorem dX1_lay_11 : decode cX1_lay 11 = .ok (.iload_n 3, 1) := dk_29 (dk_at dksX1_lay_0 11 rfl rfl)
theorem dX1_lay_12 : decode cX1_lay 12 = .ok (.aaload, 1) := dk_50 (dk_at dksX1_lay_0 12 rfl rfl)
theorem dX1_lay_13 : decode cX1_lay 13 = .ok (.aload_n 0, 1) := dk_42 (dk_at dksX1_lay_0 13 rfl rfl)
theorem dX1_lay_14 : decode cX1_lay 14 = .ok (.getfield 64, 3) := dk_180 0 64 (dk_at dksX1_lay_0 14 rfl rfl)
theorem dX1_lay_17 : decode cX1_lay 17 = .ok (.getfield 161, 3) := dk_180 0 161 (dk_at dksX1_lay_0 17 rfl rfl)
theorem dX1_lay_20 : decode cX1_lay 20 = .ok (.iload_n 3, 1) := dk_29 (dk_at dksX1_lay_0 20 rfl rfl)
theorem dX1_lay_21 : decode cX1_lay 21 = .ok (.aaload, 1) := dk_50 (dk_at dksX1_lay_0 21 rfl rfl)
theorem dX1_lay_22 : decode cX1_lay 22 = .ok (.aload_n 2, 1) := dk_44 (dk_at dksX1_lay_0 22 rfl rfl)
theorem dX1_lay_23 : decode cX1_lay 23 = .ok (.iload_n 3, 1) := dk_29 (dk_at dksX1_lay_0 23 rfl rfl)
theorem dX1_lay_24 : decode cX1_lay 24 = .ok (.invokevirtual 252, 3) := dk_182 0 252 (dk_at dksX1_lay_1 0 rfl rfl)
theorem dX1_lay_27 : decode cX1_lay 27 = .ok (.invokevirtual 310, 3) := dk_182 1 54 (dk_at dksX1_lay_1 3 rfl rfl)
theorem dX1_lay_30 : decode cX1_lay 30 = .ok (.iinc 3 1, 3) := dk_132 3 1 (dk_at dksX1_lay_1 6 rfl rfl)
theorem dX1_lay_33 : decode cX1_lay 33 = .ok (.goto (-31), 3) := dk_167 255 225 (dk_at dksX1_lay_1 9 rfl rfl)
theorem dX1_lay_36 : decode cX1_lay 36 = .ok (.aload_n 0, 1) := dk_42 (dk_at dksX1_lay_1 12 rfl rfl)
theorem dX1_lay_37 : decode cX1_lay 37 = .ok (.getfield 100, 3) := dk_180 0 100 (dk_at dksX1_lay_1 13 rfl rfl)
theorem dX1_lay_40 : decode cX1_lay 40 = .ok (.aload_n 1, 1) := dk_43 (dk_at dksX1_lay_1 16 rfl rfl)
theorem dX1_lay_41 : decode cX1_lay 41 = .ok (.invokevirtual 314, 3) := dk_182 1 58 (dk_at dksX1_lay_1 17 rfl rfl)
theorem dX1_lay_44 : decode cX1_lay 44 = .ok (.aload_n 0, 1) := dk_42 (dk_at dksX1_lay_1 20 rfl rfl)
theorem dX1_lay_45 : decode cX1_lay 45 = .ok (.aload_n 1, 1) := dk_43 (dk_at dksX1_lay_1 21 rfl rfl)
theorem dX1_lay_46 : decode cX1_lay 46 = .ok (.getfield 190, 3) := dk_180 0 190 (dk_at dksX1_lay_2 0 rfl rfl)
theorem dX1_lay_49 : decode cX1_lay 49 = .ok (.putfield 317, 3) := dk_181 1 61 (dk_at dksX1_lay_2 3 rfl rfl)
theorem dX1_lay_52 : decode cX1_lay 52 = .ok (.iconst 0, 1) := dk_3 (dk_at dksX1_lay_2 6 rfl rfl)
theorem dX1_lay_53 : decode cX1_lay 53 = .ok (.istore_n 3, 1) := dk_62 (dk_at dksX1_lay_2 7 rfl rfl)
theorem dX1_lay_54 : decode cX1_lay 54 = .ok (.iload_n 3, 1) := dk_29 (dk_at dksX1_lay_2 8 rfl rfl)
theorem dX1_lay_55 : decode cX1_lay 55 = .ok (.bipush 61, 2) := dk_16 61 (dk_at dksX1_lay_2 9 rfl rfl)
theorem dX1_lay_57 : decode cX1_lay 57 = .ok (.if_icmp .ge 60, 3) := dk_162 0 60 (dk_at dksX1_lay_2 11 rfl rfl)
theorem dX1_lay_60 : decode cX1_lay 60 = .ok (.iconst 0, 1) := dk_3 (dk_at dksX1_lay_2 14 rfl rfl)
theorem dX1_lay_61 : decode cX1_lay 61 = .ok (.istore 4, 2) := dk_54 4 (dk_at dksX1_lay_2 15 rfl rfl)
theorem dX1_lay_63 : decode cX1_lay 63 = .ok (.iload 4, 2) := dk_21 4 (dk_at dksX1_lay_2 17 rfl rfl)
theorem dX1_lay_65 : decode cX1_lay 65 = .ok (.bipush 61, 2) := dk_16 61 (dk_at dksX1_lay_2 19 rfl rfl)
theorem dX1_lay_67 : decode cX1_lay 67 = .ok (.if_icmp .ge 44, 3) := dk_162 0 44 (dk_at dksX1_lay_2 21 rfl rfl)
theorem dX1_lay_70 : decode cX1_lay 70 = .ok (.aload_n 0, 1) := dk_42 (dk_at dksX1_lay_3 0 rfl rfl)
theorem dX1_lay_71 : decode cX1_lay 71 = .ok (.getfield 94, 3) := dk_180 0 94 (dk_at dksX1_lay_3 1 rfl rfl)
theorem dX1_lay_74 : decode cX1_lay 74 = .ok (.aload_n 0, 1) := dk_42 (dk_at dksX1_lay_3 4 rfl rfl)
theorem dX1_lay_75 : decode cX1_lay 75 = .ok (.getfield 317, 3) := dk_180 1 61 (dk_at dksX1_lay_3 5 rfl rfl)
theorem dX1_lay_78 : decode cX1_lay 78 = .ok (.iload_n 3, 1) := dk_29 (dk_at dksX1_lay_3 8 rfl rfl)
theorem dX1_lay_79 : decode cX1_lay 79 = .ok (.iload 4, 2) := dk_21 4 (dk_at dksX1_lay_3 9 rfl rfl)
theorem dX1_lay_81 : decode cX1_lay 81 = .ok (.invokestatic 320, 3) := dk_184 1 64 (dk_at dksX1_lay_3 11 rfl rfl)
theorem dX1_lay_84 : decode cX1_lay 84 = .ok (.iload_n 3, 1) := dk_29 (dk_at dksX1_lay_3 14 rfl rfl)
theorem dX1_lay_85 : decode cX1_lay 85 = .ok (.bipush 60, 2) := dk_16 60 (dk_at dksX1_lay_3 15 rfl rfl)
theorem dX1_lay_87 : decode cX1_lay 87 = .ok (.if_icmp .ne 14, 3) := dk_160 0 14 (dk_at dksX1_lay_3 17 rfl rfl)
theorem dX1_lay_90 : decode cX1_lay 90 = .ok (.iload 4, 2) := dk_21 4 (dk_at dksX1_lay_3 20 rfl rfl)
theorem dX1_lay_92 : decode cX1_lay 92 = .ok (.bipush 60, 2) := dk_16 60 (dk_at dksX1_lay_3 22 rfl rfl)
theorem dX1_lay_94 : decode cX1_lay 94 = .ok (.if_icmp .ne 7, 3) := dk_160 0 7 (dk_at dksX1_lay_4 0 rfl rfl)
theorem dX1_lay_97 : decode cX1_lay 97 = .ok (.iconst 0, 1) := dk_3 (dk_at dksX1_lay_4 3 rfl rfl)
theorem dX1_lay_98 : decode cX1_lay 98 = .ok (.goto 6, 3) := dk_167 0 6 (dk_at dksX1_lay_4 4 rfl rfl)
theorem dX1_lay_101 : decode cX1_lay 101 = .ok (.ldc_w 324, 3) := dk_19 1 68 (dk_at dksX1_lay_4 7 rfl rfl)
theorem dX1_lay_104 : decode cX1_lay 104 = .ok (.iastore, 1) := dk_79 (dk_at dksX1_lay_4 10 rfl rfl)
theorem dX1_lay_105 : decode cX1_lay 105 = .ok (.iinc 4 1, 3) := dk_132 4 1 (dk_at dksX1_lay_4 11 rfl rfl)
theorem dX1_lay_108 : decode cX1_lay 108 = .ok (.goto (-45), 3) := dk_167 255 211 (dk_at dksX1_lay_4 14 rfl rfl)
theorem dX1_lay_111 : decode cX1_lay 111 = .ok (.iinc 3 1, 3) := dk_132 3 1 (dk_at dksX1_lay_4 17 rfl rfl)
theorem dX1_lay_114 : decode cX1_lay 114 = .ok (.goto (-60), 3) := dk_167 255 196 (dk_at dksX1_lay_4 20 rfl rfl)
theorem dX1_lay_117 : decode cX1_lay 117 = .ok (.aload_n 0, 1) := dk_42 (dk_at dksX1_lay_4 23 rfl rfl)
theorem dX1_lay_118 : decode cX1_lay 118 = .ok (.getfield 317, 3) := dk_180 1 61 (dk_at dksX1_lay_5 0 rfl rfl)
theorem dX1_lay_121 : decode cX1_lay 121 = .ok (.iconst 1, 1) := dk_4 (dk_at dksX1_lay_5 3 rfl rfl)
theorem dX1_lay_122 : decode cX1_lay 122 = .ok (.isub, 1) := dk_100 (dk_at dksX1_lay_5 4 rfl rfl)
theorem dX1_lay_123 : decode cX1_lay 123 = .ok (.istore_n 3, 1) := dk_62 (dk_at dksX1_lay_5 5 rfl rfl)
theorem dX1_lay_124 : decode cX1_lay 124 = .ok (.iload_n 3, 1) := dk_29 (dk_at dksX1_lay_5 6 rfl rfl)
theorem dX1_lay_125 : decode cX1_lay 125 = .ok (.ifCond .lt 69, 3) := dk_155 0 69 (dk_at dksX1_lay_5 7 rfl rfl)
theorem dX1_lay_128 : decode cX1_lay 128 = .ok (.iconst 0, 1) := dk_3 (dk_at dksX1_lay_5 10 rfl rfl)
theorem dX1_lay_129 : decode cX1_lay 129 = .ok (.istore 4, 2) := dk_54 4 (dk_at dksX1_lay_5 11 rfl rfl)
theorem dX1_lay_131 : decode cX1_lay 131 = .ok (.iload 4, 2) := dk_21 4 (dk_at dksX1_lay_5 13 rfl rfl)
theorem dX1_lay_133 : decode cX1_lay 133 = .ok (.bipush 61, 2) := dk_16 61 (dk_at dksX1_lay_5 15 rfl rfl)
theorem dX1_lay_135 : decode cX1_lay 135 = .ok (.if_icmp .ge 53, 3) := dk_162 0 53 (dk_at dksX1_lay_5 17 rfl rfl)
theorem dX1_lay_138 : decode cX1_lay 138 = .ok (.iconst 0, 1) := dk_3 (dk_at dksX1_lay_5 20 rfl rfl)
theorem dX1_lay_139 : decode cX1_lay 139 = .ok (.istore 5, 2) := dk_54 5 (dk_at dksX1_lay_5 21 rfl rfl)
theorem dX1_lay_141 : decode cX1_lay 141 = .ok (.iload 5, 2) := dk_21 5 (dk_at dksX1_lay_6 0 rfl rfl)
theorem dX1_lay_143 : decode cX1_lay 143 = .ok (.bipush 61, 2) := dk_16 61 (dk_at dksX1_lay_6 2 rfl rfl)
theorem dX1_lay_145 : decode cX1_lay 145 = .ok (.if_icmp .ge 37, 3) := dk_162 0 37 (dk_at dksX1_lay_6 4 rfl rfl)
theorem dX1_lay_148 : decode cX1_lay 148 = .ok (.aload_n 0, 1) := dk_42 (dk_at dksX1_lay_6 7 rfl rfl)
theorem dX1_lay_149 : decode cX1_lay 149 = .ok (.getfield 94, 3) := dk_180 0 94 (dk_at dksX1_lay_6 8 rfl rfl)
theorem dX1_lay_152 : decode cX1_lay 152 = .ok (.iload_n 3, 1) := dk_29 (dk_at dksX1_lay_6 11 rfl rfl)
theorem dX1_lay_153 : decode cX1_lay 153 = .ok (.iload 4, 2) := dk_21 4 (dk_at dksX1_lay_6 12 rfl rfl)
theorem dX1_lay_155 : decode cX1_lay 155 = .ok (.iload 5, 2) := dk_21 5 (dk_at dksX1_lay_6 14 rfl rfl)
theorem dX1_lay_157 : decode cX1_lay 157 = .ok (.invokestatic 320, 3) := dk_184 1 64 (dk_at dksX1_lay_6 16 rfl rfl)
theorem dX1_lay_160 : decode cX1_lay 160 = .ok (.aload_n 0, 1) := dk_42 (dk_at dksX1_lay_6 19 rfl rfl)
theorem dX1_lay_161 : decode cX1_lay 161 = .ok (.iload_n 3, 1) := dk_29 (dk_at dksX1_lay_6 20 rfl rfl)
theorem dX1_lay_162 : decode cX1_lay 162 = .ok (.iload 4, 2) := dk_21 4 (dk_at dksX1_lay_6 21 rfl rfl)
theorem dX1_lay_164 : decode cX1_lay 164 = .ok (.iload 5, 2) := dk_21 5 (dk_at dksX1_lay_7 0 rfl rfl)
theorem dX1_lay_166 : decode cX1_lay 166 = .ok (.aload_n 1, 1) := dk_43 (dk_at dksX1_lay_7 2 rfl rfl)
theorem dX1_lay_167 : decode cX1_lay 167 = .ok (.getfield 219, 3) := dk_180 0 219 (dk_at dksX1_lay_7 3 rfl rfl)
theorem dX1_lay_170 : decode cX1_lay 170 = .ok (.iload_n 3, 1) := dk_29 (dk_at dksX1_lay_7 6 rfl rfl)
theorem dX1_lay_171 : decode cX1_lay 171 = .ok (.iaload, 1) := dk_46 (dk_at dksX1_lay_7 7 rfl rfl)
theorem dX1_lay_172 : decode cX1_lay 172 = .ok (.invokevirtual 325, 3) := dk_182 1 69 (dk_at dksX1_lay_7 8 rfl rfl)
theorem dX1_lay_175 : decode cX1_lay 175 = .ok (.iastore, 1) := dk_79 (dk_at dksX1_lay_7 11 rfl rfl)
theorem dX1_lay_176 : decode cX1_lay 176 = .ok (.iinc 5 1, 3) := dk_132 5 1 (dk_at dksX1_lay_7 12 rfl rfl)
theorem dX1_lay_179 : decode cX1_lay 179 = .ok (.goto (-38), 3) := dk_167 255 218 (dk_at dksX1_lay_7 15 rfl rfl)
theorem dX1_lay_182 : decode cX1_lay 182 = .ok (.iinc 4 1, 3) := dk_132 4 1 (dk_at dksX1_lay_7 18 rfl rfl)
theorem dX1_lay_185 : decode cX1_lay 185 = .ok (.goto (-54), 3) := dk_167 255 202 (dk_at dksX1_lay_7 21 rfl rfl)
theorem dX1_lay_188 : decode cX1_lay 188 = .ok (.iinc 3 (-1), 3) := dk_132 3 255 (dk_at dksX1_lay_8 0 rfl rfl)
theorem dX1_lay_191 : decode cX1_lay 191 = .ok (.goto (-67), 3) := dk_167 255 189 (dk_at dksX1_lay_8 3 rfl rfl)
theorem dX1_lay_194 : decode cX1_lay 194 = .ok (.return_, 1) := dk_177 (dk_at dksX1_lay_8 6 rfl rfl)
theorem gX1_lay_0 {v1 : Nat} {v2 : Nat} {T : zT} {I : zI} {L : zL} {R : zR} {P : zP} (hx : zXok T R) (h : zAW mX1_lay 6 0 2 [(0, .ref 1000), (1, .ref v1), (2, .ref v2), (3, .int (0 : Int32))] [] T I L R P) : zAW mX1_lay 6 0 0 [(0, .ref 1000), (1, .ref v1), (2, .ref v2)] [] T I L R P := by
  refine za_iconst (pc' := 1) dX1_lay_0 zi_0 rfl ?_
  refine za_istore_n (pc' := 2) (l' := [(3, .int (0 : Int32)), (0, .ref 1000), (1, .ref v1), (2, .ref v2)]) dX1_lay_1 rfl (Nat.le_of_ble_eq_true rfl) rfl rfl ?_
  exact zAW_sub [1, 2, 3, 0] rfl h
theorem gX1_lay_2 {v1 : Nat} {v2 : Nat} {v3 : Int32} {T : zT} {I : zI} {L : zL} {R : zR} {P : zP} (hx : zXok T R) (h : (((2 : Int32) ≤ v3 → zMet mX11_become 1 0 [.ref 1020, .ref v1] T I L R (zqV_I T L R  (fun (I1 : zI)  => (T v1).1 = 11 ∧ zAW mX1_lay 6 0 54 [(0, .ref 1000), (1, .ref v1), (3, .int (0 : Int32))] [] T (z2 I1 1000 20 (I1 v1 1)) L R P))) ∧ (¬ (2 : Int32) ≤ v3 → vp_in v3 2 ∧ ((((T v2).1 = 6 ∧ zMet mX6_isFromRight 1 0 [.ref v2, .int v3] T I L R (zqI_ T I L R  (fun (r4 : Int32)  => zAW mX1_lay 6 0 27 [(0, .ref 1000), (1, .ref v1), (2, .ref v2), (3, .int v3)] [.int r4, .ref (R 1201 (v3.toNatClampNeg)), .ref (R 1018 (v3.toNatClampNeg))] T I L R P)))) ∨ (((T v2).1 = 7 ∧ zMet mX7_isFromRight 1 0 [.ref v2, .int v3] T I L R (zqI_ T I L R  (fun (r5 : Int32)  => zAW mX1_lay 6 0 27 [(0, .ref 1000), (1, .ref v1), (2, .ref v2), (3, .int v3)] [.int r5, .ref (R 1201 (v3.toNatClampNeg)), .ref (R 1018 (v3.toNatClampNeg))] T I L R P)))) ∨ (((T v2).1 = 8 ∧ zMet mX8_isFromRight 1 0 [.ref v2, .int v3] T I L R (zqI_ T I L R  (fun (r6 : Int32)  => zAW mX1_lay 6 0 27 [(0, .ref 1000), (1, .ref v1), (2, .ref v2), (3, .int v3)] [.int r6, .ref (R 1201 (v3.toNatClampNeg)), .ref (R 1018 (v3.toNatClampNeg))] T I L R P)))) ∨ (((T v2).1 = 9 ∧ zMet mX9_isFromRight 2 0 [.ref v2, .int v3] T I L R (zqI_ T I L R  (fun (r7 : Int32)  => zAW mX1_lay 6 0 27 [(0, .ref 1000), (1, .ref v1), (2, .ref v2), (3, .int v3)] [.int r7, .ref (R 1201 (v3.toNatClampNeg)), .ref (R 1018 (v3.toNatClampNeg))] T I L R P)))))))) : zAW mX1_lay 6 0 2 [(0, .ref 1000), (1, .ref v1), (2, .ref v2), (3, .int v3)] [] T I L R P := by
  refine za_iload_n (pc' := 3) 3 dX1_lay_2 rfl rfl rfl ?_
  refine za_iconst (pc' := 4) dX1_lay_3 zi_2 rfl ?_
  refine za_icmp_ge (pc' := 7) (tgt := 36) dX1_lay_4 (by decide) rfl (fun c9 => ?_) (fun c9 => ?_)
  · replace h := h.1 c9
    refine za_aload_n (pc' := 37) 0 dX1_lay_36 rfl rfl rfl ?_
    refine za_get (fi := 19) (v := .ref 1020) (pc' := 40) dX1_lay_37 zc0 (by decide) in_X1 (by decide) q509 (Or.inl rfl) (congrArg Prod.fst (zX_t1000 hx)) (congrArg Value.ref (zX_r1000_19 hx)) rfl ?_
    refine za_aload_n (pc' := 41) 1 dX1_lay_40 rfl rfl rfl ?_
    refine za_callV (κ := 1020) (M2 := mX11_become) (d2 := 1) (b2 := 0) (n := 1) (As := [.ref v1]) (st := []) (pc' := 44) zc10 (by decide) (congrArg Prod.fst (zX_t1020 hx)) dX1_lay_41 rfl (lw_V q1211 q485 q486 q144 q487) ⟨rfl, hd_X11_become⟩ rfl (by decide) (by decide) (Nat.zero_le _) (Or.inl rfl) (Nat.le_of_ble_eq_true rfl) h (zqV_I_k rfl (fun I1 h => ?_)) (fun _ _ _ _ _ _ h9 h8 => absurd h8.1 h9) rfl
    refine za_aload_n (pc' := 45) 0 dX1_lay_44 rfl rfl rfl ?_
    refine za_aload_n (pc' := 46) 1 dX1_lay_45 rfl rfl rfl ?_
    obtain ⟨ht2, h⟩ := h
    refine za_getN (fi := 1) (v := .int (I1 v1 1)) (pc' := 49) dX1_lay_46 zc10 (by decide) in_X11 (by decide) q408 (Or.inl rfl) ht2 rfl rfl ?_
    refine za_putI (fi := 20) (pc' := 52) dX1_lay_49 zc0 (by decide) in_X1 zok0 znm0 (by decide) q510 (Or.inl rfl) rfl rfl (fun _ _ _ => rfl) rfl rfl (congrArg Prod.fst (zX_t1000 hx)) rfl ?_
    refine za_iconst (pc' := 53) dX1_lay_52 zi_0 rfl ?_
    refine za_istore_n (pc' := 54) (l' := [(3, .int (0 : Int32)), (0, .ref 1000), (1, .ref v1), (2, .ref v2)]) dX1_lay_53 rfl (Nat.le_of_ble_eq_true rfl) rfl rfl ?_
    exact zAW_sub [1, 2, 0] rfl h
  · replace h := h.2 c9
    refine za_aload_n (pc' := 8) 0 dX1_lay_7 rfl rfl rfl ?_
    refine za_get (fi := 17) (v := .ref 1018) (pc' := 11) dX1_lay_8 zc0 (by decide) in_X1 (by decide) q507 (Or.inl rfl) (congrArg Prod.fst (zX_t1000 hx)) (congrArg Value.ref (zX_r1000_17 hx)) rfl ?_
    refine za_iload_n (pc' := 12) 3 dX1_lay_11 rfl rfl rfl ?_
    obtain ⟨hi3, h⟩ := h
    refine za_aald (r := (R 1018 (v3.toNatClampNeg))) (t := 7) (C := RX12) (pc' := 13) dX1_lay_12 (by decide) (fun _ => rfl) (zX_t1018 hx) hi3 (rfl) rfl ?_
    refine za_aload_n (pc' := 14) 0 dX1_lay_13 rfl rfl rfl ?_
    refine za_get (fi := 10) (v := .ref 1200) (pc' := 17) dX1_lay_14 zc0 (by decide) in_X1 (by decide) q500 (Or.inl rfl) (congrArg Prod.fst (zX_t1000 hx)) (congrArg Value.ref (zX_r1000_10 hx)) rfl ?_
    refine za_getN (fi := 0) (v := .ref 1201) (pc' := 20) dX1_lay_17 zc9 (by decide) in_X10 (by decide) q416 (Or.inl rfl) (congrArg Prod.fst (zX_t1200 hx)) (congrArg Value.ref (zX_r1200_0 hx)) rfl ?_
    refine za_iload_n (pc' := 21) 3 dX1_lay_20 rfl rfl rfl ?_
    refine za_aald (r := (R 1201 (v3.toNatClampNeg))) (t := 4) (C := RX4) (pc' := 22) dX1_lay_21 (by decide) (fun _ => rfl) (zX_t1201 hx) hi3 (rfl) rfl ?_
    refine za_aload_n (pc' := 23) 2 dX1_lay_22 rfl rfl rfl ?_
    refine za_iload_n (pc' := 24) 3 dX1_lay_23 rfl rfl rfl ?_
    rcases h with h | h | h | h
    · obtain ⟨h0, h⟩ := h
      exact za_callU (κ := v2) (owner := "TwoTongues$Kind") (x9 := ⟨"TwoTongues$Kind", "isFromRight", "(I)Z"⟩) (M2 := mX6_isFromRight) (d2 := 1) (b2 := 0) (n := 1) (As := [.int v3]) (st := [.ref (R 1201 (v3.toNatClampNeg)), .ref (R 1018 (v3.toNatClampNeg))]) (pc' := 27) zc5 (by decide) h0 dX1_lay_24 rfl (lw_U q1093 q1095 q1105 q1106 q139 q1107) q1094 hdx_kind rfl (by decide) (by decide) (Nat.zero_le _) (Or.inl rfl) (Nat.le_of_ble_eq_true rfl) h (zqI__k rfl (fun r4 h => zAW_sub [0, 1, 2, 3] rfl h)) (fun _ _ _ _ _ _ h9 h8 => absurd h8.1 h9) rfl
    · obtain ⟨h0, h⟩ := h
      exact za_callU (κ := v2) (owner := "TwoTongues$Kind") (x9 := ⟨"TwoTongues$Kind", "isFromRight", "(I)Z"⟩) (M2 := mX7_isFromRight) (d2 := 1) (b2 := 0) (n := 1) (As := [.int v3]) (st := [.ref (R 1201 (v3.toNatClampNeg)), .ref (R 1018 (v3.toNatClampNeg))]) (pc' := 27) zc6 (by decide) h0 dX1_lay_24 rfl (lw_U q1093 q1095 q1102 q1103 q140 q1104) q1094 hdx_kind rfl (by decide) (by decide) (Nat.zero_le _) (Or.inl rfl) (Nat.le_of_ble_eq_true rfl) h (zqI__k rfl (fun r5 h => zAW_sub [0, 1, 2, 3] rfl h)) (fun _ _ _ _ _ _ h9 h8 => absurd h8.1 h9) rfl
    · obtain ⟨h0, h⟩ := h
      exact za_callU (κ := v2) (owner := "TwoTongues$Kind") (x9 := ⟨"TwoTongues$Kind", "isFromRight", "(I)Z"⟩) (M2 := mX8_isFromRight) (d2 := 1) (b2 := 0) (n := 1) (As := [.int v3]) (st := [.ref (R 1201 (v3.toNatClampNeg)), .ref (R 1018 (v3.toNatClampNeg))]) (pc' := 27) zc7 (by decide) h0 dX1_lay_24 rfl (lw_U q1093 q1095 q1108 q1100 q141 q1101) q1094 hdx_kind rfl (by decide) (by decide) (Nat.zero_le _) (Or.inl rfl) (Nat.le_of_ble_eq_true rfl) h (zqI__k rfl (fun r6 h => zAW_sub [0, 1, 2, 3] rfl h)) (fun _ _ _ _ _ _ h9 h8 => absurd h8.1 h9) rfl
    · obtain ⟨h0, h⟩ := h
      exact za_callU (κ := v2) (owner := "TwoTongues$Kind") (x9 := ⟨"TwoTongues$Kind", "isFromRight", "(I)Z"⟩) (M2 := mX9_isFromRight) (d2 := 2) (b2 := 0) (n := 1) (As := [.int v3]) (st := [.ref (R 1201 (v3.toNatClampNeg)), .ref (R 1018 (v3.toNatClampNeg))]) (pc' := 27) zc8 (by decide) h0 dX1_lay_24 rfl (lw_U q1093 q1095 q1096 q1097 q142 q1098) q1094 hdx_kind rfl (by decide) (by decide) (Nat.zero_le _) (Or.inl rfl) (Nat.le_of_ble_eq_true rfl) h (zqI__k rfl (fun r7 h => zAW_sub [0, 1, 2, 3] rfl h)) (fun _ _ _ _ _ _ h9 h8 => absurd h8.1 h9) rfl
theorem gX1_lay_27 {v1 : Nat} {v2 : Nat} {v3 : Int32} {s0 : Int32} {s1 : Nat} {s2 : Nat} {T : zT} {I : zI} {L : zL} {R : zR} {P : zP} (hx : zXok T R) (h : (T s2).1 = 12 ∧ zMet mX12_lay 1 0 [.ref s2, .ref s1, .int s0] T I L R (zqV_IR T L  (fun (I8 : zI) (R9 : zR)  => zXok T R9 ∧ zAW mX1_lay 6 0 2 [(0, .ref 1000), (1, .ref v1), (2, .ref v2), (3, .int (v3 + (1 : Int32)))] [] T I8 L R9 P))) : zAW mX1_lay 6 0 27 [(0, .ref 1000), (1, .ref v1), (2, .ref v2), (3, .int v3)] [.int s0, .ref s1, .ref s2] T I L R P := by
  obtain ⟨ht11, h⟩ := h
  refine za_callV (κ := s2) (M2 := mX12_lay) (d2 := 1) (b2 := 0) (n := 2) (As := [.ref s1, .int s0]) (st := []) (pc' := 30) zc11 (by decide) ht11 dX1_lay_27 rfl (lw_V q1207 q1208 q1209 q145 q1210) ⟨rfl, hd_X12_lay⟩ rfl (by decide) (by decide) (Nat.zero_le _) (Or.inl rfl) (Nat.le_of_ble_eq_true rfl) h (zqV_IR_k rfl (fun I8 R9 h => ?_)) (fun _ _ _ _ _ _ h9 h8 => absurd h8.1 h9) rfl
  obtain ⟨hx10, h⟩ := h
  refine za_iinc (pc' := 33) (l' := [(3, .int (v3 + (1 : Int32))), (0, .ref 1000), (1, .ref v1), (2, .ref v2)]) 3 dX1_lay_30 rfl (zinc zi_1) (Nat.le_of_ble_eq_true rfl) rfl rfl ?_
  refine za_goto (tgt := 2) dX1_lay_33 (by decide) ?_
  exact zAW_sub [1, 2, 3, 0] rfl h
theorem gX1_lay_54 {v1 : Nat} {v3 : Int32} {T : zT} {I : zI} {L : zL} {R : zR} {P : zP} (hx : zXok T R) (h : (((61 : Int32) ≤ v3 → zAW mX1_lay 6 0 124 [(0, .ref 1000), (1, .ref v1), (3, .int ((I 1000 20) - (1 : Int32)))] [] T I L R P) ∧ (¬ (61 : Int32) ≤ v3 → zAW mX1_lay 6 0 63 [(0, .ref 1000), (1, .ref v1), (3, .int v3), (4, .int (0 : Int32))] [] T I L R P))) : zAW mX1_lay 6 0 54 [(0, .ref 1000), (1, .ref v1), (3, .int v3)] [] T I L R P := by
  refine za_iload_n (pc' := 55) 2 dX1_lay_54 rfl rfl rfl ?_
  refine za_bipush (pc' := 57) dX1_lay_55 zb8_61 rfl ?_
  refine za_icmp_ge (pc' := 60) (tgt := 117) dX1_lay_57 (by decide) rfl (fun c9 => ?_) (fun c9 => ?_)
  · replace h := h.1 c9
    refine za_aload_n (pc' := 118) 0 dX1_lay_117 rfl rfl rfl ?_
    refine za_get (fi := 20) (v := .int (I 1000 20)) (pc' := 121) dX1_lay_118 zc0 (by decide) in_X1 (by decide) q510 (Or.inl rfl) (congrArg Prod.fst (zX_t1000 hx)) rfl rfl ?_
    refine za_iconst (pc' := 122) dX1_lay_121 zi_1 rfl ?_
    refine za_isub (pc' := 123) dX1_lay_122 rfl ?_
    refine za_istore_n (pc' := 124) (l' := [(3, .int ((I 1000 20) - (1 : Int32))), (0, .ref 1000), (1, .ref v1)]) dX1_lay_123 rfl (Nat.le_of_ble_eq_true rfl) rfl rfl ?_
    exact zAW_sub [1, 2, 0] rfl h
  · replace h := h.2 c9
    refine za_iconst (pc' := 61) dX1_lay_60 zi_0 rfl ?_
    refine za_istore (pc' := 63) (l' := [(4, .int (0 : Int32)), (0, .ref 1000), (1, .ref v1), (3, .int v3)]) dX1_lay_61 (Nat.le_of_ble_eq_true rfl) rfl rfl ?_
    exact zAW_sub [1, 2, 3, 0] rfl h
theorem gX1_lay_63 {v1 : Nat} {v3 : Int32} {v4 : Int32} {T : zT} {I : zI} {L : zL} {R : zR} {P : zP} (hx : zXok T R) (h : (((61 : Int32) ≤ v4 → zAW mX1_lay 6 0 54 [(0, .ref 1000), (1, .ref v1), (3, .int (v3 + (1 : Int32)))] [] T I L R P) ∧ (¬ (61 : Int32) ≤ v4 → zMet mX1_at 1 0 [.int (I 1000 20), .int v3, .int v4] T I L R (zqI_ T I L R  (fun (r12 : Int32)  => ((v3 = (60 : Int32) → ((v4 = (60 : Int32) → vp_in r12 48373 ∧ zAW mX1_lay 6 0 63 [(0, .ref 1000), (1, .ref v1), (3, .int v3), (4, .int (v4 + (1 : Int32)))] [] T (z2 I 1019 (r12.toNatClampNeg) (0 : Int32)) L R P) ∧ (¬ v4 = (60 : Int32) → vp_in r12 48373 ∧ zAW mX1_lay 6 0 63 [(0, .ref 1000), (1, .ref v1), (3, .int v3), (4, .int (v4 + (1 : Int32)))] [] T (z2 I 1019 (r12.toNatClampNeg) (1000000 : Int32)) L R P))) ∧ (¬ v3 = (60 : Int32) → vp_in r12 48373 ∧ zAW mX1_lay 6 0 63 [(0, .ref 1000), (1, .ref v1), (3, .int v3), (4, .int (v4 + (1 : Int32)))] [] T (z2 I 1019 (r12.toNatClampNeg) (1000000 : Int32)) L R P))))))) : zAW mX1_lay 6 0 63 [(0, .ref 1000), (1, .ref v1), (3, .int v3), (4, .int v4)] [] T I L R P := by
  refine za_iload (pc' := 65) 3 dX1_lay_63 rfl rfl ?_
  refine za_bipush (pc' := 67) dX1_lay_65 zb8_61 rfl ?_
  refine za_icmp_ge (pc' := 70) (tgt := 111) dX1_lay_67 (by decide) rfl (fun c9 => ?_) (fun c9 => ?_)
  · replace h := h.1 c9
    refine za_iinc (pc' := 114) (l' := [(3, .int (v3 + (1 : Int32))), (0, .ref 1000), (1, .ref v1), (4, .int v4)]) 2 dX1_lay_111 rfl (zinc zi_1) (Nat.le_of_ble_eq_true rfl) rfl rfl ?_
    refine za_goto (tgt := 54) dX1_lay_114 (by decide) ?_
    exact zAW_sub [1, 2, 0] rfl h
  · replace h := h.2 c9
    refine za_aload_n (pc' := 71) 0 dX1_lay_70 rfl rfl rfl ?_
    refine za_get (fi := 18) (v := .ref 1019) (pc' := 74) dX1_lay_71 zc0 (by decide) in_X1 (by decide) q508 (Or.inl rfl) (congrArg Prod.fst (zX_t1000 hx)) (congrArg Value.ref (zX_r1000_18 hx)) rfl ?_
    refine za_aload_n (pc' := 75) 0 dX1_lay_74 rfl rfl rfl ?_
    refine za_get (fi := 20) (v := .int (I 1000 20)) (pc' := 78) dX1_lay_75 zc0 (by decide) in_X1 (by decide) q510 (Or.inl rfl) (congrArg Prod.fst (zX_t1000 hx)) rfl rfl ?_
    refine za_iload_n (pc' := 79) 2 dX1_lay_78 rfl rfl rfl ?_
    refine za_iload (pc' := 81) 3 dX1_lay_79 rfl rfl ?_
    refine za_callS (M2 := mX1_at) (d2 := 1) (b2 := 0) (n := 3) (As := [.int (I 1000 20), .int v3, .int v4]) (st := [.ref 1019]) (pc' := 84) dX1_lay_81 rfl (lw_S q1212 q1213 q131 q1214) hd_X1_at rfl (by decide) (by decide) (Nat.zero_le _) (Or.inl rfl) (Nat.le_of_ble_eq_true rfl) h (zqI__k rfl (fun r12 h => ?_)) (fun _ _ _ _ _ _ h9 h8 => absurd h8.1 h9) rfl
    refine za_iload_n (pc' := 85) 2 dX1_lay_84 rfl rfl rfl ?_
    refine za_bipush (pc' := 87) dX1_lay_85 zb8_60 rfl ?_
    refine za_icmp_ne (pc' := 90) (tgt := 101) dX1_lay_87 (by decide) rfl (fun c9 => ?_) (fun c9 => ?_)
    · replace h := h.2 c9
      refine za_ldc_w (pc' := 104) (v := (1000000 : Int32)) (own := "") dX1_lay_101 q1215 rfl ?_
      obtain ⟨hi13, h⟩ := h
      refine za_iast (k := r12.toNatClampNeg) (pc' := 105) dX1_lay_104 (zX_t1019 hx) hi13 rfl rfl ?_
      refine za_iinc (pc' := 108) (l' := [(4, .int (v4 + (1 : Int32))), (0, .ref 1000), (1, .ref v1), (3, .int v3)]) 3 dX1_lay_105 rfl (zinc zi_1) (Nat.le_of_ble_eq_true rfl) rfl rfl ?_
      refine za_goto (tgt := 63) dX1_lay_108 (by decide) ?_
      exact zAW_sub [1, 2, 3, 0] rfl h
    · replace h := h.1 c9
      refine za_iload (pc' := 92) 3 dX1_lay_90 rfl rfl ?_
      refine za_bipush (pc' := 94) dX1_lay_92 zb8_60 rfl ?_
      refine za_icmp_ne (pc' := 97) (tgt := 101) dX1_lay_94 (by decide) rfl (fun c9 => ?_) (fun c9 => ?_)
      · replace h := h.2 c9
        refine za_ldc_w (pc' := 104) (v := (1000000 : Int32)) (own := "") dX1_lay_101 q1215 rfl ?_
        obtain ⟨hi14, h⟩ := h
        refine za_iast (k := r12.toNatClampNeg) (pc' := 105) dX1_lay_104 (zX_t1019 hx) hi14 rfl rfl ?_
        refine za_iinc (pc' := 108) (l' := [(4, .int (v4 + (1 : Int32))), (0, .ref 1000), (1, .ref v1), (3, .int v3)]) 3 dX1_lay_105 rfl (zinc zi_1) (Nat.le_of_ble_eq_true rfl) rfl rfl ?_
        refine za_goto (tgt := 63) dX1_lay_108 (by decide) ?_
        exact zAW_sub [1, 2, 3, 0] rfl h
      · replace h := h.1 c9
        refine za_iconst (pc' := 98) dX1_lay_97 zi_0 rfl ?_
        refine za_goto (tgt := 104) dX1_lay_98 (by decide) ?_
        obtain ⟨hi15, h⟩ := h
        refine za_iast (k := r12.toNatClampNeg) (pc' := 105) dX1_lay_104 (zX_t1019 hx) hi15 rfl rfl ?_
        refine za_iinc (pc' := 108) (l' := [(4, .int (v4 + (1 : Int32))), (0, .ref 1000), (1, .ref v1), (3, .int v3)]) 3 dX1_lay_105 rfl (zinc zi_1) (Nat.le_of_ble_eq_true rfl) rfl rfl ?_
        refine za_goto (tgt := 63) dX1_lay_108 (by decide) ?_
        exact zAW_sub [1, 2, 3, 0] rfl h
theorem gX1_lay_124 {v1 : Nat} {v3 : Int32} {T : zT} {I : zI} {L : zL} {R : zR} {P : zP} (hx : zXok T R) (h : ((v3 < 0 → P 0 (.int 0) T I L R) ∧ (¬ v3 < 0 → zAW mX1_lay 6 0 131 [(0, .ref 1000), (1, .ref v1), (3, .int v3), (4, .int (0 : Int32))] [] T I L R P))) : zAW mX1_lay 6 0 124 [(0, .ref 1000), (1, .ref v1), (3, .int v3)] [] T I L R P := by
  refine za_iload_n (pc' := 125) 2 dX1_lay_124 rfl rfl rfl ?_
  refine za_if_lt (pc' := 128) (tgt := 194) dX1_lay_125 (by decide) rfl (fun c9 => ?_) (fun c9 => ?_)
  · replace h := h.1 c9
    exact za_return rfl dX1_lay_194 h
  · replace h := h.2 c9
    refine za_iconst (pc' := 129) dX1_lay_128 zi_0 rfl ?_
    refine za_istore (pc' := 131) (l' := [(4, .int (0 : Int32)), (0, .ref 1000), (1, .ref v1), (3, .int v3)]) dX1_lay_129 (Nat.le_of_ble_eq_true rfl) rfl rfl ?_
    exact zAW_sub [1, 2, 3, 0] rfl h
theorem gX1_lay_131 {v1 : Nat} {v3 : Int32} {v4 : Int32} {T : zT} {I : zI} {L : zL} {R : zR} {P : zP} (hx : zXok T R) (h : (((61 : Int32) ≤ v4 → zAW mX1_lay 6 0 124 [(0, .ref 1000), (1, .ref v1), (3, .int (v3 + (-1 : Int32)))] [] T I L R P) ∧ (¬ (61 : Int32) ≤ v4 → zAW mX1_lay 6 0 141 [(0, .ref 1000), (1, .ref v1), (3, .int v3), (4, .int v4), (5, .int (0 : Int32))] [] T I L R P))) : zAW mX1_lay 6 0 131 [(0, .ref 1000), (1, .ref v1), (3, .int v3), (4, .int v4)] [] T I L R P := by
  refine za_iload (pc' := 133) 3 dX1_lay_131 rfl rfl ?_
  refine za_bipush (pc' := 135) dX1_lay_133 zb8_61 rfl ?_
  refine za_icmp_ge (pc' := 138) (tgt := 188) dX1_lay_135 (by decide) rfl (fun c9 => ?_) (fun c9 => ?_)
  · replace h := h.1 c9
    refine za_iinc (pc' := 191) (l' := [(3, .int (v3 + (-1 : Int32))), (0, .ref 1000), (1, .ref v1), (4, .int v4)]) 2 dX1_lay_188 rfl (zinc zi_m1) (Nat.le_of_ble_eq_true rfl) rfl rfl ?_
    refine za_goto (tgt := 124) dX1_lay_191 (by decide) ?_
    exact zAW_sub [1, 2, 0] rfl h
  · replace h := h.2 c9
    refine za_iconst (pc' := 139) dX1_lay_138 zi_0 rfl ?_
    refine za_istore (pc' := 141) (l' := [(5, .int (0 : Int32)), (0, .ref 1000), (1, .ref v1), (3, .int v3), (4, .int v4)]) dX1_lay_139 (Nat.le_of_ble_eq_true rfl) rfl rfl ?_
    exact zAW_sub [1, 2, 3, 4, 0] rfl h
theorem gX1_lay_141 {v1 : Nat} {v3 : Int32} {v4 : Int32} {v5 : Int32} {T : zT} {I : zI} {L : zL} {R : zR} {P : zP} (hx : zXok T R) (h : (((61 : Int32) ≤ v5 → zAW mX1_lay 6 0 131 [(0, .ref 1000), (1, .ref v1), (3, .int v3), (4, .int (v4 + (1 : Int32)))] [] T I L R P) ∧ (¬ (61 : Int32) ≤ v5 → zMet mX1_at 1 0 [.int v3, .int v4, .int v5] T I L R (zqI_ T I L R  (fun (r16 : Int32)  => (T v1).1 = 11 ∧ (T (R v1 0)).1 = 100 ∧ vp_in v3 ((T (R v1 0)).2) ∧ zMet mX1_least 5 0 [.ref 1000, .int v3, .int v4, .int v5, .int (I (R v1 0) (v3.toNatClampNeg))] T I L R (zqI_ T I L R  (fun (r20 : Int32)  => vp_in r16 48373 ∧ zAW mX1_lay 6 0 141 [(0, .ref 1000), (1, .ref v1), (3, .int v3), (4, .int v4), (5, .int (v5 + (1 : Int32)))] [] T (z2 I 1019 (r16.toNatClampNeg) r20) L R P))))))) : zAW mX1_lay 6 0 141 [(0, .ref 1000), (1, .ref v1), (3, .int v3), (4, .int v4), (5, .int v5)] [] T I L R P := by
  refine za_iload (pc' := 143) 4 dX1_lay_141 rfl rfl ?_
  refine za_bipush (pc' := 145) dX1_lay_143 zb8_61 rfl ?_
  refine za_icmp_ge (pc' := 148) (tgt := 182) dX1_lay_145 (by decide) rfl (fun c9 => ?_) (fun c9 => ?_)
  · replace h := h.1 c9
    refine za_iinc (pc' := 185) (l' := [(4, .int (v4 + (1 : Int32))), (0, .ref 1000), (1, .ref v1), (3, .int v3), (5, .int v5)]) 3 dX1_lay_182 rfl (zinc zi_1) (Nat.le_of_ble_eq_true rfl) rfl rfl ?_
    refine za_goto (tgt := 131) dX1_lay_185 (by decide) ?_
    exact zAW_sub [1, 2, 3, 0] rfl h
  · replace h := h.2 c9
    refine za_aload_n (pc' := 149) 0 dX1_lay_148 rfl rfl rfl ?_
    refine za_get (fi := 18) (v := .ref 1019) (pc' := 152) dX1_lay_149 zc0 (by decide) in_X1 (by decide) q508 (Or.inl rfl) (congrArg Prod.fst (zX_t1000 hx)) (congrArg Value.ref (zX_r1000_18 hx)) rfl ?_
    refine za_iload_n (pc' := 153) 2 dX1_lay_152 rfl rfl rfl ?_
    refine za_iload (pc' := 155) 3 dX1_lay_153 rfl rfl ?_
    refine za_iload (pc' := 157) 4 dX1_lay_155 rfl rfl ?_
    refine za_callS (M2 := mX1_at) (d2 := 1) (b2 := 0) (n := 3) (As := [.int v3, .int v4, .int v5]) (st := [.ref 1019]) (pc' := 160) dX1_lay_157 rfl (lw_S q1212 q1213 q131 q1214) hd_X1_at rfl (by decide) (by decide) (Nat.zero_le _) (Or.inl rfl) (Nat.le_of_ble_eq_true rfl) h (zqI__k rfl (fun r16 h => ?_)) (fun _ _ _ _ _ _ h9 h8 => absurd h8.1 h9) rfl
    refine za_aload_n (pc' := 161) 0 dX1_lay_160 rfl rfl rfl ?_
    refine za_iload_n (pc' := 162) 2 dX1_lay_161 rfl rfl rfl ?_
    refine za_iload (pc' := 164) 3 dX1_lay_162 rfl rfl ?_
    refine za_iload (pc' := 166) 4 dX1_lay_164 rfl rfl ?_
    refine za_aload_n (pc' := 167) 1 dX1_lay_166 rfl rfl rfl ?_
    obtain ⟨ht17, h⟩ := h
    refine za_getN (fi := 0) (v := .ref (R v1 0)) (pc' := 170) dX1_lay_167 zc10 (by decide) in_X11 (by decide) q404 (Or.inl rfl) ht17 rfl rfl ?_
    refine za_iload_n (pc' := 171) 2 dX1_lay_170 rfl rfl rfl ?_
    obtain ⟨ht18, h⟩ := h
    obtain ⟨hi19, h⟩ := h
    refine za_iald (v := .int (I (R v1 0) (v3.toNatClampNeg))) (pc' := 172) dX1_lay_171 (zpair ht18) hi19 rfl rfl ?_
    refine za_callV (κ := 1000) (M2 := mX1_least) (d2 := 5) (b2 := 0) (n := 4) (As := [.int v3, .int v4, .int v5, .int (I (R v1 0) (v3.toNatClampNeg))]) (st := [.int r16, .ref 1019]) (pc' := 175) zc0 (by decide) (congrArg Prod.fst (zX_t1000 hx)) dX1_lay_172 rfl (lw_V q1216 q1218 qs41 q131 q1219) ⟨rfl, hd_X1_least⟩ rfl (by decide) (by decide) (Nat.zero_le _) (Or.inl rfl) (Nat.le_of_ble_eq_true rfl) h (zqI__k rfl (fun r20 h => ?_)) (fun _ _ _ _ _ _ h9 h8 => absurd h8.1 h9) rfl
    obtain ⟨hi21, h⟩ := h
    refine za_iast (k := r16.toNatClampNeg) (pc' := 176) dX1_lay_175 (zX_t1019 hx) hi21 rfl rfl ?_
    refine za_iinc (pc' := 179) (l' := [(5, .int (v5 + (1 : Int32))), (0, .ref 1000), (1, .ref v1), (3, .int v3), (4, .int v4)]) 4 dX1_lay_176 rfl (zinc zi_1) (Nat.le_of_ble_eq_true rfl) rfl rfl ?_
    refine za_goto (tgt := 141) dX1_lay_179 (by decide) ?_
    exact zAW_sub [1, 2, 3, 4, 0] rfl h
theorem sX1_lay {d b : Nat} {v1 : Nat} {v2 : Nat} {T : zT} {I : zI} {L : zL} {R : zR} {P : zP} (h : zAW mX1_lay d b 0 [(0, .ref 1000), (1, .ref v1), (2, .ref v2)] [] T I L R P) : zMet mX1_lay d b [.ref 1000, .ref v1, .ref v2] T I L R P := zMet_of (by decide +kernel) rfl (Nat.le_of_ble_eq_true rfl) rfl h
/-! TwoTongues.at (III)I -/
def dkwX1_at_0 : List UInt8 := [26, 16, 61, 104, 27, 96, 16, 61, 104, 28, 96, 172]
abbrev dktX1_at_0 : List UInt8 := dkwX1_at_0 ++ []
theorem dksX1_at_0 : cX1_at.data.toList.drop 0 = dktX1_at_0 := by decide +kernel
theorem dX1_at_0 : decode cX1_at 0 = .ok (.iload_n 0, 1) := dk_26 (dk_at dksX1_at_0 0 rfl rfl)
theorem dX1_at_1 : decode cX1_at 1 = .ok (.bipush 61, 2) := dk_16 61 (dk_at dksX1_at_0 1 rfl rfl)
theorem dX1_at_3 : decode cX1_at 3 = .ok (.imul, 1) := dk_104 (dk_at dksX1_at_0 3 rfl rfl)
theorem dX1_at_4 : decode cX1_at 4 = .ok (.iload_n 1, 1) := dk_27 (dk_at dksX1_at_0 4 rfl rfl)
theorem dX1_at_5 : decode cX1_at 5 = .ok (.iadd, 1) := dk_96 (dk_at dksX1_at_0 5 rfl rfl)
theorem dX1_at_6 : decode cX1_at 6 = .ok (.bipush 61, 2) := dk_16 61 (dk_at dksX1_at_0 6 rfl rfl)
theorem dX1_at_8 : decode cX1_at 8 = .ok (.imul, 1) := dk_104 (dk_at dksX1_at_0 8 rfl rfl)
theorem dX1_at_9 : decode cX1_at 9 = .ok (.iload_n 2, 1) := dk_28 (dk_at dksX1_at_0 9 rfl rfl)
theorem dX1_at_10 : decode cX1_at 10 = .ok (.iadd, 1) := dk_96 (dk_at dksX1_at_0 10 rfl rfl)
theorem dX1_at_11 : decode cX1_at 11 = .ok (.ireturn, 1) := dk_172 (dk_at dksX1_at_0 11 rfl rfl)
theorem gX1_at_0 {v0 : Int32} {v1 : Int32} {v2 : Int32} {T : zT} {I : zI} {L : zL} {R : zR} {P : zP} (h : P 0 (.int ((((v0 * (61 : Int32)) + v1) * (61 : Int32)) + v2)) T I L R) : zAW mX1_at 1 0 0 [(0, .int v0), (1, .int v1), (2, .int v2)] [] T I L R P := by
  refine za_iload_n (pc' := 1) 0 dX1_at_0 rfl rfl rfl ?_
  refine za_bipush (pc' := 3) dX1_at_1 zb8_61 rfl ?_
  refine za_imul (pc' := 4) dX1_at_3 rfl ?_
  refine za_iload_n (pc' := 5) 1 dX1_at_4 rfl rfl rfl ?_
  refine za_iadd (pc' := 6) dX1_at_5 rfl ?_
  refine za_bipush (pc' := 8) dX1_at_6 zb8_61 rfl ?_
  refine za_imul (pc' := 9) dX1_at_8 rfl ?_
  refine za_iload_n (pc' := 10) 2 dX1_at_9 rfl rfl rfl ?_
  refine za_iadd (pc' := 11) dX1_at_10 rfl ?_
  exact za_ireturn rfl dX1_at_11 h
theorem sX1_at {d b : Nat} {v0 : Int32} {v1 : Int32} {v2 : Int32} {T : zT} {I : zI} {L : zL} {R : zR} {P : zP} (h : zAW mX1_at d b 0 [(0, .int v0), (1, .int v1), (2, .int v2)] [] T I L R P) : zMet mX1_at d b [.int v0, .int v1, .int v2] T I L R P := zMet_of (by decide +kernel) rfl (Nat.le_of_ble_eq_true rfl) rfl h
/-! TwoTongues.least (IIII)I -/
def dkwX1_least_11 : List UInt8 := [167, 255, 160, 132, 9, 1, 167, 255, 109, 132, 8, 1, 167, 255, 52, 21, 7, 172]
abbrev dktX1_least_11 : List UInt8 := dkwX1_least_11 ++ []
def dkwX1_least_10 : List UInt8 := [180, 0, 94, 27, 4, 96, 21, 10, 21, 12, 184, 1, 64, 46, 96, 184, 1, 79, 54, 7, 132, 11, 1]
abbrev dktX1_least_10 : List UInt8 := dkwX1_least_10 ++ dktX1_least_11
def dkwX1_least_9 : List UInt8 := [184, 1, 64, 46, 19, 1, 68, 162, 0, 36, 21, 7, 42, 180, 0, 39, 180, 1, 39, 21, 8, 46, 42]
abbrev dktX1_least_9 : List UInt8 := dkwX1_least_9 ++ dktX1_least_10
def dkwX1_least_8 : List UInt8 := [21, 8, 182, 1, 76, 54, 12, 21, 12, 2, 159, 0, 57, 42, 180, 0, 94, 27, 4, 96, 21, 10, 21, 12]
abbrev dktX1_least_8 : List UInt8 := dkwX1_least_8 ++ dktX1_least_9
def dkwX1_least_7 : List UInt8 := [180, 0, 64, 180, 0, 161, 4, 50, 180, 0, 225, 162, 0, 85, 42, 180, 0, 89, 4, 50, 29, 21, 11]
abbrev dktX1_least_7 : List UInt8 := dkwX1_least_7 ++ dktX1_least_8
def dkwX1_least_6 : List UInt8 := [21, 8, 182, 1, 76, 54, 10, 21, 10, 2, 160, 0, 6, 167, 0, 105, 3, 54, 11, 21, 11, 42]
abbrev dktX1_least_6 : List UInt8 := dkwX1_least_6 ++ dktX1_least_7
def dkwX1_least_5 : List UInt8 := [180, 0, 64, 180, 0, 161, 3, 50, 180, 0, 225, 162, 0, 136, 42, 180, 0, 89, 3, 50, 28, 21, 9]
abbrev dktX1_least_5 : List UInt8 := dkwX1_least_5 ++ dktX1_least_6
def dkwX1_least_4 : List UInt8 := [160, 0, 171, 21, 4, 153, 0, 13, 21, 8, 21, 4, 159, 0, 6, 167, 0, 156, 3, 54, 9, 21, 9, 42]
abbrev dktX1_least_4 : List UInt8 := dkwX1_least_4 ++ dktX1_least_5
def dkwX1_least_3 : List UInt8 := [21, 5, 2, 159, 0, 10, 21, 8, 21, 5, 160, 0, 184, 21, 6, 2, 159, 0, 10, 21, 8, 21, 6]
abbrev dktX1_least_3 : List UInt8 := dkwX1_least_3 ++ dktX1_least_4
def dkwX1_least_2 : List UInt8 := [21, 6, 159, 0, 7, 19, 1, 68, 172, 19, 1, 68, 54, 7, 4, 54, 8, 21, 8, 16, 26, 163, 0, 203]
abbrev dktX1_least_2 : List UInt8 := dkwX1_least_2 ++ dktX1_least_3
def dkwX1_least_1 : List UInt8 := [21, 5, 153, 0, 27, 21, 6, 153, 0, 22, 21, 5, 2, 159, 0, 20, 21, 6, 2, 159, 0, 14, 21, 5]
abbrev dktX1_least_1 : List UInt8 := dkwX1_least_1 ++ dktX1_least_2
def dkwX1_least_0 : List UInt8 := [42, 180, 0, 89, 3, 50, 28, 182, 1, 73, 54, 5, 42, 180, 0, 89, 4, 50, 29, 182, 1, 73, 54, 6]
abbrev dktX1_least_0 : List UInt8 := dkwX1_least_0 ++ dktX1_least_1
theorem dksX1_least_0 : cX1_least.data.toList.drop 0 = dktX1_least_0 := by decide +kernel
theorem dksX1_least_1 : cX1_least.data.toList.drop 24 = dktX1_least_1 := dk_seg dksX1_least_0 24 rfl rfl
theorem dksX1_least_2 : cX1_least.data.toList.drop 48 = dktX1_least_2 := dk_seg dksX1_least_1 24 rfl rfl
theorem dksX1_least_3 : cX1_least.data.toList.drop 72 = dktX1_least_3 := dk_seg dksX1_least_2 24 rfl rfl
theorem dksX1_least_4 : cX1_least.data.toList.drop 95 = dktX1_least_4 := dk_seg dksX1_least_3 23 rfl rfl
theorem dksX1_least_5 : cX1_least.data.toList.drop 119 = dktX1_least_5 := dk_seg dksX1_least_4 24 rfl rfl
theorem dksX1_least_6 : cX1_least.data.toList.drop 142 = dktX1_least_6 := dk_seg dksX1_least_5 23 rfl rfl
theorem dksX1_least_7 : cX1_least.data.toList.drop 164 = dktX1_least_7 := dk_seg dksX1_least_6 22 rfl rfl
theorem dksX1_least_8 : cX1_least.data.toList.drop 187 = dktX1_least_8 := dk_seg dksX1_least_7 23 rfl rfl
theorem dksX1_least_9 : cX1_least.data.toList.drop 211 = dktX1_least_9 := dk_seg dksX1_least_8 24 rfl rfl
theorem dksX1_least_10 : cX1_least.data.toList.drop 234 = dktX1_least_10 := dk_seg dksX1_least_9 23 rfl rfl
theorem dksX1_least_11 : cX1_least.data.toList.drop 257 = dktX1_least_11 := dk_seg dksX1_least_10 23 rfl rfl
theorem dX1_least_0 : decode cX1_least 0 = .ok (.aload_n 0, 1) := dk_42 (dk_at dksX1_least_0 0 rfl rfl)
theorem dX1_least_1 : decode cX1_least 1 = .ok (.getfield 89, 3) := dk_180 0 89 (dk_at dksX1_least_0 1 rfl rfl)
theorem dX1_least_4 : decode cX1_least 4 = .ok (.iconst 0, 1) := dk_3 (dk_at dksX1_least_0 4 rfl rfl)
theorem dX1_least_5 : decode cX1_least 5 = .ok (.aaload, 1) := dk_50 (dk_at dksX1_least_0 5 rfl rfl)
theorem dX1_least_6 : decode cX1_least 6 = .ok (.iload_n 2, 1) := dk_28 (dk_at dksX1_least_0 6 rfl rfl)
theorem dX1_least_7 : decode cX1_least 7 = .ok (.invokevirtual 329, 3) := dk_182 1 73 (dk_at dksX1_least_0 7 rfl rfl)
theorem dX1_least_10 : decode cX1_least 10 = .ok (.istore 5, 2) := dk_54 5 (dk_at dksX1_least_0 10 rfl rfl)
theorem dX1_least_12 : decode cX1_least 12 = .ok (.aload_n 0, 1) := dk_42 (dk_at dksX1_least_0 12 rfl rfl)
theorem dX1_least_13 : decode cX1_least 13 = .ok (.getfield 89, 3) := dk_180 0 89 (dk_at dksX1_least_0 13 rfl rfl)
theorem dX1_least_16 : decode cX1_least 16 = .ok (.iconst 1, 1) := dk_4 (dk_at dksX1_least_0 16 rfl rfl)
theorem dX1_least_17 : decode cX1_least 17 = .ok (.aaload, 1) := dk_50 (dk_at dksX1_least_0 17 rfl rfl)
theorem dX1_least_18 : decode cX1_least 18 = .ok (.iload_n 3, 1) := dk_29 (dk_at dksX1_least_0 18 rfl rfl)
theorem dX1_least_19 : decode cX1_least 19 = .ok (.invokevirtual 329, 3) := dk_182 1 73 (dk_at dksX1_least_0 19 rfl rfl)
theorem dX1_least_22 : decode cX1_least 22 = .ok (.istore 6, 2) := dk_54 6 (dk_at dksX1_least_0 22 rfl rfl)
theorem dX1_least_24 : decode cX1_least 24 = .ok (.iload 5, 2) := dk_21 5 (dk_at dksX1_least_1 0 rfl rfl)
theorem dX1_least_26 : decode cX1_least 26 = .ok (.ifCond .eq 27, 3) := dk_153 0 27 (dk_at dksX1_least_1 2 rfl rfl)
theorem dX1_least_29 : decode cX1_least 29 = .ok (.iload 6, 2) := dk_21 6 (dk_at dksX1_least_1 5 rfl rfl)
theorem dX1_least_31 : decode cX1_least 31 = .ok (.ifCond .eq 22, 3) := dk_153 0 22 (dk_at dksX1_least_1 7 rfl rfl)
theorem dX1_least_34 : decode cX1_least 34 = .ok (.iload 5, 2) := dk_21 5 (dk_at dksX1_least_1 10 rfl rfl)
theorem dX1_least_36 : decode cX1_least 36 = .ok (.iconst (-1), 1) := dk_2 (dk_at dksX1_least_1 12 rfl rfl)
theorem dX1_least_37 : decode cX1_least 37 = .ok (.if_icmp .eq 20, 3) := dk_159 0 20 (dk_at dksX1_least_1 13 rfl rfl)
theorem dX1_least_40 : decode cX1_least 40 = .ok (.iload 6, 2) := dk_21 6 (dk_at dksX1_least_1 16 rfl rfl)
theorem dX1_least_42 : decode cX1_least 42 = .ok (.iconst (-1), 1) := dk_2 (dk_at dksX1_least_1 18 rfl rfl)
theorem dX1_least_43 : decode cX1_least 43 = .ok (.if_icmp .eq 14, 3) := dk_159 0 14 (dk_at dksX1_least_1 19 rfl rfl)
theorem dX1_least_46 : decode cX1_least 46 = .ok (.iload 5, 2) := dk_21 5 (dk_at dksX1_least_1 22 rfl rfl)
theorem dX1_least_48 : decode cX1_least 48 = .ok (.iload 6, 2) := dk_21 6 (dk_at dksX1_least_2 0 rfl rfl)
theorem dX1_least_50 : decode cX1_least 50 = .ok (.if_icmp .eq 7, 3) := dk_159 0 7 (dk_at dksX1_least_2 2 rfl rfl)
theorem dX1_least_53 : decode cX1_least 53 = .ok (.ldc_w 324, 3) := dk_19 1 68 (dk_at dksX1_least_2 5 rfl rfl)
theorem dX1_least_56 : decode cX1_least 56 = .ok (.ireturn, 1) := dk_172 (dk_at dksX1_least_2 8 rfl rfl)
theorem dX1_least_57 : decode cX1_least 57 = .ok (.ldc_w 324, 3) := dk_19 1 68 (dk_at dksX1_least_2 9 rfl rfl)
theorem dX1_least_60 : decode cX1_least 60 = .ok (.istore 7, 2) := dk_54 7 (dk_at dksX1_least_2 12 rfl rfl)
theorem dX1_least_62 : decode cX1_least 62 = .ok (.iconst 1, 1) := dk_4 (dk_at dksX1_least_2 14 rfl rfl)
theorem dX1_least_63 : decode cX1_least 63 = .ok (.istore 8, 2) := dk_54 8 (dk_at dksX1_least_2 15 rfl rfl)
theorem dX1_least_65 : decode cX1_least 65 = .ok (.iload 8, 2) := dk_21 8 (dk_at dksX1_least_2 17 rfl rfl)
theorem dX1_least_67 : decode cX1_least 67 = .ok (.bipush 26, 2) := dk_16 26 (dk_at dksX1_least_2 19 rfl rfl)
theorem dX1_least_69 : decode cX1_least 69 = .ok (.if_icmp .gt 203, 3) := dk_163 0 203 (dk_at dksX1_least_2 21 rfl rfl)
theorem dX1_least_72 : decode cX1_least 72 = .ok (.iload 5, 2) := dk_21 5 (dk_at dksX1_least_3 0 rfl rfl)
theorem dX1_least_74 : decode cX1_least 74 = .ok (.iconst (-1), 1) := dk_2 (dk_at dksX1_least_3 2 rfl rfl)
theorem dX1_least_75 : decode cX1_least 75 = .ok (.if_icmp .eq 10, 3) := dk_159 0 10 (dk_at dksX1_least_3 3 rfl rfl)
theorem dX1_least_78 : decode cX1_least 78 = .ok (.iload 8, 2) := dk_21 8 (dk_at dksX1_least_3 6 rfl rfl)
theorem dX1_least_80 : decode cX1_least 80 = .ok (.iload 5, 2) := dk_21 5 (dk_at dksX1_least_3 8 rfl rfl)
theorem dX1_least_82 : decode cX1_least 82 = .ok (.if_icmp .ne 184, 3) := dk_160 0 184 (dk_at dksX1_least_3 10 rfl rfl)
theorem dX1_least_85 : decode cX1_least 85 = .ok (.iload 6, 2) := dk_21 6 (dk_at dksX1_least_3 13 rfl rfl)
theorem dX1_least_87 : decode cX1_least 87 = .ok (.iconst (-1), 1) := dk_2 (dk_at dksX1_least_3 15 rfl rfl)
theorem dX1_least_88 : decode cX1_least 88 = .ok (.if_icmp .eq 10, 3) := dk_159 0 10 (dk_at dksX1_least_3 16 rfl rfl)
theorem dX1_least_91 : decode cX1_least 91 = .ok (.iload 8, 2) := dk_21 8 (dk_at dksX1_least_3 19 rfl rfl)
theorem dX1_least_93 : decode cX1_least 93 = .ok (.iload 6, 2) := dk_21 6 (dk_at dksX1_least_3 21 rfl rfl)
theorem dX1_least_95 : decode cX1_least 95 = .ok (.if_icmp .ne 171, 3) := dk_160 0 171 (dk_at dksX1_least_4 0 rfl rfl)
theorem dX1_least_98 : decode cX1_least 98 = .ok (.iload 4, 2) := dk_21 4 (dk_at dksX1_least_4 3 rfl rfl)
theorem dX1_least_100 : decode cX1_least 100 = .ok (.ifCond .eq 13, 3) := dk_153 0 13 (dk_at dksX1_least_4 5 rfl rfl)
theorem dX1_least_103 : decode cX1_least 103 = .ok (.iload 8, 2) := dk_21 8 (dk_at dksX1_least_4 8 rfl rfl)
theorem dX1_least_105 : decode cX1_least 105 = .ok (.iload 4, 2) := dk_21 4 (dk_at dksX1_least_4 10 rfl rfl)
theorem dX1_least_107 : decode cX1_least 107 = .ok (.if_icmp .eq 6, 3) := dk_159 0 6 (dk_at dksX1_least_4 12 rfl rfl)
theorem dX1_least_110 : decode cX1_least 110 = .ok (.goto 156, 3) := dk_167 0 156 (dk_at dksX1_least_4 15 rfl rfl)
theorem dX1_least_113 : decode cX1_least 113 = .ok (.iconst 0, 1) := dk_3 (dk_at dksX1_least_4 18 rfl rfl)
theorem dX1_least_114 : decode cX1_least 114 = .ok (.istore 9, 2) := dk_54 9 (dk_at dksX1_least_4 19 rfl rfl)
theorem dX1_least_116 : decode cX1_least 116 = .ok (.iload 9, 2) := dk_21 9 (dk_at dksX1_least_4 21 rfl rfl)
theorem dX1_least_118 : decode cX1_least 118 = .ok (.aload_n 0, 1) := dk_42 (dk_at dksX1_least_4 23 rfl rfl)
theorem dX1_least_119 : decode cX1_least 119 = .ok (.getfield 64, 3) := dk_180 0 64 (dk_at dksX1_least_5 0 rfl rfl)
theorem dX1_least_122 : decode cX1_least 122 = .ok (.getfield 161, 3) := dk_180 0 161 (dk_at dksX1_least_5 3 rfl rfl)
theorem dX1_least_125 : decode cX1_least 125 = .ok (.iconst 0, 1) := dk_3 (dk_at dksX1_least_5 6 rfl rfl)
theorem dX1_least_126 : decode cX1_least 126 = .ok (.aaload, 1) := dk_50 (dk_at dksX1_least_5 7 rfl rfl)
theorem dX1_least_127 : decode cX1_least 127 = .ok (.getfield 225, 3) := dk_180 0 225 (dk_at dksX1_least_5 8 rfl rfl)
theorem dX1_least_130 : decode cX1_least 130 = .ok (.if_icmp .ge 136, 3) := dk_162 0 136 (dk_at dksX1_least_5 11 rfl rfl)
theorem dX1_least_133 : decode cX1_least 133 = .ok (.aload_n 0, 1) := dk_42 (dk_at dksX1_least_5 14 rfl rfl)
theorem dX1_least_134 : decode cX1_least 134 = .ok (.getfield 89, 3) := dk_180 0 89 (dk_at dksX1_least_5 15 rfl rfl)
theorem dX1_least_137 : decode cX1_least 137 = .ok (.iconst 0, 1) := dk_3 (dk_at dksX1_least_5 18 rfl rfl)
theorem dX1_least_138 : decode cX1_least 138 = .ok (.aaload, 1) := dk_50 (dk_at dksX1_least_5 19 rfl rfl)
theorem dX1_least_139 : decode cX1_least 139 = .ok (.iload_n 2, 1) := dk_28 (dk_at dksX1_least_5 20 rfl rfl)
theorem dX1_least_140 : decode cX1_least 140 = .ok (.iload 9, 2) := dk_21 9 (dk_at dksX1_least_5 21 rfl rfl)
theorem dX1_least_142 : decode cX1_least 142 = .ok (.iload 8, 2) := dk_21 8 (dk_at dksX1_least_6 0 rfl rfl)
theorem dX1_least_144 : decode cX1_least 144 = .ok (.invokevirtual 332, 3) := dk_182 1 76 (dk_at dksX1_least_6 2 rfl rfl)
theorem dX1_least_147 : decode cX1_least 147 = .ok (.istore 10, 2) := dk_54 10 (dk_at dksX1_least_6 5 rfl rfl)
theorem dX1_least_149 : decode cX1_least 149 = .ok (.iload 10, 2) := dk_21 10 (dk_at dksX1_least_6 7 rfl rfl)
theorem dX1_least_151 : decode cX1_least 151 = .ok (.iconst (-1), 1) := dk_2 (dk_at dksX1_least_6 9 rfl rfl)
theorem dX1_least_152 : decode cX1_least 152 = .ok (.if_icmp .ne 6, 3) := dk_160 0 6 (dk_at dksX1_least_6 10 rfl rfl)
theorem dX1_least_155 : decode cX1_least 155 = .ok (.goto 105, 3) := dk_167 0 105 (dk_at dksX1_least_6 13 rfl rfl)
theorem dX1_least_158 : decode cX1_least 158 = .ok (.iconst 0, 1) := dk_3 (dk_at dksX1_least_6 16 rfl rfl)
theorem dX1_least_159 : decode cX1_least 159 = .ok (.istore 11, 2) := dk_54 11 (dk_at dksX1_least_6 17 rfl rfl)
theorem dX1_least_161 : decode cX1_least 161 = .ok (.iload 11, 2) := dk_21 11 (dk_at dksX1_least_6 19 rfl rfl)
theorem dX1_least_163 : decode cX1_least 163 = .ok (.aload_n 0, 1) := dk_42 (dk_at dksX1_least_6 21 rfl rfl)
theorem dX1_least_164 : decode cX1_least 164 = .ok (.getfield 64, 3) := dk_180 0 64 (dk_at dksX1_least_7 0 rfl rfl)
theorem dX1_least_167 : decode cX1_least 167 = .ok (.getfield 161, 3) := dk_180 0 161 (dk_at dksX1_least_7 3 rfl rfl)
theorem dX1_least_170 : decode cX1_least 170 = .ok (.iconst 1, 1) := dk_4 (dk_at dksX1_least_7 6 rfl rfl)
theorem dX1_least_171 : decode cX1_least 171 = .ok (.aaload, 1) := dk_50 (dk_at dksX1_least_7 7 rfl rfl)
theorem dX1_least_172 : decode cX1_least 172 = .ok (.getfield 225, 3) := dk_180 0 225 (dk_at dksX1_least_7 8 rfl rfl)
theorem dX1_least_175 : decode cX1_least 175 = .ok (.if_icmp .ge 85, 3) := dk_162 0 85 (dk_at dksX1_least_7 11 rfl rfl)
theorem dX1_least_178 : decode cX1_least 178 = .ok (.aload_n 0, 1) := dk_42 (dk_at dksX1_least_7 14 rfl rfl)
theorem dX1_least_179 : decode cX1_least 179 = .ok (.getfield 89, 3) := dk_180 0 89 (dk_at dksX1_least_7 15 rfl rfl)
theorem dX1_least_182 : decode cX1_least 182 = .ok (.iconst 1, 1) := dk_4 (dk_at dksX1_least_7 18 rfl rfl)
theorem dX1_least_183 : decode cX1_least 183 = .ok (.aaload, 1) := dk_50 (dk_at dksX1_least_7 19 rfl rfl)
theorem dX1_least_184 : decode cX1_least 184 = .ok (.iload_n 3, 1) := dk_29 (dk_at dksX1_least_7 20 rfl rfl)
theorem dX1_least_185 : decode cX1_least 185 = .ok (.iload 11, 2) := dk_21 11 (dk_at dksX1_least_7 21 rfl rfl)
theorem dX1_least_187 : decode cX1_least 187 = .ok (.iload 8, 2) := dk_21 8 (dk_at dksX1_least_8 0 rfl rfl)
theorem dX1_least_189 : decode cX1_least 189 = .ok (.invokevirtual 332, 3) := dk_182 1 76 (dk_at dksX1_least_8 2 rfl rfl)
theorem dX1_least_192 : decode cX1_least 192 = .ok (.istore 12, 2) := dk_54 12 (dk_at dksX1_least_8 5 rfl rfl)
theorem dX1_least_194 : decode cX1_least 194 = .ok (.iload 12, 2) := dk_21 12 (dk_at dksX1_least_8 7 rfl rfl)
theorem dX1_least_196 : decode cX1_least 196 = .ok (.iconst (-1), 1) := dk_2 (dk_at dksX1_least_8 9 rfl rfl)
theorem dX1_least_197 : decode cX1_least 197 = .ok (.if_icmp .eq 57, 3) := dk_159 0 57 (dk_at dksX1_least_8 10 rfl rfl)
theorem dX1_least_200 : decode cX1_least 200 = .ok (.aload_n 0, 1) := dk_42 (dk_at dksX1_least_8 13 rfl rfl)
theorem dX1_least_201 : decode cX1_least 201 = .ok (.getfield 94, 3) := dk_180 0 94 (dk_at dksX1_least_8 14 rfl rfl)
theorem dX1_least_204 : decode cX1_least 204 = .ok (.iload_n 1, 1) := dk_27 (dk_at dksX1_least_8 17 rfl rfl)
theorem dX1_least_205 : decode cX1_least 205 = .ok (.iconst 1, 1) := dk_4 (dk_at dksX1_least_8 18 rfl rfl)
theorem dX1_least_206 : decode cX1_least 206 = .ok (.iadd, 1) := dk_96 (dk_at dksX1_least_8 19 rfl rfl)
theorem dX1_least_207 : decode cX1_least 207 = .ok (.iload 10, 2) := dk_21 10 (dk_at dksX1_least_8 20 rfl rfl)
theorem dX1_least_209 : decode cX1_least 209 = .ok (.iload 12, 2) := dk_21 12 (dk_at dksX1_least_8 22 rfl rfl)
theorem dX1_least_211 : decode cX1_least 211 = .ok (.invokestatic 320, 3) := dk_184 1 64 (dk_at dksX1_least_9 0 rfl rfl)
theorem dX1_least_214 : decode cX1_least 214 = .ok (.iaload, 1) := dk_46 (dk_at dksX1_least_9 3 rfl rfl)
theorem dX1_least_215 : decode cX1_least 215 = .ok (.ldc_w 324, 3) := dk_19 1 68 (dk_at dksX1_least_9 4 rfl rfl)
theorem dX1_least_218 : decode cX1_least 218 = .ok (.if_icmp .ge 36, 3) := dk_162 0 36 (dk_at dksX1_least_9 7 rfl rfl)
theorem dX1_least_221 : decode cX1_least 221 = .ok (.iload 7, 2) := dk_21 7 (dk_at dksX1_least_9 10 rfl rfl)
theorem dX1_least_223 : decode cX1_least 223 = .ok (.aload_n 0, 1) := dk_42 (dk_at dksX1_least_9 12 rfl rfl)
theorem dX1_least_224 : decode cX1_least 224 = .ok (.getfield 39, 3) := dk_180 0 39 (dk_at dksX1_least_9 13 rfl rfl)
theorem dX1_least_227 : decode cX1_least 227 = .ok (.getfield 295, 3) := dk_180 1 39 (dk_at dksX1_least_9 16 rfl rfl)
theorem dX1_least_230 : decode cX1_least 230 = .ok (.iload 8, 2) := dk_21 8 (dk_at dksX1_least_9 19 rfl rfl)
theorem dX1_least_232 : decode cX1_least 232 = .ok (.iaload, 1) := dk_46 (dk_at dksX1_least_9 21 rfl rfl)
theorem dX1_least_233 : decode cX1_least 233 = .ok (.aload_n 0, 1) := dk_42 (dk_at dksX1_least_9 22 rfl rfl)
theorem dX1_least_234 : decode cX1_least 234 = .ok (.getfield 94, 3) := dk_180 0 94 (dk_at dksX1_least_10 0 rfl rfl)
theorem dX1_least_237 : decode cX1_least 237 = .ok (.iload_n 1, 1) := dk_27 (dk_at dksX1_least_10 3 rfl rfl)
theorem dX1_least_238 : decode cX1_least 238 = .ok (.iconst 1, 1) := dk_4 (dk_at dksX1_least_10 4 rfl rfl)
theorem dX1_least_239 : decode cX1_least 239 = .ok (.iadd, 1) := dk_96 (dk_at dksX1_least_10 5 rfl rfl)
theorem dX1_least_240 : decode cX1_least 240 = .ok (.iload 10, 2) := dk_21 10 (dk_at dksX1_least_10 6 rfl rfl)
theorem dX1_least_242 : decode cX1_least 242 = .ok (.iload 12, 2) := dk_21 12 (dk_at dksX1_least_10 8 rfl rfl)
theorem dX1_least_244 : decode cX1_least 244 = .ok (.invokestatic 320, 3) := dk_184 1 64 (dk_at dksX1_least_10 10 rfl rfl)
theorem dX1_least_247 : decode cX1_least 247 = .ok (.iaload, 1) := dk_46 (dk_at dksX1_least_10 13 rfl rfl)
theorem dX1_least_248 : decode cX1_least 248 = .ok (.iadd, 1) := dk_96 (dk_at dksX1_least_10 14 rfl rfl)
theorem dX1_least_249 : decode cX1_least 249 = .ok (.invokestatic 335, 3) := dk_184 1 79 (dk_at dksX1_least_10 15 rfl rfl)
theorem dX1_least_252 : decode cX1_least 252 = .ok (.istore 7, 2) := dk_54 7 (dk_at dksX1_least_10 18 rfl rfl)
theorem dX1_least_254 : decode cX1_least 254 = .ok (.iinc 11 1, 3) := dk_132 11 1 (dk_at dksX1_least_10 20 rfl rfl)
theorem dX1_least_257 : decode cX1_least 257 = .ok (.goto (-96), 3) := dk_167 255 160 (dk_at dksX1_least_11 0 rfl rfl)
theorem dX1_least_260 : decode cX1_least 260 = .ok (.iinc 9 1, 3) := dk_132 9 1 (dk_at dksX1_least_11 3 rfl rfl)
theorem dX1_least_263 : decode cX1_least 263 = .ok (.goto (-147), 3) := dk_167 255 109 (dk_at dksX1_least_11 6 rfl rfl)
theorem dX1_least_266 : decode cX1_least 266 = .ok (.iinc 8 1, 3) := dk_132 8 1 (dk_at dksX1_least_11 9 rfl rfl)
theorem dX1_least_269 : decode cX1_least 269 = .ok (.goto (-204), 3) := dk_167 255 52 (dk_at dksX1_least_11 12 rfl rfl)
theorem dX1_least_272 : decode cX1_least 272 = .ok (.iload 7, 2) := dk_21 7 (dk_at dksX1_least_11 15 rfl rfl)
theorem dX1_least_274 : decode cX1_least 274 = .ok (.ireturn, 1) := dk_172 (dk_at dksX1_least_11 17 rfl rfl)
theorem gX1_least_0 {v1 : Int32} {v2 : Int32} {v3 : Int32} {v4 : Int32} {T : zT} {I : zI} {L : zL} {R : zR} {P : zP} (hx : zXok T R) (h : zMet mX12_only 4 0 [.ref 1040, .int v2] T I L R (zqI_ T I L R  (fun (r1 : Int32)  => zMet mX12_only 4 0 [.ref 1041, .int v3] T I L R (zqI_ T I L R  (fun (r2 : Int32)  => ((r1 = 0 → P 0 (.int (1000000 : Int32)) T I L R) ∧ (¬ r1 = 0 → ((r2 = 0 → P 0 (.int (1000000 : Int32)) T I L R) ∧ (¬ r2 = 0 → ((r1 = (-1 : Int32) → zAW mX1_least 5 0 65 [(0, .ref 1000), (1, .int v1), (2, .int v2), (3, .int v3), (4, .int v4), (5, .int r1), (6, .int r2), (7, .int (1000000 : Int32)), (8, .int (1 : Int32))] [] T I L R P) ∧ (¬ r1 = (-1 : Int32) → ((r2 = (-1 : Int32) → zAW mX1_least 5 0 65 [(0, .ref 1000), (1, .int v1), (2, .int v2), (3, .int v3), (4, .int v4), (5, .int r1), (6, .int r2), (7, .int (1000000 : Int32)), (8, .int (1 : Int32))] [] T I L R P) ∧ (¬ r2 = (-1 : Int32) → ((r1 = r2 → zAW mX1_least 5 0 65 [(0, .ref 1000), (1, .int v1), (2, .int v2), (3, .int v3), (4, .int v4), (5, .int r1), (6, .int r2), (7, .int (1000000 : Int32)), (8, .int (1 : Int32))] [] T I L R P) ∧ (¬ r1 = r2 → P 0 (.int (1000000 : Int32)) T I L R))))))))))))))) : zAW mX1_least 5 0 0 [(0, .ref 1000), (1, .int v1), (2, .int v2), (3, .int v3), (4, .int v4)] [] T I L R P := by
  refine za_aload_n (pc' := 1) 0 dX1_least_0 rfl rfl rfl ?_
  refine za_get (fi := 17) (v := .ref 1018) (pc' := 4) dX1_least_1 zc0 (by decide) in_X1 (by decide) q507 (Or.inl rfl) (congrArg Prod.fst (zX_t1000 hx)) (congrArg Value.ref (zX_r1000_17 hx)) rfl ?_
  refine za_iconst (pc' := 5) dX1_least_4 zi_0 rfl ?_
  refine za_aald (r := 1040) (t := 7) (C := RX12) (pc' := 6) dX1_least_5 (by decide) (fun _ => rfl) (zX_t1018 hx) (zin (by decide)) (zix zn_0 (zX_r1018_0 hx)) rfl ?_
  refine za_iload_n (pc' := 7) 2 dX1_least_6 rfl rfl rfl ?_
  refine za_callV (κ := 1040) (M2 := mX12_only) (d2 := 4) (b2 := 0) (n := 1) (As := [.int v2]) (st := []) (pc' := 10) zc11 (by decide) (congrArg Prod.fst (zX_t1040 hx)) dX1_least_7 rfl (lw_V q1220 q1221 q1222 q145 q1223) ⟨rfl, hd_X12_only⟩ rfl (by decide) (by decide) (Nat.zero_le _) (Or.inl rfl) (Nat.le_of_ble_eq_true rfl) h (zqI__k rfl (fun r1 h => ?_)) (fun _ _ _ _ _ _ h9 h8 => absurd h8.1 h9) rfl
  refine za_istore (pc' := 12) (l' := [(5, .int r1), (0, .ref 1000), (1, .int v1), (2, .int v2), (3, .int v3), (4, .int v4)]) dX1_least_10 (Nat.le_of_ble_eq_true rfl) rfl rfl ?_
  refine za_aload_n (pc' := 13) 1 dX1_least_12 rfl rfl rfl ?_
  refine za_get (fi := 17) (v := .ref 1018) (pc' := 16) dX1_least_13 zc0 (by decide) in_X1 (by decide) q507 (Or.inl rfl) (congrArg Prod.fst (zX_t1000 hx)) (congrArg Value.ref (zX_r1000_17 hx)) rfl ?_
  refine za_iconst (pc' := 17) dX1_least_16 zi_1 rfl ?_
  refine za_aald (r := 1041) (t := 7) (C := RX12) (pc' := 18) dX1_least_17 (by decide) (fun _ => rfl) (zX_t1018 hx) (zin (by decide)) (zix zn_1 (zX_r1018_1 hx)) rfl ?_
  refine za_iload_n (pc' := 19) 4 dX1_least_18 rfl rfl rfl ?_
  refine za_callV (κ := 1041) (M2 := mX12_only) (d2 := 4) (b2 := 0) (n := 1) (As := [.int v3]) (st := []) (pc' := 22) zc11 (by decide) (congrArg Prod.fst (zX_t1041 hx)) dX1_least_19 rfl (lw_V q1220 q1221 q1222 q145 q1223) ⟨rfl, hd_X12_only⟩ rfl (by decide) (by decide) (Nat.zero_le _) (Or.inl rfl) (Nat.le_of_ble_eq_true rfl) h (zqI__k rfl (fun r2 h => ?_)) (fun _ _ _ _ _ _ h9 h8 => absurd h8.1 h9) rfl
  refine za_istore (pc' := 24) (l' := [(6, .int r2), (5, .int r1), (0, .ref 1000), (1, .int v1), (2, .int v2), (3, .int v3), (4, .int v4)]) dX1_least_22 (Nat.le_of_ble_eq_true rfl) rfl rfl ?_
  refine za_iload (pc' := 26) 1 dX1_least_24 rfl rfl ?_
  refine za_if_eq (pc' := 29) (tgt := 53) dX1_least_26 (by decide) rfl (fun c9 => ?_) (fun c9 => ?_)
  · replace h := h.1 c9
    refine za_ldc_w (pc' := 56) (v := (1000000 : Int32)) (own := "") dX1_least_53 q1215 rfl ?_
    exact za_ireturn rfl dX1_least_56 h
  · replace h := h.2 c9
    refine za_iload (pc' := 31) 0 dX1_least_29 rfl rfl ?_
    refine za_if_eq (pc' := 34) (tgt := 53) dX1_least_31 (by decide) rfl (fun c9 => ?_) (fun c9 => ?_)
    · replace h := h.1 c9
      refine za_ldc_w (pc' := 56) (v := (1000000 : Int32)) (own := "") dX1_least_53 q1215 rfl ?_
      exact za_ireturn rfl dX1_least_56 h
    · replace h := h.2 c9
      refine za_iload (pc' := 36) 1 dX1_least_34 rfl rfl ?_
      refine za_iconst (pc' := 37) dX1_least_36 zi_m1 rfl ?_
      refine za_icmp_eq (pc' := 40) (tgt := 57) dX1_least_37 (by decide) rfl (fun c9 => ?_) (fun c9 => ?_)
      · replace h := h.1 c9
        refine za_ldc_w (pc' := 60) (v := (1000000 : Int32)) (own := "") dX1_least_57 q1215 rfl ?_
        refine za_istore (pc' := 62) (l' := [(7, .int (1000000 : Int32)), (6, .int r2), (5, .int r1), (0, .ref 1000), (1, .int v1), (2, .int v2), (3, .int v3), (4, .int v4)]) dX1_least_60 (Nat.le_of_ble_eq_true rfl) rfl rfl ?_
        refine za_iconst (pc' := 63) dX1_least_62 zi_1 rfl ?_
        refine za_istore (pc' := 65) (l' := [(8, .int (1 : Int32)), (7, .int (1000000 : Int32)), (6, .int r2), (5, .int r1), (0, .ref 1000), (1, .int v1), (2, .int v2), (3, .int v3), (4, .int v4)]) dX1_least_63 (Nat.le_of_ble_eq_true rfl) rfl rfl ?_
        exact zAW_sub [4, 5, 6, 7, 8, 3, 2, 1, 0] rfl h
      · replace h := h.2 c9
        refine za_iload (pc' := 42) 0 dX1_least_40 rfl rfl ?_
        refine za_iconst (pc' := 43) dX1_least_42 zi_m1 rfl ?_
        refine za_icmp_eq (pc' := 46) (tgt := 57) dX1_least_43 (by decide) rfl (fun c9 => ?_) (fun c9 => ?_)
        · replace h := h.1 c9
          refine za_ldc_w (pc' := 60) (v := (1000000 : Int32)) (own := "") dX1_least_57 q1215 rfl ?_
          refine za_istore (pc' := 62) (l' := [(7, .int (1000000 : Int32)), (6, .int r2), (5, .int r1), (0, .ref 1000), (1, .int v1), (2, .int v2), (3, .int v3), (4, .int v4)]) dX1_least_60 (Nat.le_of_ble_eq_true rfl) rfl rfl ?_
          refine za_iconst (pc' := 63) dX1_least_62 zi_1 rfl ?_
          refine za_istore (pc' := 65) (l' := [(8, .int (1 : Int32)), (7, .int (1000000 : Int32)), (6, .int r2), (5, .int r1), (0, .ref 1000), (1, .int v1), (2, .int v2), (3, .int v3), (4, .int v4)]) dX1_least_63 (Nat.le_of_ble_eq_true rfl) rfl rfl ?_
          exact zAW_sub [4, 5, 6, 7, 8, 3, 2, 1, 0] rfl h
        · replace h := h.2 c9
          refine za_iload (pc' := 48) 1 dX1_least_46 rfl rfl ?_
          refine za_iload (pc' := 50) 0 dX1_least_48 rfl rfl ?_
          refine za_icmp_eq (pc' := 53) (tgt := 57) dX1_least_50 (by decide) rfl (fun c9 => ?_) (fun c9 => ?_)
          · replace h := h.1 c9
            refine za_ldc_w (pc' := 60) (v := (1000000 : Int32)) (own := "") dX1_least_57 q1215 rfl ?_
            refine za_istore (pc' := 62) (l' := [(7, .int (1000000 : Int32)), (6, .int r2), (5, .int r1), (0, .ref 1000), (1, .int v1), (2, .int v2), (3, .int v3), (4, .int v4)]) dX1_least_60 (Nat.le_of_ble_eq_true rfl) rfl rfl ?_
            refine za_iconst (pc' := 63) dX1_least_62 zi_1 rfl ?_
            refine za_istore (pc' := 65) (l' := [(8, .int (1 : Int32)), (7, .int (1000000 : Int32)), (6, .int r2), (5, .int r1), (0, .ref 1000), (1, .int v1), (2, .int v2), (3, .int v3), (4, .int v4)]) dX1_least_63 (Nat.le_of_ble_eq_true rfl) rfl rfl ?_
            exact zAW_sub [4, 5, 6, 7, 8, 3, 2, 1, 0] rfl h
          · replace h := h.2 c9
            refine za_ldc_w (pc' := 56) (v := (1000000 : Int32)) (own := "") dX1_least_53 q1215 rfl ?_
            exact za_ireturn rfl dX1_least_56 h
theorem gX1_least_65 {v1 : Int32} {v2 : Int32} {v3 : Int32} {v4 : Int32} {v5 : Int32} {v6 : Int32} {v7 : Int32} {v8 : Int32} {T : zT} {I : zI} {L : zL} {R : zR} {P : zP} (hx : zXok T R) (h : (((26 : Int32) < v8 → P 0 (.int v7) T I L R) ∧ (¬ (26 : Int32) < v8 → ((v5 = (-1 : Int32) → zAW mX1_least 5 0 85 [(0, .ref 1000), (1, .int v1), (2, .int v2), (3, .int v3), (4, .int v4), (5, .int v5), (6, .int v6), (7, .int v7), (8, .int v8)] [] T I L R P) ∧ (¬ v5 = (-1 : Int32) → ((v8 = v5 → zAW mX1_least 5 0 85 [(0, .ref 1000), (1, .int v1), (2, .int v2), (3, .int v3), (4, .int v4), (5, .int v5), (6, .int v6), (7, .int v7), (8, .int v8)] [] T I L R P) ∧ (¬ v8 = v5 → zAW mX1_least 5 0 65 [(0, .ref 1000), (1, .int v1), (2, .int v2), (3, .int v3), (4, .int v4), (5, .int v5), (6, .int v6), (7, .int v7), (8, .int (v8 + (1 : Int32)))] [] T I L R P))))))) : zAW mX1_least 5 0 65 [(0, .ref 1000), (1, .int v1), (2, .int v2), (3, .int v3), (4, .int v4), (5, .int v5), (6, .int v6), (7, .int v7), (8, .int v8)] [] T I L R P := by
  refine za_iload (pc' := 67) 8 dX1_least_65 rfl rfl ?_
  refine za_bipush (pc' := 69) dX1_least_67 zb8_26 rfl ?_
  refine za_icmp_gt (pc' := 72) (tgt := 272) dX1_least_69 (by decide) rfl (fun c9 => ?_) (fun c9 => ?_)
  · replace h := h.1 c9
    refine za_iload (pc' := 274) 7 dX1_least_272 rfl rfl ?_
    exact za_ireturn rfl dX1_least_274 h
  · replace h := h.2 c9
    refine za_iload (pc' := 74) 5 dX1_least_72 rfl rfl ?_
    refine za_iconst (pc' := 75) dX1_least_74 zi_m1 rfl ?_
    refine za_icmp_eq (pc' := 78) (tgt := 85) dX1_least_75 (by decide) rfl (fun c9 => ?_) (fun c9 => ?_)
    · replace h := h.1 c9
      exact zAW_sub [0, 1, 2, 3, 4, 5, 6, 7, 8] rfl h
    · replace h := h.2 c9
      refine za_iload (pc' := 80) 8 dX1_least_78 rfl rfl ?_
      refine za_iload (pc' := 82) 5 dX1_least_80 rfl rfl ?_
      refine za_icmp_ne (pc' := 85) (tgt := 266) dX1_least_82 (by decide) rfl (fun c9 => ?_) (fun c9 => ?_)
      · replace h := h.2 c9
        refine za_iinc (pc' := 269) (l' := [(8, .int (v8 + (1 : Int32))), (0, .ref 1000), (1, .int v1), (2, .int v2), (3, .int v3), (4, .int v4), (5, .int v5), (6, .int v6), (7, .int v7)]) 8 dX1_least_266 rfl (zinc zi_1) (Nat.le_of_ble_eq_true rfl) rfl rfl ?_
        refine za_goto (tgt := 65) dX1_least_269 (by decide) ?_
        exact zAW_sub [1, 2, 3, 4, 5, 6, 7, 8, 0] rfl h
      · replace h := h.1 c9
        exact zAW_sub [0, 1, 2, 3, 4, 5, 6, 7, 8] rfl h
theorem gX1_least_85 {v1 : Int32} {v2 : Int32} {v3 : Int32} {v4 : Int32} {v5 : Int32} {v6 : Int32} {v7 : Int32} {v8 : Int32} {T : zT} {I : zI} {L : zL} {R : zR} {P : zP} (hx : zXok T R) (h : ((v6 = (-1 : Int32) → zAW mX1_least 5 0 98 [(0, .ref 1000), (1, .int v1), (2, .int v2), (3, .int v3), (4, .int v4), (5, .int v5), (6, .int v6), (7, .int v7), (8, .int v8)] [] T I L R P) ∧ (¬ v6 = (-1 : Int32) → ((v8 = v6 → zAW mX1_least 5 0 98 [(0, .ref 1000), (1, .int v1), (2, .int v2), (3, .int v3), (4, .int v4), (5, .int v5), (6, .int v6), (7, .int v7), (8, .int v8)] [] T I L R P) ∧ (¬ v8 = v6 → zAW mX1_least 5 0 65 [(0, .ref 1000), (1, .int v1), (2, .int v2), (3, .int v3), (4, .int v4), (5, .int v5), (6, .int v6), (7, .int v7), (8, .int (v8 + (1 : Int32)))] [] T I L R P))))) : zAW mX1_least 5 0 85 [(0, .ref 1000), (1, .int v1), (2, .int v2), (3, .int v3), (4, .int v4), (5, .int v5), (6, .int v6), (7, .int v7), (8, .int v8)] [] T I L R P := by
  refine za_iload (pc' := 87) 6 dX1_least_85 rfl rfl ?_
  refine za_iconst (pc' := 88) dX1_least_87 zi_m1 rfl ?_
  refine za_icmp_eq (pc' := 91) (tgt := 98) dX1_least_88 (by decide) rfl (fun c9 => ?_) (fun c9 => ?_)
  · replace h := h.1 c9
    exact zAW_sub [0, 1, 2, 3, 4, 5, 6, 7, 8] rfl h
  · replace h := h.2 c9
    refine za_iload (pc' := 93) 8 dX1_least_91 rfl rfl ?_
    refine za_iload (pc' := 95) 6 dX1_least_93 rfl rfl ?_
    refine za_icmp_ne (pc' := 98) (tgt := 266) dX1_least_95 (by decide) rfl (fun c9 => ?_) (fun c9 => ?_)
    · replace h := h.2 c9
      refine za_iinc (pc' := 269) (l' := [(8, .int (v8 + (1 : Int32))), (0, .ref 1000), (1, .int v1), (2, .int v2), (3, .int v3), (4, .int v4), (5, .int v5), (6, .int v6), (7, .int v7)]) 8 dX1_least_266 rfl (zinc zi_1) (Nat.le_of_ble_eq_true rfl) rfl rfl ?_
      refine za_goto (tgt := 65) dX1_least_269 (by decide) ?_
      exact zAW_sub [1, 2, 3, 4, 5, 6, 7, 8, 0] rfl h
    · replace h := h.1 c9
      exact zAW_sub [0, 1, 2, 3, 4, 5, 6, 7, 8] rfl h
theorem gX1_least_98 {v1 : Int32} {v2 : Int32} {v3 : Int32} {v4 : Int32} {v5 : Int32} {v6 : Int32} {v7 : Int32} {v8 : Int32} {T : zT} {I : zI} {L : zL} {R : zR} {P : zP} (hx : zXok T R) (h : ((v4 = 0 → zAW mX1_least 5 0 116 [(0, .ref 1000), (1, .int v1), (2, .int v2), (3, .int v3), (4, .int v4), (5, .int v5), (6, .int v6), (7, .int v7), (8, .int v8), (9, .int (0 : Int32))] [] T I L R P) ∧ (¬ v4 = 0 → ((v8 = v4 → zAW mX1_least 5 0 116 [(0, .ref 1000), (1, .int v1), (2, .int v2), (3, .int v3), (4, .int v4), (5, .int v5), (6, .int v6), (7, .int v7), (8, .int v8), (9, .int (0 : Int32))] [] T I L R P) ∧ (¬ v8 = v4 → zAW mX1_least 5 0 65 [(0, .ref 1000), (1, .int v1), (2, .int v2), (3, .int v3), (4, .int v4), (5, .int v5), (6, .int v6), (7, .int v7), (8, .int (v8 + (1 : Int32)))] [] T I L R P))))) : zAW mX1_least 5 0 98 [(0, .ref 1000), (1, .int v1), (2, .int v2), (3, .int v3), (4, .int v4), (5, .int v5), (6, .int v6), (7, .int v7), (8, .int v8)] [] T I L R P := by
  refine za_iload (pc' := 100) 4 dX1_least_98 rfl rfl ?_
  refine za_if_eq (pc' := 103) (tgt := 113) dX1_least_100 (by decide) rfl (fun c9 => ?_) (fun c9 => ?_)
  · replace h := h.1 c9
    refine za_iconst (pc' := 114) dX1_least_113 zi_0 rfl ?_
    refine za_istore (pc' := 116) (l' := [(9, .int (0 : Int32)), (0, .ref 1000), (1, .int v1), (2, .int v2), (3, .int v3), (4, .int v4), (5, .int v5), (6, .int v6), (7, .int v7), (8, .int v8)]) dX1_least_114 (Nat.le_of_ble_eq_true rfl) rfl rfl ?_
    exact zAW_sub [1, 2, 3, 4, 5, 6, 7, 8, 9, 0] rfl h
  · replace h := h.2 c9
    refine za_iload (pc' := 105) 8 dX1_least_103 rfl rfl ?_
    refine za_iload (pc' := 107) 4 dX1_least_105 rfl rfl ?_
    refine za_icmp_eq (pc' := 110) (tgt := 113) dX1_least_107 (by decide) rfl (fun c9 => ?_) (fun c9 => ?_)
    · replace h := h.1 c9
      refine za_iconst (pc' := 114) dX1_least_113 zi_0 rfl ?_
      refine za_istore (pc' := 116) (l' := [(9, .int (0 : Int32)), (0, .ref 1000), (1, .int v1), (2, .int v2), (3, .int v3), (4, .int v4), (5, .int v5), (6, .int v6), (7, .int v7), (8, .int v8)]) dX1_least_114 (Nat.le_of_ble_eq_true rfl) rfl rfl ?_
      exact zAW_sub [1, 2, 3, 4, 5, 6, 7, 8, 9, 0] rfl h
    · replace h := h.2 c9
      refine za_goto (tgt := 266) dX1_least_110 (by decide) ?_
      refine za_iinc (pc' := 269) (l' := [(8, .int (v8 + (1 : Int32))), (0, .ref 1000), (1, .int v1), (2, .int v2), (3, .int v3), (4, .int v4), (5, .int v5), (6, .int v6), (7, .int v7)]) 8 dX1_least_266 rfl (zinc zi_1) (Nat.le_of_ble_eq_true rfl) rfl rfl ?_
      refine za_goto (tgt := 65) dX1_least_269 (by decide) ?_
      exact zAW_sub [1, 2, 3, 4, 5, 6, 7, 8, 0] rfl h
theorem gX1_least_116 {v1 : Int32} {v2 : Int32} {v3 : Int32} {v4 : Int32} {v5 : Int32} {v6 : Int32} {v7 : Int32} {v8 : Int32} {v9 : Int32} {T : zT} {I : zI} {L : zL} {R : zR} {P : zP} (hx : zXok T R) (h : (((I 1203 2) ≤ v9 → zAW mX1_least 5 0 65 [(0, .ref 1000), (1, .int v1), (2, .int v2), (3, .int v3), (4, .int v4), (5, .int v5), (6, .int v6), (7, .int v7), (8, .int (v8 + (1 : Int32)))] [] T I L R P) ∧ (¬ (I 1203 2) ≤ v9 → zMet mX12_goes 4 0 [.ref 1040, .int v2, .int v9, .int v8] T I L R (zqI_ T I L R  (fun (r3 : Int32)  => ((r3 = (-1 : Int32) → zAW mX1_least 5 0 116 [(0, .ref 1000), (1, .int v1), (2, .int v2), (3, .int v3), (4, .int v4), (5, .int v5), (6, .int v6), (7, .int v7), (8, .int v8), (9, .int (v9 + (1 : Int32)))] [] T I L R P) ∧ (¬ r3 = (-1 : Int32) → zAW mX1_least 5 0 161 [(0, .ref 1000), (1, .int v1), (2, .int v2), (3, .int v3), (4, .int v4), (5, .int v5), (6, .int v6), (7, .int v7), (8, .int v8), (9, .int v9), (10, .int r3), (11, .int (0 : Int32))] [] T I L R P))))))) : zAW mX1_least 5 0 116 [(0, .ref 1000), (1, .int v1), (2, .int v2), (3, .int v3), (4, .int v4), (5, .int v5), (6, .int v6), (7, .int v7), (8, .int v8), (9, .int v9)] [] T I L R P := by
  refine za_iload (pc' := 118) 9 dX1_least_116 rfl rfl ?_
  refine za_aload_n (pc' := 119) 0 dX1_least_118 rfl rfl rfl ?_
  refine za_get (fi := 10) (v := .ref 1200) (pc' := 122) dX1_least_119 zc0 (by decide) in_X1 (by decide) q500 (Or.inl rfl) (congrArg Prod.fst (zX_t1000 hx)) (congrArg Value.ref (zX_r1000_10 hx)) rfl ?_
  refine za_getN (fi := 0) (v := .ref 1201) (pc' := 125) dX1_least_122 zc9 (by decide) in_X10 (by decide) q416 (Or.inl rfl) (congrArg Prod.fst (zX_t1200 hx)) (congrArg Value.ref (zX_r1200_0 hx)) rfl ?_
  refine za_iconst (pc' := 126) dX1_least_125 zi_0 rfl ?_
  refine za_aald (r := 1203) (t := 4) (C := RX4) (pc' := 127) dX1_least_126 (by decide) (fun _ => rfl) (zX_t1201 hx) (zin (by decide)) (zix zn_0 (zX_r1201_0 hx)) rfl ?_
  refine za_getN (fi := 2) (v := .int (I 1203 2)) (pc' := 130) dX1_least_127 zc3 (by decide) in_X4 (by decide) q233 (Or.inl rfl) (congrArg Prod.fst (zX_t1203 hx)) rfl rfl ?_
  refine za_icmp_ge (pc' := 133) (tgt := 266) dX1_least_130 (by decide) rfl (fun c9 => ?_) (fun c9 => ?_)
  · replace h := h.1 c9
    refine za_iinc (pc' := 269) (l' := [(8, .int (v8 + (1 : Int32))), (0, .ref 1000), (1, .int v1), (2, .int v2), (3, .int v3), (4, .int v4), (5, .int v5), (6, .int v6), (7, .int v7), (9, .int v9)]) 8 dX1_least_266 rfl (zinc zi_1) (Nat.le_of_ble_eq_true rfl) rfl rfl ?_
    refine za_goto (tgt := 65) dX1_least_269 (by decide) ?_
    exact zAW_sub [1, 2, 3, 4, 5, 6, 7, 8, 0] rfl h
  · replace h := h.2 c9
    refine za_aload_n (pc' := 134) 0 dX1_least_133 rfl rfl rfl ?_
    refine za_get (fi := 17) (v := .ref 1018) (pc' := 137) dX1_least_134 zc0 (by decide) in_X1 (by decide) q507 (Or.inl rfl) (congrArg Prod.fst (zX_t1000 hx)) (congrArg Value.ref (zX_r1000_17 hx)) rfl ?_
    refine za_iconst (pc' := 138) dX1_least_137 zi_0 rfl ?_
    refine za_aald (r := 1040) (t := 7) (C := RX12) (pc' := 139) dX1_least_138 (by decide) (fun _ => rfl) (zX_t1018 hx) (zin (by decide)) (zix zn_0 (zX_r1018_0 hx)) rfl ?_
    refine za_iload_n (pc' := 140) 2 dX1_least_139 rfl rfl rfl ?_
    refine za_iload (pc' := 142) 9 dX1_least_140 rfl rfl ?_
    refine za_iload (pc' := 144) 8 dX1_least_142 rfl rfl ?_
    refine za_callV (κ := 1040) (M2 := mX12_goes) (d2 := 4) (b2 := 0) (n := 3) (As := [.int v2, .int v9, .int v8]) (st := []) (pc' := 147) zc11 (by decide) (congrArg Prod.fst (zX_t1040 hx)) dX1_least_144 rfl (lw_V q1230 q1231 q1232 q145 q1233) ⟨rfl, hd_X12_goes⟩ rfl (by decide) (by decide) (Nat.zero_le _) (Or.inl rfl) (Nat.le_of_ble_eq_true rfl) h (zqI__k rfl (fun r3 h => ?_)) (fun _ _ _ _ _ _ h9 h8 => absurd h8.1 h9) rfl
    refine za_istore (pc' := 149) (l' := [(10, .int r3), (0, .ref 1000), (1, .int v1), (2, .int v2), (3, .int v3), (4, .int v4), (5, .int v5), (6, .int v6), (7, .int v7), (8, .int v8), (9, .int v9)]) dX1_least_147 (Nat.le_of_ble_eq_true rfl) rfl rfl ?_
    refine za_iload (pc' := 151) 0 dX1_least_149 rfl rfl ?_
    refine za_iconst (pc' := 152) dX1_least_151 zi_m1 rfl ?_
    refine za_icmp_ne (pc' := 155) (tgt := 158) dX1_least_152 (by decide) rfl (fun c9 => ?_) (fun c9 => ?_)
    · replace h := h.2 c9
      refine za_iconst (pc' := 159) dX1_least_158 zi_0 rfl ?_
      refine za_istore (pc' := 161) (l' := [(11, .int (0 : Int32)), (10, .int r3), (0, .ref 1000), (1, .int v1), (2, .int v2), (3, .int v3), (4, .int v4), (5, .int v5), (6, .int v6), (7, .int v7), (8, .int v8), (9, .int v9)]) dX1_least_159 (Nat.le_of_ble_eq_true rfl) rfl rfl ?_
      exact zAW_sub [2, 3, 4, 5, 6, 7, 8, 9, 10, 11, 1, 0] rfl h
    · replace h := h.1 c9
      refine za_goto (tgt := 260) dX1_least_155 (by decide) ?_
      refine za_iinc (pc' := 263) (l' := [(9, .int (v9 + (1 : Int32))), (10, .int r3), (0, .ref 1000), (1, .int v1), (2, .int v2), (3, .int v3), (4, .int v4), (5, .int v5), (6, .int v6), (7, .int v7), (8, .int v8)]) 10 dX1_least_260 rfl (zinc zi_1) (Nat.le_of_ble_eq_true rfl) rfl rfl ?_
      refine za_goto (tgt := 116) dX1_least_263 (by decide) ?_
      exact zAW_sub [2, 3, 4, 5, 6, 7, 8, 9, 10, 0] rfl h
theorem gX1_least_161 {v1 : Int32} {v2 : Int32} {v3 : Int32} {v4 : Int32} {v5 : Int32} {v6 : Int32} {v7 : Int32} {v8 : Int32} {v9 : Int32} {v10 : Int32} {v11 : Int32} {T : zT} {I : zI} {L : zL} {R : zR} {P : zP} (hx : zXok T R) (h : (((I 1206 2) ≤ v11 → zAW mX1_least 5 0 116 [(0, .ref 1000), (1, .int v1), (2, .int v2), (3, .int v3), (4, .int v4), (5, .int v5), (6, .int v6), (7, .int v7), (8, .int v8), (9, .int (v9 + (1 : Int32)))] [] T I L R P) ∧ (¬ (I 1206 2) ≤ v11 → zMet mX12_goes 4 0 [.ref 1041, .int v3, .int v11, .int v8] T I L R (zqI_ T I L R  (fun (r4 : Int32)  => ((r4 = (-1 : Int32) → zAW mX1_least 5 0 161 [(0, .ref 1000), (1, .int v1), (2, .int v2), (3, .int v3), (4, .int v4), (5, .int v5), (6, .int v6), (7, .int v7), (8, .int v8), (9, .int v9), (10, .int v10), (11, .int (v11 + (1 : Int32)))] [] T I L R P) ∧ (¬ r4 = (-1 : Int32) → zMet mX1_at 1 0 [.int (v1 + (1 : Int32)), .int v10, .int r4] T I L R (zqI_ T I L R  (fun (r5 : Int32)  => vp_in r5 48373 ∧ (((1000000 : Int32) ≤ (I 1019 (r5.toNatClampNeg)) → zAW mX1_least 5 0 161 [(0, .ref 1000), (1, .int v1), (2, .int v2), (3, .int v3), (4, .int v4), (5, .int v5), (6, .int v6), (7, .int v7), (8, .int v8), (9, .int v9), (10, .int v10), (11, .int (v11 + (1 : Int32)))] [] T I L R P) ∧ (¬ (1000000 : Int32) ≤ (I 1019 (r5.toNatClampNeg)) → (T (R 1000 8)).1 = 3 ∧ (T (R (R 1000 8) 8)).1 = 100 ∧ vp_in v8 ((T (R (R 1000 8) 8)).2) ∧ zMet mX1_at 1 0 [.int (v1 + (1 : Int32)), .int v10, .int r4] T I L R (zqI_ T I L R  (fun (r10 : Int32)  => vp_in r10 48373 ∧ zAW mX1_least 5 0 161 [(0, .ref 1000), (1, .int v1), (2, .int v2), (3, .int v3), (4, .int v4), (5, .int v5), (6, .int v6), (7, .int (if ((I (R (R 1000 8) 8) (v8.toNatClampNeg)) + (I 1019 (r10.toNatClampNeg))) < v7 then ((I (R (R 1000 8) 8) (v8.toNatClampNeg)) + (I 1019 (r10.toNatClampNeg))) else v7)), (8, .int v8), (9, .int v9), (10, .int v10), (11, .int (v11 + (1 : Int32)))] [] T I L R P))))))))))))) : zAW mX1_least 5 0 161 [(0, .ref 1000), (1, .int v1), (2, .int v2), (3, .int v3), (4, .int v4), (5, .int v5), (6, .int v6), (7, .int v7), (8, .int v8), (9, .int v9), (10, .int v10), (11, .int v11)] [] T I L R P := by
  refine za_iload (pc' := 163) 11 dX1_least_161 rfl rfl ?_
  refine za_aload_n (pc' := 164) 0 dX1_least_163 rfl rfl rfl ?_
  refine za_get (fi := 10) (v := .ref 1200) (pc' := 167) dX1_least_164 zc0 (by decide) in_X1 (by decide) q500 (Or.inl rfl) (congrArg Prod.fst (zX_t1000 hx)) (congrArg Value.ref (zX_r1000_10 hx)) rfl ?_
  refine za_getN (fi := 0) (v := .ref 1201) (pc' := 170) dX1_least_167 zc9 (by decide) in_X10 (by decide) q416 (Or.inl rfl) (congrArg Prod.fst (zX_t1200 hx)) (congrArg Value.ref (zX_r1200_0 hx)) rfl ?_
  refine za_iconst (pc' := 171) dX1_least_170 zi_1 rfl ?_
  refine za_aald (r := 1206) (t := 4) (C := RX4) (pc' := 172) dX1_least_171 (by decide) (fun _ => rfl) (zX_t1201 hx) (zin (by decide)) (zix zn_1 (zX_r1201_1 hx)) rfl ?_
  refine za_getN (fi := 2) (v := .int (I 1206 2)) (pc' := 175) dX1_least_172 zc3 (by decide) in_X4 (by decide) q233 (Or.inl rfl) (congrArg Prod.fst (zX_t1206 hx)) rfl rfl ?_
  refine za_icmp_ge (pc' := 178) (tgt := 260) dX1_least_175 (by decide) rfl (fun c9 => ?_) (fun c9 => ?_)
  · replace h := h.1 c9
    refine za_iinc (pc' := 263) (l' := [(9, .int (v9 + (1 : Int32))), (0, .ref 1000), (1, .int v1), (2, .int v2), (3, .int v3), (4, .int v4), (5, .int v5), (6, .int v6), (7, .int v7), (8, .int v8), (10, .int v10), (11, .int v11)]) 9 dX1_least_260 rfl (zinc zi_1) (Nat.le_of_ble_eq_true rfl) rfl rfl ?_
    refine za_goto (tgt := 116) dX1_least_263 (by decide) ?_
    exact zAW_sub [1, 2, 3, 4, 5, 6, 7, 8, 9, 0] rfl h
  · replace h := h.2 c9
    refine za_aload_n (pc' := 179) 0 dX1_least_178 rfl rfl rfl ?_
    refine za_get (fi := 17) (v := .ref 1018) (pc' := 182) dX1_least_179 zc0 (by decide) in_X1 (by decide) q507 (Or.inl rfl) (congrArg Prod.fst (zX_t1000 hx)) (congrArg Value.ref (zX_r1000_17 hx)) rfl ?_
    refine za_iconst (pc' := 183) dX1_least_182 zi_1 rfl ?_
    refine za_aald (r := 1041) (t := 7) (C := RX12) (pc' := 184) dX1_least_183 (by decide) (fun _ => rfl) (zX_t1018 hx) (zin (by decide)) (zix zn_1 (zX_r1018_1 hx)) rfl ?_
    refine za_iload_n (pc' := 185) 3 dX1_least_184 rfl rfl rfl ?_
    refine za_iload (pc' := 187) 11 dX1_least_185 rfl rfl ?_
    refine za_iload (pc' := 189) 8 dX1_least_187 rfl rfl ?_
    refine za_callV (κ := 1041) (M2 := mX12_goes) (d2 := 4) (b2 := 0) (n := 3) (As := [.int v3, .int v11, .int v8]) (st := []) (pc' := 192) zc11 (by decide) (congrArg Prod.fst (zX_t1041 hx)) dX1_least_189 rfl (lw_V q1230 q1231 q1232 q145 q1233) ⟨rfl, hd_X12_goes⟩ rfl (by decide) (by decide) (Nat.zero_le _) (Or.inl rfl) (Nat.le_of_ble_eq_true rfl) h (zqI__k rfl (fun r4 h => ?_)) (fun _ _ _ _ _ _ h9 h8 => absurd h8.1 h9) rfl
    refine za_istore (pc' := 194) (l' := [(12, .int r4), (0, .ref 1000), (1, .int v1), (2, .int v2), (3, .int v3), (4, .int v4), (5, .int v5), (6, .int v6), (7, .int v7), (8, .int v8), (9, .int v9), (10, .int v10), (11, .int v11)]) dX1_least_192 (Nat.le_of_ble_eq_true rfl) rfl rfl ?_
    refine za_iload (pc' := 196) 0 dX1_least_194 rfl rfl ?_
    refine za_iconst (pc' := 197) dX1_least_196 zi_m1 rfl ?_
    refine za_icmp_eq (pc' := 200) (tgt := 254) dX1_least_197 (by decide) rfl (fun c9 => ?_) (fun c9 => ?_)
    · replace h := h.1 c9
      refine za_iinc (pc' := 257) (l' := [(11, .int (v11 + (1 : Int32))), (12, .int r4), (0, .ref 1000), (1, .int v1), (2, .int v2), (3, .int v3), (4, .int v4), (5, .int v5), (6, .int v6), (7, .int v7), (8, .int v8), (9, .int v9), (10, .int v10)]) 12 dX1_least_254 rfl (zinc zi_1) (Nat.le_of_ble_eq_true rfl) rfl rfl ?_
      refine za_goto (tgt := 161) dX1_least_257 (by decide) ?_
      exact zAW_sub [2, 3, 4, 5, 6, 7, 8, 9, 10, 11, 12, 0] rfl h
    · replace h := h.2 c9
      refine za_aload_n (pc' := 201) 1 dX1_least_200 rfl rfl rfl ?_
      refine za_get (fi := 18) (v := .ref 1019) (pc' := 204) dX1_least_201 zc0 (by decide) in_X1 (by decide) q508 (Or.inl rfl) (congrArg Prod.fst (zX_t1000 hx)) (congrArg Value.ref (zX_r1000_18 hx)) rfl ?_
      refine za_iload_n (pc' := 205) 2 dX1_least_204 rfl rfl rfl ?_
      refine za_iconst (pc' := 206) dX1_least_205 zi_1 rfl ?_
      refine za_iadd (pc' := 207) dX1_least_206 rfl ?_
      refine za_iload (pc' := 209) 11 dX1_least_207 rfl rfl ?_
      refine za_iload (pc' := 211) 0 dX1_least_209 rfl rfl ?_
      refine za_callS (M2 := mX1_at) (d2 := 1) (b2 := 0) (n := 3) (As := [.int (v1 + (1 : Int32)), .int v10, .int r4]) (st := [.ref 1019]) (pc' := 214) dX1_least_211 rfl (lw_S q1212 q1213 q131 q1214) hd_X1_at rfl (by decide) (by decide) (Nat.zero_le _) (Or.inl rfl) (Nat.le_of_ble_eq_true rfl) h (zqI__k rfl (fun r5 h => ?_)) (fun _ _ _ _ _ _ h9 h8 => absurd h8.1 h9) rfl
      obtain ⟨hi6, h⟩ := h
      refine za_iald (v := .int (I 1019 (r5.toNatClampNeg))) (pc' := 215) dX1_least_214 (zX_t1019 hx) hi6 rfl rfl ?_
      refine za_ldc_w (pc' := 218) (v := (1000000 : Int32)) (own := "") dX1_least_215 q1215 rfl ?_
      refine za_icmp_ge (pc' := 221) (tgt := 254) dX1_least_218 (by decide) rfl (fun c9 => ?_) (fun c9 => ?_)
      · replace h := h.1 c9
        refine za_iinc (pc' := 257) (l' := [(11, .int (v11 + (1 : Int32))), (12, .int r4), (0, .ref 1000), (1, .int v1), (2, .int v2), (3, .int v3), (4, .int v4), (5, .int v5), (6, .int v6), (7, .int v7), (8, .int v8), (9, .int v9), (10, .int v10)]) 12 dX1_least_254 rfl (zinc zi_1) (Nat.le_of_ble_eq_true rfl) rfl rfl ?_
        refine za_goto (tgt := 161) dX1_least_257 (by decide) ?_
        exact zAW_sub [2, 3, 4, 5, 6, 7, 8, 9, 10, 11, 12, 0] rfl h
      · replace h := h.2 c9
        refine za_iload (pc' := 223) 8 dX1_least_221 rfl rfl ?_
        refine za_aload_n (pc' := 224) 1 dX1_least_223 rfl rfl rfl ?_
        refine za_get (fi := 8) (v := .ref (R 1000 8)) (pc' := 227) dX1_least_224 zc0 (by decide) in_X1 (by decide) q498 (Or.inl rfl) (congrArg Prod.fst (zX_t1000 hx)) rfl rfl ?_
        obtain ⟨ht7, h⟩ := h
        refine za_getN (fi := 8) (v := .ref (R (R 1000 8) 8)) (pc' := 230) dX1_least_227 zc2 (by decide) in_X3 (by decide) q297 (Or.inl rfl) ht7 rfl rfl ?_
        refine za_iload (pc' := 232) 9 dX1_least_230 rfl rfl ?_
        obtain ⟨ht8, h⟩ := h
        obtain ⟨hi9, h⟩ := h
        refine za_iald (v := .int (I (R (R 1000 8) 8) (v8.toNatClampNeg))) (pc' := 233) dX1_least_232 (zpair ht8) hi9 rfl rfl ?_
        refine za_aload_n (pc' := 234) 1 dX1_least_233 rfl rfl rfl ?_
        refine za_get (fi := 18) (v := .ref 1019) (pc' := 237) dX1_least_234 zc0 (by decide) in_X1 (by decide) q508 (Or.inl rfl) (congrArg Prod.fst (zX_t1000 hx)) (congrArg Value.ref (zX_r1000_18 hx)) rfl ?_
        refine za_iload_n (pc' := 238) 2 dX1_least_237 rfl rfl rfl ?_
        refine za_iconst (pc' := 239) dX1_least_238 zi_1 rfl ?_
        refine za_iadd (pc' := 240) dX1_least_239 rfl ?_
        refine za_iload (pc' := 242) 11 dX1_least_240 rfl rfl ?_
        refine za_iload (pc' := 244) 0 dX1_least_242 rfl rfl ?_
        refine za_callS (M2 := mX1_at) (d2 := 1) (b2 := 0) (n := 3) (As := [.int (v1 + (1 : Int32)), .int v10, .int r4]) (st := [.ref 1019, .int (I (R (R 1000 8) 8) (v8.toNatClampNeg)), .int v7]) (pc' := 247) dX1_least_244 rfl (lw_S q1212 q1213 q131 q1214) hd_X1_at rfl (by decide) (by decide) (Nat.zero_le _) (Or.inl rfl) (Nat.le_of_ble_eq_true rfl) h (zqI__k rfl (fun r10 h => ?_)) (fun _ _ _ _ _ _ h9 h8 => absurd h8.1 h9) rfl
        obtain ⟨hi11, h⟩ := h
        refine za_iald (v := .int (I 1019 (r10.toNatClampNeg))) (pc' := 248) dX1_least_247 (zX_t1019 hx) hi11 rfl rfl ?_
        refine za_iadd (pc' := 249) dX1_least_248 rfl ?_
        refine za_mmin (pc' := 252) dX1_least_249 q1238 (by decide) (Nat.le_of_ble_eq_true rfl) rfl ?_
        refine za_istore (pc' := 254) (l' := [(7, .int (if ((I (R (R 1000 8) 8) (v8.toNatClampNeg)) + (I 1019 (r10.toNatClampNeg))) < v7 then ((I (R (R 1000 8) 8) (v8.toNatClampNeg)) + (I 1019 (r10.toNatClampNeg))) else v7)), (12, .int r4), (0, .ref 1000), (1, .int v1), (2, .int v2), (3, .int v3), (4, .int v4), (5, .int v5), (6, .int v6), (8, .int v8), (9, .int v9), (10, .int v10), (11, .int v11)]) dX1_least_252 (Nat.le_of_ble_eq_true rfl) rfl rfl ?_
        refine za_iinc (pc' := 257) (l' := [(11, .int (v11 + (1 : Int32))), (7, .int (if ((I (R (R 1000 8) 8) (v8.toNatClampNeg)) + (I 1019 (r10.toNatClampNeg))) < v7 then ((I (R (R 1000 8) 8) (v8.toNatClampNeg)) + (I 1019 (r10.toNatClampNeg))) else v7)), (12, .int r4), (0, .ref 1000), (1, .int v1), (2, .int v2), (3, .int v3), (4, .int v4), (5, .int v5), (6, .int v6), (8, .int v8), (9, .int v9), (10, .int v10)]) 12 dX1_least_254 rfl (zinc zi_1) (Nat.le_of_ble_eq_true rfl) rfl rfl ?_
        refine za_goto (tgt := 161) dX1_least_257 (by decide) ?_
        exact zAW_sub [3, 4, 5, 6, 7, 8, 9, 1, 10, 11, 12, 0] rfl h
theorem sX1_least {d b : Nat} {v1 : Int32} {v2 : Int32} {v3 : Int32} {v4 : Int32} {T : zT} {I : zI} {L : zL} {R : zR} {P : zP} (h : zAW mX1_least d b 0 [(0, .ref 1000), (1, .int v1), (2, .int v2), (3, .int v3), (4, .int v4)] [] T I L R P) : zMet mX1_least d b [.ref 1000, .int v1, .int v2, .int v3, .int v4] T I L R P := zMet_of (by decide +kernel) rfl (Nat.le_of_ble_eq_true rfl) rfl h
/-! TwoTongues.walks (I)I -/
def dkwX1_walks_2 : List UInt8 := [182, 1, 97, 42, 180, 1, 82, 172]
abbrev dktX1_walks_2 : List UInt8 := dkwX1_walks_2 ++ []
def dkwX1_walks_1 : List UInt8 := [20, 1, 101, 20, 1, 101, 182, 1, 94, 19, 1, 68, 162, 0, 15, 42, 3, 20, 1, 101, 20, 1, 101, 27]
abbrev dktX1_walks_1 : List UInt8 := dkwX1_walks_1 ++ dktX1_walks_2
def dkwX1_walks_0 : List UInt8 := [42, 3, 181, 1, 82, 42, 9, 181, 1, 87, 42, 180, 0, 104, 42, 180, 1, 61, 181, 0, 190, 42, 3]
abbrev dktX1_walks_0 : List UInt8 := dkwX1_walks_0 ++ dktX1_walks_1
theorem dksX1_walks_0 : cX1_walks.data.toList.drop 0 = dktX1_walks_0 := by decide +kernel
theorem dksX1_walks_1 : cX1_walks.data.toList.drop 23 = dktX1_walks_1 := dk_seg dksX1_walks_0 23 rfl rfl
theorem dksX1_walks_2 : cX1_walks.data.toList.drop 47 = dktX1_walks_2 := dk_seg dksX1_walks_1 24 rfl rfl
theorem dX1_walks_0 : decode cX1_walks 0 = .ok (.aload_n 0, 1) := dk_42 (dk_at dksX1_walks_0 0 rfl rfl)
theorem dX1_walks_1 : decode cX1_walks 1 = .ok (.iconst 0, 1) := dk_3 (dk_at dksX1_walks_0 1 rfl rfl)
theorem dX1_walks_2 : decode cX1_walks 2 = .ok (.putfield 338, 3) := dk_181 1 82 (dk_at dksX1_walks_0 2 rfl rfl)
theorem dX1_walks_5 : decode cX1_walks 5 = .ok (.aload_n 0, 1) := dk_42 (dk_at dksX1_walks_0 5 rfl rfl)
theorem dX1_walks_6 : decode cX1_walks 6 = .ok (.lconst 0, 1) := dk_9 (dk_at dksX1_walks_0 6 rfl rfl)
theorem dX1_walks_7 : decode cX1_walks 7 = .ok (.putfield 343, 3) := dk_181 1 87 (dk_at dksX1_walks_0 7 rfl rfl)
theorem dX1_walks_10 : decode cX1_walks 10 = .ok (.aload_n 0, 1) := dk_42 (dk_at dksX1_walks_0 10 rfl rfl)
theorem dX1_walks_11 : decode cX1_walks 11 = .ok (.getfield 104, 3) := dk_180 0 104 (dk_at dksX1_walks_0 11 rfl rfl)
theorem dX1_walks_14 : decode cX1_walks 14 = .ok (.aload_n 0, 1) := dk_42 (dk_at dksX1_walks_0 14 rfl rfl)
theorem dX1_walks_15 : decode cX1_walks 15 = .ok (.getfield 317, 3) := dk_180 1 61 (dk_at dksX1_walks_0 15 rfl rfl)
theorem dX1_walks_18 : decode cX1_walks 18 = .ok (.putfield 190, 3) := dk_181 0 190 (dk_at dksX1_walks_0 18 rfl rfl)
theorem dX1_walks_21 : decode cX1_walks 21 = .ok (.aload_n 0, 1) := dk_42 (dk_at dksX1_walks_0 21 rfl rfl)
theorem dX1_walks_22 : decode cX1_walks 22 = .ok (.iconst 0, 1) := dk_3 (dk_at dksX1_walks_0 22 rfl rfl)
theorem dX1_walks_23 : decode cX1_walks 23 = .ok (.ldc2_w 357, 3) := dk_20 1 101 (dk_at dksX1_walks_1 0 rfl rfl)
theorem dX1_walks_26 : decode cX1_walks 26 = .ok (.ldc2_w 357, 3) := dk_20 1 101 (dk_at dksX1_walks_1 3 rfl rfl)
theorem dX1_walks_29 : decode cX1_walks 29 = .ok (.invokevirtual 350, 3) := dk_182 1 94 (dk_at dksX1_walks_1 6 rfl rfl)
theorem dX1_walks_32 : decode cX1_walks 32 = .ok (.ldc_w 324, 3) := dk_19 1 68 (dk_at dksX1_walks_1 9 rfl rfl)
theorem dX1_walks_35 : decode cX1_walks 35 = .ok (.if_icmp .ge 15, 3) := dk_162 0 15 (dk_at dksX1_walks_1 12 rfl rfl)
theorem dX1_walks_38 : decode cX1_walks 38 = .ok (.aload_n 0, 1) := dk_42 (dk_at dksX1_walks_1 15 rfl rfl)
theorem dX1_walks_39 : decode cX1_walks 39 = .ok (.iconst 0, 1) := dk_3 (dk_at dksX1_walks_1 16 rfl rfl)
theorem dX1_walks_40 : decode cX1_walks 40 = .ok (.ldc2_w 357, 3) := dk_20 1 101 (dk_at dksX1_walks_1 17 rfl rfl)
theorem dX1_walks_43 : decode cX1_walks 43 = .ok (.ldc2_w 357, 3) := dk_20 1 101 (dk_at dksX1_walks_1 20 rfl rfl)
theorem dX1_walks_46 : decode cX1_walks 46 = .ok (.iload_n 1, 1) := dk_27 (dk_at dksX1_walks_1 23 rfl rfl)
theorem dX1_walks_47 : decode cX1_walks 47 = .ok (.invokevirtual 353, 3) := dk_182 1 97 (dk_at dksX1_walks_2 0 rfl rfl)
theorem dX1_walks_50 : decode cX1_walks 50 = .ok (.aload_n 0, 1) := dk_42 (dk_at dksX1_walks_2 3 rfl rfl)
theorem dX1_walks_51 : decode cX1_walks 51 = .ok (.getfield 338, 3) := dk_180 1 82 (dk_at dksX1_walks_2 4 rfl rfl)
theorem dX1_walks_54 : decode cX1_walks 54 = .ok (.ireturn, 1) := dk_172 (dk_at dksX1_walks_2 7 rfl rfl)
theorem gX1_walks_0 {v1 : Int32} {T : zT} {I : zI} {L : zL} {R : zR} {P : zP} (hx : zXok T R) (h : zMet mX1_least_2 2 0 [.ref 1000, .int (0 : Int32), .long (1152921504606846976 : Int64), .long (1152921504606846976 : Int64)] T (z2 (z2 I 1000 23 (0 : Int32)) 1022 1 (I 1000 20)) (z2 L 1000 22 (0 : Int64)) R (zqI_ T (z2 (z2 I 1000 23 (0 : Int32)) 1022 1 (I 1000 20)) (z2 L 1000 22 (0 : Int64)) R  (fun (r1 : Int32)  => (((1000000 : Int32) ≤ r1 → P 0 (.int (0 : Int32)) T (z2 (z2 I 1000 23 (0 : Int32)) 1022 1 (I 1000 20)) (z2 L 1000 22 (0 : Int64)) R) ∧ (¬ (1000000 : Int32) ≤ r1 → zMet mX1_walk 40 0 [.ref 1000, .int (0 : Int32), .long (1152921504606846976 : Int64), .long (1152921504606846976 : Int64), .int v1] T (z2 (z2 I 1000 23 (0 : Int32)) 1022 1 (I 1000 20)) (z2 L 1000 22 (0 : Int64)) R (zqV_IL T R  (fun (I2 : zI) (L3 : zL)  => P 0 (.int (I2 1000 23)) T I2 L3 R))))))) : zAW mX1_walks 41 0 0 [(0, .ref 1000), (1, .int v1)] [] T I L R P := by
  refine za_aload_n (pc' := 1) 0 dX1_walks_0 rfl rfl rfl ?_
  refine za_iconst (pc' := 2) dX1_walks_1 zi_0 rfl ?_
  refine za_putI (fi := 23) (pc' := 5) dX1_walks_2 zc0 (by decide) in_X1 zok0 znm0 (by decide) q513 (Or.inl rfl) rfl rfl (fun _ _ _ => rfl) rfl rfl (congrArg Prod.fst (zX_t1000 hx)) rfl ?_
  refine za_aload_n (pc' := 6) 0 dX1_walks_5 rfl rfl rfl ?_
  refine za_lconst (pc' := 7) dX1_walks_6 zl_0 rfl ?_
  refine za_putL (fi := 22) (pc' := 10) dX1_walks_7 zc0 (by decide) in_X1 zok0 znm0 (by decide) q512 (Or.inl rfl) rfl rfl (fun _ _ _ => rfl) rfl rfl (congrArg Prod.fst (zX_t1000 hx)) rfl ?_
  refine za_aload_n (pc' := 11) 0 dX1_walks_10 rfl rfl rfl ?_
  refine za_get (fi := 21) (v := .ref 1022) (pc' := 14) dX1_walks_11 zc0 (by decide) in_X1 (by decide) q511 (Or.inl rfl) (congrArg Prod.fst (zX_t1000 hx)) (congrArg Value.ref (zX_r1000_21 hx)) rfl ?_
  refine za_aload_n (pc' := 15) 0 dX1_walks_14 rfl rfl rfl ?_
  refine za_get (fi := 20) (v := .int (I 1000 20)) (pc' := 18) dX1_walks_15 zc0 (by decide) in_X1 (by decide) q510 (Or.inl rfl) (congrArg Prod.fst (zX_t1000 hx)) (congrArg Value.int (z2_nk (by decide))) rfl ?_
  refine za_putNI (fi := 1) (pc' := 21) dX1_walks_18 zc10 (by decide) in_X11 zok10 znm10 (by decide) q408 (Or.inl rfl) rfl rfl (fun _ _ _ => rfl) rfl rfl (congrArg Prod.fst (zX_t1022 hx)) rfl ?_
  refine za_aload_n (pc' := 22) 0 dX1_walks_21 rfl rfl rfl ?_
  refine za_iconst (pc' := 23) dX1_walks_22 zi_0 rfl ?_
  refine za_ldc2 (pc' := 26) (v := (1152921504606846976 : Int64)) (own := "") dX1_walks_23 q1243 rfl ?_
  refine za_ldc2 (pc' := 29) (v := (1152921504606846976 : Int64)) (own := "") dX1_walks_26 q1243 rfl ?_
  refine za_callV (κ := 1000) (M2 := mX1_least_2) (d2 := 2) (b2 := 0) (n := 3) (As := [.int (0 : Int32), .long (1152921504606846976 : Int64), .long (1152921504606846976 : Int64)]) (st := []) (pc' := 32) zc0 (by decide) (congrArg Prod.fst (zX_t1000 hx)) dX1_walks_29 rfl (lw_V q1244 q1246 qs45 q131 q1247) ⟨rfl, hd_X1_least_2⟩ rfl (by decide) (by decide) (Nat.zero_le _) (Or.inl rfl) (Nat.le_of_ble_eq_true rfl) h (zqI__k rfl (fun r1 h => ?_)) (fun _ _ _ _ _ _ h9 h8 => absurd h8.1 h9) rfl
  refine za_ldc_w (pc' := 35) (v := (1000000 : Int32)) (own := "") dX1_walks_32 q1215 rfl ?_
  refine za_icmp_ge (pc' := 38) (tgt := 50) dX1_walks_35 (by decide) rfl (fun c9 => ?_) (fun c9 => ?_)
  · replace h := h.1 c9
    refine za_aload_n (pc' := 51) 0 dX1_walks_50 rfl rfl rfl ?_
    refine za_get (fi := 23) (v := .int (0 : Int32)) (pc' := 54) dX1_walks_51 zc0 (by decide) in_X1 (by decide) q513 (Or.inl rfl) (congrArg Prod.fst (zX_t1000 hx)) (congrArg Value.int ((z2_na (by decide)).trans z2_s)) rfl ?_
    exact za_ireturn rfl dX1_walks_54 h
  · replace h := h.2 c9
    refine za_aload_n (pc' := 39) 0 dX1_walks_38 rfl rfl rfl ?_
    refine za_iconst (pc' := 40) dX1_walks_39 zi_0 rfl ?_
    refine za_ldc2 (pc' := 43) (v := (1152921504606846976 : Int64)) (own := "") dX1_walks_40 q1243 rfl ?_
    refine za_ldc2 (pc' := 46) (v := (1152921504606846976 : Int64)) (own := "") dX1_walks_43 q1243 rfl ?_
    refine za_iload_n (pc' := 47) 1 dX1_walks_46 rfl rfl rfl ?_
    refine za_callV (κ := 1000) (M2 := mX1_walk) (d2 := 40) (b2 := 0) (n := 4) (As := [.int (0 : Int32), .long (1152921504606846976 : Int64), .long (1152921504606846976 : Int64), .int v1]) (st := []) (pc' := 50) zc0 (by decide) (congrArg Prod.fst (zX_t1000 hx)) dX1_walks_47 rfl (lw_V q1248 q1250 qs46 q131 q1251) ⟨rfl, hd_X1_walk⟩ rfl (by decide) (by decide) (Nat.zero_le _) (Or.inl rfl) (Nat.le_of_ble_eq_true rfl) h (zqV_IL_k rfl (fun I2 L3 h => ?_)) (fun _ _ _ _ _ _ h9 h8 => absurd h8.1 h9) rfl
    refine za_aload_n (pc' := 51) 0 dX1_walks_50 rfl rfl rfl ?_
    refine za_get (fi := 23) (v := .int (I2 1000 23)) (pc' := 54) dX1_walks_51 zc0 (by decide) in_X1 (by decide) q513 (Or.inl rfl) (congrArg Prod.fst (zX_t1000 hx)) rfl rfl ?_
    exact za_ireturn rfl dX1_walks_54 h
theorem sX1_walks {d b : Nat} {v1 : Int32} {T : zT} {I : zI} {L : zL} {R : zR} {P : zP} (h : zAW mX1_walks d b 0 [(0, .ref 1000), (1, .int v1)] [] T I L R P) : zMet mX1_walks d b [.ref 1000, .int v1] T I L R P := zMet_of (by decide +kernel) rfl (Nat.le_of_ble_eq_true rfl) rfl h
/-! TwoTongues.least (IJJ)I -/
def dkwX1_least_2_3 : List UInt8 := [132, 8, 1, 167, 255, 203, 132, 7, 1, 167, 255, 187, 21, 6, 172]
abbrev dktX1_least_2_3 : List UInt8 := dkwX1_least_2_3 ++ []
def dkwX1_least_2_2 : List UInt8 := [154, 0, 23, 21, 6, 42, 180, 0, 94, 27, 21, 7, 21, 8, 184, 1, 64, 46, 184, 1, 79, 54, 6]
abbrev dktX1_least_2_2 : List UInt8 := dkwX1_least_2_2 ++ dktX1_least_2_3
def dkwX1_least_2_1 : List UInt8 := [162, 0, 52, 32, 21, 7, 123, 10, 127, 10, 148, 154, 0, 41, 22, 4, 21, 8, 123, 10, 127, 10, 148]
abbrev dktX1_least_2_1 : List UInt8 := dkwX1_least_2_1 ++ dktX1_least_2_2
def dkwX1_least_2_0 : List UInt8 := [19, 1, 68, 54, 6, 3, 54, 7, 21, 7, 16, 61, 162, 0, 68, 3, 54, 8, 21, 8, 16, 61]
abbrev dktX1_least_2_0 : List UInt8 := dkwX1_least_2_0 ++ dktX1_least_2_1
theorem dksX1_least_2_0 : cX1_least_2.data.toList.drop 0 = dktX1_least_2_0 := by decide +kernel
theorem dksX1_least_2_1 : cX1_least_2.data.toList.drop 22 = dktX1_least_2_1 := dk_seg dksX1_least_2_0 22 rfl rfl
theorem dksX1_least_2_2 : cX1_least_2.data.toList.drop 45 = dktX1_least_2_2 := dk_seg dksX1_least_2_1 23 rfl rfl
theorem dksX1_least_2_3 : cX1_least_2.data.toList.drop 68 = dktX1_least_2_3 := dk_seg dksX1_least_2_2 23 rfl rfl
theorem dX1_least_2_0 : decode cX1_least_2 0 = .ok (.ldc_w 324, 3) := dk_19 1 68 (dk_at dksX1_least_2_0 0 rfl rfl)
theorem dX1_least_2_3 : decode cX1_least_2 3 = .ok (.istore 6, 2) := dk_54 6 (dk_at dksX1_least_2_0 3 rfl rfl)
theorem dX1_least_2_5 : decode cX1_least_2 5 = .ok (.iconst 0, 1) := dk_3 (dk_at dksX1_least_2_0 5 rfl rfl)
theorem dX1_least_2_6 : decode cX1_least_2 6 = .ok (.istore 7, 2) := dk_54 7 (dk_at dksX1_least_2_0 6 rfl rfl)
theorem dX1_least_2_8 : decode cX1_least_2 8 = .ok (.iload 7, 2) := dk_21 7 (dk_at dksX1_least_2_0 8 rfl rfl)
theorem dX1_least_2_10 : decode cX1_least_2 10 = .ok (.bipush 61, 2) := dk_16 61 (dk_at dksX1_least_2_0 10 rfl rfl)
theorem dX1_least_2_12 : decode cX1_least_2 12 = .ok (.if_icmp .ge 68, 3) := dk_162 0 68 (dk_at dksX1_least_2_0 12 rfl rfl)
theorem dX1_least_2_15 : decode cX1_least_2 15 = .ok (.iconst 0, 1) := dk_3 (dk_at dksX1_least_2_0 15 rfl rfl)
theorem dX1_least_2_16 : decode cX1_least_2 16 = .ok (.istore 8, 2) := dk_54 8 (dk_at dksX1_least_2_0 16 rfl rfl)
theorem dX1_least_2_18 : decode cX1_least_2 18 = .ok (.iload 8, 2) := dk_21 8 (dk_at dksX1_least_2_0 18 rfl rfl)
theorem dX1_least_2_20 : decode cX1_least_2 20 = .ok (.bipush 61, 2) := dk_16 61 (dk_at dksX1_least_2_0 20 rfl rfl)
theorem dX1_least_2_22 : decode cX1_least_2 22 = .ok (.if_icmp .ge 52, 3) := dk_162 0 52 (dk_at dksX1_least_2_1 0 rfl rfl)
theorem dX1_least_2_25 : decode cX1_least_2 25 = .ok (.lload_n 2, 1) := dk_32 (dk_at dksX1_least_2_1 3 rfl rfl)
theorem dX1_least_2_26 : decode cX1_least_2 26 = .ok (.iload 7, 2) := dk_21 7 (dk_at dksX1_least_2_1 4 rfl rfl)
theorem dX1_least_2_28 : decode cX1_least_2 28 = .ok (.lshr, 1) := dk_123 (dk_at dksX1_least_2_1 6 rfl rfl)
theorem dX1_least_2_29 : decode cX1_least_2 29 = .ok (.lconst 1, 1) := dk_10 (dk_at dksX1_least_2_1 7 rfl rfl)
theorem dX1_least_2_30 : decode cX1_least_2 30 = .ok (.land, 1) := dk_127 (dk_at dksX1_least_2_1 8 rfl rfl)
theorem dX1_least_2_31 : decode cX1_least_2 31 = .ok (.lconst 1, 1) := dk_10 (dk_at dksX1_least_2_1 9 rfl rfl)
theorem dX1_least_2_32 : decode cX1_least_2 32 = .ok (.lcmp, 1) := dk_148 (dk_at dksX1_least_2_1 10 rfl rfl)
theorem dX1_least_2_33 : decode cX1_least_2 33 = .ok (.ifCond .ne 41, 3) := dk_154 0 41 (dk_at dksX1_least_2_1 11 rfl rfl)
theorem dX1_least_2_36 : decode cX1_least_2 36 = .ok (.lload 4, 2) := dk_22 4 (dk_at dksX1_least_2_1 14 rfl rfl)
theorem dX1_least_2_38 : decode cX1_least_2 38 = .ok (.iload 8, 2) := dk_21 8 (dk_at dksX1_least_2_1 16 rfl rfl)
theorem dX1_least_2_40 : decode cX1_least_2 40 = .ok (.lshr, 1) := dk_123 (dk_at dksX1_least_2_1 18 rfl rfl)
theorem dX1_least_2_41 : decode cX1_least_2 41 = .ok (.lconst 1, 1) := dk_10 (dk_at dksX1_least_2_1 19 rfl rfl)
theorem dX1_least_2_42 : decode cX1_least_2 42 = .ok (.land, 1) := dk_127 (dk_at dksX1_least_2_1 20 rfl rfl)
theorem dX1_least_2_43 : decode cX1_least_2 43 = .ok (.lconst 1, 1) := dk_10 (dk_at dksX1_least_2_1 21 rfl rfl)
theorem dX1_least_2_44 : decode cX1_least_2 44 = .ok (.lcmp, 1) := dk_148 (dk_at dksX1_least_2_1 22 rfl rfl)
theorem dX1_least_2_45 : decode cX1_least_2 45 = .ok (.ifCond .ne 23, 3) := dk_154 0 23 (dk_at dksX1_least_2_2 0 rfl rfl)
theorem dX1_least_2_48 : decode cX1_least_2 48 = .ok (.iload 6, 2) := dk_21 6 (dk_at dksX1_least_2_2 3 rfl rfl)
theorem dX1_least_2_50 : decode cX1_least_2 50 = .ok (.aload_n 0, 1) := dk_42 (dk_at dksX1_least_2_2 5 rfl rfl)
theorem dX1_least_2_51 : decode cX1_least_2 51 = .ok (.getfield 94, 3) := dk_180 0 94 (dk_at dksX1_least_2_2 6 rfl rfl)
theorem dX1_least_2_54 : decode cX1_least_2 54 = .ok (.iload_n 1, 1) := dk_27 (dk_at dksX1_least_2_2 9 rfl rfl)
theorem dX1_least_2_55 : decode cX1_least_2 55 = .ok (.iload 7, 2) := dk_21 7 (dk_at dksX1_least_2_2 10 rfl rfl)
theorem dX1_least_2_57 : decode cX1_least_2 57 = .ok (.iload 8, 2) := dk_21 8 (dk_at dksX1_least_2_2 12 rfl rfl)
theorem dX1_least_2_59 : decode cX1_least_2 59 = .ok (.invokestatic 320, 3) := dk_184 1 64 (dk_at dksX1_least_2_2 14 rfl rfl)
theorem dX1_least_2_62 : decode cX1_least_2 62 = .ok (.iaload, 1) := dk_46 (dk_at dksX1_least_2_2 17 rfl rfl)
theorem dX1_least_2_63 : decode cX1_least_2 63 = .ok (.invokestatic 335, 3) := dk_184 1 79 (dk_at dksX1_least_2_2 18 rfl rfl)
theorem dX1_least_2_66 : decode cX1_least_2 66 = .ok (.istore 6, 2) := dk_54 6 (dk_at dksX1_least_2_2 21 rfl rfl)
theorem dX1_least_2_68 : decode cX1_least_2 68 = .ok (.iinc 8 1, 3) := dk_132 8 1 (dk_at dksX1_least_2_3 0 rfl rfl)
theorem dX1_least_2_71 : decode cX1_least_2 71 = .ok (.goto (-53), 3) := dk_167 255 203 (dk_at dksX1_least_2_3 3 rfl rfl)
theorem dX1_least_2_74 : decode cX1_least_2 74 = .ok (.iinc 7 1, 3) := dk_132 7 1 (dk_at dksX1_least_2_3 6 rfl rfl)
theorem dX1_least_2_77 : decode cX1_least_2 77 = .ok (.goto (-69), 3) := dk_167 255 187 (dk_at dksX1_least_2_3 9 rfl rfl)
theorem dX1_least_2_80 : decode cX1_least_2 80 = .ok (.iload 6, 2) := dk_21 6 (dk_at dksX1_least_2_3 12 rfl rfl)
theorem dX1_least_2_82 : decode cX1_least_2 82 = .ok (.ireturn, 1) := dk_172 (dk_at dksX1_least_2_3 14 rfl rfl)
theorem gX1_least_2_0 {v1 : Int32} {v2 : Int64} {v4 : Int64} {T : zT} {I : zI} {L : zL} {R : zR} {P : zP} (hx : zXok T R) (h : zAW mX1_least_2 2 0 8 [(0, .ref 1000), (1, .int v1), (2, .long v2), (4, .long v4), (6, .int (1000000 : Int32)), (7, .int (0 : Int32))] [] T I L R P) : zAW mX1_least_2 2 0 0 [(0, .ref 1000), (1, .int v1), (2, .long v2), (4, .long v4)] [] T I L R P := by
  refine za_ldc_w (pc' := 3) (v := (1000000 : Int32)) (own := "") dX1_least_2_0 q1215 rfl ?_
  refine za_istore (pc' := 5) (l' := [(6, .int (1000000 : Int32)), (0, .ref 1000), (1, .int v1), (2, .long v2), (4, .long v4)]) dX1_least_2_3 (Nat.le_of_ble_eq_true rfl) rfl rfl ?_
  refine za_iconst (pc' := 6) dX1_least_2_5 zi_0 rfl ?_
  refine za_istore (pc' := 8) (l' := [(7, .int (0 : Int32)), (6, .int (1000000 : Int32)), (0, .ref 1000), (1, .int v1), (2, .long v2), (4, .long v4)]) dX1_least_2_6 (Nat.le_of_ble_eq_true rfl) rfl rfl ?_
  exact zAW_sub [2, 3, 4, 5, 1, 0] rfl h
theorem gX1_least_2_8 {v1 : Int32} {v2 : Int64} {v4 : Int64} {v6 : Int32} {v7 : Int32} {T : zT} {I : zI} {L : zL} {R : zR} {P : zP} (hx : zXok T R) (h : (((61 : Int32) ≤ v7 → P 0 (.int v6) T I L R) ∧ (¬ (61 : Int32) ≤ v7 → zAW mX1_least_2 2 0 18 [(0, .ref 1000), (1, .int v1), (2, .long v2), (4, .long v4), (6, .int v6), (7, .int v7), (8, .int (0 : Int32))] [] T I L R P))) : zAW mX1_least_2 2 0 8 [(0, .ref 1000), (1, .int v1), (2, .long v2), (4, .long v4), (6, .int v6), (7, .int v7)] [] T I L R P := by
  refine za_iload (pc' := 10) 5 dX1_least_2_8 rfl rfl ?_
  refine za_bipush (pc' := 12) dX1_least_2_10 zb8_61 rfl ?_
  refine za_icmp_ge (pc' := 15) (tgt := 80) dX1_least_2_12 (by decide) rfl (fun c9 => ?_) (fun c9 => ?_)
  · replace h := h.1 c9
    refine za_iload (pc' := 82) 4 dX1_least_2_80 rfl rfl ?_
    exact za_ireturn rfl dX1_least_2_82 h
  · replace h := h.2 c9
    refine za_iconst (pc' := 16) dX1_least_2_15 zi_0 rfl ?_
    refine za_istore (pc' := 18) (l' := [(8, .int (0 : Int32)), (0, .ref 1000), (1, .int v1), (2, .long v2), (4, .long v4), (6, .int v6), (7, .int v7)]) dX1_least_2_16 (Nat.le_of_ble_eq_true rfl) rfl rfl ?_
    exact zAW_sub [1, 2, 3, 4, 5, 6, 0] rfl h
theorem gX1_least_2_18 {v1 : Int32} {v2 : Int64} {v4 : Int64} {v6 : Int32} {v7 : Int32} {v8 : Int32} {T : zT} {I : zI} {L : zL} {R : zR} {P : zP} (hx : zXok T R) (h : (((61 : Int32) ≤ v8 → zAW mX1_least_2 2 0 8 [(0, .ref 1000), (1, .int v1), (2, .long v2), (4, .long v4), (6, .int v6), (7, .int (v7 + (1 : Int32)))] [] T I L R P) ∧ (¬ (61 : Int32) ≤ v8 → ((((v2 >>> (v7.toInt64 &&& 63)) &&& (1 : Int64)) = (1 : Int64) → ((((v4 >>> (v8.toInt64 &&& 63)) &&& (1 : Int64)) = (1 : Int64) → zMet mX1_at 1 0 [.int v1, .int v7, .int v8] T I L R (zqI_ T I L R  (fun (r1 : Int32)  => vp_in r1 48373 ∧ zAW mX1_least_2 2 0 18 [(0, .ref 1000), (1, .int v1), (2, .long v2), (4, .long v4), (6, .int (if (I 1019 (r1.toNatClampNeg)) < v6 then (I 1019 (r1.toNatClampNeg)) else v6)), (7, .int v7), (8, .int (v8 + (1 : Int32)))] [] T I L R P))) ∧ (¬ ((v4 >>> (v8.toInt64 &&& 63)) &&& (1 : Int64)) = (1 : Int64) → zAW mX1_least_2 2 0 18 [(0, .ref 1000), (1, .int v1), (2, .long v2), (4, .long v4), (6, .int v6), (7, .int v7), (8, .int (v8 + (1 : Int32)))] [] T I L R P))) ∧ (¬ ((v2 >>> (v7.toInt64 &&& 63)) &&& (1 : Int64)) = (1 : Int64) → zAW mX1_least_2 2 0 8 [(0, .ref 1000), (1, .int v1), (2, .long v2), (4, .long v4), (6, .int v6), (7, .int (v7 + (1 : Int32)))] [] T I L R P))))) : zAW mX1_least_2 2 0 18 [(0, .ref 1000), (1, .int v1), (2, .long v2), (4, .long v4), (6, .int v6), (7, .int v7), (8, .int v8)] [] T I L R P := by
  refine za_iload (pc' := 20) 6 dX1_least_2_18 rfl rfl ?_
  refine za_bipush (pc' := 22) dX1_least_2_20 zb8_61 rfl ?_
  refine za_icmp_ge (pc' := 25) (tgt := 74) dX1_least_2_22 (by decide) rfl (fun c9 => ?_) (fun c9 => ?_)
  · replace h := h.1 c9
    refine za_iinc (pc' := 77) (l' := [(7, .int (v7 + (1 : Int32))), (0, .ref 1000), (1, .int v1), (2, .long v2), (4, .long v4), (6, .int v6), (8, .int v8)]) 5 dX1_least_2_74 rfl (zinc zi_1) (Nat.le_of_ble_eq_true rfl) rfl rfl ?_
    refine za_goto (tgt := 8) dX1_least_2_77 (by decide) ?_
    exact zAW_sub [1, 2, 3, 4, 5, 0] rfl h
  · replace h := h.2 c9
    refine za_lload_n (pc' := 26) 2 dX1_least_2_25 rfl rfl rfl ?_
    refine za_iload (pc' := 28) 5 dX1_least_2_26 rfl rfl ?_
    refine za_lshr (pc' := 29) dX1_least_2_28 rfl rfl ?_
    refine za_lconst (pc' := 30) dX1_least_2_29 zl_1 rfl ?_
    refine za_land (pc' := 31) dX1_least_2_30 rfl ?_
    refine za_lconst (pc' := 32) dX1_least_2_31 zl_1 rfl ?_
    refine za_lcmp (pc' := 33) dX1_least_2_32 rfl ?_
    refine za_if_ne (pc' := 36) (tgt := 74) dX1_least_2_33 (by decide) rfl (fun c9 => ?_) (fun c9 => ?_)
    · replace h := h.2 (fun c8 => c9 ((lg_cmp_eq ((v2 >>> (v7.toInt64 &&& 63)) &&& (1 : Int64)) (1 : Int64)).mpr c8))
      refine za_iinc (pc' := 77) (l' := [(7, .int (v7 + (1 : Int32))), (0, .ref 1000), (1, .int v1), (2, .long v2), (4, .long v4), (6, .int v6), (8, .int v8)]) 5 dX1_least_2_74 rfl (zinc zi_1) (Nat.le_of_ble_eq_true rfl) rfl rfl ?_
      refine za_goto (tgt := 8) dX1_least_2_77 (by decide) ?_
      exact zAW_sub [1, 2, 3, 4, 5, 0] rfl h
    · replace h := h.1 ((lg_cmp_eq ((v2 >>> (v7.toInt64 &&& 63)) &&& (1 : Int64)) (1 : Int64)).mp c9)
      refine za_lload (pc' := 38) 3 dX1_least_2_36 rfl rfl ?_
      refine za_iload (pc' := 40) 6 dX1_least_2_38 rfl rfl ?_
      refine za_lshr (pc' := 41) dX1_least_2_40 rfl rfl ?_
      refine za_lconst (pc' := 42) dX1_least_2_41 zl_1 rfl ?_
      refine za_land (pc' := 43) dX1_least_2_42 rfl ?_
      refine za_lconst (pc' := 44) dX1_least_2_43 zl_1 rfl ?_
      refine za_lcmp (pc' := 45) dX1_least_2_44 rfl ?_
      refine za_if_ne (pc' := 48) (tgt := 68) dX1_least_2_45 (by decide) rfl (fun c9 => ?_) (fun c9 => ?_)
      · replace h := h.2 (fun c8 => c9 ((lg_cmp_eq ((v4 >>> (v8.toInt64 &&& 63)) &&& (1 : Int64)) (1 : Int64)).mpr c8))
        refine za_iinc (pc' := 71) (l' := [(8, .int (v8 + (1 : Int32))), (0, .ref 1000), (1, .int v1), (2, .long v2), (4, .long v4), (6, .int v6), (7, .int v7)]) 6 dX1_least_2_68 rfl (zinc zi_1) (Nat.le_of_ble_eq_true rfl) rfl rfl ?_
        refine za_goto (tgt := 18) dX1_least_2_71 (by decide) ?_
        exact zAW_sub [1, 2, 3, 4, 5, 6, 0] rfl h
      · replace h := h.1 ((lg_cmp_eq ((v4 >>> (v8.toInt64 &&& 63)) &&& (1 : Int64)) (1 : Int64)).mp c9)
        refine za_iload (pc' := 50) 4 dX1_least_2_48 rfl rfl ?_
        refine za_aload_n (pc' := 51) 0 dX1_least_2_50 rfl rfl rfl ?_
        refine za_get (fi := 18) (v := .ref 1019) (pc' := 54) dX1_least_2_51 zc0 (by decide) in_X1 (by decide) q508 (Or.inl rfl) (congrArg Prod.fst (zX_t1000 hx)) (congrArg Value.ref (zX_r1000_18 hx)) rfl ?_
        refine za_iload_n (pc' := 55) 1 dX1_least_2_54 rfl rfl rfl ?_
        refine za_iload (pc' := 57) 5 dX1_least_2_55 rfl rfl ?_
        refine za_iload (pc' := 59) 6 dX1_least_2_57 rfl rfl ?_
        refine za_callS (M2 := mX1_at) (d2 := 1) (b2 := 0) (n := 3) (As := [.int v1, .int v7, .int v8]) (st := [.ref 1019, .int v6]) (pc' := 62) dX1_least_2_59 rfl (lw_S q1212 q1213 q131 q1214) hd_X1_at rfl (by decide) (by decide) (Nat.zero_le _) (Or.inl rfl) (Nat.le_of_ble_eq_true rfl) h (zqI__k rfl (fun r1 h => ?_)) (fun _ _ _ _ _ _ h9 h8 => absurd h8.1 h9) rfl
        obtain ⟨hi2, h⟩ := h
        refine za_iald (v := .int (I 1019 (r1.toNatClampNeg))) (pc' := 63) dX1_least_2_62 (zX_t1019 hx) hi2 rfl rfl ?_
        refine za_mmin (pc' := 66) dX1_least_2_63 q1238 (by decide) (Nat.le_of_ble_eq_true rfl) rfl ?_
        refine za_istore (pc' := 68) (l' := [(6, .int (if (I 1019 (r1.toNatClampNeg)) < v6 then (I 1019 (r1.toNatClampNeg)) else v6)), (0, .ref 1000), (1, .int v1), (2, .long v2), (4, .long v4), (7, .int v7), (8, .int v8)]) dX1_least_2_66 (Nat.le_of_ble_eq_true rfl) rfl rfl ?_
        refine za_iinc (pc' := 71) (l' := [(8, .int (v8 + (1 : Int32))), (6, .int (if (I 1019 (r1.toNatClampNeg)) < v6 then (I 1019 (r1.toNatClampNeg)) else v6)), (0, .ref 1000), (1, .int v1), (2, .long v2), (4, .long v4), (7, .int v7)]) 6 dX1_least_2_68 rfl (zinc zi_1) (Nat.le_of_ble_eq_true rfl) rfl rfl ?_
        refine za_goto (tgt := 18) dX1_least_2_71 (by decide) ?_
        exact zAW_sub [2, 3, 4, 5, 1, 6, 0] rfl h
theorem sX1_least_2 {d b : Nat} {v1 : Int32} {v2 : Int64} {v4 : Int64} {T : zT} {I : zI} {L : zL} {R : zR} {P : zP} (h : zAW mX1_least_2 d b 0 [(0, .ref 1000), (1, .int v1), (2, .long v2), (4, .long v4)] [] T I L R P) : zMet mX1_least_2 d b [.ref 1000, .int v1, .long v2, .long v4] T I L R P := zMet_of (by decide +kernel) rfl (Nat.le_of_ble_eq_true rfl) rfl h
/-! TwoTongues.walk (IJJI)V -/
def dkwX1_walk_7 : List UInt8 := [22, 8, 22, 10, 21, 6, 182, 1, 97, 132, 7, 1, 167, 255, 121, 177]
abbrev dktX1_walk_7 : List UInt8 := dkwX1_walk_7 ++ []
def dkwX1_walk_6 : List UInt8 := [19, 1, 68, 161, 0, 6, 167, 0, 27, 42, 180, 0, 104, 180, 0, 219, 27, 21, 7, 79, 42, 27, 4, 96]
abbrev dktX1_walk_6 : List UInt8 := dkwX1_walk_6 ++ dktX1_walk_7
def dkwX1_walk_5 : List UInt8 := [9, 148, 153, 0, 54, 22, 10, 9, 148, 153, 0, 47, 42, 27, 4, 96, 22, 8, 22, 10, 182, 1, 94]
abbrev dktX1_walk_5 : List UInt8 := dkwX1_walk_5 ++ dktX1_walk_6
def dkwX1_walk_4 : List UInt8 := [21, 7, 182, 1, 91, 55, 8, 42, 180, 0, 89, 4, 50, 22, 4, 21, 7, 182, 1, 91, 55, 10, 22, 8]
abbrev dktX1_walk_4 : List UInt8 := dkwX1_walk_4 ++ dktX1_walk_5
def dkwX1_walk_3 : List UInt8 := [42, 180, 0, 100, 180, 0, 219, 27, 46, 21, 7, 159, 0, 6, 167, 0, 90, 42, 180, 0, 89, 3, 50, 32]
abbrev dktX1_walk_3 : List UInt8 := dkwX1_walk_3 ++ dktX1_walk_4
def dkwX1_walk_2 : List UInt8 := [163, 0, 134, 42, 180, 1, 82, 21, 6, 163, 0, 125, 42, 180, 0, 100, 180, 0, 219, 27, 46, 153, 0, 20]
abbrev dktX1_walk_2 : List UInt8 := dkwX1_walk_2 ++ dktX1_walk_3
def dkwX1_walk_1 : List UInt8 := [182, 1, 83, 181, 1, 87, 42, 89, 180, 1, 82, 4, 96, 181, 1, 82, 177, 4, 54, 7, 21, 7, 16, 26]
abbrev dktX1_walk_1 : List UInt8 := dkwX1_walk_1 ++ dktX1_walk_2
def dkwX1_walk_0 : List UInt8 := [27, 42, 180, 1, 61, 160, 0, 34, 42, 180, 1, 82, 21, 6, 160, 0, 14, 42, 42, 180, 0, 104]
abbrev dktX1_walk_0 : List UInt8 := dkwX1_walk_0 ++ dktX1_walk_1
theorem dksX1_walk_0 : cX1_walk.data.toList.drop 0 = dktX1_walk_0 := by decide +kernel
theorem dksX1_walk_1 : cX1_walk.data.toList.drop 22 = dktX1_walk_1 := dk_seg dksX1_walk_0 22 rfl rfl
theorem dksX1_walk_2 : cX1_walk.data.toList.drop 46 = dktX1_walk_2 := dk_seg dksX1_walk_1 24 rfl rfl
theorem dksX1_walk_3 : cX1_walk.data.toList.drop 70 = dktX1_walk_3 := dk_seg dksX1_walk_2 24 rfl rfl
theorem dksX1_walk_4 : cX1_walk.data.toList.drop 94 = dktX1_walk_4 := dk_seg dksX1_walk_3 24 rfl rfl
theorem dksX1_walk_5 : cX1_walk.data.toList.drop 118 = dktX1_walk_5 := dk_seg dksX1_walk_4 24 rfl rfl
theorem dksX1_walk_6 : cX1_walk.data.toList.drop 141 = dktX1_walk_6 := dk_seg dksX1_walk_5 23 rfl rfl
theorem dksX1_walk_7 : cX1_walk.data.toList.drop 165 = dktX1_walk_7 := dk_seg dksX1_walk_6 24 rfl rfl
theorem dX1_walk_0 : decode cX1_walk 0 = .ok (.iload_n 1, 1) := dk_27 (dk_at dksX1_walk_0 0 rfl rfl)
theorem dX1_walk_1 : decode cX1_walk 1 = .ok (.aload_n 0, 1) := dk_42 (dk_at dksX1_walk_0 1 rfl rfl)
theorem dX1_walk_2 : decode cX1_walk 2 = .ok (.getfield 317, 3) := dk_180 1 61 (dk_at dksX1_walk_0 2 rfl rfl)
theorem dX1_walk_5 : decode cX1_walk 5 = .ok (.if_icmp .ne 34, 3) := dk_160 0 34 (dk_at dksX1_walk_0 5 rfl rfl)
theorem dX1_walk_8 : decode cX1_walk 8 = .ok (.aload_n 0, 1) := dk_42 (dk_at dksX1_walk_0 8 rfl rfl)
theorem dX1_walk_9 : decode cX1_walk 9 = .ok (.getfield 338, 3) := dk_180 1 82 (dk_at dksX1_walk_0 9 rfl rfl)
theorem dX1_walk_12 : decode cX1_walk 12 = .ok (.iload 6, 2) := dk_21 6 (dk_at dksX1_walk_0 12 rfl rfl)
theorem dX1_walk_14 : decode cX1_walk 14 = .ok (.if_icmp .ne 14, 3) := dk_160 0 14 (dk_at dksX1_walk_0 14 rfl rfl)
theorem dX1_walk_17 : decode cX1_walk 17 = .ok (.aload_n 0, 1) := dk_42 (dk_at dksX1_walk_0 17 rfl rfl)
theorem dX1_walk_18 : decode cX1_walk 18 = .ok (.aload_n 0, 1) := dk_42 (dk_at dksX1_walk_0 18 rfl rfl)
theorem dX1_walk_19 : decode cX1_walk 19 = .ok (.getfield 104, 3) := dk_180 0 104 (dk_at dksX1_walk_0 19 rfl rfl)
theorem dX1_walk_22 : decode cX1_walk 22 = .ok (.invokevirtual 339, 3) := dk_182 1 83 (dk_at dksX1_walk_1 0 rfl rfl)
theorem dX1_walk_25 : decode cX1_walk 25 = .ok (.putfield 343, 3) := dk_181 1 87 (dk_at dksX1_walk_1 3 rfl rfl)
theorem dX1_walk_28 : decode cX1_walk 28 = .ok (.aload_n 0, 1) := dk_42 (dk_at dksX1_walk_1 6 rfl rfl)
theorem dX1_walk_29 : decode cX1_walk 29 = .ok (.dup, 1) := dk_89 (dk_at dksX1_walk_1 7 rfl rfl)
theorem dX1_walk_30 : decode cX1_walk 30 = .ok (.getfield 338, 3) := dk_180 1 82 (dk_at dksX1_walk_1 8 rfl rfl)
theorem dX1_walk_33 : decode cX1_walk 33 = .ok (.iconst 1, 1) := dk_4 (dk_at dksX1_walk_1 11 rfl rfl)
theorem dX1_walk_34 : decode cX1_walk 34 = .ok (.iadd, 1) := dk_96 (dk_at dksX1_walk_1 12 rfl rfl)
theorem dX1_walk_35 : decode cX1_walk 35 = .ok (.putfield 338, 3) := dk_181 1 82 (dk_at dksX1_walk_1 13 rfl rfl)
theorem dX1_walk_38 : decode cX1_walk 38 = .ok (.return_, 1) := dk_177 (dk_at dksX1_walk_1 16 rfl rfl)
theorem dX1_walk_39 : decode cX1_walk 39 = .ok (.iconst 1, 1) := dk_4 (dk_at dksX1_walk_1 17 rfl rfl)
theorem dX1_walk_40 : decode cX1_walk 40 = .ok (.istore 7, 2) := dk_54 7 (dk_at dksX1_walk_1 18 rfl rfl)
theorem dX1_walk_42 : decode cX1_walk 42 = .ok (.iload 7, 2) := dk_21 7 (dk_at dksX1_walk_1 20 rfl rfl)
theorem dX1_walk_44 : decode cX1_walk 44 = .ok (.bipush 26, 2) := dk_16 26 (dk_at dksX1_walk_1 22 rfl rfl)
theorem dX1_walk_46 : decode cX1_walk 46 = .ok (.if_icmp .gt 134, 3) := dk_163 0 134 (dk_at dksX1_walk_2 0 rfl rfl)
theorem dX1_walk_49 : decode cX1_walk 49 = .ok (.aload_n 0, 1) := dk_42 (dk_at dksX1_walk_2 3 rfl rfl)
theorem dX1_walk_50 : decode cX1_walk 50 = .ok (.getfield 338, 3) := dk_180 1 82 (dk_at dksX1_walk_2 4 rfl rfl)
theorem dX1_walk_53 : decode cX1_walk 53 = .ok (.iload 6, 2) := dk_21 6 (dk_at dksX1_walk_2 7 rfl rfl)
theorem dX1_walk_55 : decode cX1_walk 55 = .ok (.if_icmp .gt 125, 3) := dk_163 0 125 (dk_at dksX1_walk_2 9 rfl rfl)
theorem dX1_walk_58 : decode cX1_walk 58 = .ok (.aload_n 0, 1) := dk_42 (dk_at dksX1_walk_2 12 rfl rfl)
theorem dX1_walk_59 : decode cX1_walk 59 = .ok (.getfield 100, 3) := dk_180 0 100 (dk_at dksX1_walk_2 13 rfl rfl)
theorem dX1_walk_62 : decode cX1_walk 62 = .ok (.getfield 219, 3) := dk_180 0 219 (dk_at dksX1_walk_2 16 rfl rfl)
theorem dX1_walk_65 : decode cX1_walk 65 = .ok (.iload_n 1, 1) := dk_27 (dk_at dksX1_walk_2 19 rfl rfl)
theorem dX1_walk_66 : decode cX1_walk 66 = .ok (.iaload, 1) := dk_46 (dk_at dksX1_walk_2 20 rfl rfl)
theorem dX1_walk_67 : decode cX1_walk 67 = .ok (.ifCond .eq 20, 3) := dk_153 0 20 (dk_at dksX1_walk_2 21 rfl rfl)
theorem dX1_walk_70 : decode cX1_walk 70 = .ok (.aload_n 0, 1) := dk_42 (dk_at dksX1_walk_3 0 rfl rfl)
theorem dX1_walk_71 : decode cX1_walk 71 = .ok (.getfield 100, 3) := dk_180 0 100 (dk_at dksX1_walk_3 1 rfl rfl)
theorem dX1_walk_74 : decode cX1_walk 74 = .ok (.getfield 219, 3) := dk_180 0 219 (dk_at dksX1_walk_3 4 rfl rfl)
theorem dX1_walk_77 : decode cX1_walk 77 = .ok (.iload_n 1, 1) := dk_27 (dk_at dksX1_walk_3 7 rfl rfl)
theorem dX1_walk_78 : decode cX1_walk 78 = .ok (.iaload, 1) := dk_46 (dk_at dksX1_walk_3 8 rfl rfl)
theorem dX1_walk_79 : decode cX1_walk 79 = .ok (.iload 7, 2) := dk_21 7 (dk_at dksX1_walk_3 9 rfl rfl)
theorem dX1_walk_81 : decode cX1_walk 81 = .ok (.if_icmp .eq 6, 3) := dk_159 0 6 (dk_at dksX1_walk_3 11 rfl rfl)
theorem dX1_walk_84 : decode cX1_walk 84 = .ok (.goto 90, 3) := dk_167 0 90 (dk_at dksX1_walk_3 14 rfl rfl)
theorem dX1_walk_87 : decode cX1_walk 87 = .ok (.aload_n 0, 1) := dk_42 (dk_at dksX1_walk_3 17 rfl rfl)
theorem dX1_walk_88 : decode cX1_walk 88 = .ok (.getfield 89, 3) := dk_180 0 89 (dk_at dksX1_walk_3 18 rfl rfl)
theorem dX1_walk_91 : decode cX1_walk 91 = .ok (.iconst 0, 1) := dk_3 (dk_at dksX1_walk_3 21 rfl rfl)
theorem dX1_walk_92 : decode cX1_walk 92 = .ok (.aaload, 1) := dk_50 (dk_at dksX1_walk_3 22 rfl rfl)
theorem dX1_walk_93 : decode cX1_walk 93 = .ok (.lload_n 2, 1) := dk_32 (dk_at dksX1_walk_3 23 rfl rfl)
theorem dX1_walk_94 : decode cX1_walk 94 = .ok (.iload 7, 2) := dk_21 7 (dk_at dksX1_walk_4 0 rfl rfl)
theorem dX1_walk_96 : decode cX1_walk 96 = .ok (.invokevirtual 347, 3) := dk_182 1 91 (dk_at dksX1_walk_4 2 rfl rfl)
theorem dX1_walk_99 : decode cX1_walk 99 = .ok (.lstore 8, 2) := dk_55 8 (dk_at dksX1_walk_4 5 rfl rfl)
theorem dX1_walk_101 : decode cX1_walk 101 = .ok (.aload_n 0, 1) := dk_42 (dk_at dksX1_walk_4 7 rfl rfl)
theorem dX1_walk_102 : decode cX1_walk 102 = .ok (.getfield 89, 3) := dk_180 0 89 (dk_at dksX1_walk_4 8 rfl rfl)
theorem dX1_walk_105 : decode cX1_walk 105 = .ok (.iconst 1, 1) := dk_4 (dk_at dksX1_walk_4 11 rfl rfl)
theorem dX1_walk_106 : decode cX1_walk 106 = .ok (.aaload, 1) := dk_50 (dk_at dksX1_walk_4 12 rfl rfl)
theorem dX1_walk_107 : decode cX1_walk 107 = .ok (.lload 4, 2) := dk_22 4 (dk_at dksX1_walk_4 13 rfl rfl)
theorem dX1_walk_109 : decode cX1_walk 109 = .ok (.iload 7, 2) := dk_21 7 (dk_at dksX1_walk_4 15 rfl rfl)
theorem dX1_walk_111 : decode cX1_walk 111 = .ok (.invokevirtual 347, 3) := dk_182 1 91 (dk_at dksX1_walk_4 17 rfl rfl)
theorem dX1_walk_114 : decode cX1_walk 114 = .ok (.lstore 10, 2) := dk_55 10 (dk_at dksX1_walk_4 20 rfl rfl)
theorem dX1_walk_116 : decode cX1_walk 116 = .ok (.lload 8, 2) := dk_22 8 (dk_at dksX1_walk_4 22 rfl rfl)
theorem dX1_walk_118 : decode cX1_walk 118 = .ok (.lconst 0, 1) := dk_9 (dk_at dksX1_walk_5 0 rfl rfl)
theorem dX1_walk_119 : decode cX1_walk 119 = .ok (.lcmp, 1) := dk_148 (dk_at dksX1_walk_5 1 rfl rfl)
theorem dX1_walk_120 : decode cX1_walk 120 = .ok (.ifCond .eq 54, 3) := dk_153 0 54 (dk_at dksX1_walk_5 2 rfl rfl)
theorem dX1_walk_123 : decode cX1_walk 123 = .ok (.lload 10, 2) := dk_22 10 (dk_at dksX1_walk_5 5 rfl rfl)
theorem dX1_walk_125 : decode cX1_walk 125 = .ok (.lconst 0, 1) := dk_9 (dk_at dksX1_walk_5 7 rfl rfl)
theorem dX1_walk_126 : decode cX1_walk 126 = .ok (.lcmp, 1) := dk_148 (dk_at dksX1_walk_5 8 rfl rfl)
theorem dX1_walk_127 : decode cX1_walk 127 = .ok (.ifCond .eq 47, 3) := dk_153 0 47 (dk_at dksX1_walk_5 9 rfl rfl)
theorem dX1_walk_130 : decode cX1_walk 130 = .ok (.aload_n 0, 1) := dk_42 (dk_at dksX1_walk_5 12 rfl rfl)
theorem dX1_walk_131 : decode cX1_walk 131 = .ok (.iload_n 1, 1) := dk_27 (dk_at dksX1_walk_5 13 rfl rfl)
theorem dX1_walk_132 : decode cX1_walk 132 = .ok (.iconst 1, 1) := dk_4 (dk_at dksX1_walk_5 14 rfl rfl)
theorem dX1_walk_133 : decode cX1_walk 133 = .ok (.iadd, 1) := dk_96 (dk_at dksX1_walk_5 15 rfl rfl)
theorem dX1_walk_134 : decode cX1_walk 134 = .ok (.lload 8, 2) := dk_22 8 (dk_at dksX1_walk_5 16 rfl rfl)
theorem dX1_walk_136 : decode cX1_walk 136 = .ok (.lload 10, 2) := dk_22 10 (dk_at dksX1_walk_5 18 rfl rfl)
theorem dX1_walk_138 : decode cX1_walk 138 = .ok (.invokevirtual 350, 3) := dk_182 1 94 (dk_at dksX1_walk_5 20 rfl rfl)
theorem dX1_walk_141 : decode cX1_walk 141 = .ok (.ldc_w 324, 3) := dk_19 1 68 (dk_at dksX1_walk_6 0 rfl rfl)
theorem dX1_walk_144 : decode cX1_walk 144 = .ok (.if_icmp .lt 6, 3) := dk_161 0 6 (dk_at dksX1_walk_6 3 rfl rfl)
theorem dX1_walk_147 : decode cX1_walk 147 = .ok (.goto 27, 3) := dk_167 0 27 (dk_at dksX1_walk_6 6 rfl rfl)
theorem dX1_walk_150 : decode cX1_walk 150 = .ok (.aload_n 0, 1) := dk_42 (dk_at dksX1_walk_6 9 rfl rfl)
theorem dX1_walk_151 : decode cX1_walk 151 = .ok (.getfield 104, 3) := dk_180 0 104 (dk_at dksX1_walk_6 10 rfl rfl)
theorem dX1_walk_154 : decode cX1_walk 154 = .ok (.getfield 219, 3) := dk_180 0 219 (dk_at dksX1_walk_6 13 rfl rfl)
theorem dX1_walk_157 : decode cX1_walk 157 = .ok (.iload_n 1, 1) := dk_27 (dk_at dksX1_walk_6 16 rfl rfl)
theorem dX1_walk_158 : decode cX1_walk 158 = .ok (.iload 7, 2) := dk_21 7 (dk_at dksX1_walk_6 17 rfl rfl)
theorem dX1_walk_160 : decode cX1_walk 160 = .ok (.iastore, 1) := dk_79 (dk_at dksX1_walk_6 19 rfl rfl)
theorem dX1_walk_161 : decode cX1_walk 161 = .ok (.aload_n 0, 1) := dk_42 (dk_at dksX1_walk_6 20 rfl rfl)
theorem dX1_walk_162 : decode cX1_walk 162 = .ok (.iload_n 1, 1) := dk_27 (dk_at dksX1_walk_6 21 rfl rfl)
theorem dX1_walk_163 : decode cX1_walk 163 = .ok (.iconst 1, 1) := dk_4 (dk_at dksX1_walk_6 22 rfl rfl)
theorem dX1_walk_164 : decode cX1_walk 164 = .ok (.iadd, 1) := dk_96 (dk_at dksX1_walk_6 23 rfl rfl)
theorem dX1_walk_165 : decode cX1_walk 165 = .ok (.lload 8, 2) := dk_22 8 (dk_at dksX1_walk_7 0 rfl rfl)
theorem dX1_walk_167 : decode cX1_walk 167 = .ok (.lload 10, 2) := dk_22 10 (dk_at dksX1_walk_7 2 rfl rfl)
theorem dX1_walk_169 : decode cX1_walk 169 = .ok (.iload 6, 2) := dk_21 6 (dk_at dksX1_walk_7 4 rfl rfl)
theorem dX1_walk_171 : decode cX1_walk 171 = .ok (.invokevirtual 353, 3) := dk_182 1 97 (dk_at dksX1_walk_7 6 rfl rfl)
theorem dX1_walk_174 : decode cX1_walk 174 = .ok (.iinc 7 1, 3) := dk_132 7 1 (dk_at dksX1_walk_7 9 rfl rfl)
theorem dX1_walk_177 : decode cX1_walk 177 = .ok (.goto (-135), 3) := dk_167 255 121 (dk_at dksX1_walk_7 12 rfl rfl)
theorem dX1_walk_180 : decode cX1_walk 180 = .ok (.return_, 1) := dk_177 (dk_at dksX1_walk_7 15 rfl rfl)
theorem gX1_walk_0 {d : Nat} {v1 : Int32} {v2 : Int64} {v4 : Int64} {v6 : Int32} {T : zT} {I : zI} {L : zL} {R : zR} {P : zP} (hx : zXok T R) (h : ((v1 = (I 1000 20) → (((I 1000 23) = v6 → 1 < d ∧ zMet mX11_code 1 0 [.ref 1022] T I L R (zqJ_ T I L R  (fun (r1 : Int64)  => P 0 (.int 0) T (z2 I 1000 23 ((I 1000 23) + (1 : Int32))) (z2 L 1000 22 r1) R))) ∧ (¬ (I 1000 23) = v6 → P 0 (.int 0) T (z2 I 1000 23 ((I 1000 23) + (1 : Int32))) L R))) ∧ (¬ v1 = (I 1000 20) → zAW mX1_walk d 0 42 [(0, .ref 1000), (1, .int v1), (2, .long v2), (4, .long v4), (6, .int v6), (7, .int (1 : Int32))] [] T I L R P))) : zAW mX1_walk d 0 0 [(0, .ref 1000), (1, .int v1), (2, .long v2), (4, .long v4), (6, .int v6)] [] T I L R P := by
  refine za_iload_n (pc' := 1) 1 dX1_walk_0 rfl rfl rfl ?_
  refine za_aload_n (pc' := 2) 0 dX1_walk_1 rfl rfl rfl ?_
  refine za_get (fi := 20) (v := .int (I 1000 20)) (pc' := 5) dX1_walk_2 zc0 (by decide) in_X1 (by decide) q510 (Or.inl rfl) (congrArg Prod.fst (zX_t1000 hx)) rfl rfl ?_
  refine za_icmp_ne (pc' := 8) (tgt := 39) dX1_walk_5 (by decide) rfl (fun c9 => ?_) (fun c9 => ?_)
  · replace h := h.2 c9
    refine za_iconst (pc' := 40) dX1_walk_39 zi_1 rfl ?_
    refine za_istore (pc' := 42) (l' := [(7, .int (1 : Int32)), (0, .ref 1000), (1, .int v1), (2, .long v2), (4, .long v4), (6, .int v6)]) dX1_walk_40 (Nat.le_of_ble_eq_true rfl) rfl rfl ?_
    exact zAW_sub [1, 2, 3, 4, 5, 0] rfl h
  · replace h := h.1 c9
    refine za_aload_n (pc' := 9) 0 dX1_walk_8 rfl rfl rfl ?_
    refine za_get (fi := 23) (v := .int (I 1000 23)) (pc' := 12) dX1_walk_9 zc0 (by decide) in_X1 (by decide) q513 (Or.inl rfl) (congrArg Prod.fst (zX_t1000 hx)) rfl rfl ?_
    refine za_iload (pc' := 14) 4 dX1_walk_12 rfl rfl ?_
    refine za_icmp_ne (pc' := 17) (tgt := 28) dX1_walk_14 (by decide) rfl (fun c9 => ?_) (fun c9 => ?_)
    · replace h := h.2 c9
      refine za_aload_n (pc' := 29) 0 dX1_walk_28 rfl rfl rfl ?_
      refine za_dup (pc' := 30) dX1_walk_29 rfl rfl ?_
      refine za_get (fi := 23) (v := .int (I 1000 23)) (pc' := 33) dX1_walk_30 zc0 (by decide) in_X1 (by decide) q513 (Or.inl rfl) (congrArg Prod.fst (zX_t1000 hx)) rfl rfl ?_
      refine za_iconst (pc' := 34) dX1_walk_33 zi_1 rfl ?_
      refine za_iadd (pc' := 35) dX1_walk_34 rfl ?_
      refine za_putI (fi := 23) (pc' := 38) dX1_walk_35 zc0 (by decide) in_X1 zok0 znm0 (by decide) q513 (Or.inl rfl) rfl rfl (fun _ _ _ => rfl) rfl rfl (congrArg Prod.fst (zX_t1000 hx)) rfl ?_
      exact za_return rfl dX1_walk_38 h
    · replace h := h.1 c9
      refine za_aload_n (pc' := 18) 0 dX1_walk_17 rfl rfl rfl ?_
      refine za_aload_n (pc' := 19) 0 dX1_walk_18 rfl rfl rfl ?_
      refine za_get (fi := 21) (v := .ref 1022) (pc' := 22) dX1_walk_19 zc0 (by decide) in_X1 (by decide) q511 (Or.inl rfl) (congrArg Prod.fst (zX_t1000 hx)) (congrArg Value.ref (zX_r1000_21 hx)) rfl ?_
      obtain ⟨hd2, h⟩ := h
      refine za_callV (κ := 1022) (M2 := mX11_code) (d2 := 1) (b2 := 0) (n := 0) (As := []) (st := [.ref 1000]) (pc' := 25) zc10 (by decide) (congrArg Prod.fst (zX_t1022 hx)) dX1_walk_22 rfl (lw_V q1252 q1253 q1254 q144 q1255) ⟨rfl, hd_X11_code⟩ rfl (by decide) hd2 (Nat.zero_le _) (Or.inl rfl) (Nat.le_of_ble_eq_true rfl) h (zqJ__k rfl (fun r1 h => ?_)) (fun _ _ _ _ _ _ h9 h8 => absurd h8.1 h9) rfl
      refine za_putL (fi := 22) (pc' := 28) dX1_walk_25 zc0 (by decide) in_X1 zok0 znm0 (by decide) q512 (Or.inl rfl) rfl rfl (fun _ _ _ => rfl) rfl rfl (congrArg Prod.fst (zX_t1000 hx)) rfl ?_
      refine za_aload_n (pc' := 29) 0 dX1_walk_28 rfl rfl rfl ?_
      refine za_dup (pc' := 30) dX1_walk_29 rfl rfl ?_
      refine za_get (fi := 23) (v := .int (I 1000 23)) (pc' := 33) dX1_walk_30 zc0 (by decide) in_X1 (by decide) q513 (Or.inl rfl) (congrArg Prod.fst (zX_t1000 hx)) rfl rfl ?_
      refine za_iconst (pc' := 34) dX1_walk_33 zi_1 rfl ?_
      refine za_iadd (pc' := 35) dX1_walk_34 rfl ?_
      refine za_putI (fi := 23) (pc' := 38) dX1_walk_35 zc0 (by decide) in_X1 zok0 znm0 (by decide) q513 (Or.inl rfl) rfl rfl (fun _ _ _ => rfl) rfl rfl (congrArg Prod.fst (zX_t1000 hx)) rfl ?_
      exact za_return rfl dX1_walk_38 h
theorem gX1_walk_42 {d : Nat} {v1 : Int32} {v2 : Int64} {v4 : Int64} {v6 : Int32} {v7 : Int32} {T : zT} {I : zI} {L : zL} {R : zR} {P : zP} (hx : zXok T R) (h : (((26 : Int32) < v7 → P 0 (.int 0) T I L R) ∧ (¬ (26 : Int32) < v7 → ((v6 < (I 1000 23) → P 0 (.int 0) T I L R) ∧ (¬ v6 < (I 1000 23) → vp_in v1 12 ∧ (((I 1050 (v1.toNatClampNeg)) = 0 → zAW mX1_walk d 0 87 [(0, .ref 1000), (1, .int v1), (2, .long v2), (4, .long v4), (6, .int v6), (7, .int v7)] [] T I L R P) ∧ (¬ (I 1050 (v1.toNatClampNeg)) = 0 → (((I 1050 (v1.toNatClampNeg)) = v7 → zAW mX1_walk d 0 87 [(0, .ref 1000), (1, .int v1), (2, .long v2), (4, .long v4), (6, .int v6), (7, .int v7)] [] T I L R P) ∧ (¬ (I 1050 (v1.toNatClampNeg)) = v7 → zAW mX1_walk d 0 42 [(0, .ref 1000), (1, .int v1), (2, .long v2), (4, .long v4), (6, .int v6), (7, .int (v7 + (1 : Int32)))] [] T I L R P))))))))) : zAW mX1_walk d 0 42 [(0, .ref 1000), (1, .int v1), (2, .long v2), (4, .long v4), (6, .int v6), (7, .int v7)] [] T I L R P := by
  refine za_iload (pc' := 44) 5 dX1_walk_42 rfl rfl ?_
  refine za_bipush (pc' := 46) dX1_walk_44 zb8_26 rfl ?_
  refine za_icmp_gt (pc' := 49) (tgt := 180) dX1_walk_46 (by decide) rfl (fun c9 => ?_) (fun c9 => ?_)
  · replace h := h.1 c9
    exact za_return rfl dX1_walk_180 h
  · replace h := h.2 c9
    refine za_aload_n (pc' := 50) 0 dX1_walk_49 rfl rfl rfl ?_
    refine za_get (fi := 23) (v := .int (I 1000 23)) (pc' := 53) dX1_walk_50 zc0 (by decide) in_X1 (by decide) q513 (Or.inl rfl) (congrArg Prod.fst (zX_t1000 hx)) rfl rfl ?_
    refine za_iload (pc' := 55) 4 dX1_walk_53 rfl rfl ?_
    refine za_icmp_gt (pc' := 58) (tgt := 180) dX1_walk_55 (by decide) rfl (fun c9 => ?_) (fun c9 => ?_)
    · replace h := h.1 c9
      exact za_return rfl dX1_walk_180 h
    · replace h := h.2 c9
      refine za_aload_n (pc' := 59) 0 dX1_walk_58 rfl rfl rfl ?_
      refine za_get (fi := 19) (v := .ref 1020) (pc' := 62) dX1_walk_59 zc0 (by decide) in_X1 (by decide) q509 (Or.inl rfl) (congrArg Prod.fst (zX_t1000 hx)) (congrArg Value.ref (zX_r1000_19 hx)) rfl ?_
      refine za_getN (fi := 0) (v := .ref 1050) (pc' := 65) dX1_walk_62 zc10 (by decide) in_X11 (by decide) q404 (Or.inl rfl) (congrArg Prod.fst (zX_t1020 hx)) (congrArg Value.ref (zX_r1020_0 hx)) rfl ?_
      refine za_iload_n (pc' := 66) 1 dX1_walk_65 rfl rfl rfl ?_
      obtain ⟨hi3, h⟩ := h
      refine za_iald (v := .int (I 1050 (v1.toNatClampNeg))) (pc' := 67) dX1_walk_66 (zX_t1050 hx) hi3 rfl rfl ?_
      refine za_if_eq (pc' := 70) (tgt := 87) dX1_walk_67 (by decide) rfl (fun c9 => ?_) (fun c9 => ?_)
      · replace h := h.1 c9
        exact zAW_sub [0, 1, 2, 3, 4, 5] rfl h
      · replace h := h.2 c9
        refine za_aload_n (pc' := 71) 0 dX1_walk_70 rfl rfl rfl ?_
        refine za_get (fi := 19) (v := .ref 1020) (pc' := 74) dX1_walk_71 zc0 (by decide) in_X1 (by decide) q509 (Or.inl rfl) (congrArg Prod.fst (zX_t1000 hx)) (congrArg Value.ref (zX_r1000_19 hx)) rfl ?_
        refine za_getN (fi := 0) (v := .ref 1050) (pc' := 77) dX1_walk_74 zc10 (by decide) in_X11 (by decide) q404 (Or.inl rfl) (congrArg Prod.fst (zX_t1020 hx)) (congrArg Value.ref (zX_r1020_0 hx)) rfl ?_
        refine za_iload_n (pc' := 78) 1 dX1_walk_77 rfl rfl rfl ?_
        refine za_iald (v := .int (I 1050 (v1.toNatClampNeg))) (pc' := 79) dX1_walk_78 (zX_t1050 hx) hi3 rfl rfl ?_
        refine za_iload (pc' := 81) 5 dX1_walk_79 rfl rfl ?_
        refine za_icmp_eq (pc' := 84) (tgt := 87) dX1_walk_81 (by decide) rfl (fun c9 => ?_) (fun c9 => ?_)
        · replace h := h.1 c9
          exact zAW_sub [0, 1, 2, 3, 4, 5] rfl h
        · replace h := h.2 c9
          refine za_goto (tgt := 174) dX1_walk_84 (by decide) ?_
          refine za_iinc (pc' := 177) (l' := [(7, .int (v7 + (1 : Int32))), (0, .ref 1000), (1, .int v1), (2, .long v2), (4, .long v4), (6, .int v6)]) 5 dX1_walk_174 rfl (zinc zi_1) (Nat.le_of_ble_eq_true rfl) rfl rfl ?_
          refine za_goto (tgt := 42) dX1_walk_177 (by decide) ?_
          exact zAW_sub [1, 2, 3, 4, 5, 0] rfl h
theorem gX1_walk_87 {d : Nat} {v1 : Int32} {v2 : Int64} {v4 : Int64} {v6 : Int32} {v7 : Int32} {T : zT} {I : zI} {L : zL} {R : zR} {P : zP} (hx : zXok T R) (h : 4 < d ∧ zMet mX12_goes_2 4 0 [.ref 1040, .long v2, .int v7] T I L R (zqJ_ T I L R  (fun (r4 : Int64)  => 4 < d ∧ zMet mX12_goes_2 4 0 [.ref 1041, .long v4, .int v7] T I L R (zqJ_ T I L R  (fun (r6 : Int64)  => ((r4 = (0 : Int64) → zAW mX1_walk d 0 42 [(0, .ref 1000), (1, .int v1), (2, .long v2), (4, .long v4), (6, .int v6), (7, .int (v7 + (1 : Int32)))] [] T I L R P) ∧ (¬ r4 = (0 : Int64) → ((r6 = (0 : Int64) → zAW mX1_walk d 0 42 [(0, .ref 1000), (1, .int v1), (2, .long v2), (4, .long v4), (6, .int v6), (7, .int (v7 + (1 : Int32)))] [] T I L R P) ∧ (¬ r6 = (0 : Int64) → 2 < d ∧ zMet mX1_least_2 2 0 [.ref 1000, .int (v1 + (1 : Int32)), .long r4, .long r6] T I L R (zqI_ T I L R  (fun (r8 : Int32)  => ((r8 < (1000000 : Int32) → vp_in v1 12 ∧ ∃ d13, d13 < d ∧ zMet mX1_walk d13 0 [.ref 1000, .int (v1 + (1 : Int32)), .long r4, .long r6, .int v6] T (z2 I 1051 (v1.toNatClampNeg) v7) L R (zqV_IL T R  (fun (I11 : zI) (L12 : zL)  => zAW mX1_walk d 0 42 [(0, .ref 1000), (1, .int v1), (2, .long v2), (4, .long v4), (6, .int v6), (7, .int (v7 + (1 : Int32)))] [] T I11 L12 R P))) ∧ (¬ r8 < (1000000 : Int32) → zAW mX1_walk d 0 42 [(0, .ref 1000), (1, .int v1), (2, .long v2), (4, .long v4), (6, .int v6), (7, .int (v7 + (1 : Int32)))] [] T I L R P))))))))))))) : zAW mX1_walk d 0 87 [(0, .ref 1000), (1, .int v1), (2, .long v2), (4, .long v4), (6, .int v6), (7, .int v7)] [] T I L R P := by
  refine za_aload_n (pc' := 88) 0 dX1_walk_87 rfl rfl rfl ?_
  refine za_get (fi := 17) (v := .ref 1018) (pc' := 91) dX1_walk_88 zc0 (by decide) in_X1 (by decide) q507 (Or.inl rfl) (congrArg Prod.fst (zX_t1000 hx)) (congrArg Value.ref (zX_r1000_17 hx)) rfl ?_
  refine za_iconst (pc' := 92) dX1_walk_91 zi_0 rfl ?_
  refine za_aald (r := 1040) (t := 7) (C := RX12) (pc' := 93) dX1_walk_92 (by decide) (fun _ => rfl) (zX_t1018 hx) (zin (by decide)) (zix zn_0 (zX_r1018_0 hx)) rfl ?_
  refine za_lload_n (pc' := 94) 2 dX1_walk_93 rfl rfl rfl ?_
  refine za_iload (pc' := 96) 5 dX1_walk_94 rfl rfl ?_
  obtain ⟨hd5, h⟩ := h
  refine za_callV (κ := 1040) (M2 := mX12_goes_2) (d2 := 4) (b2 := 0) (n := 2) (As := [.long v2, .int v7]) (st := []) (pc' := 99) zc11 (by decide) (congrArg Prod.fst (zX_t1040 hx)) dX1_walk_96 rfl (lw_V q1256 q1257 q1258 q145 q1259) ⟨rfl, hd_X12_goes_2⟩ rfl (by decide) hd5 (Nat.zero_le _) (Or.inl rfl) (Nat.le_of_ble_eq_true rfl) h (zqJ__k rfl (fun r4 h => ?_)) (fun _ _ _ _ _ _ h9 h8 => absurd h8.1 h9) rfl
  refine za_lstore (pc' := 101) (l' := [(8, .long r4), (0, .ref 1000), (1, .int v1), (2, .long v2), (4, .long v4), (6, .int v6), (7, .int v7)]) dX1_walk_99 (Nat.le_of_ble_eq_true rfl) rfl rfl ?_
  refine za_aload_n (pc' := 102) 1 dX1_walk_101 rfl rfl rfl ?_
  refine za_get (fi := 17) (v := .ref 1018) (pc' := 105) dX1_walk_102 zc0 (by decide) in_X1 (by decide) q507 (Or.inl rfl) (congrArg Prod.fst (zX_t1000 hx)) (congrArg Value.ref (zX_r1000_17 hx)) rfl ?_
  refine za_iconst (pc' := 106) dX1_walk_105 zi_1 rfl ?_
  refine za_aald (r := 1041) (t := 7) (C := RX12) (pc' := 107) dX1_walk_106 (by decide) (fun _ => rfl) (zX_t1018 hx) (zin (by decide)) (zix zn_1 (zX_r1018_1 hx)) rfl ?_
  refine za_lload (pc' := 109) 4 dX1_walk_107 rfl rfl ?_
  refine za_iload (pc' := 111) 6 dX1_walk_109 rfl rfl ?_
  obtain ⟨hd7, h⟩ := h
  refine za_callV (κ := 1041) (M2 := mX12_goes_2) (d2 := 4) (b2 := 0) (n := 2) (As := [.long v4, .int v7]) (st := []) (pc' := 114) zc11 (by decide) (congrArg Prod.fst (zX_t1041 hx)) dX1_walk_111 rfl (lw_V q1256 q1257 q1258 q145 q1259) ⟨rfl, hd_X12_goes_2⟩ rfl (by decide) hd7 (Nat.zero_le _) (Or.inl rfl) (Nat.le_of_ble_eq_true rfl) h (zqJ__k rfl (fun r6 h => ?_)) (fun _ _ _ _ _ _ h9 h8 => absurd h8.1 h9) rfl
  refine za_lstore (pc' := 116) (l' := [(10, .long r6), (8, .long r4), (0, .ref 1000), (1, .int v1), (2, .long v2), (4, .long v4), (6, .int v6), (7, .int v7)]) dX1_walk_114 (Nat.le_of_ble_eq_true rfl) rfl rfl ?_
  refine za_lload (pc' := 118) 1 dX1_walk_116 rfl rfl ?_
  refine za_lconst (pc' := 119) dX1_walk_118 zl_0 rfl ?_
  refine za_lcmp (pc' := 120) dX1_walk_119 rfl ?_
  refine za_if_eq (pc' := 123) (tgt := 174) dX1_walk_120 (by decide) rfl (fun c9 => ?_) (fun c9 => ?_)
  · replace h := h.1 ((lg_cmp_eq r4 (0 : Int64)).mp c9)
    refine za_iinc (pc' := 177) (l' := [(7, .int (v7 + (1 : Int32))), (10, .long r6), (8, .long r4), (0, .ref 1000), (1, .int v1), (2, .long v2), (4, .long v4), (6, .int v6)]) 7 dX1_walk_174 rfl (zinc zi_1) (Nat.le_of_ble_eq_true rfl) rfl rfl ?_
    refine za_goto (tgt := 42) dX1_walk_177 (by decide) ?_
    exact zAW_sub [3, 4, 5, 6, 7, 0] rfl h
  · replace h := h.2 (fun c8 => c9 ((lg_cmp_eq r4 (0 : Int64)).mpr c8))
    refine za_lload (pc' := 125) 0 dX1_walk_123 rfl rfl ?_
    refine za_lconst (pc' := 126) dX1_walk_125 zl_0 rfl ?_
    refine za_lcmp (pc' := 127) dX1_walk_126 rfl ?_
    refine za_if_eq (pc' := 130) (tgt := 174) dX1_walk_127 (by decide) rfl (fun c9 => ?_) (fun c9 => ?_)
    · replace h := h.1 ((lg_cmp_eq r6 (0 : Int64)).mp c9)
      refine za_iinc (pc' := 177) (l' := [(7, .int (v7 + (1 : Int32))), (10, .long r6), (8, .long r4), (0, .ref 1000), (1, .int v1), (2, .long v2), (4, .long v4), (6, .int v6)]) 7 dX1_walk_174 rfl (zinc zi_1) (Nat.le_of_ble_eq_true rfl) rfl rfl ?_
      refine za_goto (tgt := 42) dX1_walk_177 (by decide) ?_
      exact zAW_sub [3, 4, 5, 6, 7, 0] rfl h
    · replace h := h.2 (fun c8 => c9 ((lg_cmp_eq r6 (0 : Int64)).mpr c8))
      refine za_aload_n (pc' := 131) 2 dX1_walk_130 rfl rfl rfl ?_
      refine za_iload_n (pc' := 132) 3 dX1_walk_131 rfl rfl rfl ?_
      refine za_iconst (pc' := 133) dX1_walk_132 zi_1 rfl ?_
      refine za_iadd (pc' := 134) dX1_walk_133 rfl ?_
      refine za_lload (pc' := 136) 1 dX1_walk_134 rfl rfl ?_
      refine za_lload (pc' := 138) 0 dX1_walk_136 rfl rfl ?_
      obtain ⟨hd9, h⟩ := h
      refine za_callV (κ := 1000) (M2 := mX1_least_2) (d2 := 2) (b2 := 0) (n := 3) (As := [.int (v1 + (1 : Int32)), .long r4, .long r6]) (st := []) (pc' := 141) zc0 (by decide) (congrArg Prod.fst (zX_t1000 hx)) dX1_walk_138 rfl (lw_V q1244 q1246 qs45 q131 q1247) ⟨rfl, hd_X1_least_2⟩ rfl (by decide) hd9 (Nat.zero_le _) (Or.inl rfl) (Nat.le_of_ble_eq_true rfl) h (zqI__k rfl (fun r8 h => ?_)) (fun _ _ _ _ _ _ h9 h8 => absurd h8.1 h9) rfl
      refine za_ldc_w (pc' := 144) (v := (1000000 : Int32)) (own := "") dX1_walk_141 q1215 rfl ?_
      refine za_icmp_lt (pc' := 147) (tgt := 150) dX1_walk_144 (by decide) rfl (fun c9 => ?_) (fun c9 => ?_)
      · replace h := h.1 c9
        refine za_aload_n (pc' := 151) 2 dX1_walk_150 rfl rfl rfl ?_
        refine za_get (fi := 21) (v := .ref 1022) (pc' := 154) dX1_walk_151 zc0 (by decide) in_X1 (by decide) q511 (Or.inl rfl) (congrArg Prod.fst (zX_t1000 hx)) (congrArg Value.ref (zX_r1000_21 hx)) rfl ?_
        refine za_getN (fi := 0) (v := .ref 1051) (pc' := 157) dX1_walk_154 zc10 (by decide) in_X11 (by decide) q404 (Or.inl rfl) (congrArg Prod.fst (zX_t1022 hx)) (congrArg Value.ref (zX_r1022_0 hx)) rfl ?_
        refine za_iload_n (pc' := 158) 3 dX1_walk_157 rfl rfl rfl ?_
        refine za_iload (pc' := 160) 7 dX1_walk_158 rfl rfl ?_
        obtain ⟨hi10, h⟩ := h
        refine za_iast (k := v1.toNatClampNeg) (pc' := 161) dX1_walk_160 (zX_t1051 hx) hi10 rfl rfl ?_
        refine za_aload_n (pc' := 162) 2 dX1_walk_161 rfl rfl rfl ?_
        refine za_iload_n (pc' := 163) 3 dX1_walk_162 rfl rfl rfl ?_
        refine za_iconst (pc' := 164) dX1_walk_163 zi_1 rfl ?_
        refine za_iadd (pc' := 165) dX1_walk_164 rfl ?_
        refine za_lload (pc' := 167) 1 dX1_walk_165 rfl rfl ?_
        refine za_lload (pc' := 169) 0 dX1_walk_167 rfl rfl ?_
        refine za_iload (pc' := 171) 6 dX1_walk_169 rfl rfl ?_
        obtain ⟨d13, hd14, h⟩ := h
        refine za_callV (κ := 1000) (M2 := mX1_walk) (d2 := d13) (b2 := 0) (n := 4) (As := [.int (v1 + (1 : Int32)), .long r4, .long r6, .int v6]) (st := []) (pc' := 174) zc0 (by decide) (congrArg Prod.fst (zX_t1000 hx)) dX1_walk_171 rfl (lw_V q1248 q1250 qs46 q131 q1251) ⟨rfl, hd_X1_walk⟩ rfl (by decide) hd14 (Nat.zero_le _) (Or.inl rfl) (Nat.le_of_ble_eq_true rfl) h (zqV_IL_k rfl (fun I11 L12 h => ?_)) (fun _ _ _ _ _ _ h9 h8 => absurd h8.1 h9) rfl
        refine za_iinc (pc' := 177) (l' := [(7, .int (v7 + (1 : Int32))), (10, .long r6), (8, .long r4), (0, .ref 1000), (1, .int v1), (2, .long v2), (4, .long v4), (6, .int v6)]) 7 dX1_walk_174 rfl (zinc zi_1) (Nat.le_of_ble_eq_true rfl) rfl rfl ?_
        refine za_goto (tgt := 42) dX1_walk_177 (by decide) ?_
        exact zAW_sub [3, 4, 5, 6, 7, 0] rfl h
      · replace h := h.2 c9
        refine za_goto (tgt := 174) dX1_walk_147 (by decide) ?_
        refine za_iinc (pc' := 177) (l' := [(7, .int (v7 + (1 : Int32))), (10, .long r6), (8, .long r4), (0, .ref 1000), (1, .int v1), (2, .long v2), (4, .long v4), (6, .int v6)]) 7 dX1_walk_174 rfl (zinc zi_1) (Nat.le_of_ble_eq_true rfl) rfl rfl ?_
        refine za_goto (tgt := 42) dX1_walk_177 (by decide) ?_
        exact zAW_sub [3, 4, 5, 6, 7, 0] rfl h
theorem sX1_walk {d b : Nat} {v1 : Int32} {v2 : Int64} {v4 : Int64} {v6 : Int32} {T : zT} {I : zI} {L : zL} {R : zR} {P : zP} (h : zAW mX1_walk d b 0 [(0, .ref 1000), (1, .int v1), (2, .long v2), (4, .long v4), (6, .int v6)] [] T I L R P) : zMet mX1_walk d b [.ref 1000, .int v1, .long v2, .long v4, .int v6] T I L R P := zMet_of (by decide +kernel) rfl (Nat.le_of_ble_eq_true rfl) rfl h
/-! TwoTongues.orMany (I)I -/
def dkwX1_orMany_0 : List UInt8 := [26, 17, 1, 244, 164, 0, 8, 16, 254, 167, 0, 4, 26, 172]
abbrev dktX1_orMany_0 : List UInt8 := dkwX1_orMany_0 ++ []
theorem dksX1_orMany_0 : cX1_orMany.data.toList.drop 0 = dktX1_orMany_0 := by decide +kernel
theorem dX1_orMany_0 : decode cX1_orMany 0 = .ok (.iload_n 0, 1) := dk_26 (dk_at dksX1_orMany_0 0 rfl rfl)
theorem dX1_orMany_1 : decode cX1_orMany 1 = .ok (.sipush 500, 3) := dk_17 1 244 (dk_at dksX1_orMany_0 1 rfl rfl)
theorem dX1_orMany_4 : decode cX1_orMany 4 = .ok (.if_icmp .le 8, 3) := dk_164 0 8 (dk_at dksX1_orMany_0 4 rfl rfl)
theorem dX1_orMany_7 : decode cX1_orMany 7 = .ok (.bipush (-2), 2) := dk_16 254 (dk_at dksX1_orMany_0 7 rfl rfl)
theorem dX1_orMany_9 : decode cX1_orMany 9 = .ok (.goto 4, 3) := dk_167 0 4 (dk_at dksX1_orMany_0 9 rfl rfl)
theorem dX1_orMany_12 : decode cX1_orMany 12 = .ok (.iload_n 0, 1) := dk_26 (dk_at dksX1_orMany_0 12 rfl rfl)
theorem dX1_orMany_13 : decode cX1_orMany 13 = .ok (.ireturn, 1) := dk_172 (dk_at dksX1_orMany_0 13 rfl rfl)
theorem gX1_orMany_0 {v0 : Int32} {T : zT} {I : zI} {L : zL} {R : zR} {P : zP} (h : ((v0 ≤ (500 : Int32) → P 0 (.int v0) T I L R) ∧ (¬ v0 ≤ (500 : Int32) → P 0 (.int (-2 : Int32)) T I L R))) : zAW mX1_orMany 1 0 0 [(0, .int v0)] [] T I L R P := by
  refine za_iload_n (pc' := 1) 0 dX1_orMany_0 rfl rfl rfl ?_
  refine za_sipush (pc' := 4) dX1_orMany_1 zb16_500 rfl ?_
  refine za_icmp_le (pc' := 7) (tgt := 12) dX1_orMany_4 (by decide) rfl (fun c9 => ?_) (fun c9 => ?_)
  · replace h := h.1 c9
    refine za_iload_n (pc' := 13) 0 dX1_orMany_12 rfl rfl rfl ?_
    exact za_ireturn rfl dX1_orMany_13 h
  · replace h := h.2 c9
    refine za_bipush (pc' := 9) dX1_orMany_7 zb8_m2 rfl ?_
    refine za_goto (tgt := 13) dX1_orMany_9 (by decide) ?_
    exact za_ireturn rfl dX1_orMany_13 h
theorem sX1_orMany {d b : Nat} {v0 : Int32} {T : zT} {I : zI} {L : zL} {R : zR} {P : zP} (h : zAW mX1_orMany d b 0 [(0, .int v0)] [] T I L R P) : zMet mX1_orMany d b [.int v0] T I L R P := zMet_of (by decide +kernel) rfl (Nat.le_of_ble_eq_true rfl) rfl h
/-! TwoTongues.serves (III)J -/
def dkwX1_serves_1 : List UInt8 := [154, 0, 7, 20, 1, 2, 173, 42, 27, 28, 182, 1, 116, 42, 29, 182, 1, 129, 173]
abbrev dktX1_serves_1 : List UInt8 := dkwX1_serves_1 ++ []
def dkwX1_serves_0 : List UInt8 := [27, 184, 1, 110, 153, 0, 22, 28, 184, 1, 113, 153, 0, 15, 29, 133, 9, 20, 1, 127, 184, 0, 126]
abbrev dktX1_serves_0 : List UInt8 := dkwX1_serves_0 ++ dktX1_serves_1
theorem dksX1_serves_0 : cX1_serves.data.toList.drop 0 = dktX1_serves_0 := by decide +kernel
theorem dksX1_serves_1 : cX1_serves.data.toList.drop 23 = dktX1_serves_1 := dk_seg dksX1_serves_0 23 rfl rfl
theorem dX1_serves_0 : decode cX1_serves 0 = .ok (.iload_n 1, 1) := dk_27 (dk_at dksX1_serves_0 0 rfl rfl)
theorem dX1_serves_1 : decode cX1_serves 1 = .ok (.invokestatic 366, 3) := dk_184 1 110 (dk_at dksX1_serves_0 1 rfl rfl)
theorem dX1_serves_4 : decode cX1_serves 4 = .ok (.ifCond .eq 22, 3) := dk_153 0 22 (dk_at dksX1_serves_0 4 rfl rfl)
theorem dX1_serves_7 : decode cX1_serves 7 = .ok (.iload_n 2, 1) := dk_28 (dk_at dksX1_serves_0 7 rfl rfl)
theorem dX1_serves_8 : decode cX1_serves 8 = .ok (.invokestatic 369, 3) := dk_184 1 113 (dk_at dksX1_serves_0 8 rfl rfl)
theorem dX1_serves_11 : decode cX1_serves 11 = .ok (.ifCond .eq 15, 3) := dk_153 0 15 (dk_at dksX1_serves_0 11 rfl rfl)
theorem dX1_serves_14 : decode cX1_serves 14 = .ok (.iload_n 3, 1) := dk_29 (dk_at dksX1_serves_0 14 rfl rfl)
theorem dX1_serves_15 : decode cX1_serves 15 = .ok (.i2l, 1) := dk_133 (dk_at dksX1_serves_0 15 rfl rfl)
theorem dX1_serves_16 : decode cX1_serves 16 = .ok (.lconst 0, 1) := dk_9 (dk_at dksX1_serves_0 16 rfl rfl)
theorem dX1_serves_17 : decode cX1_serves 17 = .ok (.ldc2_w 383, 3) := dk_20 1 127 (dk_at dksX1_serves_0 17 rfl rfl)
theorem dX1_serves_20 : decode cX1_serves 20 = .ok (.invokestatic 126, 3) := dk_184 0 126 (dk_at dksX1_serves_0 20 rfl rfl)
theorem dX1_serves_23 : decode cX1_serves 23 = .ok (.ifCond .ne 7, 3) := dk_154 0 7 (dk_at dksX1_serves_1 0 rfl rfl)
theorem dX1_serves_26 : decode cX1_serves 26 = .ok (.ldc2_w 258, 3) := dk_20 1 2 (dk_at dksX1_serves_1 3 rfl rfl)
theorem dX1_serves_29 : decode cX1_serves 29 = .ok (.lreturn, 1) := dk_173 (dk_at dksX1_serves_1 6 rfl rfl)
theorem dX1_serves_30 : decode cX1_serves 30 = .ok (.aload_n 0, 1) := dk_42 (dk_at dksX1_serves_1 7 rfl rfl)
theorem dX1_serves_31 : decode cX1_serves 31 = .ok (.iload_n 1, 1) := dk_27 (dk_at dksX1_serves_1 8 rfl rfl)
theorem dX1_serves_32 : decode cX1_serves 32 = .ok (.iload_n 2, 1) := dk_28 (dk_at dksX1_serves_1 9 rfl rfl)
theorem dX1_serves_33 : decode cX1_serves 33 = .ok (.invokevirtual 372, 3) := dk_182 1 116 (dk_at dksX1_serves_1 10 rfl rfl)
theorem dX1_serves_36 : decode cX1_serves 36 = .ok (.aload_n 0, 1) := dk_42 (dk_at dksX1_serves_1 13 rfl rfl)
theorem dX1_serves_37 : decode cX1_serves 37 = .ok (.iload_n 3, 1) := dk_29 (dk_at dksX1_serves_1 14 rfl rfl)
theorem dX1_serves_38 : decode cX1_serves 38 = .ok (.invokevirtual 385, 3) := dk_182 1 129 (dk_at dksX1_serves_1 15 rfl rfl)
theorem dX1_serves_41 : decode cX1_serves 41 = .ok (.lreturn, 1) := dk_173 (dk_at dksX1_serves_1 18 rfl rfl)
theorem gX1_serves_0 {v1 : Int32} {v2 : Int32} {v3 : Int32} {T : zT} {I : zI} {L : zL} {R : zR} {P : zP} (hx : zXok T R) (h : zMet mX1_isKind 2 0 [.int v1] T I L R (zqI_ T I L R  (fun (r1 : Int32)  => ((r1 = 0 → P 0 (.long (-1 : Int64)) T I L R) ∧ (¬ r1 = 0 → zMet mX1_isLength 2 0 [.int v2] T I L R (zqI_ T I L R  (fun (r2 : Int32)  => ((r2 = 0 → P 0 (.long (-1 : Int64)) T I L R) ∧ (¬ r2 = 0 → zMet mX1_in 1 0 [.long (v3.toInt64), .long (0 : Int64), .long (499 : Int64)] T I L R (zqI_ T I L R  (fun (r3 : Int32)  => ((r3 = 0 → P 0 (.long (-1 : Int64)) T I L R) ∧ (¬ r3 = 0 → zMet mX1_layFree 7 0 [.ref 1000, .int v1, .int v2] T I L R (zqV_IR T L  (fun (I4 : zI) (R5 : zR)  => zXok T R5 ∧ zMet mX1_nth 42 0 [.ref 1000, .int v3] T I4 L R5 (zqJ_IL T R5  (fun (r7 : Int64) (I8 : zI) (L9 : zL)  => P 0 (.long r7) T I8 L9 R5))))))))))))))))) : zAW mX1_serves 43 0 0 [(0, .ref 1000), (1, .int v1), (2, .int v2), (3, .int v3)] [] T I L R P := by
  refine za_iload_n (pc' := 1) 1 dX1_serves_0 rfl rfl rfl ?_
  refine za_callS (M2 := mX1_isKind) (d2 := 2) (b2 := 0) (n := 1) (As := [.int v1]) (st := []) (pc' := 4) dX1_serves_1 rfl (lw_S q1191 q1192 q131 q1193) hd_X1_isKind rfl (by decide) (by decide) (Nat.zero_le _) (Or.inl rfl) (Nat.le_of_ble_eq_true rfl) h (zqI__k rfl (fun r1 h => ?_)) (fun _ _ _ _ _ _ h9 h8 => absurd h8.1 h9) rfl
  refine za_if_eq (pc' := 7) (tgt := 26) dX1_serves_4 (by decide) rfl (fun c9 => ?_) (fun c9 => ?_)
  · replace h := h.1 c9
    refine za_ldc2 (pc' := 29) (v := (-1 : Int64)) (own := "") dX1_serves_26 q1082 rfl ?_
    exact za_lreturn rfl dX1_serves_29 h
  · replace h := h.2 c9
    refine za_iload_n (pc' := 8) 2 dX1_serves_7 rfl rfl rfl ?_
    refine za_callS (M2 := mX1_isLength) (d2 := 2) (b2 := 0) (n := 1) (As := [.int v2]) (st := []) (pc' := 11) dX1_serves_8 rfl (lw_S q1195 q1196 q131 q1197) hd_X1_isLength rfl (by decide) (by decide) (Nat.zero_le _) (Or.inl rfl) (Nat.le_of_ble_eq_true rfl) h (zqI__k rfl (fun r2 h => ?_)) (fun _ _ _ _ _ _ h9 h8 => absurd h8.1 h9) rfl
    refine za_if_eq (pc' := 14) (tgt := 26) dX1_serves_11 (by decide) rfl (fun c9 => ?_) (fun c9 => ?_)
    · replace h := h.1 c9
      refine za_ldc2 (pc' := 29) (v := (-1 : Int64)) (own := "") dX1_serves_26 q1082 rfl ?_
      exact za_lreturn rfl dX1_serves_29 h
    · replace h := h.2 c9
      refine za_iload_n (pc' := 15) 3 dX1_serves_14 rfl rfl rfl ?_
      refine za_i2l (pc' := 16) dX1_serves_15 rfl rfl ?_
      refine za_lconst (pc' := 17) dX1_serves_16 zl_0 rfl ?_
      refine za_ldc2 (pc' := 20) (v := (499 : Int64)) (own := "") dX1_serves_17 q1267 rfl ?_
      refine za_callS (M2 := mX1_in) (d2 := 1) (b2 := 0) (n := 3) (As := [.long (v3.toInt64), .long (0 : Int64), .long (499 : Int64)]) (st := []) (pc' := 23) dX1_serves_20 rfl (lw_S q588 q589 q131 q590) hd_X1_in rfl (by decide) (by decide) (Nat.zero_le _) (Or.inl rfl) (Nat.le_of_ble_eq_true rfl) h (zqI__k rfl (fun r3 h => ?_)) (fun _ _ _ _ _ _ h9 h8 => absurd h8.1 h9) rfl
      refine za_if_ne (pc' := 26) (tgt := 30) dX1_serves_23 (by decide) rfl (fun c9 => ?_) (fun c9 => ?_)
      · replace h := h.2 c9
        refine za_aload_n (pc' := 31) 0 dX1_serves_30 rfl rfl rfl ?_
        refine za_iload_n (pc' := 32) 1 dX1_serves_31 rfl rfl rfl ?_
        refine za_iload_n (pc' := 33) 2 dX1_serves_32 rfl rfl rfl ?_
        refine za_callV (κ := 1000) (M2 := mX1_layFree) (d2 := 7) (b2 := 0) (n := 2) (As := [.int v1, .int v2]) (st := []) (pc' := 36) zc0 (by decide) (congrArg Prod.fst (zX_t1000 hx)) dX1_serves_33 rfl (lw_V q1199 q1201 qs39 q131 q1202) ⟨rfl, hd_X1_layFree⟩ rfl (by decide) (by decide) (Nat.zero_le _) (Or.inl rfl) (Nat.le_of_ble_eq_true rfl) h (zqV_IR_k rfl (fun I4 R5 h => ?_)) (fun _ _ _ _ _ _ h9 h8 => absurd h8.1 h9) rfl
        obtain ⟨hx6, h⟩ := h
        refine za_aload_n (pc' := 37) 0 dX1_serves_36 rfl rfl rfl ?_
        refine za_iload_n (pc' := 38) 3 dX1_serves_37 rfl rfl rfl ?_
        refine za_callV (κ := 1000) (M2 := mX1_nth) (d2 := 42) (b2 := 0) (n := 1) (As := [.int v3]) (st := []) (pc' := 41) zc0 (by decide) (congrArg Prod.fst (zX_t1000 hx)) dX1_serves_38 rfl (lw_V q1268 q1270 qs47 q131 q1271) ⟨rfl, hd_X1_nth⟩ rfl (by decide) (by decide) (Nat.zero_le _) (Or.inl rfl) (Nat.le_of_ble_eq_true rfl) h (zqJ_IL_k rfl (fun r7 I8 L9 h => ?_)) (fun _ _ _ _ _ _ h9 h8 => absurd h8.1 h9) rfl
        exact za_lreturn rfl dX1_serves_41 h
      · replace h := h.1 c9
        refine za_ldc2 (pc' := 29) (v := (-1 : Int64)) (own := "") dX1_serves_26 q1082 rfl ?_
        exact za_lreturn rfl dX1_serves_29 h
theorem sX1_serves {d b : Nat} {v1 : Int32} {v2 : Int32} {v3 : Int32} {T : zT} {I : zI} {L : zL} {R : zR} {P : zP} (h : zAW mX1_serves d b 0 [(0, .ref 1000), (1, .int v1), (2, .int v2), (3, .int v3)] [] T I L R P) : zMet mX1_serves d b [.ref 1000, .int v1, .int v2, .int v3] T I L R P := zMet_of (by decide +kernel) rfl (Nat.le_of_ble_eq_true rfl) rfl h
/-! TwoTongues.nth (I)J -/
def dkwX1_nth_0 : List UInt8 := [42, 27, 182, 1, 119, 27, 164, 0, 10, 42, 180, 1, 87, 167, 0, 6, 20, 1, 125, 173]
abbrev dktX1_nth_0 : List UInt8 := dkwX1_nth_0 ++ []
theorem dksX1_nth_0 : cX1_nth.data.toList.drop 0 = dktX1_nth_0 := by decide +kernel
theorem dX1_nth_0 : decode cX1_nth 0 = .ok (.aload_n 0, 1) := dk_42 (dk_at dksX1_nth_0 0 rfl rfl)
theorem dX1_nth_1 : decode cX1_nth 1 = .ok (.iload_n 1, 1) := dk_27 (dk_at dksX1_nth_0 1 rfl rfl)
theorem dX1_nth_2 : decode cX1_nth 2 = .ok (.invokevirtual 375, 3) := dk_182 1 119 (dk_at dksX1_nth_0 2 rfl rfl)
theorem dX1_nth_5 : decode cX1_nth 5 = .ok (.iload_n 1, 1) := dk_27 (dk_at dksX1_nth_0 5 rfl rfl)
theorem dX1_nth_6 : decode cX1_nth 6 = .ok (.if_icmp .le 10, 3) := dk_164 0 10 (dk_at dksX1_nth_0 6 rfl rfl)
theorem dX1_nth_9 : decode cX1_nth 9 = .ok (.aload_n 0, 1) := dk_42 (dk_at dksX1_nth_0 9 rfl rfl)
theorem dX1_nth_10 : decode cX1_nth 10 = .ok (.getfield 343, 3) := dk_180 1 87 (dk_at dksX1_nth_0 10 rfl rfl)
theorem dX1_nth_13 : decode cX1_nth 13 = .ok (.goto 6, 3) := dk_167 0 6 (dk_at dksX1_nth_0 13 rfl rfl)
theorem dX1_nth_16 : decode cX1_nth 16 = .ok (.ldc2_w 381, 3) := dk_20 1 125 (dk_at dksX1_nth_0 16 rfl rfl)
theorem dX1_nth_19 : decode cX1_nth 19 = .ok (.lreturn, 1) := dk_173 (dk_at dksX1_nth_0 19 rfl rfl)
theorem gX1_nth_0 {v1 : Int32} {T : zT} {I : zI} {L : zL} {R : zR} {P : zP} (hx : zXok T R) (h : zMet mX1_walks 41 0 [.ref 1000, .int v1] T I L R (zqI_IL T R  (fun (r1 : Int32) (I2 : zI) (L3 : zL)  => ((r1 ≤ v1 → P 0 (.long (-2 : Int64)) T I2 L3 R) ∧ (¬ r1 ≤ v1 → P 0 (.long (L3 1000 22)) T I2 L3 R))))) : zAW mX1_nth 42 0 0 [(0, .ref 1000), (1, .int v1)] [] T I L R P := by
  refine za_aload_n (pc' := 1) 0 dX1_nth_0 rfl rfl rfl ?_
  refine za_iload_n (pc' := 2) 1 dX1_nth_1 rfl rfl rfl ?_
  refine za_callV (κ := 1000) (M2 := mX1_walks) (d2 := 41) (b2 := 0) (n := 1) (As := [.int v1]) (st := []) (pc' := 5) zc0 (by decide) (congrArg Prod.fst (zX_t1000 hx)) dX1_nth_2 rfl (lw_V q1239 q1241 qs44 q131 q1242) ⟨rfl, hd_X1_walks⟩ rfl (by decide) (by decide) (Nat.zero_le _) (Or.inl rfl) (Nat.le_of_ble_eq_true rfl) h (zqI_IL_k rfl (fun r1 I2 L3 h => ?_)) (fun _ _ _ _ _ _ h9 h8 => absurd h8.1 h9) rfl
  refine za_iload_n (pc' := 6) 1 dX1_nth_5 rfl rfl rfl ?_
  refine za_icmp_le (pc' := 9) (tgt := 16) dX1_nth_6 (by decide) rfl (fun c9 => ?_) (fun c9 => ?_)
  · replace h := h.1 c9
    refine za_ldc2 (pc' := 19) (v := (-2 : Int64)) (own := "") dX1_nth_16 q1272 rfl ?_
    exact za_lreturn rfl dX1_nth_19 h
  · replace h := h.2 c9
    refine za_aload_n (pc' := 10) 0 dX1_nth_9 rfl rfl rfl ?_
    refine za_get (fi := 22) (v := .long (L3 1000 22)) (pc' := 13) dX1_nth_10 zc0 (by decide) in_X1 (by decide) q512 (Or.inl rfl) (congrArg Prod.fst (zX_t1000 hx)) rfl rfl ?_
    refine za_goto (tgt := 19) dX1_nth_13 (by decide) ?_
    exact za_lreturn rfl dX1_nth_19 h
theorem sX1_nth {d b : Nat} {v1 : Int32} {T : zT} {I : zI} {L : zL} {R : zR} {P : zP} (h : zAW mX1_nth d b 0 [(0, .ref 1000), (1, .int v1)] [] T I L R P) : zMet mX1_nth d b [.ref 1000, .int v1] T I L R P := zMet_of (by decide +kernel) rfl (Nat.le_of_ble_eq_true rfl) rfl h
/-! TwoTongues.lightest (II)I -/
def dkwX1_lightest_1 : List UInt8 := [20, 1, 101, 20, 1, 101, 182, 1, 94, 62, 29, 19, 1, 68, 161, 0, 8, 16, 254, 167, 0, 4, 29, 172]
abbrev dktX1_lightest_1 : List UInt8 := dkwX1_lightest_1 ++ []
def dkwX1_lightest_0 : List UInt8 := [27, 184, 1, 110, 153, 0, 10, 28, 184, 1, 113, 154, 0, 5, 2, 172, 42, 27, 28, 182, 1, 116, 42, 3]
abbrev dktX1_lightest_0 : List UInt8 := dkwX1_lightest_0 ++ dktX1_lightest_1
theorem dksX1_lightest_0 : cX1_lightest.data.toList.drop 0 = dktX1_lightest_0 := by decide +kernel
theorem dksX1_lightest_1 : cX1_lightest.data.toList.drop 24 = dktX1_lightest_1 := dk_seg dksX1_lightest_0 24 rfl rfl
theorem dX1_lightest_0 : decode cX1_lightest 0 = .ok (.iload_n 1, 1) := dk_27 (dk_at dksX1_lightest_0 0 rfl rfl)
theorem dX1_lightest_1 : decode cX1_lightest 1 = .ok (.invokestatic 366, 3) := dk_184 1 110 (dk_at dksX1_lightest_0 1 rfl rfl)
theorem dX1_lightest_4 : decode cX1_lightest 4 = .ok (.ifCond .eq 10, 3) := dk_153 0 10 (dk_at dksX1_lightest_0 4 rfl rfl)
theorem dX1_lightest_7 : decode cX1_lightest 7 = .ok (.iload_n 2, 1) := dk_28 (dk_at dksX1_lightest_0 7 rfl rfl)
theorem dX1_lightest_8 : decode cX1_lightest 8 = .ok (.invokestatic 369, 3) := dk_184 1 113 (dk_at dksX1_lightest_0 8 rfl rfl)
theorem dX1_lightest_11 : decode cX1_lightest 11 = .ok (.ifCond .ne 5, 3) := dk_154 0 5 (dk_at dksX1_lightest_0 11 rfl rfl)
theorem dX1_lightest_14 : decode cX1_lightest 14 = .ok (.iconst (-1), 1) := dk_2 (dk_at dksX1_lightest_0 14 rfl rfl)
theorem dX1_lightest_15 : decode cX1_lightest 15 = .ok (.ireturn, 1) := dk_172 (dk_at dksX1_lightest_0 15 rfl rfl)
theorem dX1_lightest_16 : decode cX1_lightest 16 = .ok (.aload_n 0, 1) := dk_42 (dk_at dksX1_lightest_0 16 rfl rfl)
theorem dX1_lightest_17 : decode cX1_lightest 17 = .ok (.iload_n 1, 1) := dk_27 (dk_at dksX1_lightest_0 17 rfl rfl)
theorem dX1_lightest_18 : decode cX1_lightest 18 = .ok (.iload_n 2, 1) := dk_28 (dk_at dksX1_lightest_0 18 rfl rfl)
theorem dX1_lightest_19 : decode cX1_lightest 19 = .ok (.invokevirtual 372, 3) := dk_182 1 116 (dk_at dksX1_lightest_0 19 rfl rfl)
theorem dX1_lightest_22 : decode cX1_lightest 22 = .ok (.aload_n 0, 1) := dk_42 (dk_at dksX1_lightest_0 22 rfl rfl)
theorem dX1_lightest_23 : decode cX1_lightest 23 = .ok (.iconst 0, 1) := dk_3 (dk_at dksX1_lightest_0 23 rfl rfl)
theorem dX1_lightest_24 : decode cX1_lightest 24 = .ok (.ldc2_w 357, 3) := dk_20 1 101 (dk_at dksX1_lightest_1 0 rfl rfl)
theorem dX1_lightest_27 : decode cX1_lightest 27 = .ok (.ldc2_w 357, 3) := dk_20 1 101 (dk_at dksX1_lightest_1 3 rfl rfl)
theorem dX1_lightest_30 : decode cX1_lightest 30 = .ok (.invokevirtual 350, 3) := dk_182 1 94 (dk_at dksX1_lightest_1 6 rfl rfl)
theorem dX1_lightest_33 : decode cX1_lightest 33 = .ok (.istore_n 3, 1) := dk_62 (dk_at dksX1_lightest_1 9 rfl rfl)
theorem dX1_lightest_34 : decode cX1_lightest 34 = .ok (.iload_n 3, 1) := dk_29 (dk_at dksX1_lightest_1 10 rfl rfl)
theorem dX1_lightest_35 : decode cX1_lightest 35 = .ok (.ldc_w 324, 3) := dk_19 1 68 (dk_at dksX1_lightest_1 11 rfl rfl)
theorem dX1_lightest_38 : decode cX1_lightest 38 = .ok (.if_icmp .lt 8, 3) := dk_161 0 8 (dk_at dksX1_lightest_1 14 rfl rfl)
theorem dX1_lightest_41 : decode cX1_lightest 41 = .ok (.bipush (-2), 2) := dk_16 254 (dk_at dksX1_lightest_1 17 rfl rfl)
theorem dX1_lightest_43 : decode cX1_lightest 43 = .ok (.goto 4, 3) := dk_167 0 4 (dk_at dksX1_lightest_1 19 rfl rfl)
theorem dX1_lightest_46 : decode cX1_lightest 46 = .ok (.iload_n 3, 1) := dk_29 (dk_at dksX1_lightest_1 22 rfl rfl)
theorem dX1_lightest_47 : decode cX1_lightest 47 = .ok (.ireturn, 1) := dk_172 (dk_at dksX1_lightest_1 23 rfl rfl)
theorem gX1_lightest_0 {v1 : Int32} {v2 : Int32} {T : zT} {I : zI} {L : zL} {R : zR} {P : zP} (hx : zXok T R) (h : zMet mX1_isKind 2 0 [.int v1] T I L R (zqI_ T I L R  (fun (r1 : Int32)  => ((r1 = 0 → P 0 (.int (-1 : Int32)) T I L R) ∧ (¬ r1 = 0 → zMet mX1_isLength 2 0 [.int v2] T I L R (zqI_ T I L R  (fun (r2 : Int32)  => ((r2 = 0 → P 0 (.int (-1 : Int32)) T I L R) ∧ (¬ r2 = 0 → zMet mX1_layFree 7 0 [.ref 1000, .int v1, .int v2] T I L R (zqV_IR T L  (fun (I3 : zI) (R4 : zR)  => zXok T R4 ∧ zMet mX1_least_2 2 0 [.ref 1000, .int (0 : Int32), .long (1152921504606846976 : Int64), .long (1152921504606846976 : Int64)] T I3 L R4 (zqI_ T I3 L R4  (fun (r6 : Int32)  => ((r6 < (1000000 : Int32) → P 0 (.int r6) T I3 L R4) ∧ (¬ r6 < (1000000 : Int32) → P 0 (.int (-2 : Int32)) T I3 L R4))))))))))))))) : zAW mX1_lightest 8 0 0 [(0, .ref 1000), (1, .int v1), (2, .int v2)] [] T I L R P := by
  refine za_iload_n (pc' := 1) 1 dX1_lightest_0 rfl rfl rfl ?_
  refine za_callS (M2 := mX1_isKind) (d2 := 2) (b2 := 0) (n := 1) (As := [.int v1]) (st := []) (pc' := 4) dX1_lightest_1 rfl (lw_S q1191 q1192 q131 q1193) hd_X1_isKind rfl (by decide) (by decide) (Nat.zero_le _) (Or.inl rfl) (Nat.le_of_ble_eq_true rfl) h (zqI__k rfl (fun r1 h => ?_)) (fun _ _ _ _ _ _ h9 h8 => absurd h8.1 h9) rfl
  refine za_if_eq (pc' := 7) (tgt := 14) dX1_lightest_4 (by decide) rfl (fun c9 => ?_) (fun c9 => ?_)
  · replace h := h.1 c9
    refine za_iconst (pc' := 15) dX1_lightest_14 zi_m1 rfl ?_
    exact za_ireturn rfl dX1_lightest_15 h
  · replace h := h.2 c9
    refine za_iload_n (pc' := 8) 2 dX1_lightest_7 rfl rfl rfl ?_
    refine za_callS (M2 := mX1_isLength) (d2 := 2) (b2 := 0) (n := 1) (As := [.int v2]) (st := []) (pc' := 11) dX1_lightest_8 rfl (lw_S q1195 q1196 q131 q1197) hd_X1_isLength rfl (by decide) (by decide) (Nat.zero_le _) (Or.inl rfl) (Nat.le_of_ble_eq_true rfl) h (zqI__k rfl (fun r2 h => ?_)) (fun _ _ _ _ _ _ h9 h8 => absurd h8.1 h9) rfl
    refine za_if_ne (pc' := 14) (tgt := 16) dX1_lightest_11 (by decide) rfl (fun c9 => ?_) (fun c9 => ?_)
    · replace h := h.2 c9
      refine za_aload_n (pc' := 17) 0 dX1_lightest_16 rfl rfl rfl ?_
      refine za_iload_n (pc' := 18) 1 dX1_lightest_17 rfl rfl rfl ?_
      refine za_iload_n (pc' := 19) 2 dX1_lightest_18 rfl rfl rfl ?_
      refine za_callV (κ := 1000) (M2 := mX1_layFree) (d2 := 7) (b2 := 0) (n := 2) (As := [.int v1, .int v2]) (st := []) (pc' := 22) zc0 (by decide) (congrArg Prod.fst (zX_t1000 hx)) dX1_lightest_19 rfl (lw_V q1199 q1201 qs39 q131 q1202) ⟨rfl, hd_X1_layFree⟩ rfl (by decide) (by decide) (Nat.zero_le _) (Or.inl rfl) (Nat.le_of_ble_eq_true rfl) h (zqV_IR_k rfl (fun I3 R4 h => ?_)) (fun _ _ _ _ _ _ h9 h8 => absurd h8.1 h9) rfl
      obtain ⟨hx5, h⟩ := h
      refine za_aload_n (pc' := 23) 0 dX1_lightest_22 rfl rfl rfl ?_
      refine za_iconst (pc' := 24) dX1_lightest_23 zi_0 rfl ?_
      refine za_ldc2 (pc' := 27) (v := (1152921504606846976 : Int64)) (own := "") dX1_lightest_24 q1243 rfl ?_
      refine za_ldc2 (pc' := 30) (v := (1152921504606846976 : Int64)) (own := "") dX1_lightest_27 q1243 rfl ?_
      refine za_callV (κ := 1000) (M2 := mX1_least_2) (d2 := 2) (b2 := 0) (n := 3) (As := [.int (0 : Int32), .long (1152921504606846976 : Int64), .long (1152921504606846976 : Int64)]) (st := []) (pc' := 33) zc0 (by decide) (congrArg Prod.fst (zX_t1000 hx)) dX1_lightest_30 rfl (lw_V q1244 q1246 qs45 q131 q1247) ⟨rfl, hd_X1_least_2⟩ rfl (by decide) (by decide) (Nat.zero_le _) (Or.inl rfl) (Nat.le_of_ble_eq_true rfl) h (zqI__k rfl (fun r6 h => ?_)) (fun _ _ _ _ _ _ h9 h8 => absurd h8.1 h9) rfl
      refine za_istore_n (pc' := 34) (l' := [(3, .int r6), (0, .ref 1000), (1, .int v1), (2, .int v2)]) dX1_lightest_33 rfl (Nat.le_of_ble_eq_true rfl) rfl rfl ?_
      refine za_iload_n (pc' := 35) 0 dX1_lightest_34 rfl rfl rfl ?_
      refine za_ldc_w (pc' := 38) (v := (1000000 : Int32)) (own := "") dX1_lightest_35 q1215 rfl ?_
      refine za_icmp_lt (pc' := 41) (tgt := 46) dX1_lightest_38 (by decide) rfl (fun c9 => ?_) (fun c9 => ?_)
      · replace h := h.1 c9
        refine za_iload_n (pc' := 47) 0 dX1_lightest_46 rfl rfl rfl ?_
        exact za_ireturn rfl dX1_lightest_47 h
      · replace h := h.2 c9
        refine za_bipush (pc' := 43) dX1_lightest_41 zb8_m2 rfl ?_
        refine za_goto (tgt := 47) dX1_lightest_43 (by decide) ?_
        exact za_ireturn rfl dX1_lightest_47 h
    · replace h := h.1 c9
      refine za_iconst (pc' := 15) dX1_lightest_14 zi_m1 rfl ?_
      exact za_ireturn rfl dX1_lightest_15 h
theorem sX1_lightest {d b : Nat} {v1 : Int32} {v2 : Int32} {T : zT} {I : zI} {L : zL} {R : zR} {P : zP} (h : zAW mX1_lightest d b 0 [(0, .ref 1000), (1, .int v1), (2, .int v2)] [] T I L R P) : zMet mX1_lightest d b [.ref 1000, .int v1, .int v2] T I L R P := zMet_of (by decide +kernel) rfl (Nat.le_of_ble_eq_true rfl) rfl h
/-! TwoTongues.light (II)J -/
def dkwX1_light_7 : List UInt8 := [173]
abbrev dktX1_light_7 : List UInt8 := dkwX1_light_7 ++ []
def dkwX1_light_6 : List UInt8 := [4, 50, 22, 6, 21, 9, 182, 1, 91, 55, 6, 132, 8, 1, 167, 255, 134, 42, 180, 0, 104, 182, 1, 83]
abbrev dktX1_light_6 : List UInt8 := dkwX1_light_6 ++ dktX1_light_7
def dkwX1_light_5 : List UInt8 := [21, 9, 46, 100, 62, 42, 180, 0, 89, 3, 50, 22, 4, 21, 9, 182, 1, 91, 55, 4, 42, 180, 0, 89]
abbrev dktX1_light_5 : List UInt8 := dkwX1_light_5 ++ dktX1_light_6
def dkwX1_light_4 : List UInt8 := [167, 255, 204, 42, 180, 0, 104, 180, 0, 219, 21, 8, 21, 9, 79, 29, 42, 180, 0, 39, 180, 1, 39]
abbrev dktX1_light_4 : List UInt8 := dkwX1_light_4 ++ dktX1_light_5
def dkwX1_light_3 : List UInt8 := [42, 180, 0, 89, 4, 50, 22, 6, 21, 9, 182, 1, 91, 182, 1, 94, 96, 29, 159, 0, 9, 132, 9, 1]
abbrev dktX1_light_3 : List UInt8 := dkwX1_light_3 ++ dktX1_light_4
def dkwX1_light_2 : List UInt8 := [180, 1, 39, 21, 9, 46, 42, 21, 8, 4, 96, 42, 180, 0, 89, 3, 50, 22, 4, 21, 9, 182, 1, 91]
abbrev dktX1_light_2 : List UInt8 := dkwX1_light_2 ++ dktX1_light_3
def dkwX1_light_1 : List UInt8 := [42, 180, 0, 104, 28, 181, 0, 190, 3, 54, 8, 21, 8, 28, 162, 0, 122, 4, 54, 9, 42, 180, 0, 39]
abbrev dktX1_light_1 : List UInt8 := dkwX1_light_1 ++ dktX1_light_2
def dkwX1_light_0 : List UInt8 := [42, 27, 28, 182, 1, 133, 62, 29, 156, 0, 6, 29, 133, 173, 20, 1, 101, 55, 4, 20, 1, 101, 55, 6]
abbrev dktX1_light_0 : List UInt8 := dkwX1_light_0 ++ dktX1_light_1
theorem dksX1_light_0 : cX1_light.data.toList.drop 0 = dktX1_light_0 := by decide +kernel
theorem dksX1_light_1 : cX1_light.data.toList.drop 24 = dktX1_light_1 := dk_seg dksX1_light_0 24 rfl rfl
theorem dksX1_light_2 : cX1_light.data.toList.drop 48 = dktX1_light_2 := dk_seg dksX1_light_1 24 rfl rfl
theorem dksX1_light_3 : cX1_light.data.toList.drop 72 = dktX1_light_3 := dk_seg dksX1_light_2 24 rfl rfl
theorem dksX1_light_4 : cX1_light.data.toList.drop 96 = dktX1_light_4 := dk_seg dksX1_light_3 24 rfl rfl
theorem dksX1_light_5 : cX1_light.data.toList.drop 119 = dktX1_light_5 := dk_seg dksX1_light_4 23 rfl rfl
theorem dksX1_light_6 : cX1_light.data.toList.drop 143 = dktX1_light_6 := dk_seg dksX1_light_5 24 rfl rfl
theorem dksX1_light_7 : cX1_light.data.toList.drop 167 = dktX1_light_7 := dk_seg dksX1_light_6 24 rfl rfl
theorem dX1_light_0 : decode cX1_light 0 = .ok (.aload_n 0, 1) := dk_42 (dk_at dksX1_light_0 0 rfl rfl)
theorem dX1_light_1 : decode cX1_light 1 = .ok (.iload_n 1, 1) := dk_27 (dk_at dksX1_light_0 1 rfl rfl)
theorem dX1_light_2 : decode cX1_light 2 = .ok (.iload_n 2, 1) := dk_28 (dk_at dksX1_light_0 2 rfl rfl)
theorem dX1_light_3 : decode cX1_light 3 = .ok (.invokevirtual 389, 3) := dk_182 1 133 (dk_at dksX1_light_0 3 rfl rfl)
theorem dX1_light_6 : decode cX1_light 6 = .ok (.istore_n 3, 1) := dk_62 (dk_at dksX1_light_0 6 rfl rfl)
theorem dX1_light_7 : decode cX1_light 7 = .ok (.iload_n 3, 1) := dk_29 (dk_at dksX1_light_0 7 rfl rfl)
theorem dX1_light_8 : decode cX1_light 8 = .ok (.ifCond .ge 6, 3) := dk_156 0 6 (dk_at dksX1_light_0 8 rfl rfl)
theorem dX1_light_11 : decode cX1_light 11 = .ok (.iload_n 3, 1) := dk_29 (dk_at dksX1_light_0 11 rfl rfl)
theorem dX1_light_12 : decode cX1_light 12 = .ok (.i2l, 1) := dk_133 (dk_at dksX1_light_0 12 rfl rfl)
theorem dX1_light_13 : decode cX1_light 13 = .ok (.lreturn, 1) := dk_173 (dk_at dksX1_light_0 13 rfl rfl)
theorem dX1_light_14 : decode cX1_light 14 = .ok (.ldc2_w 357, 3) := dk_20 1 101 (dk_at dksX1_light_0 14 rfl rfl)
theorem dX1_light_17 : decode cX1_light 17 = .ok (.lstore 4, 2) := dk_55 4 (dk_at dksX1_light_0 17 rfl rfl)
theorem dX1_light_19 : decode cX1_light 19 = .ok (.ldc2_w 357, 3) := dk_20 1 101 (dk_at dksX1_light_0 19 rfl rfl)
theorem dX1_light_22 : decode cX1_light 22 = .ok (.lstore 6, 2) := dk_55 6 (dk_at dksX1_light_0 22 rfl rfl)
theorem dX1_light_24 : decode cX1_light 24 = .ok (.aload_n 0, 1) := dk_42 (dk_at dksX1_light_1 0 rfl rfl)
theorem dX1_light_25 : decode cX1_light 25 = .ok (.getfield 104, 3) := dk_180 0 104 (dk_at dksX1_light_1 1 rfl rfl)
theorem dX1_light_28 : decode cX1_light 28 = .ok (.iload_n 2, 1) := dk_28 (dk_at dksX1_light_1 4 rfl rfl)
theorem dX1_light_29 : decode cX1_light 29 = .ok (.putfield 190, 3) := dk_181 0 190 (dk_at dksX1_light_1 5 rfl rfl)
theorem dX1_light_32 : decode cX1_light 32 = .ok (.iconst 0, 1) := dk_3 (dk_at dksX1_light_1 8 rfl rfl)
theorem dX1_light_33 : decode cX1_light 33 = .ok (.istore 8, 2) := dk_54 8 (dk_at dksX1_light_1 9 rfl rfl)
theorem dX1_light_35 : decode cX1_light 35 = .ok (.iload 8, 2) := dk_21 8 (dk_at dksX1_light_1 11 rfl rfl)
theorem dX1_light_37 : decode cX1_light 37 = .ok (.iload_n 2, 1) := dk_28 (dk_at dksX1_light_1 13 rfl rfl)
theorem dX1_light_38 : decode cX1_light 38 = .ok (.if_icmp .ge 122, 3) := dk_162 0 122 (dk_at dksX1_light_1 14 rfl rfl)
theorem dX1_light_41 : decode cX1_light 41 = .ok (.iconst 1, 1) := dk_4 (dk_at dksX1_light_1 17 rfl rfl)
theorem dX1_light_42 : decode cX1_light 42 = .ok (.istore 9, 2) := dk_54 9 (dk_at dksX1_light_1 18 rfl rfl)
theorem dX1_light_44 : decode cX1_light 44 = .ok (.aload_n 0, 1) := dk_42 (dk_at dksX1_light_1 20 rfl rfl)
theorem dX1_light_45 : decode cX1_light 45 = .ok (.getfield 39, 3) := dk_180 0 39 (dk_at dksX1_light_1 21 rfl rfl)
theorem dX1_light_48 : decode cX1_light 48 = .ok (.getfield 295, 3) := dk_180 1 39 (dk_at dksX1_light_2 0 rfl rfl)
theorem dX1_light_51 : decode cX1_light 51 = .ok (.iload 9, 2) := dk_21 9 (dk_at dksX1_light_2 3 rfl rfl)
theorem dX1_light_53 : decode cX1_light 53 = .ok (.iaload, 1) := dk_46 (dk_at dksX1_light_2 5 rfl rfl)
theorem dX1_light_54 : decode cX1_light 54 = .ok (.aload_n 0, 1) := dk_42 (dk_at dksX1_light_2 6 rfl rfl)
theorem dX1_light_55 : decode cX1_light 55 = .ok (.iload 8, 2) := dk_21 8 (dk_at dksX1_light_2 7 rfl rfl)
theorem dX1_light_57 : decode cX1_light 57 = .ok (.iconst 1, 1) := dk_4 (dk_at dksX1_light_2 9 rfl rfl)
theorem dX1_light_58 : decode cX1_light 58 = .ok (.iadd, 1) := dk_96 (dk_at dksX1_light_2 10 rfl rfl)
theorem dX1_light_59 : decode cX1_light 59 = .ok (.aload_n 0, 1) := dk_42 (dk_at dksX1_light_2 11 rfl rfl)
theorem dX1_light_60 : decode cX1_light 60 = .ok (.getfield 89, 3) := dk_180 0 89 (dk_at dksX1_light_2 12 rfl rfl)
theorem dX1_light_63 : decode cX1_light 63 = .ok (.iconst 0, 1) := dk_3 (dk_at dksX1_light_2 15 rfl rfl)
theorem dX1_light_64 : decode cX1_light 64 = .ok (.aaload, 1) := dk_50 (dk_at dksX1_light_2 16 rfl rfl)
theorem dX1_light_65 : decode cX1_light 65 = .ok (.lload 4, 2) := dk_22 4 (dk_at dksX1_light_2 17 rfl rfl)
theorem dX1_light_67 : decode cX1_light 67 = .ok (.iload 9, 2) := dk_21 9 (dk_at dksX1_light_2 19 rfl rfl)
theorem dX1_light_69 : decode cX1_light 69 = .ok (.invokevirtual 347, 3) := dk_182 1 91 (dk_at dksX1_light_2 21 rfl rfl)
theorem dX1_light_72 : decode cX1_light 72 = .ok (.aload_n 0, 1) := dk_42 (dk_at dksX1_light_3 0 rfl rfl)
theorem dX1_light_73 : decode cX1_light 73 = .ok (.getfield 89, 3) := dk_180 0 89 (dk_at dksX1_light_3 1 rfl rfl)
theorem dX1_light_76 : decode cX1_light 76 = .ok (.iconst 1, 1) := dk_4 (dk_at dksX1_light_3 4 rfl rfl)
theorem dX1_light_77 : decode cX1_light 77 = .ok (.aaload, 1) := dk_50 (dk_at dksX1_light_3 5 rfl rfl)
theorem dX1_light_78 : decode cX1_light 78 = .ok (.lload 6, 2) := dk_22 6 (dk_at dksX1_light_3 6 rfl rfl)
theorem dX1_light_80 : decode cX1_light 80 = .ok (.iload 9, 2) := dk_21 9 (dk_at dksX1_light_3 8 rfl rfl)
theorem dX1_light_82 : decode cX1_light 82 = .ok (.invokevirtual 347, 3) := dk_182 1 91 (dk_at dksX1_light_3 10 rfl rfl)
theorem dX1_light_85 : decode cX1_light 85 = .ok (.invokevirtual 350, 3) := dk_182 1 94 (dk_at dksX1_light_3 13 rfl rfl)
theorem dX1_light_88 : decode cX1_light 88 = .ok (.iadd, 1) := dk_96 (dk_at dksX1_light_3 16 rfl rfl)
theorem dX1_light_89 : decode cX1_light 89 = .ok (.iload_n 3, 1) := dk_29 (dk_at dksX1_light_3 17 rfl rfl)
theorem dX1_light_90 : decode cX1_light 90 = .ok (.if_icmp .eq 9, 3) := dk_159 0 9 (dk_at dksX1_light_3 18 rfl rfl)
theorem dX1_light_93 : decode cX1_light 93 = .ok (.iinc 9 1, 3) := dk_132 9 1 (dk_at dksX1_light_3 21 rfl rfl)
theorem dX1_light_96 : decode cX1_light 96 = .ok (.goto (-52), 3) := dk_167 255 204 (dk_at dksX1_light_4 0 rfl rfl)
theorem dX1_light_99 : decode cX1_light 99 = .ok (.aload_n 0, 1) := dk_42 (dk_at dksX1_light_4 3 rfl rfl)
theorem dX1_light_100 : decode cX1_light 100 = .ok (.getfield 104, 3) := dk_180 0 104 (dk_at dksX1_light_4 4 rfl rfl)
theorem dX1_light_103 : decode cX1_light 103 = .ok (.getfield 219, 3) := dk_180 0 219 (dk_at dksX1_light_4 7 rfl rfl)
theorem dX1_light_106 : decode cX1_light 106 = .ok (.iload 8, 2) := dk_21 8 (dk_at dksX1_light_4 10 rfl rfl)
theorem dX1_light_108 : decode cX1_light 108 = .ok (.iload 9, 2) := dk_21 9 (dk_at dksX1_light_4 12 rfl rfl)
theorem dX1_light_110 : decode cX1_light 110 = .ok (.iastore, 1) := dk_79 (dk_at dksX1_light_4 14 rfl rfl)
theorem dX1_light_111 : decode cX1_light 111 = .ok (.iload_n 3, 1) := dk_29 (dk_at dksX1_light_4 15 rfl rfl)
theorem dX1_light_112 : decode cX1_light 112 = .ok (.aload_n 0, 1) := dk_42 (dk_at dksX1_light_4 16 rfl rfl)
theorem dX1_light_113 : decode cX1_light 113 = .ok (.getfield 39, 3) := dk_180 0 39 (dk_at dksX1_light_4 17 rfl rfl)
theorem dX1_light_116 : decode cX1_light 116 = .ok (.getfield 295, 3) := dk_180 1 39 (dk_at dksX1_light_4 20 rfl rfl)
theorem dX1_light_119 : decode cX1_light 119 = .ok (.iload 9, 2) := dk_21 9 (dk_at dksX1_light_5 0 rfl rfl)
theorem dX1_light_121 : decode cX1_light 121 = .ok (.iaload, 1) := dk_46 (dk_at dksX1_light_5 2 rfl rfl)
theorem dX1_light_122 : decode cX1_light 122 = .ok (.isub, 1) := dk_100 (dk_at dksX1_light_5 3 rfl rfl)
theorem dX1_light_123 : decode cX1_light 123 = .ok (.istore_n 3, 1) := dk_62 (dk_at dksX1_light_5 4 rfl rfl)
theorem dX1_light_124 : decode cX1_light 124 = .ok (.aload_n 0, 1) := dk_42 (dk_at dksX1_light_5 5 rfl rfl)
theorem dX1_light_125 : decode cX1_light 125 = .ok (.getfield 89, 3) := dk_180 0 89 (dk_at dksX1_light_5 6 rfl rfl)
theorem dX1_light_128 : decode cX1_light 128 = .ok (.iconst 0, 1) := dk_3 (dk_at dksX1_light_5 9 rfl rfl)
theorem dX1_light_129 : decode cX1_light 129 = .ok (.aaload, 1) := dk_50 (dk_at dksX1_light_5 10 rfl rfl)
theorem dX1_light_130 : decode cX1_light 130 = .ok (.lload 4, 2) := dk_22 4 (dk_at dksX1_light_5 11 rfl rfl)
theorem dX1_light_132 : decode cX1_light 132 = .ok (.iload 9, 2) := dk_21 9 (dk_at dksX1_light_5 13 rfl rfl)
theorem dX1_light_134 : decode cX1_light 134 = .ok (.invokevirtual 347, 3) := dk_182 1 91 (dk_at dksX1_light_5 15 rfl rfl)
theorem dX1_light_137 : decode cX1_light 137 = .ok (.lstore 4, 2) := dk_55 4 (dk_at dksX1_light_5 18 rfl rfl)
theorem dX1_light_139 : decode cX1_light 139 = .ok (.aload_n 0, 1) := dk_42 (dk_at dksX1_light_5 20 rfl rfl)
theorem dX1_light_140 : decode cX1_light 140 = .ok (.getfield 89, 3) := dk_180 0 89 (dk_at dksX1_light_5 21 rfl rfl)
theorem dX1_light_143 : decode cX1_light 143 = .ok (.iconst 1, 1) := dk_4 (dk_at dksX1_light_6 0 rfl rfl)
theorem dX1_light_144 : decode cX1_light 144 = .ok (.aaload, 1) := dk_50 (dk_at dksX1_light_6 1 rfl rfl)
theorem dX1_light_145 : decode cX1_light 145 = .ok (.lload 6, 2) := dk_22 6 (dk_at dksX1_light_6 2 rfl rfl)
theorem dX1_light_147 : decode cX1_light 147 = .ok (.iload 9, 2) := dk_21 9 (dk_at dksX1_light_6 4 rfl rfl)
theorem dX1_light_149 : decode cX1_light 149 = .ok (.invokevirtual 347, 3) := dk_182 1 91 (dk_at dksX1_light_6 6 rfl rfl)
theorem dX1_light_152 : decode cX1_light 152 = .ok (.lstore 6, 2) := dk_55 6 (dk_at dksX1_light_6 9 rfl rfl)
theorem dX1_light_154 : decode cX1_light 154 = .ok (.iinc 8 1, 3) := dk_132 8 1 (dk_at dksX1_light_6 11 rfl rfl)
theorem dX1_light_157 : decode cX1_light 157 = .ok (.goto (-122), 3) := dk_167 255 134 (dk_at dksX1_light_6 14 rfl rfl)
theorem dX1_light_160 : decode cX1_light 160 = .ok (.aload_n 0, 1) := dk_42 (dk_at dksX1_light_6 17 rfl rfl)
theorem dX1_light_161 : decode cX1_light 161 = .ok (.getfield 104, 3) := dk_180 0 104 (dk_at dksX1_light_6 18 rfl rfl)
theorem dX1_light_164 : decode cX1_light 164 = .ok (.invokevirtual 339, 3) := dk_182 1 83 (dk_at dksX1_light_6 21 rfl rfl)
theorem dX1_light_167 : decode cX1_light 167 = .ok (.lreturn, 1) := dk_173 (dk_at dksX1_light_7 0 rfl rfl)
theorem gX1_light_0 {v1 : Int32} {v2 : Int32} {T : zT} {I : zI} {L : zL} {R : zR} {P : zP} (hx : zXok T R) (h : zMet mX1_lightest 8 0 [.ref 1000, .int v1, .int v2] T I L R (zqI_IR T L  (fun (r1 : Int32) (I2 : zI) (R3 : zR)  => zXok T R3 ∧ ((0 ≤ r1 → zAW mX1_light 9 0 35 [(0, .ref 1000), (2, .int v2), (3, .int r1), (4, .long (1152921504606846976 : Int64)), (6, .long (1152921504606846976 : Int64)), (8, .int (0 : Int32))] [] T (z2 I2 1022 1 v2) L R3 P) ∧ (¬ 0 ≤ r1 → P 0 (.long (r1.toInt64)) T I2 L R3))))) : zAW mX1_light 9 0 0 [(0, .ref 1000), (1, .int v1), (2, .int v2)] [] T I L R P := by
  refine za_aload_n (pc' := 1) 0 dX1_light_0 rfl rfl rfl ?_
  refine za_iload_n (pc' := 2) 1 dX1_light_1 rfl rfl rfl ?_
  refine za_iload_n (pc' := 3) 2 dX1_light_2 rfl rfl rfl ?_
  refine za_callV (κ := 1000) (M2 := mX1_lightest) (d2 := 8) (b2 := 0) (n := 2) (As := [.int v1, .int v2]) (st := []) (pc' := 6) zc0 (by decide) (congrArg Prod.fst (zX_t1000 hx)) dX1_light_3 rfl (lw_V q1281 q1274 q1275 q131 q1276) ⟨rfl, hd_X1_lightest⟩ rfl (by decide) (by decide) (Nat.zero_le _) (Or.inl rfl) (Nat.le_of_ble_eq_true rfl) h (zqI_IR_k rfl (fun r1 I2 R3 h => ?_)) (fun _ _ _ _ _ _ h9 h8 => absurd h8.1 h9) rfl
  obtain ⟨hx4, h⟩ := h
  refine za_istore_n (pc' := 7) (l' := [(3, .int r1), (0, .ref 1000), (1, .int v1), (2, .int v2)]) dX1_light_6 rfl (Nat.le_of_ble_eq_true rfl) rfl rfl ?_
  refine za_iload_n (pc' := 8) 0 dX1_light_7 rfl rfl rfl ?_
  refine za_if_ge (pc' := 11) (tgt := 14) dX1_light_8 (by decide) rfl (fun c9 => ?_) (fun c9 => ?_)
  · replace h := h.1 c9
    refine za_ldc2 (pc' := 17) (v := (1152921504606846976 : Int64)) (own := "") dX1_light_14 q1243 rfl ?_
    refine za_lstore (pc' := 19) (l' := [(4, .long (1152921504606846976 : Int64)), (3, .int r1), (0, .ref 1000), (1, .int v1), (2, .int v2)]) dX1_light_17 (Nat.le_of_ble_eq_true rfl) rfl rfl ?_
    refine za_ldc2 (pc' := 22) (v := (1152921504606846976 : Int64)) (own := "") dX1_light_19 q1243 rfl ?_
    refine za_lstore (pc' := 24) (l' := [(6, .long (1152921504606846976 : Int64)), (4, .long (1152921504606846976 : Int64)), (3, .int r1), (0, .ref 1000), (1, .int v1), (2, .int v2)]) dX1_light_22 (Nat.le_of_ble_eq_true rfl) rfl rfl ?_
    refine za_aload_n (pc' := 25) 3 dX1_light_24 rfl rfl rfl ?_
    refine za_get (fi := 21) (v := .ref 1022) (pc' := 28) dX1_light_25 zc0 (by decide) in_X1 (by decide) q511 (Or.inl rfl) (congrArg Prod.fst (zX_t1000 hx)) (congrArg Value.ref (zX_r1000_21 hx4)) rfl ?_
    refine za_iload_n (pc' := 29) 5 dX1_light_28 rfl rfl rfl ?_
    refine za_putNI (fi := 1) (pc' := 32) dX1_light_29 zc10 (by decide) in_X11 zok10 znm10 (by decide) q408 (Or.inl rfl) rfl rfl (fun _ _ _ => rfl) rfl rfl (congrArg Prod.fst (zX_t1022 hx4)) rfl ?_
    refine za_iconst (pc' := 33) dX1_light_32 zi_0 rfl ?_
    refine za_istore (pc' := 35) (l' := [(8, .int (0 : Int32)), (6, .long (1152921504606846976 : Int64)), (4, .long (1152921504606846976 : Int64)), (3, .int r1), (0, .ref 1000), (1, .int v1), (2, .int v2)]) dX1_light_33 (Nat.le_of_ble_eq_true rfl) rfl rfl ?_
    exact zAW_sub [4, 6, 3, 2, 1, 0] rfl h
  · replace h := h.2 c9
    refine za_iload_n (pc' := 12) 0 dX1_light_11 rfl rfl rfl ?_
    refine za_i2l (pc' := 13) dX1_light_12 rfl rfl ?_
    exact za_lreturn rfl dX1_light_13 h
theorem gX1_light_35 {v2 : Int32} {v3 : Int32} {v4 : Int64} {v6 : Int64} {v8 : Int32} {T : zT} {I : zI} {L : zL} {R : zR} {P : zP} (hx : zXok T R) (h : ((v2 ≤ v8 → zMet mX11_code 1 0 [.ref 1022] T I L R (zqJ_ T I L R  (fun (r5 : Int64)  => P 0 (.long r5) T I L R))) ∧ (¬ v2 ≤ v8 → zAW mX1_light 9 0 44 [(0, .ref 1000), (2, .int v2), (3, .int v3), (4, .long v4), (6, .long v6), (8, .int v8), (9, .int (1 : Int32))] [] T I L R P))) : zAW mX1_light 9 0 35 [(0, .ref 1000), (2, .int v2), (3, .int v3), (4, .long v4), (6, .long v6), (8, .int v8)] [] T I L R P := by
  refine za_iload (pc' := 37) 5 dX1_light_35 rfl rfl ?_
  refine za_iload_n (pc' := 38) 1 dX1_light_37 rfl rfl rfl ?_
  refine za_icmp_ge (pc' := 41) (tgt := 160) dX1_light_38 (by decide) rfl (fun c9 => ?_) (fun c9 => ?_)
  · replace h := h.1 c9
    refine za_aload_n (pc' := 161) 0 dX1_light_160 rfl rfl rfl ?_
    refine za_get (fi := 21) (v := .ref 1022) (pc' := 164) dX1_light_161 zc0 (by decide) in_X1 (by decide) q511 (Or.inl rfl) (congrArg Prod.fst (zX_t1000 hx)) (congrArg Value.ref (zX_r1000_21 hx)) rfl ?_
    refine za_callV (κ := 1022) (M2 := mX11_code) (d2 := 1) (b2 := 0) (n := 0) (As := []) (st := []) (pc' := 167) zc10 (by decide) (congrArg Prod.fst (zX_t1022 hx)) dX1_light_164 rfl (lw_V q1252 q1253 q1254 q144 q1255) ⟨rfl, hd_X11_code⟩ rfl (by decide) (by decide) (Nat.zero_le _) (Or.inl rfl) (Nat.le_of_ble_eq_true rfl) h (zqJ__k rfl (fun r5 h => ?_)) (fun _ _ _ _ _ _ h9 h8 => absurd h8.1 h9) rfl
    exact za_lreturn rfl dX1_light_167 h
  · replace h := h.2 c9
    refine za_iconst (pc' := 42) dX1_light_41 zi_1 rfl ?_
    refine za_istore (pc' := 44) (l' := [(9, .int (1 : Int32)), (0, .ref 1000), (2, .int v2), (3, .int v3), (4, .long v4), (6, .long v6), (8, .int v8)]) dX1_light_42 (Nat.le_of_ble_eq_true rfl) rfl rfl ?_
    exact zAW_sub [1, 2, 3, 4, 5, 6, 0] rfl h
theorem gX1_light_44 {v2 : Int32} {v3 : Int32} {v4 : Int64} {v6 : Int64} {v8 : Int32} {v9 : Int32} {T : zT} {I : zI} {L : zL} {R : zR} {P : zP} (hx : zXok T R) (h : (T (R 1000 8)).1 = 3 ∧ (T (R (R 1000 8) 8)).1 = 100 ∧ vp_in v9 ((T (R (R 1000 8) 8)).2) ∧ zMet mX12_goes_2 4 0 [.ref 1040, .long v4, .int v9] T I L R (zqJ_ T I L R  (fun (r9 : Int64)  => zMet mX12_goes_2 4 0 [.ref 1041, .long v6, .int v9] T I L R (zqJ_ T I L R  (fun (r10 : Int64)  => zMet mX1_least_2 2 0 [.ref 1000, .int (v8 + (1 : Int32)), .long r9, .long r10] T I L R (zqI_ T I L R  (fun (r11 : Int32)  => ((((I (R (R 1000 8) 8) (v9.toNatClampNeg)) + r11) = v3 → vp_in v8 12 ∧ zMet mX12_goes_2 4 0 [.ref 1040, .long v4, .int v9] T (z2 I 1051 (v8.toNatClampNeg) v9) L R (zqJ_ T (z2 I 1051 (v8.toNatClampNeg) v9) L R  (fun (r13 : Int64)  => zMet mX12_goes_2 4 0 [.ref 1041, .long v6, .int v9] T (z2 I 1051 (v8.toNatClampNeg) v9) L R (zqJ_ T (z2 I 1051 (v8.toNatClampNeg) v9) L R  (fun (r14 : Int64)  => zAW mX1_light 9 0 35 [(0, .ref 1000), (2, .int v2), (3, .int (v3 - ((z2 I 1051 (v8.toNatClampNeg) v9) (R (R 1000 8) 8) (v9.toNatClampNeg)))), (4, .long r13), (6, .long r14), (8, .int (v8 + (1 : Int32)))] [] T (z2 I 1051 (v8.toNatClampNeg) v9) L R P))))) ∧ (¬ ((I (R (R 1000 8) 8) (v9.toNatClampNeg)) + r11) = v3 → zAW mX1_light 9 0 44 [(0, .ref 1000), (2, .int v2), (3, .int v3), (4, .long v4), (6, .long v6), (8, .int v8), (9, .int (v9 + (1 : Int32)))] [] T I L R P))))))))) : zAW mX1_light 9 0 44 [(0, .ref 1000), (2, .int v2), (3, .int v3), (4, .long v4), (6, .long v6), (8, .int v8), (9, .int v9)] [] T I L R P := by
  refine za_aload_n (pc' := 45) 0 dX1_light_44 rfl rfl rfl ?_
  refine za_get (fi := 8) (v := .ref (R 1000 8)) (pc' := 48) dX1_light_45 zc0 (by decide) in_X1 (by decide) q498 (Or.inl rfl) (congrArg Prod.fst (zX_t1000 hx)) rfl rfl ?_
  obtain ⟨ht6, h⟩ := h
  refine za_getN (fi := 8) (v := .ref (R (R 1000 8) 8)) (pc' := 51) dX1_light_48 zc2 (by decide) in_X3 (by decide) q297 (Or.inl rfl) ht6 rfl rfl ?_
  refine za_iload (pc' := 53) 6 dX1_light_51 rfl rfl ?_
  obtain ⟨ht7, h⟩ := h
  obtain ⟨hi8, h⟩ := h
  refine za_iald (v := .int (I (R (R 1000 8) 8) (v9.toNatClampNeg))) (pc' := 54) dX1_light_53 (zpair ht7) hi8 rfl rfl ?_
  refine za_aload_n (pc' := 55) 0 dX1_light_54 rfl rfl rfl ?_
  refine za_iload (pc' := 57) 5 dX1_light_55 rfl rfl ?_
  refine za_iconst (pc' := 58) dX1_light_57 zi_1 rfl ?_
  refine za_iadd (pc' := 59) dX1_light_58 rfl ?_
  refine za_aload_n (pc' := 60) 0 dX1_light_59 rfl rfl rfl ?_
  refine za_get (fi := 17) (v := .ref 1018) (pc' := 63) dX1_light_60 zc0 (by decide) in_X1 (by decide) q507 (Or.inl rfl) (congrArg Prod.fst (zX_t1000 hx)) (congrArg Value.ref (zX_r1000_17 hx)) rfl ?_
  refine za_iconst (pc' := 64) dX1_light_63 zi_0 rfl ?_
  refine za_aald (r := 1040) (t := 7) (C := RX12) (pc' := 65) dX1_light_64 (by decide) (fun _ => rfl) (zX_t1018 hx) (zin (by decide)) (zix zn_0 (zX_r1018_0 hx)) rfl ?_
  refine za_lload (pc' := 67) 3 dX1_light_65 rfl rfl ?_
  refine za_iload (pc' := 69) 6 dX1_light_67 rfl rfl ?_
  refine za_callV (κ := 1040) (M2 := mX12_goes_2) (d2 := 4) (b2 := 0) (n := 2) (As := [.long v4, .int v9]) (st := [.int (v8 + (1 : Int32)), .ref 1000, .int (I (R (R 1000 8) 8) (v9.toNatClampNeg))]) (pc' := 72) zc11 (by decide) (congrArg Prod.fst (zX_t1040 hx)) dX1_light_69 rfl (lw_V q1256 q1257 q1258 q145 q1259) ⟨rfl, hd_X12_goes_2⟩ rfl (by decide) (by decide) (Nat.zero_le _) (Or.inl rfl) (Nat.le_of_ble_eq_true rfl) h (zqJ__k rfl (fun r9 h => ?_)) (fun _ _ _ _ _ _ h9 h8 => absurd h8.1 h9) rfl
  refine za_aload_n (pc' := 73) 0 dX1_light_72 rfl rfl rfl ?_
  refine za_get (fi := 17) (v := .ref 1018) (pc' := 76) dX1_light_73 zc0 (by decide) in_X1 (by decide) q507 (Or.inl rfl) (congrArg Prod.fst (zX_t1000 hx)) (congrArg Value.ref (zX_r1000_17 hx)) rfl ?_
  refine za_iconst (pc' := 77) dX1_light_76 zi_1 rfl ?_
  refine za_aald (r := 1041) (t := 7) (C := RX12) (pc' := 78) dX1_light_77 (by decide) (fun _ => rfl) (zX_t1018 hx) (zin (by decide)) (zix zn_1 (zX_r1018_1 hx)) rfl ?_
  refine za_lload (pc' := 80) 4 dX1_light_78 rfl rfl ?_
  refine za_iload (pc' := 82) 6 dX1_light_80 rfl rfl ?_
  refine za_callV (κ := 1041) (M2 := mX12_goes_2) (d2 := 4) (b2 := 0) (n := 2) (As := [.long v6, .int v9]) (st := [.long r9, .int (v8 + (1 : Int32)), .ref 1000, .int (I (R (R 1000 8) 8) (v9.toNatClampNeg))]) (pc' := 85) zc11 (by decide) (congrArg Prod.fst (zX_t1041 hx)) dX1_light_82 rfl (lw_V q1256 q1257 q1258 q145 q1259) ⟨rfl, hd_X12_goes_2⟩ rfl (by decide) (by decide) (Nat.zero_le _) (Or.inl rfl) (Nat.le_of_ble_eq_true rfl) h (zqJ__k rfl (fun r10 h => ?_)) (fun _ _ _ _ _ _ h9 h8 => absurd h8.1 h9) rfl
  refine za_callV (κ := 1000) (M2 := mX1_least_2) (d2 := 2) (b2 := 0) (n := 3) (As := [.int (v8 + (1 : Int32)), .long r9, .long r10]) (st := [.int (I (R (R 1000 8) 8) (v9.toNatClampNeg))]) (pc' := 88) zc0 (by decide) (congrArg Prod.fst (zX_t1000 hx)) dX1_light_85 rfl (lw_V q1244 q1246 qs45 q131 q1247) ⟨rfl, hd_X1_least_2⟩ rfl (by decide) (by decide) (Nat.zero_le _) (Or.inl rfl) (Nat.le_of_ble_eq_true rfl) h (zqI__k rfl (fun r11 h => ?_)) (fun _ _ _ _ _ _ h9 h8 => absurd h8.1 h9) rfl
  refine za_iadd (pc' := 89) dX1_light_88 rfl ?_
  refine za_iload_n (pc' := 90) 2 dX1_light_89 rfl rfl rfl ?_
  refine za_icmp_eq (pc' := 93) (tgt := 99) dX1_light_90 (by decide) rfl (fun c9 => ?_) (fun c9 => ?_)
  · replace h := h.1 c9
    refine za_aload_n (pc' := 100) 0 dX1_light_99 rfl rfl rfl ?_
    refine za_get (fi := 21) (v := .ref 1022) (pc' := 103) dX1_light_100 zc0 (by decide) in_X1 (by decide) q511 (Or.inl rfl) (congrArg Prod.fst (zX_t1000 hx)) (congrArg Value.ref (zX_r1000_21 hx)) rfl ?_
    refine za_getN (fi := 0) (v := .ref 1051) (pc' := 106) dX1_light_103 zc10 (by decide) in_X11 (by decide) q404 (Or.inl rfl) (congrArg Prod.fst (zX_t1022 hx)) (congrArg Value.ref (zX_r1022_0 hx)) rfl ?_
    refine za_iload (pc' := 108) 5 dX1_light_106 rfl rfl ?_
    refine za_iload (pc' := 110) 6 dX1_light_108 rfl rfl ?_
    obtain ⟨hi12, h⟩ := h
    refine za_iast (k := v8.toNatClampNeg) (pc' := 111) dX1_light_110 (zX_t1051 hx) hi12 rfl rfl ?_
    refine za_iload_n (pc' := 112) 2 dX1_light_111 rfl rfl rfl ?_
    refine za_aload_n (pc' := 113) 0 dX1_light_112 rfl rfl rfl ?_
    refine za_get (fi := 8) (v := .ref (R 1000 8)) (pc' := 116) dX1_light_113 zc0 (by decide) in_X1 (by decide) q498 (Or.inl rfl) (congrArg Prod.fst (zX_t1000 hx)) rfl rfl ?_
    refine za_getN (fi := 8) (v := .ref (R (R 1000 8) 8)) (pc' := 119) dX1_light_116 zc2 (by decide) in_X3 (by decide) q297 (Or.inl rfl) ht6 rfl rfl ?_
    refine za_iload (pc' := 121) 6 dX1_light_119 rfl rfl ?_
    refine za_iald (v := .int ((z2 I 1051 (v8.toNatClampNeg) v9) (R (R 1000 8) 8) (v9.toNatClampNeg))) (pc' := 122) dX1_light_121 (zpair ht7) hi8 rfl rfl ?_
    refine za_isub (pc' := 123) dX1_light_122 rfl ?_
    refine za_istore_n (pc' := 124) (l' := [(3, .int (v3 - ((z2 I 1051 (v8.toNatClampNeg) v9) (R (R 1000 8) 8) (v9.toNatClampNeg)))), (0, .ref 1000), (2, .int v2), (4, .long v4), (6, .long v6), (8, .int v8), (9, .int v9)]) dX1_light_123 rfl (Nat.le_of_ble_eq_true rfl) rfl rfl ?_
    refine za_aload_n (pc' := 125) 1 dX1_light_124 rfl rfl rfl ?_
    refine za_get (fi := 17) (v := .ref 1018) (pc' := 128) dX1_light_125 zc0 (by decide) in_X1 (by decide) q507 (Or.inl rfl) (congrArg Prod.fst (zX_t1000 hx)) (congrArg Value.ref (zX_r1000_17 hx)) rfl ?_
    refine za_iconst (pc' := 129) dX1_light_128 zi_0 rfl ?_
    refine za_aald (r := 1040) (t := 7) (C := RX12) (pc' := 130) dX1_light_129 (by decide) (fun _ => rfl) (zX_t1018 hx) (zin (by decide)) (zix zn_0 (zX_r1018_0 hx)) rfl ?_
    refine za_lload (pc' := 132) 3 dX1_light_130 rfl rfl ?_
    refine za_iload (pc' := 134) 6 dX1_light_132 rfl rfl ?_
    refine za_callV (κ := 1040) (M2 := mX12_goes_2) (d2 := 4) (b2 := 0) (n := 2) (As := [.long v4, .int v9]) (st := []) (pc' := 137) zc11 (by decide) (congrArg Prod.fst (zX_t1040 hx)) dX1_light_134 rfl (lw_V q1256 q1257 q1258 q145 q1259) ⟨rfl, hd_X12_goes_2⟩ rfl (by decide) (by decide) (Nat.zero_le _) (Or.inl rfl) (Nat.le_of_ble_eq_true rfl) h (zqJ__k rfl (fun r13 h => ?_)) (fun _ _ _ _ _ _ h9 h8 => absurd h8.1 h9) rfl
    refine za_lstore (pc' := 139) (l' := [(4, .long r13), (3, .int (v3 - ((z2 I 1051 (v8.toNatClampNeg) v9) (R (R 1000 8) 8) (v9.toNatClampNeg)))), (0, .ref 1000), (2, .int v2), (6, .long v6), (8, .int v8), (9, .int v9)]) dX1_light_137 (Nat.le_of_ble_eq_true rfl) rfl rfl ?_
    refine za_aload_n (pc' := 140) 2 dX1_light_139 rfl rfl rfl ?_
    refine za_get (fi := 17) (v := .ref 1018) (pc' := 143) dX1_light_140 zc0 (by decide) in_X1 (by decide) q507 (Or.inl rfl) (congrArg Prod.fst (zX_t1000 hx)) (congrArg Value.ref (zX_r1000_17 hx)) rfl ?_
    refine za_iconst (pc' := 144) dX1_light_143 zi_1 rfl ?_
    refine za_aald (r := 1041) (t := 7) (C := RX12) (pc' := 145) dX1_light_144 (by decide) (fun _ => rfl) (zX_t1018 hx) (zin (by decide)) (zix zn_1 (zX_r1018_1 hx)) rfl ?_
    refine za_lload (pc' := 147) 4 dX1_light_145 rfl rfl ?_
    refine za_iload (pc' := 149) 6 dX1_light_147 rfl rfl ?_
    refine za_callV (κ := 1041) (M2 := mX12_goes_2) (d2 := 4) (b2 := 0) (n := 2) (As := [.long v6, .int v9]) (st := []) (pc' := 152) zc11 (by decide) (congrArg Prod.fst (zX_t1041 hx)) dX1_light_149 rfl (lw_V q1256 q1257 q1258 q145 q1259) ⟨rfl, hd_X12_goes_2⟩ rfl (by decide) (by decide) (Nat.zero_le _) (Or.inl rfl) (Nat.le_of_ble_eq_true rfl) h (zqJ__k rfl (fun r14 h => ?_)) (fun _ _ _ _ _ _ h9 h8 => absurd h8.1 h9) rfl
    refine za_lstore (pc' := 154) (l' := [(6, .long r14), (4, .long r13), (3, .int (v3 - ((z2 I 1051 (v8.toNatClampNeg) v9) (R (R 1000 8) 8) (v9.toNatClampNeg)))), (0, .ref 1000), (2, .int v2), (8, .int v8), (9, .int v9)]) dX1_light_152 (Nat.le_of_ble_eq_true rfl) rfl rfl ?_
    refine za_iinc (pc' := 157) (l' := [(8, .int (v8 + (1 : Int32))), (6, .long r14), (4, .long r13), (3, .int (v3 - ((z2 I 1051 (v8.toNatClampNeg) v9) (R (R 1000 8) 8) (v9.toNatClampNeg)))), (0, .ref 1000), (2, .int v2), (9, .int v9)]) 5 dX1_light_154 rfl (zinc zi_1) (Nat.le_of_ble_eq_true rfl) rfl rfl ?_
    refine za_goto (tgt := 35) dX1_light_157 (by decide) ?_
    exact zAW_sub [4, 5, 3, 2, 1, 0] rfl h
  · replace h := h.2 c9
    refine za_iinc (pc' := 96) (l' := [(9, .int (v9 + (1 : Int32))), (0, .ref 1000), (2, .int v2), (3, .int v3), (4, .long v4), (6, .long v6), (8, .int v8)]) 6 dX1_light_93 rfl (zinc zi_1) (Nat.le_of_ble_eq_true rfl) rfl rfl ?_
    refine za_goto (tgt := 44) dX1_light_96 (by decide) ?_
    exact zAW_sub [1, 2, 3, 4, 5, 6, 0] rfl h
theorem sX1_light {d b : Nat} {v1 : Int32} {v2 : Int32} {T : zT} {I : zI} {L : zL} {R : zR} {P : zP} (h : zAW mX1_light d b 0 [(0, .ref 1000), (1, .int v1), (2, .int v2)] [] T I L R P) : zMet mX1_light d b [.ref 1000, .int v1, .int v2] T I L R P := zMet_of (by decide +kernel) rfl (Nat.le_of_ble_eq_true rfl) rfl h
/-! TwoTongues.charred (I)I -/
def dkwX1_charred_1 : List UInt8 := [182, 0, 248, 182, 1, 107, 42, 17, 1, 244, 182, 1, 119, 184, 1, 122, 172]
abbrev dktX1_charred_1 : List UInt8 := dkwX1_charred_1 ++ []
def dkwX1_charred_0 : List UInt8 := [42, 27, 182, 0, 182, 154, 0, 5, 2, 172, 42, 42, 180, 0, 64, 180, 0, 186, 27, 50, 42, 27]
abbrev dktX1_charred_0 : List UInt8 := dkwX1_charred_0 ++ dktX1_charred_1
theorem dksX1_charred_0 : cX1_charred.data.toList.drop 0 = dktX1_charred_0 := by decide +kernel
theorem dksX1_charred_1 : cX1_charred.data.toList.drop 22 = dktX1_charred_1 := dk_seg dksX1_charred_0 22 rfl rfl
theorem dX1_charred_0 : decode cX1_charred 0 = .ok (.aload_n 0, 1) := dk_42 (dk_at dksX1_charred_0 0 rfl rfl)
theorem dX1_charred_1 : decode cX1_charred 1 = .ok (.iload_n 1, 1) := dk_27 (dk_at dksX1_charred_0 1 rfl rfl)
theorem dX1_charred_2 : decode cX1_charred 2 = .ok (.invokevirtual 182, 3) := dk_182 0 182 (dk_at dksX1_charred_0 2 rfl rfl)
theorem dX1_charred_5 : decode cX1_charred 5 = .ok (.ifCond .ne 5, 3) := dk_154 0 5 (dk_at dksX1_charred_0 5 rfl rfl)
theorem dX1_charred_8 : decode cX1_charred 8 = .ok (.iconst (-1), 1) := dk_2 (dk_at dksX1_charred_0 8 rfl rfl)
theorem dX1_charred_9 : decode cX1_charred 9 = .ok (.ireturn, 1) := dk_172 (dk_at dksX1_charred_0 9 rfl rfl)
theorem dX1_charred_10 : decode cX1_charred 10 = .ok (.aload_n 0, 1) := dk_42 (dk_at dksX1_charred_0 10 rfl rfl)
theorem dX1_charred_11 : decode cX1_charred 11 = .ok (.aload_n 0, 1) := dk_42 (dk_at dksX1_charred_0 11 rfl rfl)
theorem dX1_charred_12 : decode cX1_charred 12 = .ok (.getfield 64, 3) := dk_180 0 64 (dk_at dksX1_charred_0 12 rfl rfl)
theorem dX1_charred_15 : decode cX1_charred 15 = .ok (.getfield 186, 3) := dk_180 0 186 (dk_at dksX1_charred_0 15 rfl rfl)
theorem dX1_charred_18 : decode cX1_charred 18 = .ok (.iload_n 1, 1) := dk_27 (dk_at dksX1_charred_0 18 rfl rfl)
theorem dX1_charred_19 : decode cX1_charred 19 = .ok (.aaload, 1) := dk_50 (dk_at dksX1_charred_0 19 rfl rfl)
theorem dX1_charred_20 : decode cX1_charred 20 = .ok (.aload_n 0, 1) := dk_42 (dk_at dksX1_charred_0 20 rfl rfl)
theorem dX1_charred_21 : decode cX1_charred 21 = .ok (.iload_n 1, 1) := dk_27 (dk_at dksX1_charred_0 21 rfl rfl)
theorem dX1_charred_22 : decode cX1_charred 22 = .ok (.invokevirtual 248, 3) := dk_182 0 248 (dk_at dksX1_charred_1 0 rfl rfl)
theorem dX1_charred_25 : decode cX1_charred 25 = .ok (.invokevirtual 363, 3) := dk_182 1 107 (dk_at dksX1_charred_1 3 rfl rfl)
theorem dX1_charred_28 : decode cX1_charred 28 = .ok (.aload_n 0, 1) := dk_42 (dk_at dksX1_charred_1 6 rfl rfl)
theorem dX1_charred_29 : decode cX1_charred 29 = .ok (.sipush 500, 3) := dk_17 1 244 (dk_at dksX1_charred_1 7 rfl rfl)
theorem dX1_charred_32 : decode cX1_charred 32 = .ok (.invokevirtual 375, 3) := dk_182 1 119 (dk_at dksX1_charred_1 10 rfl rfl)
theorem dX1_charred_35 : decode cX1_charred 35 = .ok (.invokestatic 378, 3) := dk_184 1 122 (dk_at dksX1_charred_1 13 rfl rfl)
theorem dX1_charred_38 : decode cX1_charred 38 = .ok (.ireturn, 1) := dk_172 (dk_at dksX1_charred_1 16 rfl rfl)
theorem gX1_charred_0 {v1 : Int32} {T : zT} {I : zI} {L : zL} {R : zR} {P : zP} (hx : zXok T R) (h : zMet mX1_isSign 2 0 [.ref 1000, .int v1] T I L R (zqI_ T I L R  (fun (r1 : Int32)  => ((r1 = 0 → P 0 (.int (-1 : Int32)) T I L R) ∧ (¬ r1 = 0 → vp_in v1 6 ∧ zMet mX1_kindOf 4 0 [.ref 1000, .int v1] T I L R (zqR_ T I L R  (fun (r3 : Nat)  => zMet mX1_lay 6 0 [.ref 1000, .ref (R 1202 (v1.toNatClampNeg)), .ref r3] T I L R (zqV_IR T L  (fun (I4 : zI) (R5 : zR)  => zXok T R5 ∧ zMet mX1_walks 41 0 [.ref 1000, .int (500 : Int32)] T I4 L R5 (zqI_IL T R5  (fun (r7 : Int32) (I8 : zI) (L9 : zL)  => zMet mX1_orMany 1 0 [.int r7] T I8 L9 R5 (zqI_ T I8 L9 R5  (fun (r10 : Int32)  => P 0 (.int r10) T I8 L9 R5))))))))))))) : zAW mX1_charred 42 0 0 [(0, .ref 1000), (1, .int v1)] [] T I L R P := by
  refine za_aload_n (pc' := 1) 0 dX1_charred_0 rfl rfl rfl ?_
  refine za_iload_n (pc' := 2) 1 dX1_charred_1 rfl rfl rfl ?_
  refine za_callV (κ := 1000) (M2 := mX1_isSign) (d2 := 2) (b2 := 0) (n := 1) (As := [.int v1]) (st := []) (pc' := 5) zc0 (by decide) (congrArg Prod.fst (zX_t1000 hx)) dX1_charred_2 rfl (lw_V q1066 q1068 qs32 q131 q1069) ⟨rfl, hd_X1_isSign⟩ rfl (by decide) (by decide) (Nat.zero_le _) (Or.inl rfl) (Nat.le_of_ble_eq_true rfl) h (zqI__k rfl (fun r1 h => ?_)) (fun _ _ _ _ _ _ h9 h8 => absurd h8.1 h9) rfl
  refine za_if_ne (pc' := 8) (tgt := 10) dX1_charred_5 (by decide) rfl (fun c9 => ?_) (fun c9 => ?_)
  · replace h := h.2 c9
    refine za_aload_n (pc' := 11) 0 dX1_charred_10 rfl rfl rfl ?_
    refine za_aload_n (pc' := 12) 0 dX1_charred_11 rfl rfl rfl ?_
    refine za_get (fi := 10) (v := .ref 1200) (pc' := 15) dX1_charred_12 zc0 (by decide) in_X1 (by decide) q500 (Or.inl rfl) (congrArg Prod.fst (zX_t1000 hx)) (congrArg Value.ref (zX_r1000_10 hx)) rfl ?_
    refine za_getN (fi := 1) (v := .ref 1202) (pc' := 18) dX1_charred_15 zc9 (by decide) in_X10 (by decide) q418 (Or.inl rfl) (congrArg Prod.fst (zX_t1200 hx)) (congrArg Value.ref (zX_r1200_1 hx)) rfl ?_
    refine za_iload_n (pc' := 19) 1 dX1_charred_18 rfl rfl rfl ?_
    obtain ⟨hi2, h⟩ := h
    refine za_aald (r := (R 1202 (v1.toNatClampNeg))) (t := 5) (C := RX11) (pc' := 20) dX1_charred_19 (by decide) (fun _ => rfl) (zX_t1202 hx) hi2 (rfl) rfl ?_
    refine za_aload_n (pc' := 21) 0 dX1_charred_20 rfl rfl rfl ?_
    refine za_iload_n (pc' := 22) 1 dX1_charred_21 rfl rfl rfl ?_
    refine za_callV (κ := 1000) (M2 := mX1_kindOf) (d2 := 4) (b2 := 0) (n := 1) (As := [.int v1]) (st := [.ref (R 1202 (v1.toNatClampNeg)), .ref 1000]) (pc' := 25) zc0 (by decide) (congrArg Prod.fst (zX_t1000 hx)) dX1_charred_22 rfl (lw_V q1087 q1089 qs34 q131 q1090) ⟨rfl, hd_X1_kindOf⟩ rfl (by decide) (by decide) (Nat.zero_le _) (Or.inl rfl) (Nat.le_of_ble_eq_true rfl) h (zqR__k rfl (fun r3 h => ?_)) (fun _ _ _ _ _ _ h9 h8 => absurd h8.1 h9) rfl
    refine za_callV (κ := 1000) (M2 := mX1_lay) (d2 := 6) (b2 := 0) (n := 2) (As := [.ref (R 1202 (v1.toNatClampNeg)), .ref r3]) (st := []) (pc' := 28) zc0 (by decide) (congrArg Prod.fst (zX_t1000 hx)) dX1_charred_25 rfl (lw_V q1203 q1205 qs40 q131 q1206) ⟨rfl, hd_X1_lay⟩ rfl (by decide) (by decide) (Nat.zero_le _) (Or.inl rfl) (Nat.le_of_ble_eq_true rfl) h (zqV_IR_k rfl (fun I4 R5 h => ?_)) (fun _ _ _ _ _ _ h9 h8 => absurd h8.1 h9) rfl
    obtain ⟨hx6, h⟩ := h
    refine za_aload_n (pc' := 29) 0 dX1_charred_28 rfl rfl rfl ?_
    refine za_sipush (pc' := 32) dX1_charred_29 zb16_500 rfl ?_
    refine za_callV (κ := 1000) (M2 := mX1_walks) (d2 := 41) (b2 := 0) (n := 1) (As := [.int (500 : Int32)]) (st := []) (pc' := 35) zc0 (by decide) (congrArg Prod.fst (zX_t1000 hx)) dX1_charred_32 rfl (lw_V q1239 q1241 qs44 q131 q1242) ⟨rfl, hd_X1_walks⟩ rfl (by decide) (by decide) (Nat.zero_le _) (Or.inl rfl) (Nat.le_of_ble_eq_true rfl) h (zqI_IL_k rfl (fun r7 I8 L9 h => ?_)) (fun _ _ _ _ _ _ h9 h8 => absurd h8.1 h9) rfl
    refine za_callS (M2 := mX1_orMany) (d2 := 1) (b2 := 0) (n := 1) (As := [.int r7]) (st := []) (pc' := 38) dX1_charred_35 rfl (lw_S q1260 q1261 q131 q1262) hd_X1_orMany rfl (by decide) (by decide) (Nat.zero_le _) (Or.inl rfl) (Nat.le_of_ble_eq_true rfl) h (zqI__k rfl (fun r10 h => ?_)) (fun _ _ _ _ _ _ h9 h8 => absurd h8.1 h9) rfl
    exact za_ireturn rfl dX1_charred_38 h
  · replace h := h.1 c9
    refine za_iconst (pc' := 9) dX1_charred_8 zi_m1 rfl ?_
    exact za_ireturn rfl dX1_charred_9 h
theorem sX1_charred {d b : Nat} {v1 : Int32} {T : zT} {I : zI} {L : zL} {R : zR} {P : zP} (h : zAW mX1_charred d b 0 [(0, .ref 1000), (1, .int v1)] [] T I L R P) : zMet mX1_charred d b [.ref 1000, .int v1] T I L R P := zMet_of (by decide +kernel) rfl (Nat.le_of_ble_eq_true rfl) rfl h
/-! TwoTongues.filled (II)J -/
def dkwX1_filled_1 : List UInt8 := [42, 42, 180, 0, 64, 180, 0, 186, 27, 50, 42, 27, 182, 0, 248, 182, 1, 107, 42, 28, 182, 1, 129, 173]
abbrev dktX1_filled_1 : List UInt8 := dkwX1_filled_1 ++ []
def dkwX1_filled_0 : List UInt8 := [42, 27, 182, 0, 182, 153, 0, 15, 28, 133, 9, 20, 1, 127, 184, 0, 126, 154, 0, 7, 20, 1, 2, 173]
abbrev dktX1_filled_0 : List UInt8 := dkwX1_filled_0 ++ dktX1_filled_1
theorem dksX1_filled_0 : cX1_filled.data.toList.drop 0 = dktX1_filled_0 := by decide +kernel
theorem dksX1_filled_1 : cX1_filled.data.toList.drop 24 = dktX1_filled_1 := dk_seg dksX1_filled_0 24 rfl rfl
theorem dX1_filled_0 : decode cX1_filled 0 = .ok (.aload_n 0, 1) := dk_42 (dk_at dksX1_filled_0 0 rfl rfl)
theorem dX1_filled_1 : decode cX1_filled 1 = .ok (.iload_n 1, 1) := dk_27 (dk_at dksX1_filled_0 1 rfl rfl)
theorem dX1_filled_2 : decode cX1_filled 2 = .ok (.invokevirtual 182, 3) := dk_182 0 182 (dk_at dksX1_filled_0 2 rfl rfl)
theorem dX1_filled_5 : decode cX1_filled 5 = .ok (.ifCond .eq 15, 3) := dk_153 0 15 (dk_at dksX1_filled_0 5 rfl rfl)
theorem dX1_filled_8 : decode cX1_filled 8 = .ok (.iload_n 2, 1) := dk_28 (dk_at dksX1_filled_0 8 rfl rfl)
theorem dX1_filled_9 : decode cX1_filled 9 = .ok (.i2l, 1) := dk_133 (dk_at dksX1_filled_0 9 rfl rfl)
theorem dX1_filled_10 : decode cX1_filled 10 = .ok (.lconst 0, 1) := dk_9 (dk_at dksX1_filled_0 10 rfl rfl)
theorem dX1_filled_11 : decode cX1_filled 11 = .ok (.ldc2_w 383, 3) := dk_20 1 127 (dk_at dksX1_filled_0 11 rfl rfl)
theorem dX1_filled_14 : decode cX1_filled 14 = .ok (.invokestatic 126, 3) := dk_184 0 126 (dk_at dksX1_filled_0 14 rfl rfl)
theorem dX1_filled_17 : decode cX1_filled 17 = .ok (.ifCond .ne 7, 3) := dk_154 0 7 (dk_at dksX1_filled_0 17 rfl rfl)
theorem dX1_filled_20 : decode cX1_filled 20 = .ok (.ldc2_w 258, 3) := dk_20 1 2 (dk_at dksX1_filled_0 20 rfl rfl)
theorem dX1_filled_23 : decode cX1_filled 23 = .ok (.lreturn, 1) := dk_173 (dk_at dksX1_filled_0 23 rfl rfl)
theorem dX1_filled_24 : decode cX1_filled 24 = .ok (.aload_n 0, 1) := dk_42 (dk_at dksX1_filled_1 0 rfl rfl)
theorem dX1_filled_25 : decode cX1_filled 25 = .ok (.aload_n 0, 1) := dk_42 (dk_at dksX1_filled_1 1 rfl rfl)
theorem dX1_filled_26 : decode cX1_filled 26 = .ok (.getfield 64, 3) := dk_180 0 64 (dk_at dksX1_filled_1 2 rfl rfl)
theorem dX1_filled_29 : decode cX1_filled 29 = .ok (.getfield 186, 3) := dk_180 0 186 (dk_at dksX1_filled_1 5 rfl rfl)
theorem dX1_filled_32 : decode cX1_filled 32 = .ok (.iload_n 1, 1) := dk_27 (dk_at dksX1_filled_1 8 rfl rfl)
theorem dX1_filled_33 : decode cX1_filled 33 = .ok (.aaload, 1) := dk_50 (dk_at dksX1_filled_1 9 rfl rfl)
theorem dX1_filled_34 : decode cX1_filled 34 = .ok (.aload_n 0, 1) := dk_42 (dk_at dksX1_filled_1 10 rfl rfl)
theorem dX1_filled_35 : decode cX1_filled 35 = .ok (.iload_n 1, 1) := dk_27 (dk_at dksX1_filled_1 11 rfl rfl)
theorem dX1_filled_36 : decode cX1_filled 36 = .ok (.invokevirtual 248, 3) := dk_182 0 248 (dk_at dksX1_filled_1 12 rfl rfl)
theorem dX1_filled_39 : decode cX1_filled 39 = .ok (.invokevirtual 363, 3) := dk_182 1 107 (dk_at dksX1_filled_1 15 rfl rfl)
theorem dX1_filled_42 : decode cX1_filled 42 = .ok (.aload_n 0, 1) := dk_42 (dk_at dksX1_filled_1 18 rfl rfl)
theorem dX1_filled_43 : decode cX1_filled 43 = .ok (.iload_n 2, 1) := dk_28 (dk_at dksX1_filled_1 19 rfl rfl)
theorem dX1_filled_44 : decode cX1_filled 44 = .ok (.invokevirtual 385, 3) := dk_182 1 129 (dk_at dksX1_filled_1 20 rfl rfl)
theorem dX1_filled_47 : decode cX1_filled 47 = .ok (.lreturn, 1) := dk_173 (dk_at dksX1_filled_1 23 rfl rfl)
theorem gX1_filled_0 {v1 : Int32} {v2 : Int32} {T : zT} {I : zI} {L : zL} {R : zR} {P : zP} (hx : zXok T R) (h : zMet mX1_isSign 2 0 [.ref 1000, .int v1] T I L R (zqI_ T I L R  (fun (r1 : Int32)  => ((r1 = 0 → P 0 (.long (-1 : Int64)) T I L R) ∧ (¬ r1 = 0 → zMet mX1_in 1 0 [.long (v2.toInt64), .long (0 : Int64), .long (499 : Int64)] T I L R (zqI_ T I L R  (fun (r2 : Int32)  => ((r2 = 0 → P 0 (.long (-1 : Int64)) T I L R) ∧ (¬ r2 = 0 → vp_in v1 6 ∧ zMet mX1_kindOf 4 0 [.ref 1000, .int v1] T I L R (zqR_ T I L R  (fun (r4 : Nat)  => zMet mX1_lay 6 0 [.ref 1000, .ref (R 1202 (v1.toNatClampNeg)), .ref r4] T I L R (zqV_IR T L  (fun (I5 : zI) (R6 : zR)  => zXok T R6 ∧ zMet mX1_nth 42 0 [.ref 1000, .int v2] T I5 L R6 (zqJ_IL T R6  (fun (r8 : Int64) (I9 : zI) (L10 : zL)  => P 0 (.long r8) T I9 L10 R6))))))))))))))) : zAW mX1_filled 43 0 0 [(0, .ref 1000), (1, .int v1), (2, .int v2)] [] T I L R P := by
  refine za_aload_n (pc' := 1) 0 dX1_filled_0 rfl rfl rfl ?_
  refine za_iload_n (pc' := 2) 1 dX1_filled_1 rfl rfl rfl ?_
  refine za_callV (κ := 1000) (M2 := mX1_isSign) (d2 := 2) (b2 := 0) (n := 1) (As := [.int v1]) (st := []) (pc' := 5) zc0 (by decide) (congrArg Prod.fst (zX_t1000 hx)) dX1_filled_2 rfl (lw_V q1066 q1068 qs32 q131 q1069) ⟨rfl, hd_X1_isSign⟩ rfl (by decide) (by decide) (Nat.zero_le _) (Or.inl rfl) (Nat.le_of_ble_eq_true rfl) h (zqI__k rfl (fun r1 h => ?_)) (fun _ _ _ _ _ _ h9 h8 => absurd h8.1 h9) rfl
  refine za_if_eq (pc' := 8) (tgt := 20) dX1_filled_5 (by decide) rfl (fun c9 => ?_) (fun c9 => ?_)
  · replace h := h.1 c9
    refine za_ldc2 (pc' := 23) (v := (-1 : Int64)) (own := "") dX1_filled_20 q1082 rfl ?_
    exact za_lreturn rfl dX1_filled_23 h
  · replace h := h.2 c9
    refine za_iload_n (pc' := 9) 2 dX1_filled_8 rfl rfl rfl ?_
    refine za_i2l (pc' := 10) dX1_filled_9 rfl rfl ?_
    refine za_lconst (pc' := 11) dX1_filled_10 zl_0 rfl ?_
    refine za_ldc2 (pc' := 14) (v := (499 : Int64)) (own := "") dX1_filled_11 q1267 rfl ?_
    refine za_callS (M2 := mX1_in) (d2 := 1) (b2 := 0) (n := 3) (As := [.long (v2.toInt64), .long (0 : Int64), .long (499 : Int64)]) (st := []) (pc' := 17) dX1_filled_14 rfl (lw_S q588 q589 q131 q590) hd_X1_in rfl (by decide) (by decide) (Nat.zero_le _) (Or.inl rfl) (Nat.le_of_ble_eq_true rfl) h (zqI__k rfl (fun r2 h => ?_)) (fun _ _ _ _ _ _ h9 h8 => absurd h8.1 h9) rfl
    refine za_if_ne (pc' := 20) (tgt := 24) dX1_filled_17 (by decide) rfl (fun c9 => ?_) (fun c9 => ?_)
    · replace h := h.2 c9
      refine za_aload_n (pc' := 25) 0 dX1_filled_24 rfl rfl rfl ?_
      refine za_aload_n (pc' := 26) 0 dX1_filled_25 rfl rfl rfl ?_
      refine za_get (fi := 10) (v := .ref 1200) (pc' := 29) dX1_filled_26 zc0 (by decide) in_X1 (by decide) q500 (Or.inl rfl) (congrArg Prod.fst (zX_t1000 hx)) (congrArg Value.ref (zX_r1000_10 hx)) rfl ?_
      refine za_getN (fi := 1) (v := .ref 1202) (pc' := 32) dX1_filled_29 zc9 (by decide) in_X10 (by decide) q418 (Or.inl rfl) (congrArg Prod.fst (zX_t1200 hx)) (congrArg Value.ref (zX_r1200_1 hx)) rfl ?_
      refine za_iload_n (pc' := 33) 1 dX1_filled_32 rfl rfl rfl ?_
      obtain ⟨hi3, h⟩ := h
      refine za_aald (r := (R 1202 (v1.toNatClampNeg))) (t := 5) (C := RX11) (pc' := 34) dX1_filled_33 (by decide) (fun _ => rfl) (zX_t1202 hx) hi3 (rfl) rfl ?_
      refine za_aload_n (pc' := 35) 0 dX1_filled_34 rfl rfl rfl ?_
      refine za_iload_n (pc' := 36) 1 dX1_filled_35 rfl rfl rfl ?_
      refine za_callV (κ := 1000) (M2 := mX1_kindOf) (d2 := 4) (b2 := 0) (n := 1) (As := [.int v1]) (st := [.ref (R 1202 (v1.toNatClampNeg)), .ref 1000]) (pc' := 39) zc0 (by decide) (congrArg Prod.fst (zX_t1000 hx)) dX1_filled_36 rfl (lw_V q1087 q1089 qs34 q131 q1090) ⟨rfl, hd_X1_kindOf⟩ rfl (by decide) (by decide) (Nat.zero_le _) (Or.inl rfl) (Nat.le_of_ble_eq_true rfl) h (zqR__k rfl (fun r4 h => ?_)) (fun _ _ _ _ _ _ h9 h8 => absurd h8.1 h9) rfl
      refine za_callV (κ := 1000) (M2 := mX1_lay) (d2 := 6) (b2 := 0) (n := 2) (As := [.ref (R 1202 (v1.toNatClampNeg)), .ref r4]) (st := []) (pc' := 42) zc0 (by decide) (congrArg Prod.fst (zX_t1000 hx)) dX1_filled_39 rfl (lw_V q1203 q1205 qs40 q131 q1206) ⟨rfl, hd_X1_lay⟩ rfl (by decide) (by decide) (Nat.zero_le _) (Or.inl rfl) (Nat.le_of_ble_eq_true rfl) h (zqV_IR_k rfl (fun I5 R6 h => ?_)) (fun _ _ _ _ _ _ h9 h8 => absurd h8.1 h9) rfl
      obtain ⟨hx7, h⟩ := h
      refine za_aload_n (pc' := 43) 0 dX1_filled_42 rfl rfl rfl ?_
      refine za_iload_n (pc' := 44) 2 dX1_filled_43 rfl rfl rfl ?_
      refine za_callV (κ := 1000) (M2 := mX1_nth) (d2 := 42) (b2 := 0) (n := 1) (As := [.int v2]) (st := []) (pc' := 47) zc0 (by decide) (congrArg Prod.fst (zX_t1000 hx)) dX1_filled_44 rfl (lw_V q1268 q1270 qs47 q131 q1271) ⟨rfl, hd_X1_nth⟩ rfl (by decide) (by decide) (Nat.zero_le _) (Or.inl rfl) (Nat.le_of_ble_eq_true rfl) h (zqJ_IL_k rfl (fun r8 I9 L10 h => ?_)) (fun _ _ _ _ _ _ h9 h8 => absurd h8.1 h9) rfl
      exact za_lreturn rfl dX1_filled_47 h
    · replace h := h.1 c9
      refine za_ldc2 (pc' := 23) (v := (-1 : Int64)) (own := "") dX1_filled_20 q1082 rfl ?_
      exact za_lreturn rfl dX1_filled_23 h
theorem sX1_filled {d b : Nat} {v1 : Int32} {v2 : Int32} {T : zT} {I : zI} {L : zL} {R : zR} {P : zP} (h : zAW mX1_filled d b 0 [(0, .ref 1000), (1, .int v1), (2, .int v2)] [] T I L R P) : zMet mX1_filled d b [.ref 1000, .int v1, .int v2] T I L R P := zMet_of (by decide +kernel) rfl (Nat.le_of_ble_eq_true rfl) rfl h
/-! TwoTongues.told (II)I -/
def dkwX1_told_0 : List UInt8 := [42, 27, 28, 182, 0, 215, 153, 0, 12, 42, 27, 28, 182, 1, 140, 167, 0, 4, 2, 172]
abbrev dktX1_told_0 : List UInt8 := dkwX1_told_0 ++ []
theorem dksX1_told_0 : cX1_told.data.toList.drop 0 = dktX1_told_0 := by decide +kernel
theorem dX1_told_0 : decode cX1_told 0 = .ok (.aload_n 0, 1) := dk_42 (dk_at dksX1_told_0 0 rfl rfl)
theorem dX1_told_1 : decode cX1_told 1 = .ok (.iload_n 1, 1) := dk_27 (dk_at dksX1_told_0 1 rfl rfl)
theorem dX1_told_2 : decode cX1_told 2 = .ok (.iload_n 2, 1) := dk_28 (dk_at dksX1_told_0 2 rfl rfl)
theorem dX1_told_3 : decode cX1_told 3 = .ok (.invokevirtual 215, 3) := dk_182 0 215 (dk_at dksX1_told_0 3 rfl rfl)
theorem dX1_told_6 : decode cX1_told 6 = .ok (.ifCond .eq 12, 3) := dk_153 0 12 (dk_at dksX1_told_0 6 rfl rfl)
theorem dX1_told_9 : decode cX1_told 9 = .ok (.aload_n 0, 1) := dk_42 (dk_at dksX1_told_0 9 rfl rfl)
theorem dX1_told_10 : decode cX1_told 10 = .ok (.iload_n 1, 1) := dk_27 (dk_at dksX1_told_0 10 rfl rfl)
theorem dX1_told_11 : decode cX1_told 11 = .ok (.iload_n 2, 1) := dk_28 (dk_at dksX1_told_0 11 rfl rfl)
theorem dX1_told_12 : decode cX1_told 12 = .ok (.invokevirtual 396, 3) := dk_182 1 140 (dk_at dksX1_told_0 12 rfl rfl)
theorem dX1_told_15 : decode cX1_told 15 = .ok (.goto 4, 3) := dk_167 0 4 (dk_at dksX1_told_0 15 rfl rfl)
theorem dX1_told_18 : decode cX1_told 18 = .ok (.iconst (-1), 1) := dk_2 (dk_at dksX1_told_0 18 rfl rfl)
theorem dX1_told_19 : decode cX1_told 19 = .ok (.ireturn, 1) := dk_172 (dk_at dksX1_told_0 19 rfl rfl)
theorem gX1_told_0 {v1 : Int32} {v2 : Int32} {T : zT} {I : zI} {L : zL} {R : zR} {P : zP} (hx : zXok T R) (h : zMet mX1_isLetter 3 0 [.ref 1000, .int v1, .int v2] T I L R (zqI_ T I L R  (fun (r1 : Int32)  => ((r1 = 0 → P 0 (.int (-1 : Int32)) T I L R) ∧ (¬ r1 = 0 → zMet mX1_toldBy 6 0 [.ref 1000, .int v1, .int v2] T I L R (zqI_IL T R  (fun (r2 : Int32) (I3 : zI) (L4 : zL)  => P 0 (.int r2) T I3 L4 R))))))) : zAW mX1_told 7 0 0 [(0, .ref 1000), (1, .int v1), (2, .int v2)] [] T I L R P := by
  refine za_aload_n (pc' := 1) 0 dX1_told_0 rfl rfl rfl ?_
  refine za_iload_n (pc' := 2) 1 dX1_told_1 rfl rfl rfl ?_
  refine za_iload_n (pc' := 3) 2 dX1_told_2 rfl rfl rfl ?_
  refine za_callV (κ := 1000) (M2 := mX1_isLetter) (d2 := 3) (b2 := 0) (n := 2) (As := [.int v1, .int v2]) (st := []) (pc' := 6) zc0 (by decide) (congrArg Prod.fst (zX_t1000 hx)) dX1_told_3 rfl (lw_V q1062 q1064 qs31 q131 q1065) ⟨rfl, hd_X1_isLetter⟩ rfl (by decide) (by decide) (Nat.zero_le _) (Or.inl rfl) (Nat.le_of_ble_eq_true rfl) h (zqI__k rfl (fun r1 h => ?_)) (fun _ _ _ _ _ _ h9 h8 => absurd h8.1 h9) rfl
  refine za_if_eq (pc' := 9) (tgt := 18) dX1_told_6 (by decide) rfl (fun c9 => ?_) (fun c9 => ?_)
  · replace h := h.1 c9
    refine za_iconst (pc' := 19) dX1_told_18 zi_m1 rfl ?_
    exact za_ireturn rfl dX1_told_19 h
  · replace h := h.2 c9
    refine za_aload_n (pc' := 10) 0 dX1_told_9 rfl rfl rfl ?_
    refine za_iload_n (pc' := 11) 1 dX1_told_10 rfl rfl rfl ?_
    refine za_iload_n (pc' := 12) 2 dX1_told_11 rfl rfl rfl ?_
    refine za_callV (κ := 1000) (M2 := mX1_toldBy) (d2 := 6) (b2 := 0) (n := 2) (As := [.int v1, .int v2]) (st := []) (pc' := 15) zc0 (by decide) (congrArg Prod.fst (zX_t1000 hx)) dX1_told_12 rfl (lw_V q1294 q1296 qs48 q131 q1297) ⟨rfl, hd_X1_toldBy⟩ rfl (by decide) (by decide) (Nat.zero_le _) (Or.inl rfl) (Nat.le_of_ble_eq_true rfl) h (zqI_IL_k rfl (fun r2 I3 L4 h => ?_)) (fun _ _ _ _ _ _ h9 h8 => absurd h8.1 h9) rfl
    refine za_goto (tgt := 19) dX1_told_15 (by decide) ?_
    exact za_ireturn rfl dX1_told_19 h
theorem sX1_told {d b : Nat} {v1 : Int32} {v2 : Int32} {T : zT} {I : zI} {L : zL} {R : zR} {P : zP} (h : zAW mX1_told d b 0 [(0, .ref 1000), (1, .int v1), (2, .int v2)] [] T I L R P) : zMet mX1_told d b [.ref 1000, .int v1, .int v2] T I L R P := zMet_of (by decide +kernel) rfl (Nat.le_of_ble_eq_true rfl) rfl h
/-! TwoTongues.toldBy (II)I -/
def dkwX1_toldBy_3 : List UInt8 := [167, 255, 206, 29, 172]
abbrev dktX1_toldBy_3 : List UInt8 := dkwX1_toldBy_3 ++ []
def dkwX1_toldBy_2 : List UInt8 := [182, 0, 248, 182, 1, 136, 153, 0, 12, 4, 21, 4, 4, 100, 120, 167, 0, 4, 3, 128, 62, 132, 4, 1]
abbrev dktX1_toldBy_2 : List UInt8 := dkwX1_toldBy_2 ++ dktX1_toldBy_3
def dkwX1_toldBy_1 : List UInt8 := [16, 26, 163, 0, 49, 42, 180, 0, 107, 180, 0, 219, 28, 21, 4, 79, 29, 42, 42, 180, 0, 107, 42, 27]
abbrev dktX1_toldBy_1 : List UInt8 := dkwX1_toldBy_1 ++ dktX1_toldBy_2
def dkwX1_toldBy_0 : List UInt8 := [3, 62, 42, 180, 0, 107, 42, 180, 0, 64, 180, 0, 186, 27, 50, 182, 1, 58, 4, 54, 4, 21, 4]
abbrev dktX1_toldBy_0 : List UInt8 := dkwX1_toldBy_0 ++ dktX1_toldBy_1
theorem dksX1_toldBy_0 : cX1_toldBy.data.toList.drop 0 = dktX1_toldBy_0 := by decide +kernel
theorem dksX1_toldBy_1 : cX1_toldBy.data.toList.drop 23 = dktX1_toldBy_1 := dk_seg dksX1_toldBy_0 23 rfl rfl
theorem dksX1_toldBy_2 : cX1_toldBy.data.toList.drop 47 = dktX1_toldBy_2 := dk_seg dksX1_toldBy_1 24 rfl rfl
theorem dksX1_toldBy_3 : cX1_toldBy.data.toList.drop 71 = dktX1_toldBy_3 := dk_seg dksX1_toldBy_2 24 rfl rfl
theorem dX1_toldBy_0 : decode cX1_toldBy 0 = .ok (.iconst 0, 1) := dk_3 (dk_at dksX1_toldBy_0 0 rfl rfl)
theorem dX1_toldBy_1 : decode cX1_toldBy 1 = .ok (.istore_n 3, 1) := dk_62 (dk_at dksX1_toldBy_0 1 rfl rfl)
theorem dX1_toldBy_2 : decode cX1_toldBy 2 = .ok (.aload_n 0, 1) := dk_42 (dk_at dksX1_toldBy_0 2 rfl rfl)
theorem dX1_toldBy_3 : decode cX1_toldBy 3 = .ok (.getfield 107, 3) := dk_180 0 107 (dk_at dksX1_toldBy_0 3 rfl rfl)
theorem dX1_toldBy_6 : decode cX1_toldBy 6 = .ok (.aload_n 0, 1) := dk_42 (dk_at dksX1_toldBy_0 6 rfl rfl)
theorem dX1_toldBy_7 : decode cX1_toldBy 7 = .ok (.getfield 64, 3) := dk_180 0 64 (dk_at dksX1_toldBy_0 7 rfl rfl)
theorem dX1_toldBy_10 : decode cX1_toldBy 10 = .ok (.getfield 186, 3) := dk_180 0 186 (dk_at dksX1_toldBy_0 10 rfl rfl)
theorem dX1_toldBy_13 : decode cX1_toldBy 13 = .ok (.iload_n 1, 1) := dk_27 (dk_at dksX1_toldBy_0 13 rfl rfl)
theorem dX1_toldBy_14 : decode cX1_toldBy 14 = .ok (.aaload, 1) := dk_50 (dk_at dksX1_toldBy_0 14 rfl rfl)
theorem dX1_toldBy_15 : decode cX1_toldBy 15 = .ok (.invokevirtual 314, 3) := dk_182 1 58 (dk_at dksX1_toldBy_0 15 rfl rfl)
theorem dX1_toldBy_18 : decode cX1_toldBy 18 = .ok (.iconst 1, 1) := dk_4 (dk_at dksX1_toldBy_0 18 rfl rfl)
theorem dX1_toldBy_19 : decode cX1_toldBy 19 = .ok (.istore 4, 2) := dk_54 4 (dk_at dksX1_toldBy_0 19 rfl rfl)
theorem dX1_toldBy_21 : decode cX1_toldBy 21 = .ok (.iload 4, 2) := dk_21 4 (dk_at dksX1_toldBy_0 21 rfl rfl)
theorem dX1_toldBy_23 : decode cX1_toldBy 23 = .ok (.bipush 26, 2) := dk_16 26 (dk_at dksX1_toldBy_1 0 rfl rfl)
theorem dX1_toldBy_25 : decode cX1_toldBy 25 = .ok (.if_icmp .gt 49, 3) := dk_163 0 49 (dk_at dksX1_toldBy_1 2 rfl rfl)
theorem dX1_toldBy_28 : decode cX1_toldBy 28 = .ok (.aload_n 0, 1) := dk_42 (dk_at dksX1_toldBy_1 5 rfl rfl)
theorem dX1_toldBy_29 : decode cX1_toldBy 29 = .ok (.getfield 107, 3) := dk_180 0 107 (dk_at dksX1_toldBy_1 6 rfl rfl)
theorem dX1_toldBy_32 : decode cX1_toldBy 32 = .ok (.getfield 219, 3) := dk_180 0 219 (dk_at dksX1_toldBy_1 9 rfl rfl)
theorem dX1_toldBy_35 : decode cX1_toldBy 35 = .ok (.iload_n 2, 1) := dk_28 (dk_at dksX1_toldBy_1 12 rfl rfl)
theorem dX1_toldBy_36 : decode cX1_toldBy 36 = .ok (.iload 4, 2) := dk_21 4 (dk_at dksX1_toldBy_1 13 rfl rfl)
theorem dX1_toldBy_38 : decode cX1_toldBy 38 = .ok (.iastore, 1) := dk_79 (dk_at dksX1_toldBy_1 15 rfl rfl)
theorem dX1_toldBy_39 : decode cX1_toldBy 39 = .ok (.iload_n 3, 1) := dk_29 (dk_at dksX1_toldBy_1 16 rfl rfl)
theorem dX1_toldBy_40 : decode cX1_toldBy 40 = .ok (.aload_n 0, 1) := dk_42 (dk_at dksX1_toldBy_1 17 rfl rfl)
theorem dX1_toldBy_41 : decode cX1_toldBy 41 = .ok (.aload_n 0, 1) := dk_42 (dk_at dksX1_toldBy_1 18 rfl rfl)
theorem dX1_toldBy_42 : decode cX1_toldBy 42 = .ok (.getfield 107, 3) := dk_180 0 107 (dk_at dksX1_toldBy_1 19 rfl rfl)
theorem dX1_toldBy_45 : decode cX1_toldBy 45 = .ok (.aload_n 0, 1) := dk_42 (dk_at dksX1_toldBy_1 22 rfl rfl)
theorem dX1_toldBy_46 : decode cX1_toldBy 46 = .ok (.iload_n 1, 1) := dk_27 (dk_at dksX1_toldBy_1 23 rfl rfl)
theorem dX1_toldBy_47 : decode cX1_toldBy 47 = .ok (.invokevirtual 248, 3) := dk_182 0 248 (dk_at dksX1_toldBy_2 0 rfl rfl)
theorem dX1_toldBy_50 : decode cX1_toldBy 50 = .ok (.invokevirtual 392, 3) := dk_182 1 136 (dk_at dksX1_toldBy_2 3 rfl rfl)
theorem dX1_toldBy_53 : decode cX1_toldBy 53 = .ok (.ifCond .eq 12, 3) := dk_153 0 12 (dk_at dksX1_toldBy_2 6 rfl rfl)
theorem dX1_toldBy_56 : decode cX1_toldBy 56 = .ok (.iconst 1, 1) := dk_4 (dk_at dksX1_toldBy_2 9 rfl rfl)
theorem dX1_toldBy_57 : decode cX1_toldBy 57 = .ok (.iload 4, 2) := dk_21 4 (dk_at dksX1_toldBy_2 10 rfl rfl)
theorem dX1_toldBy_59 : decode cX1_toldBy 59 = .ok (.iconst 1, 1) := dk_4 (dk_at dksX1_toldBy_2 12 rfl rfl)
theorem dX1_toldBy_60 : decode cX1_toldBy 60 = .ok (.isub, 1) := dk_100 (dk_at dksX1_toldBy_2 13 rfl rfl)
theorem dX1_toldBy_61 : decode cX1_toldBy 61 = .ok (.ishl, 1) := dk_120 (dk_at dksX1_toldBy_2 14 rfl rfl)
theorem dX1_toldBy_62 : decode cX1_toldBy 62 = .ok (.goto 4, 3) := dk_167 0 4 (dk_at dksX1_toldBy_2 15 rfl rfl)
theorem dX1_toldBy_65 : decode cX1_toldBy 65 = .ok (.iconst 0, 1) := dk_3 (dk_at dksX1_toldBy_2 18 rfl rfl)
theorem dX1_toldBy_66 : decode cX1_toldBy 66 = .ok (.ior, 1) := dk_128 (dk_at dksX1_toldBy_2 19 rfl rfl)
theorem dX1_toldBy_67 : decode cX1_toldBy 67 = .ok (.istore_n 3, 1) := dk_62 (dk_at dksX1_toldBy_2 20 rfl rfl)
theorem dX1_toldBy_68 : decode cX1_toldBy 68 = .ok (.iinc 4 1, 3) := dk_132 4 1 (dk_at dksX1_toldBy_2 21 rfl rfl)
theorem dX1_toldBy_71 : decode cX1_toldBy 71 = .ok (.goto (-50), 3) := dk_167 255 206 (dk_at dksX1_toldBy_3 0 rfl rfl)
theorem dX1_toldBy_74 : decode cX1_toldBy 74 = .ok (.iload_n 3, 1) := dk_29 (dk_at dksX1_toldBy_3 3 rfl rfl)
theorem dX1_toldBy_75 : decode cX1_toldBy 75 = .ok (.ireturn, 1) := dk_172 (dk_at dksX1_toldBy_3 4 rfl rfl)
theorem gX1_toldBy_0 {v1 : Int32} {v2 : Int32} {T : zT} {I : zI} {L : zL} {R : zR} {P : zP} (hx : zXok T R) (h : vp_in v1 6 ∧ zMet mX11_become 1 0 [.ref 1025, .ref (R 1202 (v1.toNatClampNeg))] T I L R (zqV_I T L R  (fun (I2 : zI)  => zAW mX1_toldBy 6 0 21 [(0, .ref 1000), (1, .int v1), (2, .int v2), (3, .int (0 : Int32)), (4, .int (1 : Int32))] [] T I2 L R P))) : zAW mX1_toldBy 6 0 0 [(0, .ref 1000), (1, .int v1), (2, .int v2)] [] T I L R P := by
  refine za_iconst (pc' := 1) dX1_toldBy_0 zi_0 rfl ?_
  refine za_istore_n (pc' := 2) (l' := [(3, .int (0 : Int32)), (0, .ref 1000), (1, .int v1), (2, .int v2)]) dX1_toldBy_1 rfl (Nat.le_of_ble_eq_true rfl) rfl rfl ?_
  refine za_aload_n (pc' := 3) 1 dX1_toldBy_2 rfl rfl rfl ?_
  refine za_get (fi := 24) (v := .ref 1025) (pc' := 6) dX1_toldBy_3 zc0 (by decide) in_X1 (by decide) q514 (Or.inl rfl) (congrArg Prod.fst (zX_t1000 hx)) (congrArg Value.ref (zX_r1000_24 hx)) rfl ?_
  refine za_aload_n (pc' := 7) 1 dX1_toldBy_6 rfl rfl rfl ?_
  refine za_get (fi := 10) (v := .ref 1200) (pc' := 10) dX1_toldBy_7 zc0 (by decide) in_X1 (by decide) q500 (Or.inl rfl) (congrArg Prod.fst (zX_t1000 hx)) (congrArg Value.ref (zX_r1000_10 hx)) rfl ?_
  refine za_getN (fi := 1) (v := .ref 1202) (pc' := 13) dX1_toldBy_10 zc9 (by decide) in_X10 (by decide) q418 (Or.inl rfl) (congrArg Prod.fst (zX_t1200 hx)) (congrArg Value.ref (zX_r1200_1 hx)) rfl ?_
  refine za_iload_n (pc' := 14) 2 dX1_toldBy_13 rfl rfl rfl ?_
  obtain ⟨hi1, h⟩ := h
  refine za_aald (r := (R 1202 (v1.toNatClampNeg))) (t := 5) (C := RX11) (pc' := 15) dX1_toldBy_14 (by decide) (fun _ => rfl) (zX_t1202 hx) hi1 (rfl) rfl ?_
  refine za_callV (κ := 1025) (M2 := mX11_become) (d2 := 1) (b2 := 0) (n := 1) (As := [.ref (R 1202 (v1.toNatClampNeg))]) (st := []) (pc' := 18) zc10 (by decide) (congrArg Prod.fst (zX_t1025 hx)) dX1_toldBy_15 rfl (lw_V q1211 q485 q486 q144 q487) ⟨rfl, hd_X11_become⟩ rfl (by decide) (by decide) (Nat.zero_le _) (Or.inl rfl) (Nat.le_of_ble_eq_true rfl) h (zqV_I_k rfl (fun I2 h => ?_)) (fun _ _ _ _ _ _ h9 h8 => absurd h8.1 h9) rfl
  refine za_iconst (pc' := 19) dX1_toldBy_18 zi_1 rfl ?_
  refine za_istore (pc' := 21) (l' := [(4, .int (1 : Int32)), (3, .int (0 : Int32)), (0, .ref 1000), (1, .int v1), (2, .int v2)]) dX1_toldBy_19 (Nat.le_of_ble_eq_true rfl) rfl rfl ?_
  exact zAW_sub [2, 3, 4, 1, 0] rfl h
theorem gX1_toldBy_21 {v1 : Int32} {v2 : Int32} {v3 : Int32} {v4 : Int32} {T : zT} {I : zI} {L : zL} {R : zR} {P : zP} (hx : zXok T R) (h : (((26 : Int32) < v4 → P 0 (.int v3) T I L R) ∧ (¬ (26 : Int32) < v4 → vp_in v2 12 ∧ zMet mX1_kindOf 4 0 [.ref 1000, .int v1] T (z2 I 1052 (v2.toNatClampNeg) v4) L R (zqR_ T (z2 I 1052 (v2.toNatClampNeg) v4) L R  (fun (r4 : Nat)  => zMet mX1_serves_2 5 0 [.ref 1000, .ref 1025, .ref r4] T (z2 I 1052 (v2.toNatClampNeg) v4) L R (zqI_IL T R  (fun (r5 : Int32) (I6 : zI) (L7 : zL)  => ((r5 = 0 → zAW mX1_toldBy 6 0 21 [(0, .ref 1000), (1, .int v1), (2, .int v2), (3, .int (v3 ||| (0 : Int32))), (4, .int (v4 + (1 : Int32)))] [] T I6 L7 R P) ∧ (¬ r5 = 0 → zAW mX1_toldBy 6 0 21 [(0, .ref 1000), (1, .int v1), (2, .int v2), (3, .int (v3 ||| ((1 : Int32) <<< ((v4 - (1 : Int32)) &&& 31)))), (4, .int (v4 + (1 : Int32)))] [] T I6 L7 R P))))))))) : zAW mX1_toldBy 6 0 21 [(0, .ref 1000), (1, .int v1), (2, .int v2), (3, .int v3), (4, .int v4)] [] T I L R P := by
  refine za_iload (pc' := 23) 4 dX1_toldBy_21 rfl rfl ?_
  refine za_bipush (pc' := 25) dX1_toldBy_23 zb8_26 rfl ?_
  refine za_icmp_gt (pc' := 28) (tgt := 74) dX1_toldBy_25 (by decide) rfl (fun c9 => ?_) (fun c9 => ?_)
  · replace h := h.1 c9
    refine za_iload_n (pc' := 75) 3 dX1_toldBy_74 rfl rfl rfl ?_
    exact za_ireturn rfl dX1_toldBy_75 h
  · replace h := h.2 c9
    refine za_aload_n (pc' := 29) 0 dX1_toldBy_28 rfl rfl rfl ?_
    refine za_get (fi := 24) (v := .ref 1025) (pc' := 32) dX1_toldBy_29 zc0 (by decide) in_X1 (by decide) q514 (Or.inl rfl) (congrArg Prod.fst (zX_t1000 hx)) (congrArg Value.ref (zX_r1000_24 hx)) rfl ?_
    refine za_getN (fi := 0) (v := .ref 1052) (pc' := 35) dX1_toldBy_32 zc10 (by decide) in_X11 (by decide) q404 (Or.inl rfl) (congrArg Prod.fst (zX_t1025 hx)) (congrArg Value.ref (zX_r1025_0 hx)) rfl ?_
    refine za_iload_n (pc' := 36) 2 dX1_toldBy_35 rfl rfl rfl ?_
    refine za_iload (pc' := 38) 4 dX1_toldBy_36 rfl rfl ?_
    obtain ⟨hi3, h⟩ := h
    refine za_iast (k := v2.toNatClampNeg) (pc' := 39) dX1_toldBy_38 (zX_t1052 hx) hi3 rfl rfl ?_
    refine za_iload_n (pc' := 40) 3 dX1_toldBy_39 rfl rfl rfl ?_
    refine za_aload_n (pc' := 41) 0 dX1_toldBy_40 rfl rfl rfl ?_
    refine za_aload_n (pc' := 42) 0 dX1_toldBy_41 rfl rfl rfl ?_
    refine za_get (fi := 24) (v := .ref 1025) (pc' := 45) dX1_toldBy_42 zc0 (by decide) in_X1 (by decide) q514 (Or.inl rfl) (congrArg Prod.fst (zX_t1000 hx)) (congrArg Value.ref (zX_r1000_24 hx)) rfl ?_
    refine za_aload_n (pc' := 46) 0 dX1_toldBy_45 rfl rfl rfl ?_
    refine za_iload_n (pc' := 47) 1 dX1_toldBy_46 rfl rfl rfl ?_
    refine za_callV (κ := 1000) (M2 := mX1_kindOf) (d2 := 4) (b2 := 0) (n := 1) (As := [.int v1]) (st := [.ref 1025, .ref 1000, .int v3]) (pc' := 50) zc0 (by decide) (congrArg Prod.fst (zX_t1000 hx)) dX1_toldBy_47 rfl (lw_V q1087 q1089 qs34 q131 q1090) ⟨rfl, hd_X1_kindOf⟩ rfl (by decide) (by decide) (Nat.zero_le _) (Or.inl rfl) (Nat.le_of_ble_eq_true rfl) h (zqR__k rfl (fun r4 h => ?_)) (fun _ _ _ _ _ _ h9 h8 => absurd h8.1 h9) rfl
    refine za_callV (κ := 1000) (M2 := mX1_serves_2) (d2 := 5) (b2 := 0) (n := 2) (As := [.ref 1025, .ref r4]) (st := [.int v3]) (pc' := 53) zc0 (by decide) (congrArg Prod.fst (zX_t1000 hx)) dX1_toldBy_50 rfl (lw_V q1298 q1300 qs49 q131 q1301) ⟨rfl, hd_X1_serves_2⟩ rfl (by decide) (by decide) (Nat.zero_le _) (Or.inl rfl) (Nat.le_of_ble_eq_true rfl) h (zqI_IL_k rfl (fun r5 I6 L7 h => ?_)) (fun _ _ _ _ _ _ h9 h8 => absurd h8.1 h9) rfl
    refine za_if_eq (pc' := 56) (tgt := 65) dX1_toldBy_53 (by decide) rfl (fun c9 => ?_) (fun c9 => ?_)
    · replace h := h.1 c9
      refine za_iconst (pc' := 66) dX1_toldBy_65 zi_0 rfl ?_
      refine za_ior (pc' := 67) dX1_toldBy_66 rfl ?_
      refine za_istore_n (pc' := 68) (l' := [(3, .int (v3 ||| (0 : Int32))), (0, .ref 1000), (1, .int v1), (2, .int v2), (4, .int v4)]) dX1_toldBy_67 rfl (Nat.le_of_ble_eq_true rfl) rfl rfl ?_
      refine za_iinc (pc' := 71) (l' := [(4, .int (v4 + (1 : Int32))), (3, .int (v3 ||| (0 : Int32))), (0, .ref 1000), (1, .int v1), (2, .int v2)]) 4 dX1_toldBy_68 rfl (zinc zi_1) (Nat.le_of_ble_eq_true rfl) rfl rfl ?_
      refine za_goto (tgt := 21) dX1_toldBy_71 (by decide) ?_
      exact zAW_sub [2, 3, 4, 1, 0] rfl h
    · replace h := h.2 c9
      refine za_iconst (pc' := 57) dX1_toldBy_56 zi_1 rfl ?_
      refine za_iload (pc' := 59) 4 dX1_toldBy_57 rfl rfl ?_
      refine za_iconst (pc' := 60) dX1_toldBy_59 zi_1 rfl ?_
      refine za_isub (pc' := 61) dX1_toldBy_60 rfl ?_
      refine za_ishl (pc' := 62) dX1_toldBy_61 rfl ?_
      refine za_goto (tgt := 66) dX1_toldBy_62 (by decide) ?_
      refine za_ior (pc' := 67) dX1_toldBy_66 rfl ?_
      refine za_istore_n (pc' := 68) (l' := [(3, .int (v3 ||| ((1 : Int32) <<< ((v4 - (1 : Int32)) &&& 31)))), (0, .ref 1000), (1, .int v1), (2, .int v2), (4, .int v4)]) dX1_toldBy_67 rfl (Nat.le_of_ble_eq_true rfl) rfl rfl ?_
      refine za_iinc (pc' := 71) (l' := [(4, .int (v4 + (1 : Int32))), (3, .int (v3 ||| ((1 : Int32) <<< ((v4 - (1 : Int32)) &&& 31)))), (0, .ref 1000), (1, .int v1), (2, .int v2)]) 4 dX1_toldBy_68 rfl (zinc zi_1) (Nat.le_of_ble_eq_true rfl) rfl rfl ?_
      refine za_goto (tgt := 21) dX1_toldBy_71 (by decide) ?_
      exact zAW_sub [2, 3, 4, 1, 0] rfl h
theorem sX1_toldBy {d b : Nat} {v1 : Int32} {v2 : Int32} {T : zT} {I : zI} {L : zL} {R : zR} {P : zP} (h : zAW mX1_toldBy d b 0 [(0, .ref 1000), (1, .int v1), (2, .int v2)] [] T I L R P) : zMet mX1_toldBy d b [.ref 1000, .int v1, .int v2] T I L R P := zMet_of (by decide +kernel) rfl (Nat.le_of_ble_eq_true rfl) rfl h
/-! TwoTongues.serves (LTwoTongues$Row;LTwoTongues$Kind;)Z -/
def dkwX1_serves_2_1 : List UInt8 := [182, 0, 255, 42, 180, 0, 79, 3, 47, 9, 148, 154, 0, 5, 3, 172, 132, 3, 1, 167, 255, 216, 4, 172]
abbrev dktX1_serves_2_1 : List UInt8 := dkwX1_serves_2_1 ++ []
def dkwX1_serves_2_0 : List UInt8 := [3, 62, 29, 5, 162, 0, 41, 42, 42, 180, 0, 64, 180, 0, 161, 29, 50, 43, 44, 29, 182, 0, 252]
abbrev dktX1_serves_2_0 : List UInt8 := dkwX1_serves_2_0 ++ dktX1_serves_2_1
theorem dksX1_serves_2_0 : cX1_serves_2.data.toList.drop 0 = dktX1_serves_2_0 := by decide +kernel
theorem dksX1_serves_2_1 : cX1_serves_2.data.toList.drop 23 = dktX1_serves_2_1 := dk_seg dksX1_serves_2_0 23 rfl rfl
theorem dX1_serves_2_0 : decode cX1_serves_2 0 = .ok (.iconst 0, 1) := dk_3 (dk_at dksX1_serves_2_0 0 rfl rfl)
theorem dX1_serves_2_1 : decode cX1_serves_2 1 = .ok (.istore_n 3, 1) := dk_62 (dk_at dksX1_serves_2_0 1 rfl rfl)
theorem dX1_serves_2_2 : decode cX1_serves_2 2 = .ok (.iload_n 3, 1) := dk_29 (dk_at dksX1_serves_2_0 2 rfl rfl)
theorem dX1_serves_2_3 : decode cX1_serves_2 3 = .ok (.iconst 2, 1) := dk_5 (dk_at dksX1_serves_2_0 3 rfl rfl)
theorem dX1_serves_2_4 : decode cX1_serves_2 4 = .ok (.if_icmp .ge 41, 3) := dk_162 0 41 (dk_at dksX1_serves_2_0 4 rfl rfl)
theorem dX1_serves_2_7 : decode cX1_serves_2 7 = .ok (.aload_n 0, 1) := dk_42 (dk_at dksX1_serves_2_0 7 rfl rfl)
theorem dX1_serves_2_8 : decode cX1_serves_2 8 = .ok (.aload_n 0, 1) := dk_42 (dk_at dksX1_serves_2_0 8 rfl rfl)
theorem dX1_serves_2_9 : decode cX1_serves_2 9 = .ok (.getfield 64, 3) := dk_180 0 64 (dk_at dksX1_serves_2_0 9 rfl rfl)
theorem dX1_serves_2_12 : decode cX1_serves_2 12 = .ok (.getfield 161, 3) := dk_180 0 161 (dk_at dksX1_serves_2_0 12 rfl rfl)
theorem dX1_serves_2_15 : decode cX1_serves_2 15 = .ok (.iload_n 3, 1) := dk_29 (dk_at dksX1_serves_2_0 15 rfl rfl)
theorem dX1_serves_2_16 : decode cX1_serves_2 16 = .ok (.aaload, 1) := dk_50 (dk_at dksX1_serves_2_0 16 rfl rfl)
theorem dX1_serves_2_17 : decode cX1_serves_2 17 = .ok (.aload_n 1, 1) := dk_43 (dk_at dksX1_serves_2_0 17 rfl rfl)
theorem dX1_serves_2_18 : decode cX1_serves_2 18 = .ok (.aload_n 2, 1) := dk_44 (dk_at dksX1_serves_2_0 18 rfl rfl)
theorem dX1_serves_2_19 : decode cX1_serves_2 19 = .ok (.iload_n 3, 1) := dk_29 (dk_at dksX1_serves_2_0 19 rfl rfl)
theorem dX1_serves_2_20 : decode cX1_serves_2 20 = .ok (.invokevirtual 252, 3) := dk_182 0 252 (dk_at dksX1_serves_2_0 20 rfl rfl)
theorem dX1_serves_2_23 : decode cX1_serves_2 23 = .ok (.invokevirtual 255, 3) := dk_182 0 255 (dk_at dksX1_serves_2_1 0 rfl rfl)
theorem dX1_serves_2_26 : decode cX1_serves_2 26 = .ok (.aload_n 0, 1) := dk_42 (dk_at dksX1_serves_2_1 3 rfl rfl)
theorem dX1_serves_2_27 : decode cX1_serves_2 27 = .ok (.getfield 79, 3) := dk_180 0 79 (dk_at dksX1_serves_2_1 4 rfl rfl)
theorem dX1_serves_2_30 : decode cX1_serves_2 30 = .ok (.iconst 0, 1) := dk_3 (dk_at dksX1_serves_2_1 7 rfl rfl)
theorem dX1_serves_2_31 : decode cX1_serves_2 31 = .ok (.laload, 1) := dk_47 (dk_at dksX1_serves_2_1 8 rfl rfl)
theorem dX1_serves_2_32 : decode cX1_serves_2 32 = .ok (.lconst 0, 1) := dk_9 (dk_at dksX1_serves_2_1 9 rfl rfl)
theorem dX1_serves_2_33 : decode cX1_serves_2 33 = .ok (.lcmp, 1) := dk_148 (dk_at dksX1_serves_2_1 10 rfl rfl)
theorem dX1_serves_2_34 : decode cX1_serves_2 34 = .ok (.ifCond .ne 5, 3) := dk_154 0 5 (dk_at dksX1_serves_2_1 11 rfl rfl)
theorem dX1_serves_2_37 : decode cX1_serves_2 37 = .ok (.iconst 0, 1) := dk_3 (dk_at dksX1_serves_2_1 14 rfl rfl)
theorem dX1_serves_2_38 : decode cX1_serves_2 38 = .ok (.ireturn, 1) := dk_172 (dk_at dksX1_serves_2_1 15 rfl rfl)
theorem dX1_serves_2_39 : decode cX1_serves_2 39 = .ok (.iinc 3 1, 3) := dk_132 3 1 (dk_at dksX1_serves_2_1 16 rfl rfl)
theorem dX1_serves_2_42 : decode cX1_serves_2 42 = .ok (.goto (-40), 3) := dk_167 255 216 (dk_at dksX1_serves_2_1 19 rfl rfl)
theorem dX1_serves_2_45 : decode cX1_serves_2 45 = .ok (.iconst 1, 1) := dk_4 (dk_at dksX1_serves_2_1 22 rfl rfl)
theorem dX1_serves_2_46 : decode cX1_serves_2 46 = .ok (.ireturn, 1) := dk_172 (dk_at dksX1_serves_2_1 23 rfl rfl)
theorem gX1_serves_2_0 {v1 : Nat} {v2 : Nat} {T : zT} {I : zI} {L : zL} {R : zR} {P : zP} (hx : zXok T R) (h : zAW mX1_serves_2 5 0 2 [(0, .ref 1000), (1, .ref v1), (2, .ref v2), (3, .int (0 : Int32))] [] T I L R P) : zAW mX1_serves_2 5 0 0 [(0, .ref 1000), (1, .ref v1), (2, .ref v2)] [] T I L R P := by
  refine za_iconst (pc' := 1) dX1_serves_2_0 zi_0 rfl ?_
  refine za_istore_n (pc' := 2) (l' := [(3, .int (0 : Int32)), (0, .ref 1000), (1, .ref v1), (2, .ref v2)]) dX1_serves_2_1 rfl (Nat.le_of_ble_eq_true rfl) rfl rfl ?_
  exact zAW_sub [1, 2, 3, 0] rfl h
theorem gX1_serves_2_2 {v1 : Nat} {v2 : Nat} {v3 : Int32} {T : zT} {I : zI} {L : zL} {R : zR} {P : zP} (hx : zXok T R) (h : (((2 : Int32) ≤ v3 → P 0 (.int (1 : Int32)) T I L R) ∧ (¬ (2 : Int32) ≤ v3 → vp_in v3 2 ∧ ((((T v2).1 = 6 ∧ zMet mX6_isFromRight 1 0 [.ref v2, .int v3] T I L R (zqI_ T I L R  (fun (r2 : Int32)  => zAW mX1_serves_2 5 0 23 [(0, .ref 1000), (1, .ref v1), (2, .ref v2), (3, .int v3)] [.int r2, .ref v1, .ref (R 1201 (v3.toNatClampNeg)), .ref 1000] T I L R P)))) ∨ (((T v2).1 = 7 ∧ zMet mX7_isFromRight 1 0 [.ref v2, .int v3] T I L R (zqI_ T I L R  (fun (r3 : Int32)  => zAW mX1_serves_2 5 0 23 [(0, .ref 1000), (1, .ref v1), (2, .ref v2), (3, .int v3)] [.int r3, .ref v1, .ref (R 1201 (v3.toNatClampNeg)), .ref 1000] T I L R P)))) ∨ (((T v2).1 = 8 ∧ zMet mX8_isFromRight 1 0 [.ref v2, .int v3] T I L R (zqI_ T I L R  (fun (r4 : Int32)  => zAW mX1_serves_2 5 0 23 [(0, .ref 1000), (1, .ref v1), (2, .ref v2), (3, .int v3)] [.int r4, .ref v1, .ref (R 1201 (v3.toNatClampNeg)), .ref 1000] T I L R P)))) ∨ (((T v2).1 = 9 ∧ zMet mX9_isFromRight 2 0 [.ref v2, .int v3] T I L R (zqI_ T I L R  (fun (r5 : Int32)  => zAW mX1_serves_2 5 0 23 [(0, .ref 1000), (1, .ref v1), (2, .ref v2), (3, .int v3)] [.int r5, .ref v1, .ref (R 1201 (v3.toNatClampNeg)), .ref 1000] T I L R P)))))))) : zAW mX1_serves_2 5 0 2 [(0, .ref 1000), (1, .ref v1), (2, .ref v2), (3, .int v3)] [] T I L R P := by
  refine za_iload_n (pc' := 3) 3 dX1_serves_2_2 rfl rfl rfl ?_
  refine za_iconst (pc' := 4) dX1_serves_2_3 zi_2 rfl ?_
  refine za_icmp_ge (pc' := 7) (tgt := 45) dX1_serves_2_4 (by decide) rfl (fun c9 => ?_) (fun c9 => ?_)
  · replace h := h.1 c9
    refine za_iconst (pc' := 46) dX1_serves_2_45 zi_1 rfl ?_
    exact za_zreturn rfl dX1_serves_2_46 (by decide) h
  · replace h := h.2 c9
    refine za_aload_n (pc' := 8) 0 dX1_serves_2_7 rfl rfl rfl ?_
    refine za_aload_n (pc' := 9) 0 dX1_serves_2_8 rfl rfl rfl ?_
    refine za_get (fi := 10) (v := .ref 1200) (pc' := 12) dX1_serves_2_9 zc0 (by decide) in_X1 (by decide) q500 (Or.inl rfl) (congrArg Prod.fst (zX_t1000 hx)) (congrArg Value.ref (zX_r1000_10 hx)) rfl ?_
    refine za_getN (fi := 0) (v := .ref 1201) (pc' := 15) dX1_serves_2_12 zc9 (by decide) in_X10 (by decide) q416 (Or.inl rfl) (congrArg Prod.fst (zX_t1200 hx)) (congrArg Value.ref (zX_r1200_0 hx)) rfl ?_
    refine za_iload_n (pc' := 16) 3 dX1_serves_2_15 rfl rfl rfl ?_
    obtain ⟨hi1, h⟩ := h
    refine za_aald (r := (R 1201 (v3.toNatClampNeg))) (t := 4) (C := RX4) (pc' := 17) dX1_serves_2_16 (by decide) (fun _ => rfl) (zX_t1201 hx) hi1 (rfl) rfl ?_
    refine za_aload_n (pc' := 18) 1 dX1_serves_2_17 rfl rfl rfl ?_
    refine za_aload_n (pc' := 19) 2 dX1_serves_2_18 rfl rfl rfl ?_
    refine za_iload_n (pc' := 20) 3 dX1_serves_2_19 rfl rfl rfl ?_
    rcases h with h | h | h | h
    · obtain ⟨h0, h⟩ := h
      exact za_callU (κ := v2) (owner := "TwoTongues$Kind") (x9 := ⟨"TwoTongues$Kind", "isFromRight", "(I)Z"⟩) (M2 := mX6_isFromRight) (d2 := 1) (b2 := 0) (n := 1) (As := [.int v3]) (st := [.ref v1, .ref (R 1201 (v3.toNatClampNeg)), .ref 1000]) (pc' := 23) zc5 (by decide) h0 dX1_serves_2_20 rfl (lw_U q1093 q1095 q1105 q1106 q139 q1107) q1094 hdx_kind rfl (by decide) (by decide) (Nat.zero_le _) (Or.inl rfl) (Nat.le_of_ble_eq_true rfl) h (zqI__k rfl (fun r2 h => zAW_sub [0, 1, 2, 3] rfl h)) (fun _ _ _ _ _ _ h9 h8 => absurd h8.1 h9) rfl
    · obtain ⟨h0, h⟩ := h
      exact za_callU (κ := v2) (owner := "TwoTongues$Kind") (x9 := ⟨"TwoTongues$Kind", "isFromRight", "(I)Z"⟩) (M2 := mX7_isFromRight) (d2 := 1) (b2 := 0) (n := 1) (As := [.int v3]) (st := [.ref v1, .ref (R 1201 (v3.toNatClampNeg)), .ref 1000]) (pc' := 23) zc6 (by decide) h0 dX1_serves_2_20 rfl (lw_U q1093 q1095 q1102 q1103 q140 q1104) q1094 hdx_kind rfl (by decide) (by decide) (Nat.zero_le _) (Or.inl rfl) (Nat.le_of_ble_eq_true rfl) h (zqI__k rfl (fun r3 h => zAW_sub [0, 1, 2, 3] rfl h)) (fun _ _ _ _ _ _ h9 h8 => absurd h8.1 h9) rfl
    · obtain ⟨h0, h⟩ := h
      exact za_callU (κ := v2) (owner := "TwoTongues$Kind") (x9 := ⟨"TwoTongues$Kind", "isFromRight", "(I)Z"⟩) (M2 := mX8_isFromRight) (d2 := 1) (b2 := 0) (n := 1) (As := [.int v3]) (st := [.ref v1, .ref (R 1201 (v3.toNatClampNeg)), .ref 1000]) (pc' := 23) zc7 (by decide) h0 dX1_serves_2_20 rfl (lw_U q1093 q1095 q1108 q1100 q141 q1101) q1094 hdx_kind rfl (by decide) (by decide) (Nat.zero_le _) (Or.inl rfl) (Nat.le_of_ble_eq_true rfl) h (zqI__k rfl (fun r4 h => zAW_sub [0, 1, 2, 3] rfl h)) (fun _ _ _ _ _ _ h9 h8 => absurd h8.1 h9) rfl
    · obtain ⟨h0, h⟩ := h
      exact za_callU (κ := v2) (owner := "TwoTongues$Kind") (x9 := ⟨"TwoTongues$Kind", "isFromRight", "(I)Z"⟩) (M2 := mX9_isFromRight) (d2 := 2) (b2 := 0) (n := 1) (As := [.int v3]) (st := [.ref v1, .ref (R 1201 (v3.toNatClampNeg)), .ref 1000]) (pc' := 23) zc8 (by decide) h0 dX1_serves_2_20 rfl (lw_U q1093 q1095 q1096 q1097 q142 q1098) q1094 hdx_kind rfl (by decide) (by decide) (Nat.zero_le _) (Or.inl rfl) (Nat.le_of_ble_eq_true rfl) h (zqI__k rfl (fun r5 h => zAW_sub [0, 1, 2, 3] rfl h)) (fun _ _ _ _ _ _ h9 h8 => absurd h8.1 h9) rfl
theorem gX1_serves_2_23 {v1 : Nat} {v2 : Nat} {v3 : Int32} {s0 : Int32} {s1 : Nat} {s2 : Nat} {s3 : Nat} {T : zT} {I : zI} {L : zL} {R : zR} {P : zP} (hx : zXok T R) (h : (T s3).1 = 1 ∧ zMet mX1_read_2 4 0 [.ref s3, .ref s2, .ref s1, .int s0] T I L R (zqV_IL T R  (fun (I6 : zI) (L7 : zL)  => (((L7 1016 0) = (0 : Int64) → P 0 (.int (0 : Int32)) T I6 L7 R) ∧ (¬ (L7 1016 0) = (0 : Int64) → zAW mX1_serves_2 5 0 2 [(0, .ref 1000), (1, .ref v1), (2, .ref v2), (3, .int (v3 + (1 : Int32)))] [] T I6 L7 R P))))) : zAW mX1_serves_2 5 0 23 [(0, .ref 1000), (1, .ref v1), (2, .ref v2), (3, .int v3)] [.int s0, .ref s1, .ref s2, .ref s3] T I L R P := by
  obtain ⟨ht8, h⟩ := h
  refine za_callV (κ := s3) (M2 := mX1_read_2) (d2 := 4) (b2 := 0) (n := 3) (As := [.ref s2, .ref s1, .int s0]) (st := []) (pc' := 26) zc0 (by decide) ht8 dX1_serves_2_23 rfl (lw_V q1109 q1111 qs35 q131 q1112) ⟨rfl, hd_X1_read_2⟩ rfl (by decide) (by decide) (Nat.zero_le _) (Or.inl rfl) (Nat.le_of_ble_eq_true rfl) h (zqV_IL_k rfl (fun I6 L7 h => ?_)) (fun _ _ _ _ _ _ h9 h8 => absurd h8.1 h9) rfl
  refine za_aload_n (pc' := 27) 0 dX1_serves_2_26 rfl rfl rfl ?_
  refine za_get (fi := 15) (v := .ref 1016) (pc' := 30) dX1_serves_2_27 zc0 (by decide) in_X1 (by decide) q505 (Or.inl rfl) (congrArg Prod.fst (zX_t1000 hx)) (congrArg Value.ref (zX_r1000_15 hx)) rfl ?_
  refine za_iconst (pc' := 31) dX1_serves_2_30 zi_0 rfl ?_
  refine za_lald (v := .long (L7 1016 0)) (pc' := 32) dX1_serves_2_31 (zX_t1016 hx) (zin (by decide)) (congrArg Value.long (zix zn_0 (rfl))) rfl ?_
  refine za_lconst (pc' := 33) dX1_serves_2_32 zl_0 rfl ?_
  refine za_lcmp (pc' := 34) dX1_serves_2_33 rfl ?_
  refine za_if_ne (pc' := 37) (tgt := 39) dX1_serves_2_34 (by decide) rfl (fun c9 => ?_) (fun c9 => ?_)
  · replace h := h.2 (fun c8 => c9 ((lg_cmp_eq (L7 1016 0) (0 : Int64)).mpr c8))
    refine za_iinc (pc' := 42) (l' := [(3, .int (v3 + (1 : Int32))), (0, .ref 1000), (1, .ref v1), (2, .ref v2)]) 3 dX1_serves_2_39 rfl (zinc zi_1) (Nat.le_of_ble_eq_true rfl) rfl rfl ?_
    refine za_goto (tgt := 2) dX1_serves_2_42 (by decide) ?_
    exact zAW_sub [1, 2, 3, 0] rfl h
  · replace h := h.1 ((lg_cmp_eq (L7 1016 0) (0 : Int64)).mp c9)
    refine za_iconst (pc' := 38) dX1_serves_2_37 zi_0 rfl ?_
    exact za_zreturn rfl dX1_serves_2_38 (by decide) h
theorem sX1_serves_2 {d b : Nat} {v1 : Nat} {v2 : Nat} {T : zT} {I : zI} {L : zL} {R : zR} {P : zP} (h : zAW mX1_serves_2 d b 0 [(0, .ref 1000), (1, .ref v1), (2, .ref v2)] [] T I L R P) : zMet mX1_serves_2 d b [.ref 1000, .ref v1, .ref v2] T I L R P := zMet_of (by decide +kernel) rfl (Nat.le_of_ble_eq_true rfl) rfl h
/-! TwoTongues.sure (I)I -/
def dkwX1_sure_3 : List UInt8 := [3, 61, 132, 3, 1, 167, 255, 214, 28, 153, 0, 7, 4, 167, 0, 4, 3, 172]
abbrev dktX1_sure_3 : List UInt8 := dkwX1_sure_3 ++ []
def dkwX1_sure_2 : List UInt8 := [162, 0, 32, 28, 153, 0, 28, 42, 27, 29, 182, 1, 140, 184, 1, 143, 4, 160, 0, 7, 4, 167, 0, 4]
abbrev dktX1_sure_2 : List UInt8 := dkwX1_sure_2 ++ dktX1_sure_3
def dkwX1_sure_1 : List UInt8 := [182, 0, 248, 182, 1, 136, 61, 3, 62, 29, 42, 180, 0, 64, 180, 0, 186, 27, 50, 180, 0, 190]
abbrev dktX1_sure_1 : List UInt8 := dkwX1_sure_1 ++ dktX1_sure_2
def dkwX1_sure_0 : List UInt8 := [42, 27, 182, 0, 182, 154, 0, 5, 2, 172, 42, 42, 180, 0, 64, 180, 0, 186, 27, 50, 42, 27]
abbrev dktX1_sure_0 : List UInt8 := dkwX1_sure_0 ++ dktX1_sure_1
theorem dksX1_sure_0 : cX1_sure.data.toList.drop 0 = dktX1_sure_0 := by decide +kernel
theorem dksX1_sure_1 : cX1_sure.data.toList.drop 22 = dktX1_sure_1 := dk_seg dksX1_sure_0 22 rfl rfl
theorem dksX1_sure_2 : cX1_sure.data.toList.drop 44 = dktX1_sure_2 := dk_seg dksX1_sure_1 22 rfl rfl
theorem dksX1_sure_3 : cX1_sure.data.toList.drop 68 = dktX1_sure_3 := dk_seg dksX1_sure_2 24 rfl rfl
theorem dX1_sure_0 : decode cX1_sure 0 = .ok (.aload_n 0, 1) := dk_42 (dk_at dksX1_sure_0 0 rfl rfl)
theorem dX1_sure_1 : decode cX1_sure 1 = .ok (.iload_n 1, 1) := dk_27 (dk_at dksX1_sure_0 1 rfl rfl)
theorem dX1_sure_2 : decode cX1_sure 2 = .ok (.invokevirtual 182, 3) := dk_182 0 182 (dk_at dksX1_sure_0 2 rfl rfl)
theorem dX1_sure_5 : decode cX1_sure 5 = .ok (.ifCond .ne 5, 3) := dk_154 0 5 (dk_at dksX1_sure_0 5 rfl rfl)
theorem dX1_sure_8 : decode cX1_sure 8 = .ok (.iconst (-1), 1) := dk_2 (dk_at dksX1_sure_0 8 rfl rfl)
theorem dX1_sure_9 : decode cX1_sure 9 = .ok (.ireturn, 1) := dk_172 (dk_at dksX1_sure_0 9 rfl rfl)
theorem dX1_sure_10 : decode cX1_sure 10 = .ok (.aload_n 0, 1) := dk_42 (dk_at dksX1_sure_0 10 rfl rfl)
theorem dX1_sure_11 : decode cX1_sure 11 = .ok (.aload_n 0, 1) := dk_42 (dk_at dksX1_sure_0 11 rfl rfl)
theorem dX1_sure_12 : decode cX1_sure 12 = .ok (.getfield 64, 3) := dk_180 0 64 (dk_at dksX1_sure_0 12 rfl rfl)
theorem dX1_sure_15 : decode cX1_sure 15 = .ok (.getfield 186, 3) := dk_180 0 186 (dk_at dksX1_sure_0 15 rfl rfl)
theorem dX1_sure_18 : decode cX1_sure 18 = .ok (.iload_n 1, 1) := dk_27 (dk_at dksX1_sure_0 18 rfl rfl)
theorem dX1_sure_19 : decode cX1_sure 19 = .ok (.aaload, 1) := dk_50 (dk_at dksX1_sure_0 19 rfl rfl)
theorem dX1_sure_20 : decode cX1_sure 20 = .ok (.aload_n 0, 1) := dk_42 (dk_at dksX1_sure_0 20 rfl rfl)
theorem dX1_sure_21 : decode cX1_sure 21 = .ok (.iload_n 1, 1) := dk_27 (dk_at dksX1_sure_0 21 rfl rfl)
theorem dX1_sure_22 : decode cX1_sure 22 = .ok (.invokevirtual 248, 3) := dk_182 0 248 (dk_at dksX1_sure_1 0 rfl rfl)
theorem dX1_sure_25 : decode cX1_sure 25 = .ok (.invokevirtual 392, 3) := dk_182 1 136 (dk_at dksX1_sure_1 3 rfl rfl)
theorem dX1_sure_28 : decode cX1_sure 28 = .ok (.istore_n 2, 1) := dk_61 (dk_at dksX1_sure_1 6 rfl rfl)
theorem dX1_sure_29 : decode cX1_sure 29 = .ok (.iconst 0, 1) := dk_3 (dk_at dksX1_sure_1 7 rfl rfl)
theorem dX1_sure_30 : decode cX1_sure 30 = .ok (.istore_n 3, 1) := dk_62 (dk_at dksX1_sure_1 8 rfl rfl)
theorem dX1_sure_31 : decode cX1_sure 31 = .ok (.iload_n 3, 1) := dk_29 (dk_at dksX1_sure_1 9 rfl rfl)
theorem dX1_sure_32 : decode cX1_sure 32 = .ok (.aload_n 0, 1) := dk_42 (dk_at dksX1_sure_1 10 rfl rfl)
theorem dX1_sure_33 : decode cX1_sure 33 = .ok (.getfield 64, 3) := dk_180 0 64 (dk_at dksX1_sure_1 11 rfl rfl)
theorem dX1_sure_36 : decode cX1_sure 36 = .ok (.getfield 186, 3) := dk_180 0 186 (dk_at dksX1_sure_1 14 rfl rfl)
theorem dX1_sure_39 : decode cX1_sure 39 = .ok (.iload_n 1, 1) := dk_27 (dk_at dksX1_sure_1 17 rfl rfl)
theorem dX1_sure_40 : decode cX1_sure 40 = .ok (.aaload, 1) := dk_50 (dk_at dksX1_sure_1 18 rfl rfl)
theorem dX1_sure_41 : decode cX1_sure 41 = .ok (.getfield 190, 3) := dk_180 0 190 (dk_at dksX1_sure_1 19 rfl rfl)
theorem dX1_sure_44 : decode cX1_sure 44 = .ok (.if_icmp .ge 32, 3) := dk_162 0 32 (dk_at dksX1_sure_2 0 rfl rfl)
theorem dX1_sure_47 : decode cX1_sure 47 = .ok (.iload_n 2, 1) := dk_28 (dk_at dksX1_sure_2 3 rfl rfl)
theorem dX1_sure_48 : decode cX1_sure 48 = .ok (.ifCond .eq 28, 3) := dk_153 0 28 (dk_at dksX1_sure_2 4 rfl rfl)
theorem dX1_sure_51 : decode cX1_sure 51 = .ok (.aload_n 0, 1) := dk_42 (dk_at dksX1_sure_2 7 rfl rfl)
theorem dX1_sure_52 : decode cX1_sure 52 = .ok (.iload_n 1, 1) := dk_27 (dk_at dksX1_sure_2 8 rfl rfl)
theorem dX1_sure_53 : decode cX1_sure 53 = .ok (.iload_n 3, 1) := dk_29 (dk_at dksX1_sure_2 9 rfl rfl)
theorem dX1_sure_54 : decode cX1_sure 54 = .ok (.invokevirtual 396, 3) := dk_182 1 140 (dk_at dksX1_sure_2 10 rfl rfl)
theorem dX1_sure_57 : decode cX1_sure 57 = .ok (.invokestatic 399, 3) := dk_184 1 143 (dk_at dksX1_sure_2 13 rfl rfl)
theorem dX1_sure_60 : decode cX1_sure 60 = .ok (.iconst 1, 1) := dk_4 (dk_at dksX1_sure_2 16 rfl rfl)
theorem dX1_sure_61 : decode cX1_sure 61 = .ok (.if_icmp .ne 7, 3) := dk_160 0 7 (dk_at dksX1_sure_2 17 rfl rfl)
theorem dX1_sure_64 : decode cX1_sure 64 = .ok (.iconst 1, 1) := dk_4 (dk_at dksX1_sure_2 20 rfl rfl)
theorem dX1_sure_65 : decode cX1_sure 65 = .ok (.goto 4, 3) := dk_167 0 4 (dk_at dksX1_sure_2 21 rfl rfl)
theorem dX1_sure_68 : decode cX1_sure 68 = .ok (.iconst 0, 1) := dk_3 (dk_at dksX1_sure_3 0 rfl rfl)
theorem dX1_sure_69 : decode cX1_sure 69 = .ok (.istore_n 2, 1) := dk_61 (dk_at dksX1_sure_3 1 rfl rfl)
theorem dX1_sure_70 : decode cX1_sure 70 = .ok (.iinc 3 1, 3) := dk_132 3 1 (dk_at dksX1_sure_3 2 rfl rfl)
theorem dX1_sure_73 : decode cX1_sure 73 = .ok (.goto (-42), 3) := dk_167 255 214 (dk_at dksX1_sure_3 5 rfl rfl)
theorem dX1_sure_76 : decode cX1_sure 76 = .ok (.iload_n 2, 1) := dk_28 (dk_at dksX1_sure_3 8 rfl rfl)
theorem dX1_sure_77 : decode cX1_sure 77 = .ok (.ifCond .eq 7, 3) := dk_153 0 7 (dk_at dksX1_sure_3 9 rfl rfl)
theorem dX1_sure_80 : decode cX1_sure 80 = .ok (.iconst 1, 1) := dk_4 (dk_at dksX1_sure_3 12 rfl rfl)
theorem dX1_sure_81 : decode cX1_sure 81 = .ok (.goto 4, 3) := dk_167 0 4 (dk_at dksX1_sure_3 13 rfl rfl)
theorem dX1_sure_84 : decode cX1_sure 84 = .ok (.iconst 0, 1) := dk_3 (dk_at dksX1_sure_3 16 rfl rfl)
theorem dX1_sure_85 : decode cX1_sure 85 = .ok (.ireturn, 1) := dk_172 (dk_at dksX1_sure_3 17 rfl rfl)
theorem gX1_sure_0 {v1 : Int32} {T : zT} {I : zI} {L : zL} {R : zR} {P : zP} (hx : zXok T R) (h : zMet mX1_isSign 2 0 [.ref 1000, .int v1] T I L R (zqI_ T I L R  (fun (r1 : Int32)  => ((r1 = 0 → P 0 (.int (-1 : Int32)) T I L R) ∧ (¬ r1 = 0 → vp_in v1 6 ∧ zMet mX1_kindOf 4 0 [.ref 1000, .int v1] T I L R (zqR_ T I L R  (fun (r3 : Nat)  => zMet mX1_serves_2 5 0 [.ref 1000, .ref (R 1202 (v1.toNatClampNeg)), .ref r3] T I L R (zqI_IL T R  (fun (r4 : Int32) (I5 : zI) (L6 : zL)  => zAW mX1_sure 7 0 31 [(0, .ref 1000), (1, .int v1), (2, .int r4), (3, .int (0 : Int32))] [] T I5 L6 R P))))))))) : zAW mX1_sure 7 0 0 [(0, .ref 1000), (1, .int v1)] [] T I L R P := by
  refine za_aload_n (pc' := 1) 0 dX1_sure_0 rfl rfl rfl ?_
  refine za_iload_n (pc' := 2) 1 dX1_sure_1 rfl rfl rfl ?_
  refine za_callV (κ := 1000) (M2 := mX1_isSign) (d2 := 2) (b2 := 0) (n := 1) (As := [.int v1]) (st := []) (pc' := 5) zc0 (by decide) (congrArg Prod.fst (zX_t1000 hx)) dX1_sure_2 rfl (lw_V q1066 q1068 qs32 q131 q1069) ⟨rfl, hd_X1_isSign⟩ rfl (by decide) (by decide) (Nat.zero_le _) (Or.inl rfl) (Nat.le_of_ble_eq_true rfl) h (zqI__k rfl (fun r1 h => ?_)) (fun _ _ _ _ _ _ h9 h8 => absurd h8.1 h9) rfl
  refine za_if_ne (pc' := 8) (tgt := 10) dX1_sure_5 (by decide) rfl (fun c9 => ?_) (fun c9 => ?_)
  · replace h := h.2 c9
    refine za_aload_n (pc' := 11) 0 dX1_sure_10 rfl rfl rfl ?_
    refine za_aload_n (pc' := 12) 0 dX1_sure_11 rfl rfl rfl ?_
    refine za_get (fi := 10) (v := .ref 1200) (pc' := 15) dX1_sure_12 zc0 (by decide) in_X1 (by decide) q500 (Or.inl rfl) (congrArg Prod.fst (zX_t1000 hx)) (congrArg Value.ref (zX_r1000_10 hx)) rfl ?_
    refine za_getN (fi := 1) (v := .ref 1202) (pc' := 18) dX1_sure_15 zc9 (by decide) in_X10 (by decide) q418 (Or.inl rfl) (congrArg Prod.fst (zX_t1200 hx)) (congrArg Value.ref (zX_r1200_1 hx)) rfl ?_
    refine za_iload_n (pc' := 19) 1 dX1_sure_18 rfl rfl rfl ?_
    obtain ⟨hi2, h⟩ := h
    refine za_aald (r := (R 1202 (v1.toNatClampNeg))) (t := 5) (C := RX11) (pc' := 20) dX1_sure_19 (by decide) (fun _ => rfl) (zX_t1202 hx) hi2 (rfl) rfl ?_
    refine za_aload_n (pc' := 21) 0 dX1_sure_20 rfl rfl rfl ?_
    refine za_iload_n (pc' := 22) 1 dX1_sure_21 rfl rfl rfl ?_
    refine za_callV (κ := 1000) (M2 := mX1_kindOf) (d2 := 4) (b2 := 0) (n := 1) (As := [.int v1]) (st := [.ref (R 1202 (v1.toNatClampNeg)), .ref 1000]) (pc' := 25) zc0 (by decide) (congrArg Prod.fst (zX_t1000 hx)) dX1_sure_22 rfl (lw_V q1087 q1089 qs34 q131 q1090) ⟨rfl, hd_X1_kindOf⟩ rfl (by decide) (by decide) (Nat.zero_le _) (Or.inl rfl) (Nat.le_of_ble_eq_true rfl) h (zqR__k rfl (fun r3 h => ?_)) (fun _ _ _ _ _ _ h9 h8 => absurd h8.1 h9) rfl
    refine za_callV (κ := 1000) (M2 := mX1_serves_2) (d2 := 5) (b2 := 0) (n := 2) (As := [.ref (R 1202 (v1.toNatClampNeg)), .ref r3]) (st := []) (pc' := 28) zc0 (by decide) (congrArg Prod.fst (zX_t1000 hx)) dX1_sure_25 rfl (lw_V q1298 q1300 qs49 q131 q1301) ⟨rfl, hd_X1_serves_2⟩ rfl (by decide) (by decide) (Nat.zero_le _) (Or.inl rfl) (Nat.le_of_ble_eq_true rfl) h (zqI_IL_k rfl (fun r4 I5 L6 h => ?_)) (fun _ _ _ _ _ _ h9 h8 => absurd h8.1 h9) rfl
    refine za_istore_n (pc' := 29) (l' := [(2, .int r4), (0, .ref 1000), (1, .int v1)]) dX1_sure_28 rfl (Nat.le_of_ble_eq_true rfl) rfl rfl ?_
    refine za_iconst (pc' := 30) dX1_sure_29 zi_0 rfl ?_
    refine za_istore_n (pc' := 31) (l' := [(3, .int (0 : Int32)), (2, .int r4), (0, .ref 1000), (1, .int v1)]) dX1_sure_30 rfl (Nat.le_of_ble_eq_true rfl) rfl rfl ?_
    exact zAW_sub [2, 3, 1, 0] rfl h
  · replace h := h.1 c9
    refine za_iconst (pc' := 9) dX1_sure_8 zi_m1 rfl ?_
    exact za_ireturn rfl dX1_sure_9 h
theorem gX1_sure_31 {v1 : Int32} {v2 : Int32} {v3 : Int32} {T : zT} {I : zI} {L : zL} {R : zR} {P : zP} (hx : zXok T R) (h : vp_in v1 6 ∧ (T (R 1202 (v1.toNatClampNeg))).1 = 11 ∧ (((I (R 1202 (v1.toNatClampNeg)) 1) ≤ v3 → zAW mX1_sure 7 0 76 [(2, .int v2)] [] T I L R P) ∧ (¬ (I (R 1202 (v1.toNatClampNeg)) 1) ≤ v3 → ((v2 = 0 → zAW mX1_sure 7 0 76 [(2, .int v2)] [] T I L R P) ∧ (¬ v2 = 0 → zMet mX1_toldBy 6 0 [.ref 1000, .int v1, .int v3] T I L R (zqI_IL T R  (fun (r9 : Int32) (I10 : zI) (L11 : zL)  => zMet mJ18_bitCount 1 0 [.int r9] T I10 L11 R (zqI_ T I10 L11 R  (fun (r12 : Int32)  => ((r12 = (1 : Int32) → zAW mX1_sure 7 0 31 [(0, .ref 1000), (1, .int v1), (2, .int (1 : Int32)), (3, .int (v3 + (1 : Int32)))] [] T I10 L11 R P) ∧ (¬ r12 = (1 : Int32) → zAW mX1_sure 7 0 31 [(0, .ref 1000), (1, .int v1), (2, .int (0 : Int32)), (3, .int (v3 + (1 : Int32)))] [] T I10 L11 R P))))))))))) : zAW mX1_sure 7 0 31 [(0, .ref 1000), (1, .int v1), (2, .int v2), (3, .int v3)] [] T I L R P := by
  refine za_iload_n (pc' := 32) 3 dX1_sure_31 rfl rfl rfl ?_
  refine za_aload_n (pc' := 33) 0 dX1_sure_32 rfl rfl rfl ?_
  refine za_get (fi := 10) (v := .ref 1200) (pc' := 36) dX1_sure_33 zc0 (by decide) in_X1 (by decide) q500 (Or.inl rfl) (congrArg Prod.fst (zX_t1000 hx)) (congrArg Value.ref (zX_r1000_10 hx)) rfl ?_
  refine za_getN (fi := 1) (v := .ref 1202) (pc' := 39) dX1_sure_36 zc9 (by decide) in_X10 (by decide) q418 (Or.inl rfl) (congrArg Prod.fst (zX_t1200 hx)) (congrArg Value.ref (zX_r1200_1 hx)) rfl ?_
  refine za_iload_n (pc' := 40) 1 dX1_sure_39 rfl rfl rfl ?_
  obtain ⟨hi7, h⟩ := h
  refine za_aald (r := (R 1202 (v1.toNatClampNeg))) (t := 5) (C := RX11) (pc' := 41) dX1_sure_40 (by decide) (fun _ => rfl) (zX_t1202 hx) hi7 (rfl) rfl ?_
  obtain ⟨ht8, h⟩ := h
  refine za_getN (fi := 1) (v := .int (I (R 1202 (v1.toNatClampNeg)) 1)) (pc' := 44) dX1_sure_41 zc10 (by decide) in_X11 (by decide) q408 (Or.inl rfl) ht8 rfl rfl ?_
  refine za_icmp_ge (pc' := 47) (tgt := 76) dX1_sure_44 (by decide) rfl (fun c9 => ?_) (fun c9 => ?_)
  · replace h := h.1 c9
    exact zAW_sub [2] rfl h
  · replace h := h.2 c9
    refine za_iload_n (pc' := 48) 2 dX1_sure_47 rfl rfl rfl ?_
    refine za_if_eq (pc' := 51) (tgt := 76) dX1_sure_48 (by decide) rfl (fun c9 => ?_) (fun c9 => ?_)
    · replace h := h.1 c9
      exact zAW_sub [2] rfl h
    · replace h := h.2 c9
      refine za_aload_n (pc' := 52) 0 dX1_sure_51 rfl rfl rfl ?_
      refine za_iload_n (pc' := 53) 1 dX1_sure_52 rfl rfl rfl ?_
      refine za_iload_n (pc' := 54) 3 dX1_sure_53 rfl rfl rfl ?_
      refine za_callV (κ := 1000) (M2 := mX1_toldBy) (d2 := 6) (b2 := 0) (n := 2) (As := [.int v1, .int v3]) (st := []) (pc' := 57) zc0 (by decide) (congrArg Prod.fst (zX_t1000 hx)) dX1_sure_54 rfl (lw_V q1294 q1296 qs48 q131 q1297) ⟨rfl, hd_X1_toldBy⟩ rfl (by decide) (by decide) (Nat.zero_le _) (Or.inl rfl) (Nat.le_of_ble_eq_true rfl) h (zqI_IL_k rfl (fun r9 I10 L11 h => ?_)) (fun _ _ _ _ _ _ h9 h8 => absurd h8.1 h9) rfl
      refine za_callS (M2 := mJ18_bitCount) (d2 := 1) (b2 := 0) (n := 1) (As := [.int r9]) (st := []) (pc' := 60) dX1_sure_57 rfl (lw_S q1306 q1307 q170 q1308) hd_J18_bitCount rfl (by decide) (by decide) (Nat.zero_le _) (Or.inl rfl) (Nat.le_of_ble_eq_true rfl) h (zqI__k rfl (fun r12 h => ?_)) (fun _ _ _ _ _ _ h9 h8 => absurd h8.1 h9) rfl
      refine za_iconst (pc' := 61) dX1_sure_60 zi_1 rfl ?_
      refine za_icmp_ne (pc' := 64) (tgt := 68) dX1_sure_61 (by decide) rfl (fun c9 => ?_) (fun c9 => ?_)
      · replace h := h.2 c9
        refine za_iconst (pc' := 69) dX1_sure_68 zi_0 rfl ?_
        refine za_istore_n (pc' := 70) (l' := [(2, .int (0 : Int32)), (0, .ref 1000), (1, .int v1), (3, .int v3)]) dX1_sure_69 rfl (Nat.le_of_ble_eq_true rfl) rfl rfl ?_
        refine za_iinc (pc' := 73) (l' := [(3, .int (v3 + (1 : Int32))), (2, .int (0 : Int32)), (0, .ref 1000), (1, .int v1)]) 3 dX1_sure_70 rfl (zinc zi_1) (Nat.le_of_ble_eq_true rfl) rfl rfl ?_
        refine za_goto (tgt := 31) dX1_sure_73 (by decide) ?_
        exact zAW_sub [2, 3, 1, 0] rfl h
      · replace h := h.1 c9
        refine za_iconst (pc' := 65) dX1_sure_64 zi_1 rfl ?_
        refine za_goto (tgt := 69) dX1_sure_65 (by decide) ?_
        refine za_istore_n (pc' := 70) (l' := [(2, .int (1 : Int32)), (0, .ref 1000), (1, .int v1), (3, .int v3)]) dX1_sure_69 rfl (Nat.le_of_ble_eq_true rfl) rfl rfl ?_
        refine za_iinc (pc' := 73) (l' := [(3, .int (v3 + (1 : Int32))), (2, .int (1 : Int32)), (0, .ref 1000), (1, .int v1)]) 3 dX1_sure_70 rfl (zinc zi_1) (Nat.le_of_ble_eq_true rfl) rfl rfl ?_
        refine za_goto (tgt := 31) dX1_sure_73 (by decide) ?_
        exact zAW_sub [2, 3, 1, 0] rfl h
theorem gX1_sure_76 {v2 : Int32} {T : zT} {I : zI} {L : zL} {R : zR} {P : zP} (hx : zXok T R) (h : ((v2 = 0 → P 0 (.int (0 : Int32)) T I L R) ∧ (¬ v2 = 0 → P 0 (.int (1 : Int32)) T I L R))) : zAW mX1_sure 7 0 76 [(2, .int v2)] [] T I L R P := by
  refine za_iload_n (pc' := 77) 0 dX1_sure_76 rfl rfl rfl ?_
  refine za_if_eq (pc' := 80) (tgt := 84) dX1_sure_77 (by decide) rfl (fun c9 => ?_) (fun c9 => ?_)
  · replace h := h.1 c9
    refine za_iconst (pc' := 85) dX1_sure_84 zi_0 rfl ?_
    exact za_ireturn rfl dX1_sure_85 h
  · replace h := h.2 c9
    refine za_iconst (pc' := 81) dX1_sure_80 zi_1 rfl ?_
    refine za_goto (tgt := 85) dX1_sure_81 (by decide) ?_
    exact za_ireturn rfl dX1_sure_85 h
theorem sX1_sure {d b : Nat} {v1 : Int32} {T : zT} {I : zI} {L : zL} {R : zR} {P : zP} (h : zAW mX1_sure d b 0 [(0, .ref 1000), (1, .int v1)] [] T I L R P) : zMet mX1_sure d b [.ref 1000, .int v1] T I L R P := zMet_of (by decide +kernel) rfl (Nat.le_of_ble_eq_true rfl) rfl h
/-! TwoTongues.broken ()I -/
def dkwX1_broken_1 : List UInt8 := [154, 0, 5, 27, 172, 132, 1, 1, 167, 255, 232, 2, 172]
abbrev dktX1_broken_1 : List UInt8 := dkwX1_broken_1 ++ []
def dkwX1_broken_0 : List UInt8 := [42, 182, 1, 171, 3, 60, 27, 42, 180, 0, 39, 180, 1, 165, 162, 0, 19, 42, 27, 182, 1, 168]
abbrev dktX1_broken_0 : List UInt8 := dkwX1_broken_0 ++ dktX1_broken_1
theorem dksX1_broken_0 : cX1_broken.data.toList.drop 0 = dktX1_broken_0 := by decide +kernel
theorem dksX1_broken_1 : cX1_broken.data.toList.drop 22 = dktX1_broken_1 := dk_seg dksX1_broken_0 22 rfl rfl
theorem dX1_broken_0 : decode cX1_broken 0 = .ok (.aload_n 0, 1) := dk_42 (dk_at dksX1_broken_0 0 rfl rfl)
theorem dX1_broken_1 : decode cX1_broken 1 = .ok (.invokevirtual 427, 3) := dk_182 1 171 (dk_at dksX1_broken_0 1 rfl rfl)
theorem dX1_broken_4 : decode cX1_broken 4 = .ok (.iconst 0, 1) := dk_3 (dk_at dksX1_broken_0 4 rfl rfl)
theorem dX1_broken_5 : decode cX1_broken 5 = .ok (.istore_n 1, 1) := dk_60 (dk_at dksX1_broken_0 5 rfl rfl)
theorem dX1_broken_6 : decode cX1_broken 6 = .ok (.iload_n 1, 1) := dk_27 (dk_at dksX1_broken_0 6 rfl rfl)
theorem dX1_broken_7 : decode cX1_broken 7 = .ok (.aload_n 0, 1) := dk_42 (dk_at dksX1_broken_0 7 rfl rfl)
theorem dX1_broken_8 : decode cX1_broken 8 = .ok (.getfield 39, 3) := dk_180 0 39 (dk_at dksX1_broken_0 8 rfl rfl)
theorem dX1_broken_11 : decode cX1_broken 11 = .ok (.getfield 421, 3) := dk_180 1 165 (dk_at dksX1_broken_0 11 rfl rfl)
theorem dX1_broken_14 : decode cX1_broken 14 = .ok (.if_icmp .ge 19, 3) := dk_162 0 19 (dk_at dksX1_broken_0 14 rfl rfl)
theorem dX1_broken_17 : decode cX1_broken 17 = .ok (.aload_n 0, 1) := dk_42 (dk_at dksX1_broken_0 17 rfl rfl)
theorem dX1_broken_18 : decode cX1_broken 18 = .ok (.iload_n 1, 1) := dk_27 (dk_at dksX1_broken_0 18 rfl rfl)
theorem dX1_broken_19 : decode cX1_broken 19 = .ok (.invokevirtual 424, 3) := dk_182 1 168 (dk_at dksX1_broken_0 19 rfl rfl)
theorem dX1_broken_22 : decode cX1_broken 22 = .ok (.ifCond .ne 5, 3) := dk_154 0 5 (dk_at dksX1_broken_1 0 rfl rfl)
theorem dX1_broken_25 : decode cX1_broken 25 = .ok (.iload_n 1, 1) := dk_27 (dk_at dksX1_broken_1 3 rfl rfl)
theorem dX1_broken_26 : decode cX1_broken 26 = .ok (.ireturn, 1) := dk_172 (dk_at dksX1_broken_1 4 rfl rfl)
theorem dX1_broken_27 : decode cX1_broken 27 = .ok (.iinc 1 1, 3) := dk_132 1 1 (dk_at dksX1_broken_1 5 rfl rfl)
theorem dX1_broken_30 : decode cX1_broken 30 = .ok (.goto (-24), 3) := dk_167 255 232 (dk_at dksX1_broken_1 8 rfl rfl)
theorem dX1_broken_33 : decode cX1_broken 33 = .ok (.iconst (-1), 1) := dk_2 (dk_at dksX1_broken_1 11 rfl rfl)
theorem dX1_broken_34 : decode cX1_broken 34 = .ok (.ireturn, 1) := dk_172 (dk_at dksX1_broken_1 12 rfl rfl)
theorem gX1_broken_0  {T : zT} {I : zI} {L : zL} {R : zR} {P : zP} (hx : zXok T R) (h : zMet mX1_keepOwn 1 0 [.ref 1000] T I L R (zqV_I T L R  (fun (I1 : zI)  => zAW mX1_broken 6 0 6 [(0, .ref 1000), (1, .int (0 : Int32))] [] T I1 L R P))) : zAW mX1_broken 6 0 0 [(0, .ref 1000)] [] T I L R P := by
  refine za_aload_n (pc' := 1) 0 dX1_broken_0 rfl rfl rfl ?_
  refine za_callV (κ := 1000) (M2 := mX1_keepOwn) (d2 := 1) (b2 := 0) (n := 0) (As := []) (st := []) (pc' := 4) zc0 (by decide) (congrArg Prod.fst (zX_t1000 hx)) dX1_broken_1 rfl (lw_V q1316 q1318 qs50 q131 q1319) ⟨rfl, hd_X1_keepOwn⟩ rfl (by decide) (by decide) (Nat.zero_le _) (Or.inl rfl) (Nat.le_of_ble_eq_true rfl) h (zqV_I_k rfl (fun I1 h => ?_)) (fun _ _ _ _ _ _ h9 h8 => absurd h8.1 h9) rfl
  refine za_iconst (pc' := 5) dX1_broken_4 zi_0 rfl ?_
  refine za_istore_n (pc' := 6) (l' := [(1, .int (0 : Int32)), (0, .ref 1000)]) dX1_broken_5 rfl (Nat.le_of_ble_eq_true rfl) rfl rfl ?_
  exact zAW_sub [1, 0] rfl h
theorem gX1_broken_6 {v1 : Int32} {T : zT} {I : zI} {L : zL} {R : zR} {P : zP} (hx : zXok T R) (h : (T (R 1000 8)).1 = 3 ∧ (((I (R 1000 8) 12) ≤ v1 → P 0 (.int (-1 : Int32)) T I L R) ∧ (¬ (I (R 1000 8) 12) ≤ v1 → zMet mX1_isAgreed 5 0 [.ref 1000, .int v1] T I L R (zqI_ T I L R  (fun (r3 : Int32)  => ((r3 = 0 → P 0 (.int v1) T I L R) ∧ (¬ r3 = 0 → zAW mX1_broken 6 0 6 [(0, .ref 1000), (1, .int (v1 + (1 : Int32)))] [] T I L R P))))))) : zAW mX1_broken 6 0 6 [(0, .ref 1000), (1, .int v1)] [] T I L R P := by
  refine za_iload_n (pc' := 7) 1 dX1_broken_6 rfl rfl rfl ?_
  refine za_aload_n (pc' := 8) 0 dX1_broken_7 rfl rfl rfl ?_
  refine za_get (fi := 8) (v := .ref (R 1000 8)) (pc' := 11) dX1_broken_8 zc0 (by decide) in_X1 (by decide) q498 (Or.inl rfl) (congrArg Prod.fst (zX_t1000 hx)) rfl rfl ?_
  obtain ⟨ht2, h⟩ := h
  refine za_getN (fi := 12) (v := .int (I (R 1000 8) 12)) (pc' := 14) dX1_broken_11 zc2 (by decide) in_X3 (by decide) q305 (Or.inl rfl) ht2 rfl rfl ?_
  refine za_icmp_ge (pc' := 17) (tgt := 33) dX1_broken_14 (by decide) rfl (fun c9 => ?_) (fun c9 => ?_)
  · replace h := h.1 c9
    refine za_iconst (pc' := 34) dX1_broken_33 zi_m1 rfl ?_
    exact za_ireturn rfl dX1_broken_34 h
  · replace h := h.2 c9
    refine za_aload_n (pc' := 18) 0 dX1_broken_17 rfl rfl rfl ?_
    refine za_iload_n (pc' := 19) 1 dX1_broken_18 rfl rfl rfl ?_
    refine za_callV (κ := 1000) (M2 := mX1_isAgreed) (d2 := 5) (b2 := 0) (n := 1) (As := [.int v1]) (st := []) (pc' := 22) zc0 (by decide) (congrArg Prod.fst (zX_t1000 hx)) dX1_broken_19 rfl (lw_V q1320 q1322 qs51 q131 q1323) ⟨rfl, hd_X1_isAgreed⟩ rfl (by decide) (by decide) (Nat.zero_le _) (Or.inl rfl) (Nat.le_of_ble_eq_true rfl) h (zqI__k rfl (fun r3 h => ?_)) (fun _ _ _ _ _ _ h9 h8 => absurd h8.1 h9) rfl
    refine za_if_ne (pc' := 25) (tgt := 27) dX1_broken_22 (by decide) rfl (fun c9 => ?_) (fun c9 => ?_)
    · replace h := h.2 c9
      refine za_iinc (pc' := 30) (l' := [(1, .int (v1 + (1 : Int32))), (0, .ref 1000)]) 1 dX1_broken_27 rfl (zinc zi_1) (Nat.le_of_ble_eq_true rfl) rfl rfl ?_
      refine za_goto (tgt := 6) dX1_broken_30 (by decide) ?_
      exact zAW_sub [1, 0] rfl h
    · replace h := h.1 c9
      refine za_iload_n (pc' := 26) 1 dX1_broken_25 rfl rfl rfl ?_
      exact za_ireturn rfl dX1_broken_26 h
theorem sX1_broken {d b : Nat}  {T : zT} {I : zI} {L : zL} {R : zR} {P : zP} (h : zAW mX1_broken d b 0 [(0, .ref 1000)] [] T I L R P) : zMet mX1_broken d b [.ref 1000] T I L R P := zMet_of (by decide +kernel) rfl (Nat.le_of_ble_eq_true rfl) rfl h
/-! TwoTongues.keepOwn ()V -/
def dkwX1_keepOwn_0 : List UInt8 := [3, 60, 27, 16, 6, 162, 0, 16, 42, 180, 0, 110, 27, 2, 79, 132, 1, 1, 167, 255, 240, 177]
abbrev dktX1_keepOwn_0 : List UInt8 := dkwX1_keepOwn_0 ++ []
theorem dksX1_keepOwn_0 : cX1_keepOwn.data.toList.drop 0 = dktX1_keepOwn_0 := by decide +kernel
theorem dX1_keepOwn_0 : decode cX1_keepOwn 0 = .ok (.iconst 0, 1) := dk_3 (dk_at dksX1_keepOwn_0 0 rfl rfl)
theorem dX1_keepOwn_1 : decode cX1_keepOwn 1 = .ok (.istore_n 1, 1) := dk_60 (dk_at dksX1_keepOwn_0 1 rfl rfl)
theorem dX1_keepOwn_2 : decode cX1_keepOwn 2 = .ok (.iload_n 1, 1) := dk_27 (dk_at dksX1_keepOwn_0 2 rfl rfl)
theorem dX1_keepOwn_3 : decode cX1_keepOwn 3 = .ok (.bipush 6, 2) := dk_16 6 (dk_at dksX1_keepOwn_0 3 rfl rfl)
theorem dX1_keepOwn_5 : decode cX1_keepOwn 5 = .ok (.if_icmp .ge 16, 3) := dk_162 0 16 (dk_at dksX1_keepOwn_0 5 rfl rfl)
theorem dX1_keepOwn_8 : decode cX1_keepOwn 8 = .ok (.aload_n 0, 1) := dk_42 (dk_at dksX1_keepOwn_0 8 rfl rfl)
theorem dX1_keepOwn_9 : decode cX1_keepOwn 9 = .ok (.getfield 110, 3) := dk_180 0 110 (dk_at dksX1_keepOwn_0 9 rfl rfl)
theorem dX1_keepOwn_12 : decode cX1_keepOwn 12 = .ok (.iload_n 1, 1) := dk_27 (dk_at dksX1_keepOwn_0 12 rfl rfl)
theorem dX1_keepOwn_13 : decode cX1_keepOwn 13 = .ok (.iconst (-1), 1) := dk_2 (dk_at dksX1_keepOwn_0 13 rfl rfl)
theorem dX1_keepOwn_14 : decode cX1_keepOwn 14 = .ok (.iastore, 1) := dk_79 (dk_at dksX1_keepOwn_0 14 rfl rfl)
theorem dX1_keepOwn_15 : decode cX1_keepOwn 15 = .ok (.iinc 1 1, 3) := dk_132 1 1 (dk_at dksX1_keepOwn_0 15 rfl rfl)
theorem dX1_keepOwn_18 : decode cX1_keepOwn 18 = .ok (.goto (-16), 3) := dk_167 255 240 (dk_at dksX1_keepOwn_0 18 rfl rfl)
theorem dX1_keepOwn_21 : decode cX1_keepOwn 21 = .ok (.return_, 1) := dk_177 (dk_at dksX1_keepOwn_0 21 rfl rfl)
theorem gX1_keepOwn_0  {T : zT} {I : zI} {L : zL} {R : zR} {P : zP} (hx : zXok T R) (h : zAW mX1_keepOwn 1 0 2 [(0, .ref 1000), (1, .int (0 : Int32))] [] T I L R P) : zAW mX1_keepOwn 1 0 0 [(0, .ref 1000)] [] T I L R P := by
  refine za_iconst (pc' := 1) dX1_keepOwn_0 zi_0 rfl ?_
  refine za_istore_n (pc' := 2) (l' := [(1, .int (0 : Int32)), (0, .ref 1000)]) dX1_keepOwn_1 rfl (Nat.le_of_ble_eq_true rfl) rfl rfl ?_
  exact zAW_sub [1, 0] rfl h
theorem gX1_keepOwn_2 {v1 : Int32} {T : zT} {I : zI} {L : zL} {R : zR} {P : zP} (hx : zXok T R) (h : (((6 : Int32) ≤ v1 → P 0 (.int 0) T I L R) ∧ (¬ (6 : Int32) ≤ v1 → vp_in v1 6 ∧ zAW mX1_keepOwn 1 0 2 [(0, .ref 1000), (1, .int (v1 + (1 : Int32)))] [] T (z2 I 1026 (v1.toNatClampNeg) (-1 : Int32)) L R P))) : zAW mX1_keepOwn 1 0 2 [(0, .ref 1000), (1, .int v1)] [] T I L R P := by
  refine za_iload_n (pc' := 3) 1 dX1_keepOwn_2 rfl rfl rfl ?_
  refine za_bipush (pc' := 5) dX1_keepOwn_3 zb8_6 rfl ?_
  refine za_icmp_ge (pc' := 8) (tgt := 21) dX1_keepOwn_5 (by decide) rfl (fun c9 => ?_) (fun c9 => ?_)
  · replace h := h.1 c9
    exact za_return rfl dX1_keepOwn_21 h
  · replace h := h.2 c9
    refine za_aload_n (pc' := 9) 0 dX1_keepOwn_8 rfl rfl rfl ?_
    refine za_get (fi := 25) (v := .ref 1026) (pc' := 12) dX1_keepOwn_9 zc0 (by decide) in_X1 (by decide) q515 (Or.inl rfl) (congrArg Prod.fst (zX_t1000 hx)) (congrArg Value.ref (zX_r1000_25 hx)) rfl ?_
    refine za_iload_n (pc' := 13) 1 dX1_keepOwn_12 rfl rfl rfl ?_
    refine za_iconst (pc' := 14) dX1_keepOwn_13 zi_m1 rfl ?_
    obtain ⟨hi1, h⟩ := h
    refine za_iast (k := v1.toNatClampNeg) (pc' := 15) dX1_keepOwn_14 (zX_t1026 hx) hi1 rfl rfl ?_
    refine za_iinc (pc' := 18) (l' := [(1, .int (v1 + (1 : Int32))), (0, .ref 1000)]) 1 dX1_keepOwn_15 rfl (zinc zi_1) (Nat.le_of_ble_eq_true rfl) rfl rfl ?_
    refine za_goto (tgt := 2) dX1_keepOwn_18 (by decide) ?_
    exact zAW_sub [1, 0] rfl h
theorem sX1_keepOwn {d b : Nat}  {T : zT} {I : zI} {L : zL} {R : zR} {P : zP} (h : zAW mX1_keepOwn d b 0 [(0, .ref 1000)] [] T I L R P) : zMet mX1_keepOwn d b [.ref 1000] T I L R P := zMet_of (by decide +kernel) rfl (Nat.le_of_ble_eq_true rfl) rfl h
/-! TwoTongues.isAgreed (I)Z -/
def dkwX1_isAgreed_3 : List UInt8 := [3, 172]
abbrev dktX1_isAgreed_3 : List UInt8 := dkwX1_isAgreed_3 ++ []
def dkwX1_isAgreed_2 : List UInt8 := [180, 1, 162, 27, 46, 46, 62, 28, 29, 159, 0, 11, 28, 153, 0, 7, 29, 154, 0, 7, 4, 167, 0, 4]
abbrev dktX1_isAgreed_2 : List UInt8 := dkwX1_isAgreed_2 ++ dktX1_isAgreed_3
def dkwX1_isAgreed_1 : List UInt8 := [46, 46, 61, 42, 42, 180, 0, 39, 180, 1, 159, 27, 46, 182, 1, 152, 180, 0, 219, 42, 180, 0, 39]
abbrev dktX1_isAgreed_1 : List UInt8 := dkwX1_isAgreed_1 ++ dktX1_isAgreed_2
def dkwX1_isAgreed_0 : List UInt8 := [42, 42, 180, 0, 39, 180, 1, 149, 27, 46, 182, 1, 152, 180, 0, 219, 42, 180, 0, 39, 180, 1, 156, 27]
abbrev dktX1_isAgreed_0 : List UInt8 := dkwX1_isAgreed_0 ++ dktX1_isAgreed_1
theorem dksX1_isAgreed_0 : cX1_isAgreed.data.toList.drop 0 = dktX1_isAgreed_0 := by decide +kernel
theorem dksX1_isAgreed_1 : cX1_isAgreed.data.toList.drop 24 = dktX1_isAgreed_1 := dk_seg dksX1_isAgreed_0 24 rfl rfl
theorem dksX1_isAgreed_2 : cX1_isAgreed.data.toList.drop 47 = dktX1_isAgreed_2 := dk_seg dksX1_isAgreed_1 23 rfl rfl
theorem dksX1_isAgreed_3 : cX1_isAgreed.data.toList.drop 71 = dktX1_isAgreed_3 := dk_seg dksX1_isAgreed_2 24 rfl rfl
theorem dX1_isAgreed_0 : decode cX1_isAgreed 0 = .ok (.aload_n 0, 1) := dk_42 (dk_at dksX1_isAgreed_0 0 rfl rfl)
theorem dX1_isAgreed_1 : decode cX1_isAgreed 1 = .ok (.aload_n 0, 1) := dk_42 (dk_at dksX1_isAgreed_0 1 rfl rfl)
theorem dX1_isAgreed_2 : decode cX1_isAgreed 2 = .ok (.getfield 39, 3) := dk_180 0 39 (dk_at dksX1_isAgreed_0 2 rfl rfl)
theorem dX1_isAgreed_5 : decode cX1_isAgreed 5 = .ok (.getfield 405, 3) := dk_180 1 149 (dk_at dksX1_isAgreed_0 5 rfl rfl)
theorem dX1_isAgreed_8 : decode cX1_isAgreed 8 = .ok (.iload_n 1, 1) := dk_27 (dk_at dksX1_isAgreed_0 8 rfl rfl)
theorem dX1_isAgreed_9 : decode cX1_isAgreed 9 = .ok (.iaload, 1) := dk_46 (dk_at dksX1_isAgreed_0 9 rfl rfl)
theorem dX1_isAgreed_10 : decode cX1_isAgreed 10 = .ok (.invokevirtual 408, 3) := dk_182 1 152 (dk_at dksX1_isAgreed_0 10 rfl rfl)
theorem dX1_isAgreed_13 : decode cX1_isAgreed 13 = .ok (.getfield 219, 3) := dk_180 0 219 (dk_at dksX1_isAgreed_0 13 rfl rfl)
theorem dX1_isAgreed_16 : decode cX1_isAgreed 16 = .ok (.aload_n 0, 1) := dk_42 (dk_at dksX1_isAgreed_0 16 rfl rfl)
theorem dX1_isAgreed_17 : decode cX1_isAgreed 17 = .ok (.getfield 39, 3) := dk_180 0 39 (dk_at dksX1_isAgreed_0 17 rfl rfl)
theorem dX1_isAgreed_20 : decode cX1_isAgreed 20 = .ok (.getfield 412, 3) := dk_180 1 156 (dk_at dksX1_isAgreed_0 20 rfl rfl)
theorem dX1_isAgreed_23 : decode cX1_isAgreed 23 = .ok (.iload_n 1, 1) := dk_27 (dk_at dksX1_isAgreed_0 23 rfl rfl)
theorem dX1_isAgreed_24 : decode cX1_isAgreed 24 = .ok (.iaload, 1) := dk_46 (dk_at dksX1_isAgreed_1 0 rfl rfl)
theorem dX1_isAgreed_25 : decode cX1_isAgreed 25 = .ok (.iaload, 1) := dk_46 (dk_at dksX1_isAgreed_1 1 rfl rfl)
theorem dX1_isAgreed_26 : decode cX1_isAgreed 26 = .ok (.istore_n 2, 1) := dk_61 (dk_at dksX1_isAgreed_1 2 rfl rfl)
theorem dX1_isAgreed_27 : decode cX1_isAgreed 27 = .ok (.aload_n 0, 1) := dk_42 (dk_at dksX1_isAgreed_1 3 rfl rfl)
theorem dX1_isAgreed_28 : decode cX1_isAgreed 28 = .ok (.aload_n 0, 1) := dk_42 (dk_at dksX1_isAgreed_1 4 rfl rfl)
theorem dX1_isAgreed_29 : decode cX1_isAgreed 29 = .ok (.getfield 39, 3) := dk_180 0 39 (dk_at dksX1_isAgreed_1 5 rfl rfl)
theorem dX1_isAgreed_32 : decode cX1_isAgreed 32 = .ok (.getfield 415, 3) := dk_180 1 159 (dk_at dksX1_isAgreed_1 8 rfl rfl)
theorem dX1_isAgreed_35 : decode cX1_isAgreed 35 = .ok (.iload_n 1, 1) := dk_27 (dk_at dksX1_isAgreed_1 11 rfl rfl)
theorem dX1_isAgreed_36 : decode cX1_isAgreed 36 = .ok (.iaload, 1) := dk_46 (dk_at dksX1_isAgreed_1 12 rfl rfl)
theorem dX1_isAgreed_37 : decode cX1_isAgreed 37 = .ok (.invokevirtual 408, 3) := dk_182 1 152 (dk_at dksX1_isAgreed_1 13 rfl rfl)
theorem dX1_isAgreed_40 : decode cX1_isAgreed 40 = .ok (.getfield 219, 3) := dk_180 0 219 (dk_at dksX1_isAgreed_1 16 rfl rfl)
theorem dX1_isAgreed_43 : decode cX1_isAgreed 43 = .ok (.aload_n 0, 1) := dk_42 (dk_at dksX1_isAgreed_1 19 rfl rfl)
theorem dX1_isAgreed_44 : decode cX1_isAgreed 44 = .ok (.getfield 39, 3) := dk_180 0 39 (dk_at dksX1_isAgreed_1 20 rfl rfl)
theorem dX1_isAgreed_47 : decode cX1_isAgreed 47 = .ok (.getfield 418, 3) := dk_180 1 162 (dk_at dksX1_isAgreed_2 0 rfl rfl)
theorem dX1_isAgreed_50 : decode cX1_isAgreed 50 = .ok (.iload_n 1, 1) := dk_27 (dk_at dksX1_isAgreed_2 3 rfl rfl)
theorem dX1_isAgreed_51 : decode cX1_isAgreed 51 = .ok (.iaload, 1) := dk_46 (dk_at dksX1_isAgreed_2 4 rfl rfl)
theorem dX1_isAgreed_52 : decode cX1_isAgreed 52 = .ok (.iaload, 1) := dk_46 (dk_at dksX1_isAgreed_2 5 rfl rfl)
theorem dX1_isAgreed_53 : decode cX1_isAgreed 53 = .ok (.istore_n 3, 1) := dk_62 (dk_at dksX1_isAgreed_2 6 rfl rfl)
theorem dX1_isAgreed_54 : decode cX1_isAgreed 54 = .ok (.iload_n 2, 1) := dk_28 (dk_at dksX1_isAgreed_2 7 rfl rfl)
theorem dX1_isAgreed_55 : decode cX1_isAgreed 55 = .ok (.iload_n 3, 1) := dk_29 (dk_at dksX1_isAgreed_2 8 rfl rfl)
theorem dX1_isAgreed_56 : decode cX1_isAgreed 56 = .ok (.if_icmp .eq 11, 3) := dk_159 0 11 (dk_at dksX1_isAgreed_2 9 rfl rfl)
theorem dX1_isAgreed_59 : decode cX1_isAgreed 59 = .ok (.iload_n 2, 1) := dk_28 (dk_at dksX1_isAgreed_2 12 rfl rfl)
theorem dX1_isAgreed_60 : decode cX1_isAgreed 60 = .ok (.ifCond .eq 7, 3) := dk_153 0 7 (dk_at dksX1_isAgreed_2 13 rfl rfl)
theorem dX1_isAgreed_63 : decode cX1_isAgreed 63 = .ok (.iload_n 3, 1) := dk_29 (dk_at dksX1_isAgreed_2 16 rfl rfl)
theorem dX1_isAgreed_64 : decode cX1_isAgreed 64 = .ok (.ifCond .ne 7, 3) := dk_154 0 7 (dk_at dksX1_isAgreed_2 17 rfl rfl)
theorem dX1_isAgreed_67 : decode cX1_isAgreed 67 = .ok (.iconst 1, 1) := dk_4 (dk_at dksX1_isAgreed_2 20 rfl rfl)
theorem dX1_isAgreed_68 : decode cX1_isAgreed 68 = .ok (.goto 4, 3) := dk_167 0 4 (dk_at dksX1_isAgreed_2 21 rfl rfl)
theorem dX1_isAgreed_71 : decode cX1_isAgreed 71 = .ok (.iconst 0, 1) := dk_3 (dk_at dksX1_isAgreed_3 0 rfl rfl)
theorem dX1_isAgreed_72 : decode cX1_isAgreed 72 = .ok (.ireturn, 1) := dk_172 (dk_at dksX1_isAgreed_3 1 rfl rfl)
theorem gX1_isAgreed_0 {v1 : Int32} {T : zT} {I : zI} {L : zL} {R : zR} {P : zP} (hx : zXok T R) (h : (T (R 1000 8)).1 = 3 ∧ (T (R (R 1000 8) 4)).1 = 100 ∧ vp_in v1 ((T (R (R 1000 8) 4)).2) ∧ zMet mX1_rowOf 4 0 [.ref 1000, .int (I (R (R 1000 8) 4) (v1.toNatClampNeg))] T I L R (zqR_ T I L R  (fun (r4 : Nat)  => (T r4).1 = 11 ∧ (T (R (R 1000 8) 5)).1 = 100 ∧ vp_in v1 ((T (R (R 1000 8) 5)).2) ∧ (T (R r4 0)).1 = 100 ∧ vp_in (I (R (R 1000 8) 5) (v1.toNatClampNeg)) ((T (R r4 0)).2) ∧ (T (R (R 1000 8) 6)).1 = 100 ∧ vp_in v1 ((T (R (R 1000 8) 6)).2) ∧ zMet mX1_rowOf 4 0 [.ref 1000, .int (I (R (R 1000 8) 6) (v1.toNatClampNeg))] T I L R (zqR_ T I L R  (fun (r12 : Nat)  => (T r12).1 = 11 ∧ (T (R (R 1000 8) 7)).1 = 100 ∧ vp_in v1 ((T (R (R 1000 8) 7)).2) ∧ (T (R r12 0)).1 = 100 ∧ vp_in (I (R (R 1000 8) 7) (v1.toNatClampNeg)) ((T (R r12 0)).2) ∧ (((I (R r4 0) ((I (R (R 1000 8) 5) (v1.toNatClampNeg)).toNatClampNeg)) = (I (R r12 0) ((I (R (R 1000 8) 7) (v1.toNatClampNeg)).toNatClampNeg)) → P 0 (.int (1 : Int32)) T I L R) ∧ (¬ (I (R r4 0) ((I (R (R 1000 8) 5) (v1.toNatClampNeg)).toNatClampNeg)) = (I (R r12 0) ((I (R (R 1000 8) 7) (v1.toNatClampNeg)).toNatClampNeg)) → (((I (R r4 0) ((I (R (R 1000 8) 5) (v1.toNatClampNeg)).toNatClampNeg)) = 0 → P 0 (.int (1 : Int32)) T I L R) ∧ (¬ (I (R r4 0) ((I (R (R 1000 8) 5) (v1.toNatClampNeg)).toNatClampNeg)) = 0 → (((I (R r12 0) ((I (R (R 1000 8) 7) (v1.toNatClampNeg)).toNatClampNeg)) = 0 → P 0 (.int (1 : Int32)) T I L R) ∧ (¬ (I (R r12 0) ((I (R (R 1000 8) 7) (v1.toNatClampNeg)).toNatClampNeg)) = 0 → P 0 (.int (0 : Int32)) T I L R))))))))))) : zAW mX1_isAgreed 5 0 0 [(0, .ref 1000), (1, .int v1)] [] T I L R P := by
  refine za_aload_n (pc' := 1) 0 dX1_isAgreed_0 rfl rfl rfl ?_
  refine za_aload_n (pc' := 2) 0 dX1_isAgreed_1 rfl rfl rfl ?_
  refine za_get (fi := 8) (v := .ref (R 1000 8)) (pc' := 5) dX1_isAgreed_2 zc0 (by decide) in_X1 (by decide) q498 (Or.inl rfl) (congrArg Prod.fst (zX_t1000 hx)) rfl rfl ?_
  obtain ⟨ht1, h⟩ := h
  refine za_getN (fi := 4) (v := .ref (R (R 1000 8) 4)) (pc' := 8) dX1_isAgreed_5 zc2 (by decide) in_X3 (by decide) q285 (Or.inl rfl) ht1 rfl rfl ?_
  refine za_iload_n (pc' := 9) 1 dX1_isAgreed_8 rfl rfl rfl ?_
  obtain ⟨ht2, h⟩ := h
  obtain ⟨hi3, h⟩ := h
  refine za_iald (v := .int (I (R (R 1000 8) 4) (v1.toNatClampNeg))) (pc' := 10) dX1_isAgreed_9 (zpair ht2) hi3 rfl rfl ?_
  refine za_callV (κ := 1000) (M2 := mX1_rowOf) (d2 := 4) (b2 := 0) (n := 1) (As := [.int (I (R (R 1000 8) 4) (v1.toNatClampNeg))]) (st := []) (pc' := 13) zc0 (by decide) (congrArg Prod.fst (zX_t1000 hx)) dX1_isAgreed_10 rfl (lw_V q1324 q1326 qs52 q131 q1327) ⟨rfl, hd_X1_rowOf⟩ rfl (by decide) (by decide) (Nat.zero_le _) (Or.inl rfl) (Nat.le_of_ble_eq_true rfl) h (zqR__k rfl (fun r4 h => ?_)) (fun _ _ _ _ _ _ h9 h8 => absurd h8.1 h9) rfl
  obtain ⟨ht5, h⟩ := h
  refine za_getN (fi := 0) (v := .ref (R r4 0)) (pc' := 16) dX1_isAgreed_13 zc10 (by decide) in_X11 (by decide) q404 (Or.inl rfl) ht5 rfl rfl ?_
  refine za_aload_n (pc' := 17) 0 dX1_isAgreed_16 rfl rfl rfl ?_
  refine za_get (fi := 8) (v := .ref (R 1000 8)) (pc' := 20) dX1_isAgreed_17 zc0 (by decide) in_X1 (by decide) q498 (Or.inl rfl) (congrArg Prod.fst (zX_t1000 hx)) rfl rfl ?_
  refine za_getN (fi := 5) (v := .ref (R (R 1000 8) 5)) (pc' := 23) dX1_isAgreed_20 zc2 (by decide) in_X3 (by decide) q288 (Or.inl rfl) ht1 rfl rfl ?_
  refine za_iload_n (pc' := 24) 1 dX1_isAgreed_23 rfl rfl rfl ?_
  obtain ⟨ht6, h⟩ := h
  obtain ⟨hi7, h⟩ := h
  refine za_iald (v := .int (I (R (R 1000 8) 5) (v1.toNatClampNeg))) (pc' := 25) dX1_isAgreed_24 (zpair ht6) hi7 rfl rfl ?_
  obtain ⟨ht8, h⟩ := h
  obtain ⟨hi9, h⟩ := h
  refine za_iald (v := .int (I (R r4 0) ((I (R (R 1000 8) 5) (v1.toNatClampNeg)).toNatClampNeg))) (pc' := 26) dX1_isAgreed_25 (zpair ht8) hi9 rfl rfl ?_
  refine za_istore_n (pc' := 27) (l' := [(2, .int (I (R r4 0) ((I (R (R 1000 8) 5) (v1.toNatClampNeg)).toNatClampNeg))), (0, .ref 1000), (1, .int v1)]) dX1_isAgreed_26 rfl (Nat.le_of_ble_eq_true rfl) rfl rfl ?_
  refine za_aload_n (pc' := 28) 1 dX1_isAgreed_27 rfl rfl rfl ?_
  refine za_aload_n (pc' := 29) 1 dX1_isAgreed_28 rfl rfl rfl ?_
  refine za_get (fi := 8) (v := .ref (R 1000 8)) (pc' := 32) dX1_isAgreed_29 zc0 (by decide) in_X1 (by decide) q498 (Or.inl rfl) (congrArg Prod.fst (zX_t1000 hx)) rfl rfl ?_
  refine za_getN (fi := 6) (v := .ref (R (R 1000 8) 6)) (pc' := 35) dX1_isAgreed_32 zc2 (by decide) in_X3 (by decide) q291 (Or.inl rfl) ht1 rfl rfl ?_
  refine za_iload_n (pc' := 36) 2 dX1_isAgreed_35 rfl rfl rfl ?_
  obtain ⟨ht10, h⟩ := h
  obtain ⟨hi11, h⟩ := h
  refine za_iald (v := .int (I (R (R 1000 8) 6) (v1.toNatClampNeg))) (pc' := 37) dX1_isAgreed_36 (zpair ht10) hi11 rfl rfl ?_
  refine za_callV (κ := 1000) (M2 := mX1_rowOf) (d2 := 4) (b2 := 0) (n := 1) (As := [.int (I (R (R 1000 8) 6) (v1.toNatClampNeg))]) (st := []) (pc' := 40) zc0 (by decide) (congrArg Prod.fst (zX_t1000 hx)) dX1_isAgreed_37 rfl (lw_V q1324 q1326 qs52 q131 q1327) ⟨rfl, hd_X1_rowOf⟩ rfl (by decide) (by decide) (Nat.zero_le _) (Or.inl rfl) (Nat.le_of_ble_eq_true rfl) h (zqR__k rfl (fun r12 h => ?_)) (fun _ _ _ _ _ _ h9 h8 => absurd h8.1 h9) rfl
  obtain ⟨ht13, h⟩ := h
  refine za_getN (fi := 0) (v := .ref (R r12 0)) (pc' := 43) dX1_isAgreed_40 zc10 (by decide) in_X11 (by decide) q404 (Or.inl rfl) ht13 rfl rfl ?_
  refine za_aload_n (pc' := 44) 1 dX1_isAgreed_43 rfl rfl rfl ?_
  refine za_get (fi := 8) (v := .ref (R 1000 8)) (pc' := 47) dX1_isAgreed_44 zc0 (by decide) in_X1 (by decide) q498 (Or.inl rfl) (congrArg Prod.fst (zX_t1000 hx)) rfl rfl ?_
  refine za_getN (fi := 7) (v := .ref (R (R 1000 8) 7)) (pc' := 50) dX1_isAgreed_47 zc2 (by decide) in_X3 (by decide) q294 (Or.inl rfl) ht1 rfl rfl ?_
  refine za_iload_n (pc' := 51) 2 dX1_isAgreed_50 rfl rfl rfl ?_
  obtain ⟨ht14, h⟩ := h
  obtain ⟨hi15, h⟩ := h
  refine za_iald (v := .int (I (R (R 1000 8) 7) (v1.toNatClampNeg))) (pc' := 52) dX1_isAgreed_51 (zpair ht14) hi15 rfl rfl ?_
  obtain ⟨ht16, h⟩ := h
  obtain ⟨hi17, h⟩ := h
  refine za_iald (v := .int (I (R r12 0) ((I (R (R 1000 8) 7) (v1.toNatClampNeg)).toNatClampNeg))) (pc' := 53) dX1_isAgreed_52 (zpair ht16) hi17 rfl rfl ?_
  refine za_istore_n (pc' := 54) (l' := [(3, .int (I (R r12 0) ((I (R (R 1000 8) 7) (v1.toNatClampNeg)).toNatClampNeg))), (2, .int (I (R r4 0) ((I (R (R 1000 8) 5) (v1.toNatClampNeg)).toNatClampNeg))), (0, .ref 1000), (1, .int v1)]) dX1_isAgreed_53 rfl (Nat.le_of_ble_eq_true rfl) rfl rfl ?_
  refine za_iload_n (pc' := 55) 1 dX1_isAgreed_54 rfl rfl rfl ?_
  refine za_iload_n (pc' := 56) 0 dX1_isAgreed_55 rfl rfl rfl ?_
  refine za_icmp_eq (pc' := 59) (tgt := 67) dX1_isAgreed_56 (by decide) rfl (fun c9 => ?_) (fun c9 => ?_)
  · replace h := h.1 c9
    refine za_iconst (pc' := 68) dX1_isAgreed_67 zi_1 rfl ?_
    refine za_goto (tgt := 72) dX1_isAgreed_68 (by decide) ?_
    exact za_zreturn rfl dX1_isAgreed_72 (by decide) h
  · replace h := h.2 c9
    refine za_iload_n (pc' := 60) 1 dX1_isAgreed_59 rfl rfl rfl ?_
    refine za_if_eq (pc' := 63) (tgt := 67) dX1_isAgreed_60 (by decide) rfl (fun c9 => ?_) (fun c9 => ?_)
    · replace h := h.1 c9
      refine za_iconst (pc' := 68) dX1_isAgreed_67 zi_1 rfl ?_
      refine za_goto (tgt := 72) dX1_isAgreed_68 (by decide) ?_
      exact za_zreturn rfl dX1_isAgreed_72 (by decide) h
    · replace h := h.2 c9
      refine za_iload_n (pc' := 64) 0 dX1_isAgreed_63 rfl rfl rfl ?_
      refine za_if_ne (pc' := 67) (tgt := 71) dX1_isAgreed_64 (by decide) rfl (fun c9 => ?_) (fun c9 => ?_)
      · replace h := h.2 c9
        refine za_iconst (pc' := 72) dX1_isAgreed_71 zi_0 rfl ?_
        exact za_zreturn rfl dX1_isAgreed_72 (by decide) h
      · replace h := h.1 c9
        refine za_iconst (pc' := 68) dX1_isAgreed_67 zi_1 rfl ?_
        refine za_goto (tgt := 72) dX1_isAgreed_68 (by decide) ?_
        exact za_zreturn rfl dX1_isAgreed_72 (by decide) h
theorem sX1_isAgreed {d b : Nat} {v1 : Int32} {T : zT} {I : zI} {L : zL} {R : zR} {P : zP} (h : zAW mX1_isAgreed d b 0 [(0, .ref 1000), (1, .int v1)] [] T I L R P) : zMet mX1_isAgreed d b [.ref 1000, .int v1] T I L R P := zMet_of (by decide +kernel) rfl (Nat.le_of_ble_eq_true rfl) rfl h
/-! TwoTongues.rowOf (I)LTwoTongues$Row; -/
def dkwX1_rowOf_1 : List UInt8 := [180, 0, 39, 180, 1, 146, 42, 180, 0, 110, 27, 46, 182, 0, 195, 192, 0, 97, 176]
abbrev dktX1_rowOf_1 : List UInt8 := dkwX1_rowOf_1 ++ []
def dkwX1_rowOf_0 : List UInt8 := [42, 180, 0, 110, 27, 46, 2, 160, 0, 15, 42, 180, 0, 64, 180, 0, 186, 27, 50, 167, 0, 22, 42]
abbrev dktX1_rowOf_0 : List UInt8 := dkwX1_rowOf_0 ++ dktX1_rowOf_1
theorem dksX1_rowOf_0 : cX1_rowOf.data.toList.drop 0 = dktX1_rowOf_0 := by decide +kernel
theorem dksX1_rowOf_1 : cX1_rowOf.data.toList.drop 23 = dktX1_rowOf_1 := dk_seg dksX1_rowOf_0 23 rfl rfl
theorem dX1_rowOf_0 : decode cX1_rowOf 0 = .ok (.aload_n 0, 1) := dk_42 (dk_at dksX1_rowOf_0 0 rfl rfl)
theorem dX1_rowOf_1 : decode cX1_rowOf 1 = .ok (.getfield 110, 3) := dk_180 0 110 (dk_at dksX1_rowOf_0 1 rfl rfl)
theorem dX1_rowOf_4 : decode cX1_rowOf 4 = .ok (.iload_n 1, 1) := dk_27 (dk_at dksX1_rowOf_0 4 rfl rfl)
theorem dX1_rowOf_5 : decode cX1_rowOf 5 = .ok (.iaload, 1) := dk_46 (dk_at dksX1_rowOf_0 5 rfl rfl)
theorem dX1_rowOf_6 : decode cX1_rowOf 6 = .ok (.iconst (-1), 1) := dk_2 (dk_at dksX1_rowOf_0 6 rfl rfl)
theorem dX1_rowOf_7 : decode cX1_rowOf 7 = .ok (.if_icmp .ne 15, 3) := dk_160 0 15 (dk_at dksX1_rowOf_0 7 rfl rfl)
theorem dX1_rowOf_10 : decode cX1_rowOf 10 = .ok (.aload_n 0, 1) := dk_42 (dk_at dksX1_rowOf_0 10 rfl rfl)
theorem dX1_rowOf_11 : decode cX1_rowOf 11 = .ok (.getfield 64, 3) := dk_180 0 64 (dk_at dksX1_rowOf_0 11 rfl rfl)
theorem dX1_rowOf_14 : decode cX1_rowOf 14 = .ok (.getfield 186, 3) := dk_180 0 186 (dk_at dksX1_rowOf_0 14 rfl rfl)
theorem dX1_rowOf_17 : decode cX1_rowOf 17 = .ok (.iload_n 1, 1) := dk_27 (dk_at dksX1_rowOf_0 17 rfl rfl)
theorem dX1_rowOf_18 : decode cX1_rowOf 18 = .ok (.aaload, 1) := dk_50 (dk_at dksX1_rowOf_0 18 rfl rfl)
theorem dX1_rowOf_19 : decode cX1_rowOf 19 = .ok (.goto 22, 3) := dk_167 0 22 (dk_at dksX1_rowOf_0 19 rfl rfl)
theorem dX1_rowOf_22 : decode cX1_rowOf 22 = .ok (.aload_n 0, 1) := dk_42 (dk_at dksX1_rowOf_0 22 rfl rfl)
theorem dX1_rowOf_23 : decode cX1_rowOf 23 = .ok (.getfield 39, 3) := dk_180 0 39 (dk_at dksX1_rowOf_1 0 rfl rfl)
theorem dX1_rowOf_26 : decode cX1_rowOf 26 = .ok (.getfield 402, 3) := dk_180 1 146 (dk_at dksX1_rowOf_1 3 rfl rfl)
theorem dX1_rowOf_29 : decode cX1_rowOf 29 = .ok (.aload_n 0, 1) := dk_42 (dk_at dksX1_rowOf_1 6 rfl rfl)
theorem dX1_rowOf_30 : decode cX1_rowOf 30 = .ok (.getfield 110, 3) := dk_180 0 110 (dk_at dksX1_rowOf_1 7 rfl rfl)
theorem dX1_rowOf_33 : decode cX1_rowOf 33 = .ok (.iload_n 1, 1) := dk_27 (dk_at dksX1_rowOf_1 10 rfl rfl)
theorem dX1_rowOf_34 : decode cX1_rowOf 34 = .ok (.iaload, 1) := dk_46 (dk_at dksX1_rowOf_1 11 rfl rfl)
theorem dX1_rowOf_35 : decode cX1_rowOf 35 = .ok (.invokevirtual 195, 3) := dk_182 0 195 (dk_at dksX1_rowOf_1 12 rfl rfl)
theorem dX1_rowOf_38 : decode cX1_rowOf 38 = .ok (.checkcast 97, 3) := dk_192 0 97 (dk_at dksX1_rowOf_1 15 rfl rfl)
theorem dX1_rowOf_41 : decode cX1_rowOf 41 = .ok (.areturn, 1) := dk_176 (dk_at dksX1_rowOf_1 18 rfl rfl)
theorem gX1_rowOf_0 {v1 : Int32} {T : zT} {I : zI} {L : zL} {R : zR} {P : zP} (hx : zXok T R) (h : vp_in v1 6 ∧ (((I 1026 (v1.toNatClampNeg)) = (-1 : Int32) → P 0 (.ref (R 1202 (v1.toNatClampNeg))) T I L R) ∧ (¬ (I 1026 (v1.toNatClampNeg)) = (-1 : Int32) → (T (R 1000 8)).1 = 3 ∧ (T (R (R 1000 8) 3)).1 = 5 ∧ zMet mJ2_get 3 0 [.ref (R (R 1000 8) 3), .int (I 1026 (v1.toNatClampNeg))] T I L R (zqR_ T I L R  (fun (r3 : Nat)  => (T r3).1 = 11 ∧ P 0 (.ref r3) T I L R))))) : zAW mX1_rowOf 4 0 0 [(0, .ref 1000), (1, .int v1)] [] T I L R P := by
  refine za_aload_n (pc' := 1) 0 dX1_rowOf_0 rfl rfl rfl ?_
  refine za_get (fi := 25) (v := .ref 1026) (pc' := 4) dX1_rowOf_1 zc0 (by decide) in_X1 (by decide) q515 (Or.inl rfl) (congrArg Prod.fst (zX_t1000 hx)) (congrArg Value.ref (zX_r1000_25 hx)) rfl ?_
  refine za_iload_n (pc' := 5) 1 dX1_rowOf_4 rfl rfl rfl ?_
  obtain ⟨hi1, h⟩ := h
  refine za_iald (v := .int (I 1026 (v1.toNatClampNeg))) (pc' := 6) dX1_rowOf_5 (zX_t1026 hx) hi1 rfl rfl ?_
  refine za_iconst (pc' := 7) dX1_rowOf_6 zi_m1 rfl ?_
  refine za_icmp_ne (pc' := 10) (tgt := 22) dX1_rowOf_7 (by decide) rfl (fun c9 => ?_) (fun c9 => ?_)
  · replace h := h.2 c9
    refine za_aload_n (pc' := 23) 0 dX1_rowOf_22 rfl rfl rfl ?_
    refine za_get (fi := 8) (v := .ref (R 1000 8)) (pc' := 26) dX1_rowOf_23 zc0 (by decide) in_X1 (by decide) q498 (Or.inl rfl) (congrArg Prod.fst (zX_t1000 hx)) rfl rfl ?_
    obtain ⟨ht2, h⟩ := h
    refine za_getN (fi := 3) (v := .ref (R (R 1000 8) 3)) (pc' := 29) dX1_rowOf_26 zc2 (by decide) in_X3 (by decide) q282 (Or.inl rfl) ht2 rfl rfl ?_
    refine za_aload_n (pc' := 30) 0 dX1_rowOf_29 rfl rfl rfl ?_
    refine za_get (fi := 25) (v := .ref 1026) (pc' := 33) dX1_rowOf_30 zc0 (by decide) in_X1 (by decide) q515 (Or.inl rfl) (congrArg Prod.fst (zX_t1000 hx)) (congrArg Value.ref (zX_r1000_25 hx)) rfl ?_
    refine za_iload_n (pc' := 34) 1 dX1_rowOf_33 rfl rfl rfl ?_
    refine za_iald (v := .int (I 1026 (v1.toNatClampNeg))) (pc' := 35) dX1_rowOf_34 (zX_t1026 hx) hi1 rfl rfl ?_
    obtain ⟨ht4, h⟩ := h
    refine za_callV (κ := (R (R 1000 8) 3)) (M2 := mJ2_get) (d2 := 3) (b2 := 0) (n := 1) (As := [.int (I 1026 (v1.toNatClampNeg))]) (st := []) (pc' := 38) zc4 (by decide) ht4 dX1_rowOf_35 rfl (lw_V q1091 q470 q471 q137 q472) ⟨rfl, hd_J2_get⟩ rfl (by decide) (by decide) (Nat.zero_le _) (Or.inl rfl) (Nat.le_of_ble_eq_true rfl) h (zqR__k rfl (fun r3 h => ?_)) (fun _ _ _ _ _ _ h9 h8 => absurd h8.1 h9) rfl
    obtain ⟨ht5, h⟩ := h
    refine za_cast (pc' := 41) dX1_rowOf_38 q455 zc10 (by decide) ht5 rfl ?_
    exact za_areturn rfl dX1_rowOf_41 (Or.inl ⟨_, rfl⟩) h
  · replace h := h.1 c9
    refine za_aload_n (pc' := 11) 0 dX1_rowOf_10 rfl rfl rfl ?_
    refine za_get (fi := 10) (v := .ref 1200) (pc' := 14) dX1_rowOf_11 zc0 (by decide) in_X1 (by decide) q500 (Or.inl rfl) (congrArg Prod.fst (zX_t1000 hx)) (congrArg Value.ref (zX_r1000_10 hx)) rfl ?_
    refine za_getN (fi := 1) (v := .ref 1202) (pc' := 17) dX1_rowOf_14 zc9 (by decide) in_X10 (by decide) q418 (Or.inl rfl) (congrArg Prod.fst (zX_t1200 hx)) (congrArg Value.ref (zX_r1200_1 hx)) rfl ?_
    refine za_iload_n (pc' := 18) 1 dX1_rowOf_17 rfl rfl rfl ?_
    refine za_aald (r := (R 1202 (v1.toNatClampNeg))) (t := 5) (C := RX11) (pc' := 19) dX1_rowOf_18 (by decide) (fun _ => rfl) (zX_t1202 hx) hi1 (rfl) rfl ?_
    refine za_goto (tgt := 41) dX1_rowOf_19 (by decide) ?_
    exact za_areturn rfl dX1_rowOf_41 (Or.inl ⟨_, rfl⟩) h
theorem sX1_rowOf {d b : Nat} {v1 : Int32} {T : zT} {I : zI} {L : zL} {R : zR} {P : zP} (h : zAW mX1_rowOf d b 0 [(0, .ref 1000), (1, .int v1)] [] T I L R P) : zMet mX1_rowOf d b [.ref 1000, .int v1] T I L R P := zMet_of (by decide +kernel) rfl (Nat.le_of_ble_eq_true rfl) rfl h
/-! TwoTongues.renamed ()I -/
def dkwX1_renamed_0 : List UInt8 := [42, 182, 1, 184, 42, 180, 1, 174, 2, 160, 0, 8, 16, 254, 167, 0, 7, 42, 180, 1, 174, 172]
abbrev dktX1_renamed_0 : List UInt8 := dkwX1_renamed_0 ++ []
theorem dksX1_renamed_0 : cX1_renamed.data.toList.drop 0 = dktX1_renamed_0 := by decide +kernel
theorem dX1_renamed_0 : decode cX1_renamed 0 = .ok (.aload_n 0, 1) := dk_42 (dk_at dksX1_renamed_0 0 rfl rfl)
theorem dX1_renamed_1 : decode cX1_renamed 1 = .ok (.invokevirtual 440, 3) := dk_182 1 184 (dk_at dksX1_renamed_0 1 rfl rfl)
theorem dX1_renamed_4 : decode cX1_renamed 4 = .ok (.aload_n 0, 1) := dk_42 (dk_at dksX1_renamed_0 4 rfl rfl)
theorem dX1_renamed_5 : decode cX1_renamed 5 = .ok (.getfield 430, 3) := dk_180 1 174 (dk_at dksX1_renamed_0 5 rfl rfl)
theorem dX1_renamed_8 : decode cX1_renamed 8 = .ok (.iconst (-1), 1) := dk_2 (dk_at dksX1_renamed_0 8 rfl rfl)
theorem dX1_renamed_9 : decode cX1_renamed 9 = .ok (.if_icmp .ne 8, 3) := dk_160 0 8 (dk_at dksX1_renamed_0 9 rfl rfl)
theorem dX1_renamed_12 : decode cX1_renamed 12 = .ok (.bipush (-2), 2) := dk_16 254 (dk_at dksX1_renamed_0 12 rfl rfl)
theorem dX1_renamed_14 : decode cX1_renamed 14 = .ok (.goto 7, 3) := dk_167 0 7 (dk_at dksX1_renamed_0 14 rfl rfl)
theorem dX1_renamed_17 : decode cX1_renamed 17 = .ok (.aload_n 0, 1) := dk_42 (dk_at dksX1_renamed_0 17 rfl rfl)
theorem dX1_renamed_18 : decode cX1_renamed 18 = .ok (.getfield 430, 3) := dk_180 1 174 (dk_at dksX1_renamed_0 18 rfl rfl)
theorem dX1_renamed_21 : decode cX1_renamed 21 = .ok (.ireturn, 1) := dk_172 (dk_at dksX1_renamed_0 21 rfl rfl)
theorem gX1_renamed_0  {T : zT} {I : zI} {L : zL} {R : zR} {P : zP} (hx : zXok T R) (h : zMet mX1_layRenamed 41 0 [.ref 1000] T I L R (zqV_IL T R  (fun (I1 : zI) (L2 : zL)  => (((I1 1000 27) = (-1 : Int32) → P 0 (.int (-2 : Int32)) T I1 L2 R) ∧ (¬ (I1 1000 27) = (-1 : Int32) → P 0 (.int (I1 1000 27)) T I1 L2 R))))) : zAW mX1_renamed 42 0 0 [(0, .ref 1000)] [] T I L R P := by
  refine za_aload_n (pc' := 1) 0 dX1_renamed_0 rfl rfl rfl ?_
  refine za_callV (κ := 1000) (M2 := mX1_layRenamed) (d2 := 41) (b2 := 0) (n := 0) (As := []) (st := []) (pc' := 4) zc0 (by decide) (congrArg Prod.fst (zX_t1000 hx)) dX1_renamed_1 rfl (lw_V q1332 q1334 qs53 q131 q1335) ⟨rfl, hd_X1_layRenamed⟩ rfl (by decide) (by decide) (Nat.zero_le _) (Or.inl rfl) (Nat.le_of_ble_eq_true rfl) h (zqV_IL_k rfl (fun I1 L2 h => ?_)) (fun _ _ _ _ _ _ h9 h8 => absurd h8.1 h9) rfl
  refine za_aload_n (pc' := 5) 0 dX1_renamed_4 rfl rfl rfl ?_
  refine za_get (fi := 27) (v := .int (I1 1000 27)) (pc' := 8) dX1_renamed_5 zc0 (by decide) in_X1 (by decide) q517 (Or.inl rfl) (congrArg Prod.fst (zX_t1000 hx)) rfl rfl ?_
  refine za_iconst (pc' := 9) dX1_renamed_8 zi_m1 rfl ?_
  refine za_icmp_ne (pc' := 12) (tgt := 17) dX1_renamed_9 (by decide) rfl (fun c9 => ?_) (fun c9 => ?_)
  · replace h := h.2 c9
    refine za_aload_n (pc' := 18) 0 dX1_renamed_17 rfl rfl rfl ?_
    refine za_get (fi := 27) (v := .int (I1 1000 27)) (pc' := 21) dX1_renamed_18 zc0 (by decide) in_X1 (by decide) q517 (Or.inl rfl) (congrArg Prod.fst (zX_t1000 hx)) rfl rfl ?_
    exact za_ireturn rfl dX1_renamed_21 h
  · replace h := h.1 c9
    refine za_bipush (pc' := 14) dX1_renamed_12 zb8_m2 rfl ?_
    refine za_goto (tgt := 21) dX1_renamed_14 (by decide) ?_
    exact za_ireturn rfl dX1_renamed_21 h
theorem sX1_renamed {d b : Nat}  {T : zT} {I : zI} {L : zL} {R : zR} {P : zP} (h : zAW mX1_renamed d b 0 [(0, .ref 1000)] [] T I L R P) : zMet mX1_renamed d b [.ref 1000] T I L R P := zMet_of (by decide +kernel) rfl (Nat.le_of_ble_eq_true rfl) rfl h
/-! TwoTongues.layRenamed ()V -/
def dkwX1_layRenamed_0 : List UInt8 := [42, 182, 1, 171, 42, 2, 181, 1, 174, 42, 3, 3, 3, 182, 1, 180, 177]
abbrev dktX1_layRenamed_0 : List UInt8 := dkwX1_layRenamed_0 ++ []
theorem dksX1_layRenamed_0 : cX1_layRenamed.data.toList.drop 0 = dktX1_layRenamed_0 := by decide +kernel
theorem dX1_layRenamed_0 : decode cX1_layRenamed 0 = .ok (.aload_n 0, 1) := dk_42 (dk_at dksX1_layRenamed_0 0 rfl rfl)
theorem dX1_layRenamed_1 : decode cX1_layRenamed 1 = .ok (.invokevirtual 427, 3) := dk_182 1 171 (dk_at dksX1_layRenamed_0 1 rfl rfl)
theorem dX1_layRenamed_4 : decode cX1_layRenamed 4 = .ok (.aload_n 0, 1) := dk_42 (dk_at dksX1_layRenamed_0 4 rfl rfl)
theorem dX1_layRenamed_5 : decode cX1_layRenamed 5 = .ok (.iconst (-1), 1) := dk_2 (dk_at dksX1_layRenamed_0 5 rfl rfl)
theorem dX1_layRenamed_6 : decode cX1_layRenamed 6 = .ok (.putfield 430, 3) := dk_181 1 174 (dk_at dksX1_layRenamed_0 6 rfl rfl)
theorem dX1_layRenamed_9 : decode cX1_layRenamed 9 = .ok (.aload_n 0, 1) := dk_42 (dk_at dksX1_layRenamed_0 9 rfl rfl)
theorem dX1_layRenamed_10 : decode cX1_layRenamed 10 = .ok (.iconst 0, 1) := dk_3 (dk_at dksX1_layRenamed_0 10 rfl rfl)
theorem dX1_layRenamed_11 : decode cX1_layRenamed 11 = .ok (.iconst 0, 1) := dk_3 (dk_at dksX1_layRenamed_0 11 rfl rfl)
theorem dX1_layRenamed_12 : decode cX1_layRenamed 12 = .ok (.iconst 0, 1) := dk_3 (dk_at dksX1_layRenamed_0 12 rfl rfl)
theorem dX1_layRenamed_13 : decode cX1_layRenamed 13 = .ok (.invokevirtual 436, 3) := dk_182 1 180 (dk_at dksX1_layRenamed_0 13 rfl rfl)
theorem dX1_layRenamed_16 : decode cX1_layRenamed 16 = .ok (.return_, 1) := dk_177 (dk_at dksX1_layRenamed_0 16 rfl rfl)
theorem gX1_layRenamed_0  {T : zT} {I : zI} {L : zL} {R : zR} {P : zP} (hx : zXok T R) (h : zMet mX1_keepOwn 1 0 [.ref 1000] T I L R (zqV_I T L R  (fun (I1 : zI)  => zMet mX1_rename 40 0 [.ref 1000, .int (0 : Int32), .int (0 : Int32), .int (0 : Int32)] T (z2 I1 1000 27 (-1 : Int32)) L R (zqV_IL T R  (fun (I2 : zI) (L3 : zL)  => P 0 (.int 0) T I2 L3 R))))) : zAW mX1_layRenamed 41 0 0 [(0, .ref 1000)] [] T I L R P := by
  refine za_aload_n (pc' := 1) 0 dX1_layRenamed_0 rfl rfl rfl ?_
  refine za_callV (κ := 1000) (M2 := mX1_keepOwn) (d2 := 1) (b2 := 0) (n := 0) (As := []) (st := []) (pc' := 4) zc0 (by decide) (congrArg Prod.fst (zX_t1000 hx)) dX1_layRenamed_1 rfl (lw_V q1316 q1318 qs50 q131 q1319) ⟨rfl, hd_X1_keepOwn⟩ rfl (by decide) (by decide) (Nat.zero_le _) (Or.inl rfl) (Nat.le_of_ble_eq_true rfl) h (zqV_I_k rfl (fun I1 h => ?_)) (fun _ _ _ _ _ _ h9 h8 => absurd h8.1 h9) rfl
  refine za_aload_n (pc' := 5) 0 dX1_layRenamed_4 rfl rfl rfl ?_
  refine za_iconst (pc' := 6) dX1_layRenamed_5 zi_m1 rfl ?_
  refine za_putI (fi := 27) (pc' := 9) dX1_layRenamed_6 zc0 (by decide) in_X1 zok0 znm0 (by decide) q517 (Or.inl rfl) rfl rfl (fun _ _ _ => rfl) rfl rfl (congrArg Prod.fst (zX_t1000 hx)) rfl ?_
  refine za_aload_n (pc' := 10) 0 dX1_layRenamed_9 rfl rfl rfl ?_
  refine za_iconst (pc' := 11) dX1_layRenamed_10 zi_0 rfl ?_
  refine za_iconst (pc' := 12) dX1_layRenamed_11 zi_0 rfl ?_
  refine za_iconst (pc' := 13) dX1_layRenamed_12 zi_0 rfl ?_
  refine za_callV (κ := 1000) (M2 := mX1_rename) (d2 := 40) (b2 := 0) (n := 3) (As := [.int (0 : Int32), .int (0 : Int32), .int (0 : Int32)]) (st := []) (pc' := 16) zc0 (by decide) (congrArg Prod.fst (zX_t1000 hx)) dX1_layRenamed_13 rfl (lw_V q1336 q1338 qs54 q131 q1339) ⟨rfl, hd_X1_rename⟩ rfl (by decide) (by decide) (Nat.zero_le _) (Or.inl rfl) (Nat.le_of_ble_eq_true rfl) h (zqV_IL_k rfl (fun I2 L3 h => ?_)) (fun _ _ _ _ _ _ h9 h8 => absurd h8.1 h9) rfl
  exact za_return rfl dX1_layRenamed_16 h
theorem sX1_layRenamed {d b : Nat}  {T : zT} {I : zI} {L : zL} {R : zR} {P : zP} (h : zAW mX1_layRenamed d b 0 [(0, .ref 1000)] [] T I L R P) : zMet mX1_layRenamed d b [.ref 1000] T I L R P := zMet_of (by decide +kernel) rfl (Nat.le_of_ble_eq_true rfl) rfl h
/-! TwoTongues.rename (III)V -/
def dkwX1_rename_9 : List UInt8 := [167, 0, 6, 29, 4, 96, 182, 1, 180, 132, 4, 1, 167, 255, 107, 42, 180, 0, 110, 27, 2, 79, 177]
abbrev dktX1_rename_9 : List UInt8 := dkwX1_rename_9 ++ []
def dkwX1_rename_8 : List UInt8 := [21, 4, 2, 160, 0, 7, 28, 167, 0, 9, 28, 4, 21, 4, 120, 128, 21, 4, 2, 160, 0, 7, 29]
abbrev dktX1_rename_8 : List UInt8 := dkwX1_rename_8 ++ dktX1_rename_9
def dkwX1_rename_7 : List UInt8 := [167, 0, 55, 42, 180, 0, 110, 27, 21, 4, 79, 42, 27, 182, 1, 177, 153, 0, 39, 42, 27, 4, 96]
abbrev dktX1_rename_7 : List UInt8 := dkwX1_rename_7 ++ dktX1_rename_8
def dkwX1_rename_6 : List UInt8 := [180, 1, 146, 21, 4, 182, 0, 195, 192, 0, 97, 42, 27, 182, 0, 248, 182, 1, 136, 154, 0, 6]
abbrev dktX1_rename_6 : List UInt8 := dkwX1_rename_6 ++ dktX1_rename_7
def dkwX1_rename_5 : List UInt8 := [180, 0, 190, 42, 180, 0, 64, 180, 0, 186, 27, 50, 180, 0, 190, 160, 0, 85, 42, 42, 180, 0, 39]
abbrev dktX1_rename_5 : List UInt8 := dkwX1_rename_5 ++ dktX1_rename_6
def dkwX1_rename_4 : List UInt8 := [122, 4, 126, 4, 159, 0, 118, 42, 180, 0, 39, 180, 1, 146, 21, 4, 182, 0, 195, 192, 0, 97]
abbrev dktX1_rename_4 : List UInt8 := dkwX1_rename_4 ++ dktX1_rename_5
def dkwX1_rename_3 : List UInt8 := [21, 4, 42, 180, 0, 39, 180, 1, 146, 182, 0, 176, 162, 0, 140, 21, 4, 2, 159, 0, 76, 28, 21, 4]
abbrev dktX1_rename_3 : List UInt8 := dkwX1_rename_3 ++ dktX1_rename_4
def dkwX1_rename_2 : List UInt8 := [180, 0, 113, 21, 4, 42, 180, 0, 110, 21, 4, 46, 79, 132, 4, 1, 167, 255, 233, 177, 2, 54, 4]
abbrev dktX1_rename_2 : List UInt8 := dkwX1_rename_2 ++ dktX1_rename_3
def dkwX1_rename_1 : List UInt8 := [180, 0, 172, 182, 0, 176, 160, 0, 38, 42, 29, 181, 1, 174, 3, 54, 4, 21, 4, 27, 162, 0, 23, 42]
abbrev dktX1_rename_1 : List UInt8 := dkwX1_rename_1 ++ dktX1_rename_2
def dkwX1_rename_0 : List UInt8 := [42, 180, 1, 174, 2, 159, 0, 12, 29, 42, 180, 1, 174, 161, 0, 4, 177, 27, 42, 180, 0, 39]
abbrev dktX1_rename_0 : List UInt8 := dkwX1_rename_0 ++ dktX1_rename_1
theorem dksX1_rename_0 : cX1_rename.data.toList.drop 0 = dktX1_rename_0 := by decide +kernel
theorem dksX1_rename_1 : cX1_rename.data.toList.drop 22 = dktX1_rename_1 := dk_seg dksX1_rename_0 22 rfl rfl
theorem dksX1_rename_2 : cX1_rename.data.toList.drop 46 = dktX1_rename_2 := dk_seg dksX1_rename_1 24 rfl rfl
theorem dksX1_rename_3 : cX1_rename.data.toList.drop 69 = dktX1_rename_3 := dk_seg dksX1_rename_2 23 rfl rfl
theorem dksX1_rename_4 : cX1_rename.data.toList.drop 93 = dktX1_rename_4 := dk_seg dksX1_rename_3 24 rfl rfl
theorem dksX1_rename_5 : cX1_rename.data.toList.drop 115 = dktX1_rename_5 := dk_seg dksX1_rename_4 22 rfl rfl
theorem dksX1_rename_6 : cX1_rename.data.toList.drop 138 = dktX1_rename_6 := dk_seg dksX1_rename_5 23 rfl rfl
theorem dksX1_rename_7 : cX1_rename.data.toList.drop 160 = dktX1_rename_7 := dk_seg dksX1_rename_6 22 rfl rfl
theorem dksX1_rename_8 : cX1_rename.data.toList.drop 183 = dktX1_rename_8 := dk_seg dksX1_rename_7 23 rfl rfl
theorem dksX1_rename_9 : cX1_rename.data.toList.drop 206 = dktX1_rename_9 := dk_seg dksX1_rename_8 23 rfl rfl
theorem dX1_rename_0 : decode cX1_rename 0 = .ok (.aload_n 0, 1) := dk_42 (dk_at dksX1_rename_0 0 rfl rfl)
theorem dX1_rename_1 : decode cX1_rename 1 = .ok (.getfield 430, 3) := dk_180 1 174 (dk_at dksX1_rename_0 1 rfl rfl)
theorem dX1_rename_4 : decode cX1_rename 4 = .ok (.iconst (-1), 1) := dk_2 (dk_at dksX1_rename_0 4 rfl rfl)
theorem dX1_rename_5 : decode cX1_rename 5 = .ok (.if_icmp .eq 12, 3) := dk_159 0 12 (dk_at dksX1_rename_0 5 rfl rfl)
theorem dX1_rename_8 : decode cX1_rename 8 = .ok (.iload_n 3, 1) := dk_29 (dk_at dksX1_rename_0 8 rfl rfl)
theorem dX1_rename_9 : decode cX1_rename 9 = .ok (.aload_n 0, 1) := dk_42 (dk_at dksX1_rename_0 9 rfl rfl)
theorem dX1_rename_10 : decode cX1_rename 10 = .ok (.getfield 430, 3) := dk_180 1 174 (dk_at dksX1_rename_0 10 rfl rfl)
theorem dX1_rename_13 : decode cX1_rename 13 = .ok (.if_icmp .lt 4, 3) := dk_161 0 4 (dk_at dksX1_rename_0 13 rfl rfl)
theorem dX1_rename_16 : decode cX1_rename 16 = .ok (.return_, 1) := dk_177 (dk_at dksX1_rename_0 16 rfl rfl)
theorem dX1_rename_17 : decode cX1_rename 17 = .ok (.iload_n 1, 1) := dk_27 (dk_at dksX1_rename_0 17 rfl rfl)
theorem dX1_rename_18 : decode cX1_rename 18 = .ok (.aload_n 0, 1) := dk_42 (dk_at dksX1_rename_0 18 rfl rfl)
theorem dX1_rename_19 : decode cX1_rename 19 = .ok (.getfield 39, 3) := dk_180 0 39 (dk_at dksX1_rename_0 19 rfl rfl)
theorem dX1_rename_22 : decode cX1_rename 22 = .ok (.getfield 172, 3) := dk_180 0 172 (dk_at dksX1_rename_1 0 rfl rfl)
theorem dX1_rename_25 : decode cX1_rename 25 = .ok (.invokevirtual 176, 3) := dk_182 0 176 (dk_at dksX1_rename_1 3 rfl rfl)
theorem dX1_rename_28 : decode cX1_rename 28 = .ok (.if_icmp .ne 38, 3) := dk_160 0 38 (dk_at dksX1_rename_1 6 rfl rfl)
theorem dX1_rename_31 : decode cX1_rename 31 = .ok (.aload_n 0, 1) := dk_42 (dk_at dksX1_rename_1 9 rfl rfl)
theorem dX1_rename_32 : decode cX1_rename 32 = .ok (.iload_n 3, 1) := dk_29 (dk_at dksX1_rename_1 10 rfl rfl)
theorem dX1_rename_33 : decode cX1_rename 33 = .ok (.putfield 430, 3) := dk_181 1 174 (dk_at dksX1_rename_1 11 rfl rfl)
theorem dX1_rename_36 : decode cX1_rename 36 = .ok (.iconst 0, 1) := dk_3 (dk_at dksX1_rename_1 14 rfl rfl)
theorem dX1_rename_37 : decode cX1_rename 37 = .ok (.istore 4, 2) := dk_54 4 (dk_at dksX1_rename_1 15 rfl rfl)
theorem dX1_rename_39 : decode cX1_rename 39 = .ok (.iload 4, 2) := dk_21 4 (dk_at dksX1_rename_1 17 rfl rfl)
theorem dX1_rename_41 : decode cX1_rename 41 = .ok (.iload_n 1, 1) := dk_27 (dk_at dksX1_rename_1 19 rfl rfl)
theorem dX1_rename_42 : decode cX1_rename 42 = .ok (.if_icmp .ge 23, 3) := dk_162 0 23 (dk_at dksX1_rename_1 20 rfl rfl)
theorem dX1_rename_45 : decode cX1_rename 45 = .ok (.aload_n 0, 1) := dk_42 (dk_at dksX1_rename_1 23 rfl rfl)
theorem dX1_rename_46 : decode cX1_rename 46 = .ok (.getfield 113, 3) := dk_180 0 113 (dk_at dksX1_rename_2 0 rfl rfl)
theorem dX1_rename_49 : decode cX1_rename 49 = .ok (.iload 4, 2) := dk_21 4 (dk_at dksX1_rename_2 3 rfl rfl)
theorem dX1_rename_51 : decode cX1_rename 51 = .ok (.aload_n 0, 1) := dk_42 (dk_at dksX1_rename_2 5 rfl rfl)
theorem dX1_rename_52 : decode cX1_rename 52 = .ok (.getfield 110, 3) := dk_180 0 110 (dk_at dksX1_rename_2 6 rfl rfl)
theorem dX1_rename_55 : decode cX1_rename 55 = .ok (.iload 4, 2) := dk_21 4 (dk_at dksX1_rename_2 9 rfl rfl)
theorem dX1_rename_57 : decode cX1_rename 57 = .ok (.iaload, 1) := dk_46 (dk_at dksX1_rename_2 11 rfl rfl)
theorem dX1_rename_58 : decode cX1_rename 58 = .ok (.iastore, 1) := dk_79 (dk_at dksX1_rename_2 12 rfl rfl)
theorem dX1_rename_59 : decode cX1_rename 59 = .ok (.iinc 4 1, 3) := dk_132 4 1 (dk_at dksX1_rename_2 13 rfl rfl)
theorem dX1_rename_62 : decode cX1_rename 62 = .ok (.goto (-23), 3) := dk_167 255 233 (dk_at dksX1_rename_2 16 rfl rfl)
theorem dX1_rename_65 : decode cX1_rename 65 = .ok (.return_, 1) := dk_177 (dk_at dksX1_rename_2 19 rfl rfl)
theorem dX1_rename_66 : decode cX1_rename 66 = .ok (.iconst (-1), 1) := dk_2 (dk_at dksX1_rename_2 20 rfl rfl)
theorem dX1_rename_67 : decode cX1_rename 67 = .ok (.istore 4, 2) := dk_54 4 (dk_at dksX1_rename_2 21 rfl rfl)
theorem dX1_rename_69 : decode cX1_rename 69 = .ok (.iload 4, 2) := dk_21 4 (dk_at dksX1_rename_3 0 rfl rfl)
theorem dX1_rename_71 : decode cX1_rename 71 = .ok (.aload_n 0, 1) := dk_42 (dk_at dksX1_rename_3 2 rfl rfl)
theorem dX1_rename_72 : decode cX1_rename 72 = .ok (.getfield 39, 3) := dk_180 0 39 (dk_at dksX1_rename_3 3 rfl rfl)
theorem dX1_rename_75 : decode cX1_rename 75 = .ok (.getfield 402, 3) := dk_180 1 146 (dk_at dksX1_rename_3 6 rfl rfl)
theorem dX1_rename_78 : decode cX1_rename 78 = .ok (.invokevirtual 176, 3) := dk_182 0 176 (dk_at dksX1_rename_3 9 rfl rfl)
theorem dX1_rename_81 : decode cX1_rename 81 = .ok (.if_icmp .ge 140, 3) := dk_162 0 140 (dk_at dksX1_rename_3 12 rfl rfl)
theorem dX1_rename_84 : decode cX1_rename 84 = .ok (.iload 4, 2) := dk_21 4 (dk_at dksX1_rename_3 15 rfl rfl)
theorem dX1_rename_86 : decode cX1_rename 86 = .ok (.iconst (-1), 1) := dk_2 (dk_at dksX1_rename_3 17 rfl rfl)
theorem dX1_rename_87 : decode cX1_rename 87 = .ok (.if_icmp .eq 76, 3) := dk_159 0 76 (dk_at dksX1_rename_3 18 rfl rfl)
theorem dX1_rename_90 : decode cX1_rename 90 = .ok (.iload_n 2, 1) := dk_28 (dk_at dksX1_rename_3 21 rfl rfl)
theorem dX1_rename_91 : decode cX1_rename 91 = .ok (.iload 4, 2) := dk_21 4 (dk_at dksX1_rename_3 22 rfl rfl)
theorem dX1_rename_93 : decode cX1_rename 93 = .ok (.ishr, 1) := dk_122 (dk_at dksX1_rename_4 0 rfl rfl)
theorem dX1_rename_94 : decode cX1_rename 94 = .ok (.iconst 1, 1) := dk_4 (dk_at dksX1_rename_4 1 rfl rfl)
theorem dX1_rename_95 : decode cX1_rename 95 = .ok (.iand, 1) := dk_126 (dk_at dksX1_rename_4 2 rfl rfl)
theorem dX1_rename_96 : decode cX1_rename 96 = .ok (.iconst 1, 1) := dk_4 (dk_at dksX1_rename_4 3 rfl rfl)
theorem dX1_rename_97 : decode cX1_rename 97 = .ok (.if_icmp .eq 118, 3) := dk_159 0 118 (dk_at dksX1_rename_4 4 rfl rfl)
theorem dX1_rename_100 : decode cX1_rename 100 = .ok (.aload_n 0, 1) := dk_42 (dk_at dksX1_rename_4 7 rfl rfl)
theorem dX1_rename_101 : decode cX1_rename 101 = .ok (.getfield 39, 3) := dk_180 0 39 (dk_at dksX1_rename_4 8 rfl rfl)
theorem dX1_rename_104 : decode cX1_rename 104 = .ok (.getfield 402, 3) := dk_180 1 146 (dk_at dksX1_rename_4 11 rfl rfl)
theorem dX1_rename_107 : decode cX1_rename 107 = .ok (.iload 4, 2) := dk_21 4 (dk_at dksX1_rename_4 14 rfl rfl)
theorem dX1_rename_109 : decode cX1_rename 109 = .ok (.invokevirtual 195, 3) := dk_182 0 195 (dk_at dksX1_rename_4 16 rfl rfl)
theorem dX1_rename_112 : decode cX1_rename 112 = .ok (.checkcast 97, 3) := dk_192 0 97 (dk_at dksX1_rename_4 19 rfl rfl)
theorem dX1_rename_115 : decode cX1_rename 115 = .ok (.getfield 190, 3) := dk_180 0 190 (dk_at dksX1_rename_5 0 rfl rfl)
theorem dX1_rename_118 : decode cX1_rename 118 = .ok (.aload_n 0, 1) := dk_42 (dk_at dksX1_rename_5 3 rfl rfl)
theorem dX1_rename_119 : decode cX1_rename 119 = .ok (.getfield 64, 3) := dk_180 0 64 (dk_at dksX1_rename_5 4 rfl rfl)
theorem dX1_rename_122 : decode cX1_rename 122 = .ok (.getfield 186, 3) := dk_180 0 186 (dk_at dksX1_rename_5 7 rfl rfl)
theorem dX1_rename_125 : decode cX1_rename 125 = .ok (.iload_n 1, 1) := dk_27 (dk_at dksX1_rename_5 10 rfl rfl)
theorem dX1_rename_126 : decode cX1_rename 126 = .ok (.aaload, 1) := dk_50 (dk_at dksX1_rename_5 11 rfl rfl)
theorem dX1_rename_127 : decode cX1_rename 127 = .ok (.getfield 190, 3) := dk_180 0 190 (dk_at dksX1_rename_5 12 rfl rfl)
theorem dX1_rename_130 : decode cX1_rename 130 = .ok (.if_icmp .ne 85, 3) := dk_160 0 85 (dk_at dksX1_rename_5 15 rfl rfl)
theorem dX1_rename_133 : decode cX1_rename 133 = .ok (.aload_n 0, 1) := dk_42 (dk_at dksX1_rename_5 18 rfl rfl)
theorem dX1_rename_134 : decode cX1_rename 134 = .ok (.aload_n 0, 1) := dk_42 (dk_at dksX1_rename_5 19 rfl rfl)
theorem dX1_rename_135 : decode cX1_rename 135 = .ok (.getfield 39, 3) := dk_180 0 39 (dk_at dksX1_rename_5 20 rfl rfl)
theorem dX1_rename_138 : decode cX1_rename 138 = .ok (.getfield 402, 3) := dk_180 1 146 (dk_at dksX1_rename_6 0 rfl rfl)
theorem dX1_rename_141 : decode cX1_rename 141 = .ok (.iload 4, 2) := dk_21 4 (dk_at dksX1_rename_6 3 rfl rfl)
theorem dX1_rename_143 : decode cX1_rename 143 = .ok (.invokevirtual 195, 3) := dk_182 0 195 (dk_at dksX1_rename_6 5 rfl rfl)
theorem dX1_rename_146 : decode cX1_rename 146 = .ok (.checkcast 97, 3) := dk_192 0 97 (dk_at dksX1_rename_6 8 rfl rfl)
theorem dX1_rename_149 : decode cX1_rename 149 = .ok (.aload_n 0, 1) := dk_42 (dk_at dksX1_rename_6 11 rfl rfl)
theorem dX1_rename_150 : decode cX1_rename 150 = .ok (.iload_n 1, 1) := dk_27 (dk_at dksX1_rename_6 12 rfl rfl)
theorem dX1_rename_151 : decode cX1_rename 151 = .ok (.invokevirtual 248, 3) := dk_182 0 248 (dk_at dksX1_rename_6 13 rfl rfl)
theorem dX1_rename_154 : decode cX1_rename 154 = .ok (.invokevirtual 392, 3) := dk_182 1 136 (dk_at dksX1_rename_6 16 rfl rfl)
theorem dX1_rename_157 : decode cX1_rename 157 = .ok (.ifCond .ne 6, 3) := dk_154 0 6 (dk_at dksX1_rename_6 19 rfl rfl)
theorem dX1_rename_160 : decode cX1_rename 160 = .ok (.goto 55, 3) := dk_167 0 55 (dk_at dksX1_rename_7 0 rfl rfl)
theorem dX1_rename_163 : decode cX1_rename 163 = .ok (.aload_n 0, 1) := dk_42 (dk_at dksX1_rename_7 3 rfl rfl)
theorem dX1_rename_164 : decode cX1_rename 164 = .ok (.getfield 110, 3) := dk_180 0 110 (dk_at dksX1_rename_7 4 rfl rfl)
theorem dX1_rename_167 : decode cX1_rename 167 = .ok (.iload_n 1, 1) := dk_27 (dk_at dksX1_rename_7 7 rfl rfl)
theorem dX1_rename_168 : decode cX1_rename 168 = .ok (.iload 4, 2) := dk_21 4 (dk_at dksX1_rename_7 8 rfl rfl)
theorem dX1_rename_170 : decode cX1_rename 170 = .ok (.iastore, 1) := dk_79 (dk_at dksX1_rename_7 10 rfl rfl)
theorem dX1_rename_171 : decode cX1_rename 171 = .ok (.aload_n 0, 1) := dk_42 (dk_at dksX1_rename_7 11 rfl rfl)
theorem dX1_rename_172 : decode cX1_rename 172 = .ok (.iload_n 1, 1) := dk_27 (dk_at dksX1_rename_7 12 rfl rfl)
theorem dX1_rename_173 : decode cX1_rename 173 = .ok (.invokevirtual 433, 3) := dk_182 1 177 (dk_at dksX1_rename_7 13 rfl rfl)
theorem dX1_rename_176 : decode cX1_rename 176 = .ok (.ifCond .eq 39, 3) := dk_153 0 39 (dk_at dksX1_rename_7 16 rfl rfl)
theorem dX1_rename_179 : decode cX1_rename 179 = .ok (.aload_n 0, 1) := dk_42 (dk_at dksX1_rename_7 19 rfl rfl)
theorem dX1_rename_180 : decode cX1_rename 180 = .ok (.iload_n 1, 1) := dk_27 (dk_at dksX1_rename_7 20 rfl rfl)
theorem dX1_rename_181 : decode cX1_rename 181 = .ok (.iconst 1, 1) := dk_4 (dk_at dksX1_rename_7 21 rfl rfl)
theorem dX1_rename_182 : decode cX1_rename 182 = .ok (.iadd, 1) := dk_96 (dk_at dksX1_rename_7 22 rfl rfl)
theorem dX1_rename_183 : decode cX1_rename 183 = .ok (.iload 4, 2) := dk_21 4 (dk_at dksX1_rename_8 0 rfl rfl)
theorem dX1_rename_185 : decode cX1_rename 185 = .ok (.iconst (-1), 1) := dk_2 (dk_at dksX1_rename_8 2 rfl rfl)
theorem dX1_rename_186 : decode cX1_rename 186 = .ok (.if_icmp .ne 7, 3) := dk_160 0 7 (dk_at dksX1_rename_8 3 rfl rfl)
theorem dX1_rename_189 : decode cX1_rename 189 = .ok (.iload_n 2, 1) := dk_28 (dk_at dksX1_rename_8 6 rfl rfl)
theorem dX1_rename_190 : decode cX1_rename 190 = .ok (.goto 9, 3) := dk_167 0 9 (dk_at dksX1_rename_8 7 rfl rfl)
theorem dX1_rename_193 : decode cX1_rename 193 = .ok (.iload_n 2, 1) := dk_28 (dk_at dksX1_rename_8 10 rfl rfl)
theorem dX1_rename_194 : decode cX1_rename 194 = .ok (.iconst 1, 1) := dk_4 (dk_at dksX1_rename_8 11 rfl rfl)
theorem dX1_rename_195 : decode cX1_rename 195 = .ok (.iload 4, 2) := dk_21 4 (dk_at dksX1_rename_8 12 rfl rfl)
theorem dX1_rename_197 : decode cX1_rename 197 = .ok (.ishl, 1) := dk_120 (dk_at dksX1_rename_8 14 rfl rfl)
theorem dX1_rename_198 : decode cX1_rename 198 = .ok (.ior, 1) := dk_128 (dk_at dksX1_rename_8 15 rfl rfl)
theorem dX1_rename_199 : decode cX1_rename 199 = .ok (.iload 4, 2) := dk_21 4 (dk_at dksX1_rename_8 16 rfl rfl)
theorem dX1_rename_201 : decode cX1_rename 201 = .ok (.iconst (-1), 1) := dk_2 (dk_at dksX1_rename_8 18 rfl rfl)
theorem dX1_rename_202 : decode cX1_rename 202 = .ok (.if_icmp .ne 7, 3) := dk_160 0 7 (dk_at dksX1_rename_8 19 rfl rfl)
theorem dX1_rename_205 : decode cX1_rename 205 = .ok (.iload_n 3, 1) := dk_29 (dk_at dksX1_rename_8 22 rfl rfl)
theorem dX1_rename_206 : decode cX1_rename 206 = .ok (.goto 6, 3) := dk_167 0 6 (dk_at dksX1_rename_9 0 rfl rfl)
theorem dX1_rename_209 : decode cX1_rename 209 = .ok (.iload_n 3, 1) := dk_29 (dk_at dksX1_rename_9 3 rfl rfl)
theorem dX1_rename_210 : decode cX1_rename 210 = .ok (.iconst 1, 1) := dk_4 (dk_at dksX1_rename_9 4 rfl rfl)
theorem dX1_rename_211 : decode cX1_rename 211 = .ok (.iadd, 1) := dk_96 (dk_at dksX1_rename_9 5 rfl rfl)
theorem dX1_rename_212 : decode cX1_rename 212 = .ok (.invokevirtual 436, 3) := dk_182 1 180 (dk_at dksX1_rename_9 6 rfl rfl)
theorem dX1_rename_215 : decode cX1_rename 215 = .ok (.iinc 4 1, 3) := dk_132 4 1 (dk_at dksX1_rename_9 9 rfl rfl)
theorem dX1_rename_218 : decode cX1_rename 218 = .ok (.goto (-149), 3) := dk_167 255 107 (dk_at dksX1_rename_9 12 rfl rfl)
theorem dX1_rename_221 : decode cX1_rename 221 = .ok (.aload_n 0, 1) := dk_42 (dk_at dksX1_rename_9 15 rfl rfl)
theorem dX1_rename_222 : decode cX1_rename 222 = .ok (.getfield 110, 3) := dk_180 0 110 (dk_at dksX1_rename_9 16 rfl rfl)
theorem dX1_rename_225 : decode cX1_rename 225 = .ok (.iload_n 1, 1) := dk_27 (dk_at dksX1_rename_9 19 rfl rfl)
theorem dX1_rename_226 : decode cX1_rename 226 = .ok (.iconst (-1), 1) := dk_2 (dk_at dksX1_rename_9 20 rfl rfl)
theorem dX1_rename_227 : decode cX1_rename 227 = .ok (.iastore, 1) := dk_79 (dk_at dksX1_rename_9 21 rfl rfl)
theorem dX1_rename_228 : decode cX1_rename 228 = .ok (.return_, 1) := dk_177 (dk_at dksX1_rename_9 22 rfl rfl)
theorem gX1_rename_0 {d : Nat} {v1 : Int32} {v2 : Int32} {v3 : Int32} {T : zT} {I : zI} {L : zL} {R : zR} {P : zP} (hx : zXok T R) (h : (((I 1000 27) = (-1 : Int32) → zAW mX1_rename d 0 17 [(0, .ref 1000), (1, .int v1), (2, .int v2), (3, .int v3)] [] T I L R P) ∧ (¬ (I 1000 27) = (-1 : Int32) → ((v3 < (I 1000 27) → zAW mX1_rename d 0 17 [(0, .ref 1000), (1, .int v1), (2, .int v2), (3, .int v3)] [] T I L R P) ∧ (¬ v3 < (I 1000 27) → P 0 (.int 0) T I L R))))) : zAW mX1_rename d 0 0 [(0, .ref 1000), (1, .int v1), (2, .int v2), (3, .int v3)] [] T I L R P := by
  refine za_aload_n (pc' := 1) 0 dX1_rename_0 rfl rfl rfl ?_
  refine za_get (fi := 27) (v := .int (I 1000 27)) (pc' := 4) dX1_rename_1 zc0 (by decide) in_X1 (by decide) q517 (Or.inl rfl) (congrArg Prod.fst (zX_t1000 hx)) rfl rfl ?_
  refine za_iconst (pc' := 5) dX1_rename_4 zi_m1 rfl ?_
  refine za_icmp_eq (pc' := 8) (tgt := 17) dX1_rename_5 (by decide) rfl (fun c9 => ?_) (fun c9 => ?_)
  · replace h := h.1 c9
    exact zAW_sub [0, 1, 2, 3] rfl h
  · replace h := h.2 c9
    refine za_iload_n (pc' := 9) 3 dX1_rename_8 rfl rfl rfl ?_
    refine za_aload_n (pc' := 10) 0 dX1_rename_9 rfl rfl rfl ?_
    refine za_get (fi := 27) (v := .int (I 1000 27)) (pc' := 13) dX1_rename_10 zc0 (by decide) in_X1 (by decide) q517 (Or.inl rfl) (congrArg Prod.fst (zX_t1000 hx)) rfl rfl ?_
    refine za_icmp_lt (pc' := 16) (tgt := 17) dX1_rename_13 (by decide) rfl (fun c9 => ?_) (fun c9 => ?_)
    · replace h := h.1 c9
      exact zAW_sub [0, 1, 2, 3] rfl h
    · replace h := h.2 c9
      exact za_return rfl dX1_rename_16 h
theorem gX1_rename_17 {d : Nat} {v1 : Int32} {v2 : Int32} {v3 : Int32} {T : zT} {I : zI} {L : zL} {R : zR} {P : zP} (hx : zXok T R) (h : (T (R 1000 8)).1 = 3 ∧ (T (R (R 1000 8) 2)).1 = 5 ∧ 1 < d ∧ zMet mJ2_size 1 0 [.ref (R (R 1000 8) 2)] T I L R (zqI_ T I L R  (fun (r2 : Int32)  => ((v1 = r2 → zAW mX1_rename d 0 39 [(0, .ref 1000), (1, .int v1), (4, .int (0 : Int32))] [] T (z2 I 1000 27 v3) L R P) ∧ (¬ v1 = r2 → zAW mX1_rename d 0 69 [(0, .ref 1000), (1, .int v1), (2, .int v2), (3, .int v3), (4, .int (-1 : Int32))] [] T I L R P))))) : zAW mX1_rename d 0 17 [(0, .ref 1000), (1, .int v1), (2, .int v2), (3, .int v3)] [] T I L R P := by
  refine za_iload_n (pc' := 18) 1 dX1_rename_17 rfl rfl rfl ?_
  refine za_aload_n (pc' := 19) 0 dX1_rename_18 rfl rfl rfl ?_
  refine za_get (fi := 8) (v := .ref (R 1000 8)) (pc' := 22) dX1_rename_19 zc0 (by decide) in_X1 (by decide) q498 (Or.inl rfl) (congrArg Prod.fst (zX_t1000 hx)) rfl rfl ?_
  obtain ⟨ht1, h⟩ := h
  refine za_getN (fi := 2) (v := .ref (R (R 1000 8) 2)) (pc' := 25) dX1_rename_22 zc2 (by decide) in_X3 (by decide) q278 (Or.inl rfl) ht1 rfl rfl ?_
  obtain ⟨ht4, h⟩ := h
  obtain ⟨hd3, h⟩ := h
  refine za_callV (κ := (R (R 1000 8) 2)) (M2 := mJ2_size) (d2 := 1) (b2 := 0) (n := 0) (As := []) (st := [.int v1]) (pc' := 28) zc4 (by decide) ht4 dX1_rename_25 rfl (lw_V q1070 q466 q467 q137 q468) ⟨rfl, hd_J2_size⟩ rfl (by decide) hd3 (Nat.zero_le _) (Or.inl rfl) (Nat.le_of_ble_eq_true rfl) h (zqI__k rfl (fun r2 h => ?_)) (fun _ _ _ _ _ _ h9 h8 => absurd h8.1 h9) rfl
  refine za_icmp_ne (pc' := 31) (tgt := 66) dX1_rename_28 (by decide) rfl (fun c9 => ?_) (fun c9 => ?_)
  · replace h := h.2 c9
    refine za_iconst (pc' := 67) dX1_rename_66 zi_m1 rfl ?_
    refine za_istore (pc' := 69) (l' := [(4, .int (-1 : Int32)), (0, .ref 1000), (1, .int v1), (2, .int v2), (3, .int v3)]) dX1_rename_67 (Nat.le_of_ble_eq_true rfl) rfl rfl ?_
    exact zAW_sub [1, 2, 3, 4, 0] rfl h
  · replace h := h.1 c9
    refine za_aload_n (pc' := 32) 0 dX1_rename_31 rfl rfl rfl ?_
    refine za_iload_n (pc' := 33) 3 dX1_rename_32 rfl rfl rfl ?_
    refine za_putI (fi := 27) (pc' := 36) dX1_rename_33 zc0 (by decide) in_X1 zok0 znm0 (by decide) q517 (Or.inl rfl) rfl rfl (fun _ _ _ => rfl) rfl rfl (congrArg Prod.fst (zX_t1000 hx)) rfl ?_
    refine za_iconst (pc' := 37) dX1_rename_36 zi_0 rfl ?_
    refine za_istore (pc' := 39) (l' := [(4, .int (0 : Int32)), (0, .ref 1000), (1, .int v1), (2, .int v2), (3, .int v3)]) dX1_rename_37 (Nat.le_of_ble_eq_true rfl) rfl rfl ?_
    exact zAW_sub [1, 2, 0] rfl h
theorem gX1_rename_39 {d : Nat} {v1 : Int32} {v4 : Int32} {T : zT} {I : zI} {L : zL} {R : zR} {P : zP} (hx : zXok T R) (h : ((v1 ≤ v4 → P 0 (.int 0) T I L R) ∧ (¬ v1 ≤ v4 → vp_in v4 6 ∧ zAW mX1_rename d 0 39 [(0, .ref 1000), (1, .int v1), (4, .int (v4 + (1 : Int32)))] [] T (z2 I 1027 (v4.toNatClampNeg) (I 1026 (v4.toNatClampNeg))) L R P))) : zAW mX1_rename d 0 39 [(0, .ref 1000), (1, .int v1), (4, .int v4)] [] T I L R P := by
  refine za_iload (pc' := 41) 2 dX1_rename_39 rfl rfl ?_
  refine za_iload_n (pc' := 42) 1 dX1_rename_41 rfl rfl rfl ?_
  refine za_icmp_ge (pc' := 45) (tgt := 65) dX1_rename_42 (by decide) rfl (fun c9 => ?_) (fun c9 => ?_)
  · replace h := h.1 c9
    exact za_return rfl dX1_rename_65 h
  · replace h := h.2 c9
    refine za_aload_n (pc' := 46) 0 dX1_rename_45 rfl rfl rfl ?_
    refine za_get (fi := 26) (v := .ref 1027) (pc' := 49) dX1_rename_46 zc0 (by decide) in_X1 (by decide) q516 (Or.inl rfl) (congrArg Prod.fst (zX_t1000 hx)) (congrArg Value.ref (zX_r1000_26 hx)) rfl ?_
    refine za_iload (pc' := 51) 2 dX1_rename_49 rfl rfl ?_
    refine za_aload_n (pc' := 52) 0 dX1_rename_51 rfl rfl rfl ?_
    refine za_get (fi := 25) (v := .ref 1026) (pc' := 55) dX1_rename_52 zc0 (by decide) in_X1 (by decide) q515 (Or.inl rfl) (congrArg Prod.fst (zX_t1000 hx)) (congrArg Value.ref (zX_r1000_25 hx)) rfl ?_
    refine za_iload (pc' := 57) 2 dX1_rename_55 rfl rfl ?_
    obtain ⟨hi5, h⟩ := h
    refine za_iald (v := .int (I 1026 (v4.toNatClampNeg))) (pc' := 58) dX1_rename_57 (zX_t1026 hx) hi5 rfl rfl ?_
    refine za_iast (k := v4.toNatClampNeg) (pc' := 59) dX1_rename_58 (zX_t1027 hx) hi5 rfl rfl ?_
    refine za_iinc (pc' := 62) (l' := [(4, .int (v4 + (1 : Int32))), (0, .ref 1000), (1, .int v1)]) 2 dX1_rename_59 rfl (zinc zi_1) (Nat.le_of_ble_eq_true rfl) rfl rfl ?_
    refine za_goto (tgt := 39) dX1_rename_62 (by decide) ?_
    exact zAW_sub [1, 2, 0] rfl h
theorem gX1_rename_69 {d : Nat} {v1 : Int32} {v2 : Int32} {v3 : Int32} {v4 : Int32} {T : zT} {I : zI} {L : zL} {R : zR} {P : zP} (hx : zXok T R) (h : (T (R 1000 8)).1 = 3 ∧ (T (R (R 1000 8) 3)).1 = 5 ∧ 1 < d ∧ zMet mJ2_size 1 0 [.ref (R (R 1000 8) 3)] T I L R (zqI_ T I L R  (fun (r7 : Int32)  => ((r7 ≤ v4 → vp_in v1 6 ∧ P 0 (.int 0) T (z2 I 1026 (v1.toNatClampNeg) (-1 : Int32)) L R) ∧ (¬ r7 ≤ v4 → ((v4 = (-1 : Int32) → zAW mX1_rename d 0 163 [(0, .ref 1000), (1, .int v1), (2, .int v2), (3, .int v3), (4, .int v4)] [] T I L R P) ∧ (¬ v4 = (-1 : Int32) → ((((v2 >>> (v4 &&& 31)) &&& (1 : Int32)) = (1 : Int32) → zAW mX1_rename d 0 69 [(0, .ref 1000), (1, .int v1), (2, .int v2), (3, .int v3), (4, .int (v4 + (1 : Int32)))] [] T I L R P) ∧ (¬ ((v2 >>> (v4 &&& 31)) &&& (1 : Int32)) = (1 : Int32) → 3 < d ∧ zMet mJ2_get 3 0 [.ref (R (R 1000 8) 3), .int v4] T I L R (zqR_ T I L R  (fun (r11 : Nat)  => (T r11).1 = 11 ∧ vp_in v1 6 ∧ (T (R 1202 (v1.toNatClampNeg))).1 = 11 ∧ (((I r11 1) = (I (R 1202 (v1.toNatClampNeg)) 1) → 3 < d ∧ zMet mJ2_get 3 0 [.ref (R (R 1000 8) 3), .int v4] T I L R (zqR_ T I L R  (fun (r16 : Nat)  => (T r16).1 = 11 ∧ 4 < d ∧ zMet mX1_kindOf 4 0 [.ref 1000, .int v1] T I L R (zqR_ T I L R  (fun (r19 : Nat)  => 5 < d ∧ zMet mX1_serves_2 5 0 [.ref 1000, .ref r16, .ref r19] T I L R (zqI_IL T R  (fun (r21 : Int32) (I22 : zI) (L23 : zL)  => ((r21 = 0 → zAW mX1_rename d 0 69 [(0, .ref 1000), (1, .int v1), (2, .int v2), (3, .int v3), (4, .int (v4 + (1 : Int32)))] [] T I22 L23 R P) ∧ (¬ r21 = 0 → zAW mX1_rename d 0 163 [(0, .ref 1000), (1, .int v1), (2, .int v2), (3, .int v3), (4, .int v4)] [] T I22 L23 R P))))))))) ∧ (¬ (I r11 1) = (I (R 1202 (v1.toNatClampNeg)) 1) → zAW mX1_rename d 0 69 [(0, .ref 1000), (1, .int v1), (2, .int v2), (3, .int v3), (4, .int (v4 + (1 : Int32)))] [] T I L R P))))))))))))) : zAW mX1_rename d 0 69 [(0, .ref 1000), (1, .int v1), (2, .int v2), (3, .int v3), (4, .int v4)] [] T I L R P := by
  refine za_iload (pc' := 71) 4 dX1_rename_69 rfl rfl ?_
  refine za_aload_n (pc' := 72) 0 dX1_rename_71 rfl rfl rfl ?_
  refine za_get (fi := 8) (v := .ref (R 1000 8)) (pc' := 75) dX1_rename_72 zc0 (by decide) in_X1 (by decide) q498 (Or.inl rfl) (congrArg Prod.fst (zX_t1000 hx)) rfl rfl ?_
  obtain ⟨ht6, h⟩ := h
  refine za_getN (fi := 3) (v := .ref (R (R 1000 8) 3)) (pc' := 78) dX1_rename_75 zc2 (by decide) in_X3 (by decide) q282 (Or.inl rfl) ht6 rfl rfl ?_
  obtain ⟨ht9, h⟩ := h
  obtain ⟨hd8, h⟩ := h
  refine za_callV (κ := (R (R 1000 8) 3)) (M2 := mJ2_size) (d2 := 1) (b2 := 0) (n := 0) (As := []) (st := [.int v4]) (pc' := 81) zc4 (by decide) ht9 dX1_rename_78 rfl (lw_V q1070 q466 q467 q137 q468) ⟨rfl, hd_J2_size⟩ rfl (by decide) hd8 (Nat.zero_le _) (Or.inl rfl) (Nat.le_of_ble_eq_true rfl) h (zqI__k rfl (fun r7 h => ?_)) (fun _ _ _ _ _ _ h9 h8 => absurd h8.1 h9) rfl
  refine za_icmp_ge (pc' := 84) (tgt := 221) dX1_rename_81 (by decide) rfl (fun c9 => ?_) (fun c9 => ?_)
  · replace h := h.1 c9
    refine za_aload_n (pc' := 222) 0 dX1_rename_221 rfl rfl rfl ?_
    refine za_get (fi := 25) (v := .ref 1026) (pc' := 225) dX1_rename_222 zc0 (by decide) in_X1 (by decide) q515 (Or.inl rfl) (congrArg Prod.fst (zX_t1000 hx)) (congrArg Value.ref (zX_r1000_25 hx)) rfl ?_
    refine za_iload_n (pc' := 226) 1 dX1_rename_225 rfl rfl rfl ?_
    refine za_iconst (pc' := 227) dX1_rename_226 zi_m1 rfl ?_
    obtain ⟨hi10, h⟩ := h
    refine za_iast (k := v1.toNatClampNeg) (pc' := 228) dX1_rename_227 (zX_t1026 hx) hi10 rfl rfl ?_
    exact za_return rfl dX1_rename_228 h
  · replace h := h.2 c9
    refine za_iload (pc' := 86) 4 dX1_rename_84 rfl rfl ?_
    refine za_iconst (pc' := 87) dX1_rename_86 zi_m1 rfl ?_
    refine za_icmp_eq (pc' := 90) (tgt := 163) dX1_rename_87 (by decide) rfl (fun c9 => ?_) (fun c9 => ?_)
    · replace h := h.1 c9
      exact zAW_sub [0, 1, 2, 3, 4] rfl h
    · replace h := h.2 c9
      refine za_iload_n (pc' := 91) 2 dX1_rename_90 rfl rfl rfl ?_
      refine za_iload (pc' := 93) 4 dX1_rename_91 rfl rfl ?_
      refine za_ishr (pc' := 94) dX1_rename_93 rfl ?_
      refine za_iconst (pc' := 95) dX1_rename_94 zi_1 rfl ?_
      refine za_iand (pc' := 96) dX1_rename_95 rfl ?_
      refine za_iconst (pc' := 97) dX1_rename_96 zi_1 rfl ?_
      refine za_icmp_eq (pc' := 100) (tgt := 215) dX1_rename_97 (by decide) rfl (fun c9 => ?_) (fun c9 => ?_)
      · replace h := h.1 c9
        refine za_iinc (pc' := 218) (l' := [(4, .int (v4 + (1 : Int32))), (0, .ref 1000), (1, .int v1), (2, .int v2), (3, .int v3)]) 4 dX1_rename_215 rfl (zinc zi_1) (Nat.le_of_ble_eq_true rfl) rfl rfl ?_
        refine za_goto (tgt := 69) dX1_rename_218 (by decide) ?_
        exact zAW_sub [1, 2, 3, 4, 0] rfl h
      · replace h := h.2 c9
        refine za_aload_n (pc' := 101) 0 dX1_rename_100 rfl rfl rfl ?_
        refine za_get (fi := 8) (v := .ref (R 1000 8)) (pc' := 104) dX1_rename_101 zc0 (by decide) in_X1 (by decide) q498 (Or.inl rfl) (congrArg Prod.fst (zX_t1000 hx)) rfl rfl ?_
        refine za_getN (fi := 3) (v := .ref (R (R 1000 8) 3)) (pc' := 107) dX1_rename_104 zc2 (by decide) in_X3 (by decide) q282 (Or.inl rfl) ht6 rfl rfl ?_
        refine za_iload (pc' := 109) 4 dX1_rename_107 rfl rfl ?_
        obtain ⟨hd12, h⟩ := h
        refine za_callV (κ := (R (R 1000 8) 3)) (M2 := mJ2_get) (d2 := 3) (b2 := 0) (n := 1) (As := [.int v4]) (st := []) (pc' := 112) zc4 (by decide) ht9 dX1_rename_109 rfl (lw_V q1091 q470 q471 q137 q472) ⟨rfl, hd_J2_get⟩ rfl (by decide) hd12 (Nat.zero_le _) (Or.inl rfl) (Nat.le_of_ble_eq_true rfl) h (zqR__k rfl (fun r11 h => ?_)) (fun _ _ _ _ _ _ h9 h8 => absurd h8.1 h9) rfl
        obtain ⟨ht13, h⟩ := h
        refine za_cast (pc' := 115) dX1_rename_112 q455 zc10 (by decide) ht13 rfl ?_
        refine za_getN (fi := 1) (v := .int (I r11 1)) (pc' := 118) dX1_rename_115 zc10 (by decide) in_X11 (by decide) q408 (Or.inl rfl) ht13 rfl rfl ?_
        refine za_aload_n (pc' := 119) 0 dX1_rename_118 rfl rfl rfl ?_
        refine za_get (fi := 10) (v := .ref 1200) (pc' := 122) dX1_rename_119 zc0 (by decide) in_X1 (by decide) q500 (Or.inl rfl) (congrArg Prod.fst (zX_t1000 hx)) (congrArg Value.ref (zX_r1000_10 hx)) rfl ?_
        refine za_getN (fi := 1) (v := .ref 1202) (pc' := 125) dX1_rename_122 zc9 (by decide) in_X10 (by decide) q418 (Or.inl rfl) (congrArg Prod.fst (zX_t1200 hx)) (congrArg Value.ref (zX_r1200_1 hx)) rfl ?_
        refine za_iload_n (pc' := 126) 1 dX1_rename_125 rfl rfl rfl ?_
        obtain ⟨hi14, h⟩ := h
        refine za_aald (r := (R 1202 (v1.toNatClampNeg))) (t := 5) (C := RX11) (pc' := 127) dX1_rename_126 (by decide) (fun _ => rfl) (zX_t1202 hx) hi14 (rfl) rfl ?_
        obtain ⟨ht15, h⟩ := h
        refine za_getN (fi := 1) (v := .int (I (R 1202 (v1.toNatClampNeg)) 1)) (pc' := 130) dX1_rename_127 zc10 (by decide) in_X11 (by decide) q408 (Or.inl rfl) ht15 rfl rfl ?_
        refine za_icmp_ne (pc' := 133) (tgt := 215) dX1_rename_130 (by decide) rfl (fun c9 => ?_) (fun c9 => ?_)
        · replace h := h.2 c9
          refine za_iinc (pc' := 218) (l' := [(4, .int (v4 + (1 : Int32))), (0, .ref 1000), (1, .int v1), (2, .int v2), (3, .int v3)]) 4 dX1_rename_215 rfl (zinc zi_1) (Nat.le_of_ble_eq_true rfl) rfl rfl ?_
          refine za_goto (tgt := 69) dX1_rename_218 (by decide) ?_
          exact zAW_sub [1, 2, 3, 4, 0] rfl h
        · replace h := h.1 c9
          refine za_aload_n (pc' := 134) 0 dX1_rename_133 rfl rfl rfl ?_
          refine za_aload_n (pc' := 135) 0 dX1_rename_134 rfl rfl rfl ?_
          refine za_get (fi := 8) (v := .ref (R 1000 8)) (pc' := 138) dX1_rename_135 zc0 (by decide) in_X1 (by decide) q498 (Or.inl rfl) (congrArg Prod.fst (zX_t1000 hx)) rfl rfl ?_
          refine za_getN (fi := 3) (v := .ref (R (R 1000 8) 3)) (pc' := 141) dX1_rename_138 zc2 (by decide) in_X3 (by decide) q282 (Or.inl rfl) ht6 rfl rfl ?_
          refine za_iload (pc' := 143) 4 dX1_rename_141 rfl rfl ?_
          obtain ⟨hd17, h⟩ := h
          refine za_callV (κ := (R (R 1000 8) 3)) (M2 := mJ2_get) (d2 := 3) (b2 := 0) (n := 1) (As := [.int v4]) (st := [.ref 1000]) (pc' := 146) zc4 (by decide) ht9 dX1_rename_143 rfl (lw_V q1091 q470 q471 q137 q472) ⟨rfl, hd_J2_get⟩ rfl (by decide) hd17 (Nat.zero_le _) (Or.inl rfl) (Nat.le_of_ble_eq_true rfl) h (zqR__k rfl (fun r16 h => ?_)) (fun _ _ _ _ _ _ h9 h8 => absurd h8.1 h9) rfl
          obtain ⟨ht18, h⟩ := h
          refine za_cast (pc' := 149) dX1_rename_146 q455 zc10 (by decide) ht18 rfl ?_
          refine za_aload_n (pc' := 150) 0 dX1_rename_149 rfl rfl rfl ?_
          refine za_iload_n (pc' := 151) 1 dX1_rename_150 rfl rfl rfl ?_
          obtain ⟨hd20, h⟩ := h
          refine za_callV (κ := 1000) (M2 := mX1_kindOf) (d2 := 4) (b2 := 0) (n := 1) (As := [.int v1]) (st := [.ref r16, .ref 1000]) (pc' := 154) zc0 (by decide) (congrArg Prod.fst (zX_t1000 hx)) dX1_rename_151 rfl (lw_V q1087 q1089 qs34 q131 q1090) ⟨rfl, hd_X1_kindOf⟩ rfl (by decide) hd20 (Nat.zero_le _) (Or.inl rfl) (Nat.le_of_ble_eq_true rfl) h (zqR__k rfl (fun r19 h => ?_)) (fun _ _ _ _ _ _ h9 h8 => absurd h8.1 h9) rfl
          obtain ⟨hd24, h⟩ := h
          refine za_callV (κ := 1000) (M2 := mX1_serves_2) (d2 := 5) (b2 := 0) (n := 2) (As := [.ref r16, .ref r19]) (st := []) (pc' := 157) zc0 (by decide) (congrArg Prod.fst (zX_t1000 hx)) dX1_rename_154 rfl (lw_V q1298 q1300 qs49 q131 q1301) ⟨rfl, hd_X1_serves_2⟩ rfl (by decide) hd24 (Nat.zero_le _) (Or.inl rfl) (Nat.le_of_ble_eq_true rfl) h (zqI_IL_k rfl (fun r21 I22 L23 h => ?_)) (fun _ _ _ _ _ _ h9 h8 => absurd h8.1 h9) rfl
          refine za_if_ne (pc' := 160) (tgt := 163) dX1_rename_157 (by decide) rfl (fun c9 => ?_) (fun c9 => ?_)
          · replace h := h.2 c9
            exact zAW_sub [0, 1, 2, 3, 4] rfl h
          · replace h := h.1 c9
            refine za_goto (tgt := 215) dX1_rename_160 (by decide) ?_
            refine za_iinc (pc' := 218) (l' := [(4, .int (v4 + (1 : Int32))), (0, .ref 1000), (1, .int v1), (2, .int v2), (3, .int v3)]) 4 dX1_rename_215 rfl (zinc zi_1) (Nat.le_of_ble_eq_true rfl) rfl rfl ?_
            refine za_goto (tgt := 69) dX1_rename_218 (by decide) ?_
            exact zAW_sub [1, 2, 3, 4, 0] rfl h
theorem gX1_rename_163 {d : Nat} {v1 : Int32} {v2 : Int32} {v3 : Int32} {v4 : Int32} {T : zT} {I : zI} {L : zL} {R : zR} {P : zP} (hx : zXok T R) (h : vp_in v1 6 ∧ 6 < d ∧ zMet mX1_areAgreed 6 0 [.ref 1000, .int v1] T (z2 I 1026 (v1.toNatClampNeg) v4) L R (zqI_ T (z2 I 1026 (v1.toNatClampNeg) v4) L R  (fun (r26 : Int32)  => ((r26 = 0 → zAW mX1_rename d 0 69 [(0, .ref 1000), (1, .int v1), (2, .int v2), (3, .int v3), (4, .int (v4 + (1 : Int32)))] [] T (z2 I 1026 (v1.toNatClampNeg) v4) L R P) ∧ (¬ r26 = 0 → ((v4 = (-1 : Int32) → zAW mX1_rename d 0 199 [(0, .ref 1000), (1, .int v1), (2, .int v2), (3, .int v3), (4, .int v4)] [.int v2, .int (v1 + (1 : Int32)), .ref 1000] T (z2 I 1026 (v1.toNatClampNeg) v4) L R P) ∧ (¬ v4 = (-1 : Int32) → zAW mX1_rename d 0 199 [(0, .ref 1000), (1, .int v1), (2, .int v2), (3, .int v3), (4, .int v4)] [.int (v2 ||| ((1 : Int32) <<< (v4 &&& 31))), .int (v1 + (1 : Int32)), .ref 1000] T (z2 I 1026 (v1.toNatClampNeg) v4) L R P))))))) : zAW mX1_rename d 0 163 [(0, .ref 1000), (1, .int v1), (2, .int v2), (3, .int v3), (4, .int v4)] [] T I L R P := by
  refine za_aload_n (pc' := 164) 0 dX1_rename_163 rfl rfl rfl ?_
  refine za_get (fi := 25) (v := .ref 1026) (pc' := 167) dX1_rename_164 zc0 (by decide) in_X1 (by decide) q515 (Or.inl rfl) (congrArg Prod.fst (zX_t1000 hx)) (congrArg Value.ref (zX_r1000_25 hx)) rfl ?_
  refine za_iload_n (pc' := 168) 1 dX1_rename_167 rfl rfl rfl ?_
  refine za_iload (pc' := 170) 4 dX1_rename_168 rfl rfl ?_
  obtain ⟨hi25, h⟩ := h
  refine za_iast (k := v1.toNatClampNeg) (pc' := 171) dX1_rename_170 (zX_t1026 hx) hi25 rfl rfl ?_
  refine za_aload_n (pc' := 172) 0 dX1_rename_171 rfl rfl rfl ?_
  refine za_iload_n (pc' := 173) 1 dX1_rename_172 rfl rfl rfl ?_
  obtain ⟨hd27, h⟩ := h
  refine za_callV (κ := 1000) (M2 := mX1_areAgreed) (d2 := 6) (b2 := 0) (n := 1) (As := [.int v1]) (st := []) (pc' := 176) zc0 (by decide) (congrArg Prod.fst (zX_t1000 hx)) dX1_rename_173 rfl (lw_V q1340 q1342 qs55 q131 q1343) ⟨rfl, hd_X1_areAgreed⟩ rfl (by decide) hd27 (Nat.zero_le _) (Or.inl rfl) (Nat.le_of_ble_eq_true rfl) h (zqI__k rfl (fun r26 h => ?_)) (fun _ _ _ _ _ _ h9 h8 => absurd h8.1 h9) rfl
  refine za_if_eq (pc' := 179) (tgt := 215) dX1_rename_176 (by decide) rfl (fun c9 => ?_) (fun c9 => ?_)
  · replace h := h.1 c9
    refine za_iinc (pc' := 218) (l' := [(4, .int (v4 + (1 : Int32))), (0, .ref 1000), (1, .int v1), (2, .int v2), (3, .int v3)]) 4 dX1_rename_215 rfl (zinc zi_1) (Nat.le_of_ble_eq_true rfl) rfl rfl ?_
    refine za_goto (tgt := 69) dX1_rename_218 (by decide) ?_
    exact zAW_sub [1, 2, 3, 4, 0] rfl h
  · replace h := h.2 c9
    refine za_aload_n (pc' := 180) 0 dX1_rename_179 rfl rfl rfl ?_
    refine za_iload_n (pc' := 181) 1 dX1_rename_180 rfl rfl rfl ?_
    refine za_iconst (pc' := 182) dX1_rename_181 zi_1 rfl ?_
    refine za_iadd (pc' := 183) dX1_rename_182 rfl ?_
    refine za_iload (pc' := 185) 4 dX1_rename_183 rfl rfl ?_
    refine za_iconst (pc' := 186) dX1_rename_185 zi_m1 rfl ?_
    refine za_icmp_ne (pc' := 189) (tgt := 193) dX1_rename_186 (by decide) rfl (fun c9 => ?_) (fun c9 => ?_)
    · replace h := h.2 c9
      refine za_iload_n (pc' := 194) 2 dX1_rename_193 rfl rfl rfl ?_
      refine za_iconst (pc' := 195) dX1_rename_194 zi_1 rfl ?_
      refine za_iload (pc' := 197) 4 dX1_rename_195 rfl rfl ?_
      refine za_ishl (pc' := 198) dX1_rename_197 rfl ?_
      refine za_ior (pc' := 199) dX1_rename_198 rfl ?_
      exact zAW_sub [0, 1, 2, 3, 4] rfl h
    · replace h := h.1 c9
      refine za_iload_n (pc' := 190) 2 dX1_rename_189 rfl rfl rfl ?_
      refine za_goto (tgt := 199) dX1_rename_190 (by decide) ?_
      exact zAW_sub [0, 1, 2, 3, 4] rfl h
theorem gX1_rename_199 {d : Nat} {v1 : Int32} {v2 : Int32} {v3 : Int32} {v4 : Int32} {s0 : Int32} {s1 : Int32} {s2 : Nat} {T : zT} {I : zI} {L : zL} {R : zR} {P : zP} (hx : zXok T R) (h : ((v4 = (-1 : Int32) → (T s2).1 = 1 ∧ ∃ d35, d35 < d ∧ zMet mX1_rename d35 0 [.ref s2, .int s1, .int s0, .int v3] T I L R (zqV_IL T R  (fun (I33 : zI) (L34 : zL)  => zAW mX1_rename d 0 69 [(0, .ref 1000), (1, .int v1), (2, .int v2), (3, .int v3), (4, .int (v4 + (1 : Int32)))] [] T I33 L34 R P))) ∧ (¬ v4 = (-1 : Int32) → (T s2).1 = 1 ∧ ∃ d30, d30 < d ∧ zMet mX1_rename d30 0 [.ref s2, .int s1, .int s0, .int (v3 + (1 : Int32))] T I L R (zqV_IL T R  (fun (I28 : zI) (L29 : zL)  => zAW mX1_rename d 0 69 [(0, .ref 1000), (1, .int v1), (2, .int v2), (3, .int v3), (4, .int (v4 + (1 : Int32)))] [] T I28 L29 R P))))) : zAW mX1_rename d 0 199 [(0, .ref 1000), (1, .int v1), (2, .int v2), (3, .int v3), (4, .int v4)] [.int s0, .int s1, .ref s2] T I L R P := by
  refine za_iload (pc' := 201) 4 dX1_rename_199 rfl rfl ?_
  refine za_iconst (pc' := 202) dX1_rename_201 zi_m1 rfl ?_
  refine za_icmp_ne (pc' := 205) (tgt := 209) dX1_rename_202 (by decide) rfl (fun c9 => ?_) (fun c9 => ?_)
  · replace h := h.2 c9
    refine za_iload_n (pc' := 210) 3 dX1_rename_209 rfl rfl rfl ?_
    refine za_iconst (pc' := 211) dX1_rename_210 zi_1 rfl ?_
    refine za_iadd (pc' := 212) dX1_rename_211 rfl ?_
    obtain ⟨ht32, h⟩ := h
    obtain ⟨d30, hd31, h⟩ := h
    refine za_callV (κ := s2) (M2 := mX1_rename) (d2 := d30) (b2 := 0) (n := 3) (As := [.int s1, .int s0, .int (v3 + (1 : Int32))]) (st := []) (pc' := 215) zc0 (by decide) ht32 dX1_rename_212 rfl (lw_V q1336 q1338 qs54 q131 q1339) ⟨rfl, hd_X1_rename⟩ rfl (by decide) hd31 (Nat.zero_le _) (Or.inl rfl) (Nat.le_of_ble_eq_true rfl) h (zqV_IL_k rfl (fun I28 L29 h => ?_)) (fun _ _ _ _ _ _ h9 h8 => absurd h8.1 h9) rfl
    refine za_iinc (pc' := 218) (l' := [(4, .int (v4 + (1 : Int32))), (0, .ref 1000), (1, .int v1), (2, .int v2), (3, .int v3)]) 4 dX1_rename_215 rfl (zinc zi_1) (Nat.le_of_ble_eq_true rfl) rfl rfl ?_
    refine za_goto (tgt := 69) dX1_rename_218 (by decide) ?_
    exact zAW_sub [1, 2, 3, 4, 0] rfl h
  · replace h := h.1 c9
    refine za_iload_n (pc' := 206) 3 dX1_rename_205 rfl rfl rfl ?_
    refine za_goto (tgt := 212) dX1_rename_206 (by decide) ?_
    obtain ⟨ht37, h⟩ := h
    obtain ⟨d35, hd36, h⟩ := h
    refine za_callV (κ := s2) (M2 := mX1_rename) (d2 := d35) (b2 := 0) (n := 3) (As := [.int s1, .int s0, .int v3]) (st := []) (pc' := 215) zc0 (by decide) ht37 dX1_rename_212 rfl (lw_V q1336 q1338 qs54 q131 q1339) ⟨rfl, hd_X1_rename⟩ rfl (by decide) hd36 (Nat.zero_le _) (Or.inl rfl) (Nat.le_of_ble_eq_true rfl) h (zqV_IL_k rfl (fun I33 L34 h => ?_)) (fun _ _ _ _ _ _ h9 h8 => absurd h8.1 h9) rfl
    refine za_iinc (pc' := 218) (l' := [(4, .int (v4 + (1 : Int32))), (0, .ref 1000), (1, .int v1), (2, .int v2), (3, .int v3)]) 4 dX1_rename_215 rfl (zinc zi_1) (Nat.le_of_ble_eq_true rfl) rfl rfl ?_
    refine za_goto (tgt := 69) dX1_rename_218 (by decide) ?_
    exact zAW_sub [1, 2, 3, 4, 0] rfl h
theorem sX1_rename {d b : Nat} {v1 : Int32} {v2 : Int32} {v3 : Int32} {T : zT} {I : zI} {L : zL} {R : zR} {P : zP} (h : zAW mX1_rename d b 0 [(0, .ref 1000), (1, .int v1), (2, .int v2), (3, .int v3)] [] T I L R P) : zMet mX1_rename d b [.ref 1000, .int v1, .int v2, .int v3] T I L R P := zMet_of (by decide +kernel) rfl (Nat.le_of_ble_eq_true rfl) rfl h
/-! TwoTongues.areAgreed (I)Z -/
def dkwX1_areAgreed_2 : List UInt8 := [3, 172, 132, 2, 1, 167, 255, 206, 4, 172]
abbrev dktX1_areAgreed_2 : List UInt8 := dkwX1_areAgreed_2 ++ []
def dkwX1_areAgreed_1 : List UInt8 := [163, 0, 26, 42, 180, 0, 39, 180, 1, 159, 28, 46, 27, 163, 0, 13, 42, 28, 182, 1, 168, 154, 0, 5]
abbrev dktX1_areAgreed_1 : List UInt8 := dkwX1_areAgreed_1 ++ dktX1_areAgreed_2
def dkwX1_areAgreed_0 : List UInt8 := [3, 61, 28, 42, 180, 0, 39, 180, 1, 165, 162, 0, 45, 42, 180, 0, 39, 180, 1, 149, 28, 46, 27]
abbrev dktX1_areAgreed_0 : List UInt8 := dkwX1_areAgreed_0 ++ dktX1_areAgreed_1
theorem dksX1_areAgreed_0 : cX1_areAgreed.data.toList.drop 0 = dktX1_areAgreed_0 := by decide +kernel
theorem dksX1_areAgreed_1 : cX1_areAgreed.data.toList.drop 23 = dktX1_areAgreed_1 := dk_seg dksX1_areAgreed_0 23 rfl rfl
theorem dksX1_areAgreed_2 : cX1_areAgreed.data.toList.drop 47 = dktX1_areAgreed_2 := dk_seg dksX1_areAgreed_1 24 rfl rfl
theorem dX1_areAgreed_0 : decode cX1_areAgreed 0 = .ok (.iconst 0, 1) := dk_3 (dk_at dksX1_areAgreed_0 0 rfl rfl)
theorem dX1_areAgreed_1 : decode cX1_areAgreed 1 = .ok (.istore_n 2, 1) := dk_61 (dk_at dksX1_areAgreed_0 1 rfl rfl)
theorem dX1_areAgreed_2 : decode cX1_areAgreed 2 = .ok (.iload_n 2, 1) := dk_28 (dk_at dksX1_areAgreed_0 2 rfl rfl)
theorem dX1_areAgreed_3 : decode cX1_areAgreed 3 = .ok (.aload_n 0, 1) := dk_42 (dk_at dksX1_areAgreed_0 3 rfl rfl)
theorem dX1_areAgreed_4 : decode cX1_areAgreed 4 = .ok (.getfield 39, 3) := dk_180 0 39 (dk_at dksX1_areAgreed_0 4 rfl rfl)
theorem dX1_areAgreed_7 : decode cX1_areAgreed 7 = .ok (.getfield 421, 3) := dk_180 1 165 (dk_at dksX1_areAgreed_0 7 rfl rfl)
theorem dX1_areAgreed_10 : decode cX1_areAgreed 10 = .ok (.if_icmp .ge 45, 3) := dk_162 0 45 (dk_at dksX1_areAgreed_0 10 rfl rfl)
theorem dX1_areAgreed_13 : decode cX1_areAgreed 13 = .ok (.aload_n 0, 1) := dk_42 (dk_at dksX1_areAgreed_0 13 rfl rfl)
theorem dX1_areAgreed_14 : decode cX1_areAgreed 14 = .ok (.getfield 39, 3) := dk_180 0 39 (dk_at dksX1_areAgreed_0 14 rfl rfl)
theorem dX1_areAgreed_17 : decode cX1_areAgreed 17 = .ok (.getfield 405, 3) := dk_180 1 149 (dk_at dksX1_areAgreed_0 17 rfl rfl)
theorem dX1_areAgreed_20 : decode cX1_areAgreed 20 = .ok (.iload_n 2, 1) := dk_28 (dk_at dksX1_areAgreed_0 20 rfl rfl)
theorem dX1_areAgreed_21 : decode cX1_areAgreed 21 = .ok (.iaload, 1) := dk_46 (dk_at dksX1_areAgreed_0 21 rfl rfl)
theorem dX1_areAgreed_22 : decode cX1_areAgreed 22 = .ok (.iload_n 1, 1) := dk_27 (dk_at dksX1_areAgreed_0 22 rfl rfl)
theorem dX1_areAgreed_23 : decode cX1_areAgreed 23 = .ok (.if_icmp .gt 26, 3) := dk_163 0 26 (dk_at dksX1_areAgreed_1 0 rfl rfl)
theorem dX1_areAgreed_26 : decode cX1_areAgreed 26 = .ok (.aload_n 0, 1) := dk_42 (dk_at dksX1_areAgreed_1 3 rfl rfl)
theorem dX1_areAgreed_27 : decode cX1_areAgreed 27 = .ok (.getfield 39, 3) := dk_180 0 39 (dk_at dksX1_areAgreed_1 4 rfl rfl)
theorem dX1_areAgreed_30 : decode cX1_areAgreed 30 = .ok (.getfield 415, 3) := dk_180 1 159 (dk_at dksX1_areAgreed_1 7 rfl rfl)
theorem dX1_areAgreed_33 : decode cX1_areAgreed 33 = .ok (.iload_n 2, 1) := dk_28 (dk_at dksX1_areAgreed_1 10 rfl rfl)
theorem dX1_areAgreed_34 : decode cX1_areAgreed 34 = .ok (.iaload, 1) := dk_46 (dk_at dksX1_areAgreed_1 11 rfl rfl)
theorem dX1_areAgreed_35 : decode cX1_areAgreed 35 = .ok (.iload_n 1, 1) := dk_27 (dk_at dksX1_areAgreed_1 12 rfl rfl)
theorem dX1_areAgreed_36 : decode cX1_areAgreed 36 = .ok (.if_icmp .gt 13, 3) := dk_163 0 13 (dk_at dksX1_areAgreed_1 13 rfl rfl)
theorem dX1_areAgreed_39 : decode cX1_areAgreed 39 = .ok (.aload_n 0, 1) := dk_42 (dk_at dksX1_areAgreed_1 16 rfl rfl)
theorem dX1_areAgreed_40 : decode cX1_areAgreed 40 = .ok (.iload_n 2, 1) := dk_28 (dk_at dksX1_areAgreed_1 17 rfl rfl)
theorem dX1_areAgreed_41 : decode cX1_areAgreed 41 = .ok (.invokevirtual 424, 3) := dk_182 1 168 (dk_at dksX1_areAgreed_1 18 rfl rfl)
theorem dX1_areAgreed_44 : decode cX1_areAgreed 44 = .ok (.ifCond .ne 5, 3) := dk_154 0 5 (dk_at dksX1_areAgreed_1 21 rfl rfl)
theorem dX1_areAgreed_47 : decode cX1_areAgreed 47 = .ok (.iconst 0, 1) := dk_3 (dk_at dksX1_areAgreed_2 0 rfl rfl)
theorem dX1_areAgreed_48 : decode cX1_areAgreed 48 = .ok (.ireturn, 1) := dk_172 (dk_at dksX1_areAgreed_2 1 rfl rfl)
theorem dX1_areAgreed_49 : decode cX1_areAgreed 49 = .ok (.iinc 2 1, 3) := dk_132 2 1 (dk_at dksX1_areAgreed_2 2 rfl rfl)
theorem dX1_areAgreed_52 : decode cX1_areAgreed 52 = .ok (.goto (-50), 3) := dk_167 255 206 (dk_at dksX1_areAgreed_2 5 rfl rfl)
theorem dX1_areAgreed_55 : decode cX1_areAgreed 55 = .ok (.iconst 1, 1) := dk_4 (dk_at dksX1_areAgreed_2 8 rfl rfl)
theorem dX1_areAgreed_56 : decode cX1_areAgreed 56 = .ok (.ireturn, 1) := dk_172 (dk_at dksX1_areAgreed_2 9 rfl rfl)
theorem gX1_areAgreed_0 {v1 : Int32} {T : zT} {I : zI} {L : zL} {R : zR} {P : zP} (hx : zXok T R) (h : zAW mX1_areAgreed 6 0 2 [(0, .ref 1000), (1, .int v1), (2, .int (0 : Int32))] [] T I L R P) : zAW mX1_areAgreed 6 0 0 [(0, .ref 1000), (1, .int v1)] [] T I L R P := by
  refine za_iconst (pc' := 1) dX1_areAgreed_0 zi_0 rfl ?_
  refine za_istore_n (pc' := 2) (l' := [(2, .int (0 : Int32)), (0, .ref 1000), (1, .int v1)]) dX1_areAgreed_1 rfl (Nat.le_of_ble_eq_true rfl) rfl rfl ?_
  exact zAW_sub [1, 2, 0] rfl h
theorem gX1_areAgreed_2 {v1 : Int32} {v2 : Int32} {T : zT} {I : zI} {L : zL} {R : zR} {P : zP} (hx : zXok T R) (h : (T (R 1000 8)).1 = 3 ∧ (((I (R 1000 8) 12) ≤ v2 → P 0 (.int (1 : Int32)) T I L R) ∧ (¬ (I (R 1000 8) 12) ≤ v2 → (T (R (R 1000 8) 4)).1 = 100 ∧ vp_in v2 ((T (R (R 1000 8) 4)).2) ∧ ((v1 < (I (R (R 1000 8) 4) (v2.toNatClampNeg)) → zAW mX1_areAgreed 6 0 2 [(0, .ref 1000), (1, .int v1), (2, .int (v2 + (1 : Int32)))] [] T I L R P) ∧ (¬ v1 < (I (R (R 1000 8) 4) (v2.toNatClampNeg)) → (T (R (R 1000 8) 6)).1 = 100 ∧ vp_in v2 ((T (R (R 1000 8) 6)).2) ∧ ((v1 < (I (R (R 1000 8) 6) (v2.toNatClampNeg)) → zAW mX1_areAgreed 6 0 2 [(0, .ref 1000), (1, .int v1), (2, .int (v2 + (1 : Int32)))] [] T I L R P) ∧ (¬ v1 < (I (R (R 1000 8) 6) (v2.toNatClampNeg)) → zMet mX1_isAgreed 5 0 [.ref 1000, .int v2] T I L R (zqI_ T I L R  (fun (r6 : Int32)  => ((r6 = 0 → P 0 (.int (0 : Int32)) T I L R) ∧ (¬ r6 = 0 → zAW mX1_areAgreed 6 0 2 [(0, .ref 1000), (1, .int v1), (2, .int (v2 + (1 : Int32)))] [] T I L R P))))))))))) : zAW mX1_areAgreed 6 0 2 [(0, .ref 1000), (1, .int v1), (2, .int v2)] [] T I L R P := by
  refine za_iload_n (pc' := 3) 2 dX1_areAgreed_2 rfl rfl rfl ?_
  refine za_aload_n (pc' := 4) 0 dX1_areAgreed_3 rfl rfl rfl ?_
  refine za_get (fi := 8) (v := .ref (R 1000 8)) (pc' := 7) dX1_areAgreed_4 zc0 (by decide) in_X1 (by decide) q498 (Or.inl rfl) (congrArg Prod.fst (zX_t1000 hx)) rfl rfl ?_
  obtain ⟨ht1, h⟩ := h
  refine za_getN (fi := 12) (v := .int (I (R 1000 8) 12)) (pc' := 10) dX1_areAgreed_7 zc2 (by decide) in_X3 (by decide) q305 (Or.inl rfl) ht1 rfl rfl ?_
  refine za_icmp_ge (pc' := 13) (tgt := 55) dX1_areAgreed_10 (by decide) rfl (fun c9 => ?_) (fun c9 => ?_)
  · replace h := h.1 c9
    refine za_iconst (pc' := 56) dX1_areAgreed_55 zi_1 rfl ?_
    exact za_zreturn rfl dX1_areAgreed_56 (by decide) h
  · replace h := h.2 c9
    refine za_aload_n (pc' := 14) 0 dX1_areAgreed_13 rfl rfl rfl ?_
    refine za_get (fi := 8) (v := .ref (R 1000 8)) (pc' := 17) dX1_areAgreed_14 zc0 (by decide) in_X1 (by decide) q498 (Or.inl rfl) (congrArg Prod.fst (zX_t1000 hx)) rfl rfl ?_
    refine za_getN (fi := 4) (v := .ref (R (R 1000 8) 4)) (pc' := 20) dX1_areAgreed_17 zc2 (by decide) in_X3 (by decide) q285 (Or.inl rfl) ht1 rfl rfl ?_
    refine za_iload_n (pc' := 21) 2 dX1_areAgreed_20 rfl rfl rfl ?_
    obtain ⟨ht2, h⟩ := h
    obtain ⟨hi3, h⟩ := h
    refine za_iald (v := .int (I (R (R 1000 8) 4) (v2.toNatClampNeg))) (pc' := 22) dX1_areAgreed_21 (zpair ht2) hi3 rfl rfl ?_
    refine za_iload_n (pc' := 23) 1 dX1_areAgreed_22 rfl rfl rfl ?_
    refine za_icmp_gt (pc' := 26) (tgt := 49) dX1_areAgreed_23 (by decide) rfl (fun c9 => ?_) (fun c9 => ?_)
    · replace h := h.1 c9
      refine za_iinc (pc' := 52) (l' := [(2, .int (v2 + (1 : Int32))), (0, .ref 1000), (1, .int v1)]) 2 dX1_areAgreed_49 rfl (zinc zi_1) (Nat.le_of_ble_eq_true rfl) rfl rfl ?_
      refine za_goto (tgt := 2) dX1_areAgreed_52 (by decide) ?_
      exact zAW_sub [1, 2, 0] rfl h
    · replace h := h.2 c9
      refine za_aload_n (pc' := 27) 0 dX1_areAgreed_26 rfl rfl rfl ?_
      refine za_get (fi := 8) (v := .ref (R 1000 8)) (pc' := 30) dX1_areAgreed_27 zc0 (by decide) in_X1 (by decide) q498 (Or.inl rfl) (congrArg Prod.fst (zX_t1000 hx)) rfl rfl ?_
      refine za_getN (fi := 6) (v := .ref (R (R 1000 8) 6)) (pc' := 33) dX1_areAgreed_30 zc2 (by decide) in_X3 (by decide) q291 (Or.inl rfl) ht1 rfl rfl ?_
      refine za_iload_n (pc' := 34) 2 dX1_areAgreed_33 rfl rfl rfl ?_
      obtain ⟨ht4, h⟩ := h
      obtain ⟨hi5, h⟩ := h
      refine za_iald (v := .int (I (R (R 1000 8) 6) (v2.toNatClampNeg))) (pc' := 35) dX1_areAgreed_34 (zpair ht4) hi5 rfl rfl ?_
      refine za_iload_n (pc' := 36) 1 dX1_areAgreed_35 rfl rfl rfl ?_
      refine za_icmp_gt (pc' := 39) (tgt := 49) dX1_areAgreed_36 (by decide) rfl (fun c9 => ?_) (fun c9 => ?_)
      · replace h := h.1 c9
        refine za_iinc (pc' := 52) (l' := [(2, .int (v2 + (1 : Int32))), (0, .ref 1000), (1, .int v1)]) 2 dX1_areAgreed_49 rfl (zinc zi_1) (Nat.le_of_ble_eq_true rfl) rfl rfl ?_
        refine za_goto (tgt := 2) dX1_areAgreed_52 (by decide) ?_
        exact zAW_sub [1, 2, 0] rfl h
      · replace h := h.2 c9
        refine za_aload_n (pc' := 40) 0 dX1_areAgreed_39 rfl rfl rfl ?_
        refine za_iload_n (pc' := 41) 2 dX1_areAgreed_40 rfl rfl rfl ?_
        refine za_callV (κ := 1000) (M2 := mX1_isAgreed) (d2 := 5) (b2 := 0) (n := 1) (As := [.int v2]) (st := []) (pc' := 44) zc0 (by decide) (congrArg Prod.fst (zX_t1000 hx)) dX1_areAgreed_41 rfl (lw_V q1320 q1322 qs51 q131 q1323) ⟨rfl, hd_X1_isAgreed⟩ rfl (by decide) (by decide) (Nat.zero_le _) (Or.inl rfl) (Nat.le_of_ble_eq_true rfl) h (zqI__k rfl (fun r6 h => ?_)) (fun _ _ _ _ _ _ h9 h8 => absurd h8.1 h9) rfl
        refine za_if_ne (pc' := 47) (tgt := 49) dX1_areAgreed_44 (by decide) rfl (fun c9 => ?_) (fun c9 => ?_)
        · replace h := h.2 c9
          refine za_iinc (pc' := 52) (l' := [(2, .int (v2 + (1 : Int32))), (0, .ref 1000), (1, .int v1)]) 2 dX1_areAgreed_49 rfl (zinc zi_1) (Nat.le_of_ble_eq_true rfl) rfl rfl ?_
          refine za_goto (tgt := 2) dX1_areAgreed_52 (by decide) ?_
          exact zAW_sub [1, 2, 0] rfl h
        · replace h := h.1 c9
          refine za_iconst (pc' := 48) dX1_areAgreed_47 zi_0 rfl ?_
          exact za_zreturn rfl dX1_areAgreed_48 (by decide) h
theorem sX1_areAgreed {d b : Nat} {v1 : Int32} {T : zT} {I : zI} {L : zL} {R : zR} {P : zP} (h : zAW mX1_areAgreed d b 0 [(0, .ref 1000), (1, .int v1)] [] T I L R P) : zMet mX1_areAgreed d b [.ref 1000, .int v1] T I L R P := zMet_of (by decide +kernel) rfl (Nat.le_of_ble_eq_true rfl) rfl h
/-! TwoTongues.renames (I)I -/
def dkwX1_renames_1 : List UInt8 := [16, 254, 167, 0, 9, 42, 180, 0, 113, 27, 46, 172]
abbrev dktX1_renames_1 : List UInt8 := dkwX1_renames_1 ++ []
def dkwX1_renames_0 : List UInt8 := [42, 27, 182, 0, 182, 154, 0, 6, 16, 253, 172, 42, 182, 1, 184, 42, 180, 1, 174, 2, 160, 0, 8]
abbrev dktX1_renames_0 : List UInt8 := dkwX1_renames_0 ++ dktX1_renames_1
theorem dksX1_renames_0 : cX1_renames.data.toList.drop 0 = dktX1_renames_0 := by decide +kernel
theorem dksX1_renames_1 : cX1_renames.data.toList.drop 23 = dktX1_renames_1 := dk_seg dksX1_renames_0 23 rfl rfl
theorem dX1_renames_0 : decode cX1_renames 0 = .ok (.aload_n 0, 1) := dk_42 (dk_at dksX1_renames_0 0 rfl rfl)
theorem dX1_renames_1 : decode cX1_renames 1 = .ok (.iload_n 1, 1) := dk_27 (dk_at dksX1_renames_0 1 rfl rfl)
theorem dX1_renames_2 : decode cX1_renames 2 = .ok (.invokevirtual 182, 3) := dk_182 0 182 (dk_at dksX1_renames_0 2 rfl rfl)
theorem dX1_renames_5 : decode cX1_renames 5 = .ok (.ifCond .ne 6, 3) := dk_154 0 6 (dk_at dksX1_renames_0 5 rfl rfl)
theorem dX1_renames_8 : decode cX1_renames 8 = .ok (.bipush (-3), 2) := dk_16 253 (dk_at dksX1_renames_0 8 rfl rfl)
theorem dX1_renames_10 : decode cX1_renames 10 = .ok (.ireturn, 1) := dk_172 (dk_at dksX1_renames_0 10 rfl rfl)
theorem dX1_renames_11 : decode cX1_renames 11 = .ok (.aload_n 0, 1) := dk_42 (dk_at dksX1_renames_0 11 rfl rfl)
theorem dX1_renames_12 : decode cX1_renames 12 = .ok (.invokevirtual 440, 3) := dk_182 1 184 (dk_at dksX1_renames_0 12 rfl rfl)
theorem dX1_renames_15 : decode cX1_renames 15 = .ok (.aload_n 0, 1) := dk_42 (dk_at dksX1_renames_0 15 rfl rfl)
theorem dX1_renames_16 : decode cX1_renames 16 = .ok (.getfield 430, 3) := dk_180 1 174 (dk_at dksX1_renames_0 16 rfl rfl)
theorem dX1_renames_19 : decode cX1_renames 19 = .ok (.iconst (-1), 1) := dk_2 (dk_at dksX1_renames_0 19 rfl rfl)
theorem dX1_renames_20 : decode cX1_renames 20 = .ok (.if_icmp .ne 8, 3) := dk_160 0 8 (dk_at dksX1_renames_0 20 rfl rfl)
theorem dX1_renames_23 : decode cX1_renames 23 = .ok (.bipush (-2), 2) := dk_16 254 (dk_at dksX1_renames_1 0 rfl rfl)
theorem dX1_renames_25 : decode cX1_renames 25 = .ok (.goto 9, 3) := dk_167 0 9 (dk_at dksX1_renames_1 2 rfl rfl)
theorem dX1_renames_28 : decode cX1_renames 28 = .ok (.aload_n 0, 1) := dk_42 (dk_at dksX1_renames_1 5 rfl rfl)
theorem dX1_renames_29 : decode cX1_renames 29 = .ok (.getfield 113, 3) := dk_180 0 113 (dk_at dksX1_renames_1 6 rfl rfl)
theorem dX1_renames_32 : decode cX1_renames 32 = .ok (.iload_n 1, 1) := dk_27 (dk_at dksX1_renames_1 9 rfl rfl)
theorem dX1_renames_33 : decode cX1_renames 33 = .ok (.iaload, 1) := dk_46 (dk_at dksX1_renames_1 10 rfl rfl)
theorem dX1_renames_34 : decode cX1_renames 34 = .ok (.ireturn, 1) := dk_172 (dk_at dksX1_renames_1 11 rfl rfl)
theorem gX1_renames_0 {v1 : Int32} {T : zT} {I : zI} {L : zL} {R : zR} {P : zP} (hx : zXok T R) (h : zMet mX1_isSign 2 0 [.ref 1000, .int v1] T I L R (zqI_ T I L R  (fun (r1 : Int32)  => ((r1 = 0 → P 0 (.int (-3 : Int32)) T I L R) ∧ (¬ r1 = 0 → zMet mX1_layRenamed 41 0 [.ref 1000] T I L R (zqV_IL T R  (fun (I2 : zI) (L3 : zL)  => (((I2 1000 27) = (-1 : Int32) → P 0 (.int (-2 : Int32)) T I2 L3 R) ∧ (¬ (I2 1000 27) = (-1 : Int32) → vp_in v1 6 ∧ P 0 (.int (I2 1027 (v1.toNatClampNeg))) T I2 L3 R))))))))) : zAW mX1_renames 42 0 0 [(0, .ref 1000), (1, .int v1)] [] T I L R P := by
  refine za_aload_n (pc' := 1) 0 dX1_renames_0 rfl rfl rfl ?_
  refine za_iload_n (pc' := 2) 1 dX1_renames_1 rfl rfl rfl ?_
  refine za_callV (κ := 1000) (M2 := mX1_isSign) (d2 := 2) (b2 := 0) (n := 1) (As := [.int v1]) (st := []) (pc' := 5) zc0 (by decide) (congrArg Prod.fst (zX_t1000 hx)) dX1_renames_2 rfl (lw_V q1066 q1068 qs32 q131 q1069) ⟨rfl, hd_X1_isSign⟩ rfl (by decide) (by decide) (Nat.zero_le _) (Or.inl rfl) (Nat.le_of_ble_eq_true rfl) h (zqI__k rfl (fun r1 h => ?_)) (fun _ _ _ _ _ _ h9 h8 => absurd h8.1 h9) rfl
  refine za_if_ne (pc' := 8) (tgt := 11) dX1_renames_5 (by decide) rfl (fun c9 => ?_) (fun c9 => ?_)
  · replace h := h.2 c9
    refine za_aload_n (pc' := 12) 0 dX1_renames_11 rfl rfl rfl ?_
    refine za_callV (κ := 1000) (M2 := mX1_layRenamed) (d2 := 41) (b2 := 0) (n := 0) (As := []) (st := []) (pc' := 15) zc0 (by decide) (congrArg Prod.fst (zX_t1000 hx)) dX1_renames_12 rfl (lw_V q1332 q1334 qs53 q131 q1335) ⟨rfl, hd_X1_layRenamed⟩ rfl (by decide) (by decide) (Nat.zero_le _) (Or.inl rfl) (Nat.le_of_ble_eq_true rfl) h (zqV_IL_k rfl (fun I2 L3 h => ?_)) (fun _ _ _ _ _ _ h9 h8 => absurd h8.1 h9) rfl
    refine za_aload_n (pc' := 16) 0 dX1_renames_15 rfl rfl rfl ?_
    refine za_get (fi := 27) (v := .int (I2 1000 27)) (pc' := 19) dX1_renames_16 zc0 (by decide) in_X1 (by decide) q517 (Or.inl rfl) (congrArg Prod.fst (zX_t1000 hx)) rfl rfl ?_
    refine za_iconst (pc' := 20) dX1_renames_19 zi_m1 rfl ?_
    refine za_icmp_ne (pc' := 23) (tgt := 28) dX1_renames_20 (by decide) rfl (fun c9 => ?_) (fun c9 => ?_)
    · replace h := h.2 c9
      refine za_aload_n (pc' := 29) 0 dX1_renames_28 rfl rfl rfl ?_
      refine za_get (fi := 26) (v := .ref 1027) (pc' := 32) dX1_renames_29 zc0 (by decide) in_X1 (by decide) q516 (Or.inl rfl) (congrArg Prod.fst (zX_t1000 hx)) (congrArg Value.ref (zX_r1000_26 hx)) rfl ?_
      refine za_iload_n (pc' := 33) 1 dX1_renames_32 rfl rfl rfl ?_
      obtain ⟨hi4, h⟩ := h
      refine za_iald (v := .int (I2 1027 (v1.toNatClampNeg))) (pc' := 34) dX1_renames_33 (zX_t1027 hx) hi4 rfl rfl ?_
      exact za_ireturn rfl dX1_renames_34 h
    · replace h := h.1 c9
      refine za_bipush (pc' := 25) dX1_renames_23 zb8_m2 rfl ?_
      refine za_goto (tgt := 34) dX1_renames_25 (by decide) ?_
      exact za_ireturn rfl dX1_renames_34 h
  · replace h := h.1 c9
    refine za_bipush (pc' := 10) dX1_renames_8 zb8_m3 rfl ?_
    exact za_ireturn rfl dX1_renames_10 h
theorem sX1_renames {d b : Nat} {v1 : Int32} {T : zT} {I : zI} {L : zL} {R : zR} {P : zP} (h : zAW mX1_renames d b 0 [(0, .ref 1000), (1, .int v1)] [] T I L R P) : zMet mX1_renames d b [.ref 1000, .int v1] T I L R P := zMet_of (by decide +kernel) rfl (Nat.le_of_ble_eq_true rfl) rfl h
/-! TwoTongues.fine (II)I -/
def dkwX1_fine_1 : List UInt8 := [2, 172]
abbrev dktX1_fine_1 : List UInt8 := dkwX1_fine_1 ++ []
def dkwX1_fine_0 : List UInt8 := [42, 27, 182, 0, 182, 153, 0, 19, 28, 184, 1, 10, 153, 0, 12, 42, 27, 28, 182, 1, 206, 167, 0, 4]
abbrev dktX1_fine_0 : List UInt8 := dkwX1_fine_0 ++ dktX1_fine_1
theorem dksX1_fine_0 : cX1_fine.data.toList.drop 0 = dktX1_fine_0 := by decide +kernel
theorem dksX1_fine_1 : cX1_fine.data.toList.drop 24 = dktX1_fine_1 := dk_seg dksX1_fine_0 24 rfl rfl
theorem dX1_fine_0 : decode cX1_fine 0 = .ok (.aload_n 0, 1) := dk_42 (dk_at dksX1_fine_0 0 rfl rfl)
theorem dX1_fine_1 : decode cX1_fine 1 = .ok (.iload_n 1, 1) := dk_27 (dk_at dksX1_fine_0 1 rfl rfl)
theorem dX1_fine_2 : decode cX1_fine 2 = .ok (.invokevirtual 182, 3) := dk_182 0 182 (dk_at dksX1_fine_0 2 rfl rfl)
theorem dX1_fine_5 : decode cX1_fine 5 = .ok (.ifCond .eq 19, 3) := dk_153 0 19 (dk_at dksX1_fine_0 5 rfl rfl)
theorem dX1_fine_8 : decode cX1_fine 8 = .ok (.iload_n 2, 1) := dk_28 (dk_at dksX1_fine_0 8 rfl rfl)
theorem dX1_fine_9 : decode cX1_fine 9 = .ok (.invokestatic 266, 3) := dk_184 1 10 (dk_at dksX1_fine_0 9 rfl rfl)
theorem dX1_fine_12 : decode cX1_fine 12 = .ok (.ifCond .eq 12, 3) := dk_153 0 12 (dk_at dksX1_fine_0 12 rfl rfl)
theorem dX1_fine_15 : decode cX1_fine 15 = .ok (.aload_n 0, 1) := dk_42 (dk_at dksX1_fine_0 15 rfl rfl)
theorem dX1_fine_16 : decode cX1_fine 16 = .ok (.iload_n 1, 1) := dk_27 (dk_at dksX1_fine_0 16 rfl rfl)
theorem dX1_fine_17 : decode cX1_fine 17 = .ok (.iload_n 2, 1) := dk_28 (dk_at dksX1_fine_0 17 rfl rfl)
theorem dX1_fine_18 : decode cX1_fine 18 = .ok (.invokevirtual 462, 3) := dk_182 1 206 (dk_at dksX1_fine_0 18 rfl rfl)
theorem dX1_fine_21 : decode cX1_fine 21 = .ok (.goto 4, 3) := dk_167 0 4 (dk_at dksX1_fine_0 21 rfl rfl)
theorem dX1_fine_24 : decode cX1_fine 24 = .ok (.iconst (-1), 1) := dk_2 (dk_at dksX1_fine_1 0 rfl rfl)
theorem dX1_fine_25 : decode cX1_fine 25 = .ok (.ireturn, 1) := dk_172 (dk_at dksX1_fine_1 1 rfl rfl)
theorem gX1_fine_0 {v1 : Int32} {v2 : Int32} {T : zT} {I : zI} {L : zL} {R : zR} {P : zP} (hx : zXok T R) (h : zMet mX1_isSign 2 0 [.ref 1000, .int v1] T I L R (zqI_ T I L R  (fun (r1 : Int32)  => ((r1 = 0 → P 0 (.int (-1 : Int32)) T I L R) ∧ (¬ r1 = 0 → zMet mX1_isDay 2 0 [.int v2] T I L R (zqI_ T I L R  (fun (r2 : Int32)  => ((r2 = 0 → P 0 (.int (-1 : Int32)) T I L R) ∧ (¬ r2 = 0 → zMet mX1_fineOf 201 0 [.ref 1000, .int v1, .int v2] T I L R (zqI_IL T R  (fun (r3 : Int32) (I4 : zI) (L5 : zL)  => P 0 (.int r3) T I4 L5 R))))))))))) : zAW mX1_fine 202 0 0 [(0, .ref 1000), (1, .int v1), (2, .int v2)] [] T I L R P := by
  refine za_aload_n (pc' := 1) 0 dX1_fine_0 rfl rfl rfl ?_
  refine za_iload_n (pc' := 2) 1 dX1_fine_1 rfl rfl rfl ?_
  refine za_callV (κ := 1000) (M2 := mX1_isSign) (d2 := 2) (b2 := 0) (n := 1) (As := [.int v1]) (st := []) (pc' := 5) zc0 (by decide) (congrArg Prod.fst (zX_t1000 hx)) dX1_fine_2 rfl (lw_V q1066 q1068 qs32 q131 q1069) ⟨rfl, hd_X1_isSign⟩ rfl (by decide) (by decide) (Nat.zero_le _) (Or.inl rfl) (Nat.le_of_ble_eq_true rfl) h (zqI__k rfl (fun r1 h => ?_)) (fun _ _ _ _ _ _ h9 h8 => absurd h8.1 h9) rfl
  refine za_if_eq (pc' := 8) (tgt := 24) dX1_fine_5 (by decide) rfl (fun c9 => ?_) (fun c9 => ?_)
  · replace h := h.1 c9
    refine za_iconst (pc' := 25) dX1_fine_24 zi_m1 rfl ?_
    exact za_ireturn rfl dX1_fine_25 h
  · replace h := h.2 c9
    refine za_iload_n (pc' := 9) 2 dX1_fine_8 rfl rfl rfl ?_
    refine za_callS (M2 := mX1_isDay) (d2 := 2) (b2 := 0) (n := 1) (As := [.int v2]) (st := []) (pc' := 12) dX1_fine_9 rfl (lw_S q1138 q1139 q131 q1140) hd_X1_isDay rfl (by decide) (by decide) (Nat.zero_le _) (Or.inl rfl) (Nat.le_of_ble_eq_true rfl) h (zqI__k rfl (fun r2 h => ?_)) (fun _ _ _ _ _ _ h9 h8 => absurd h8.1 h9) rfl
    refine za_if_eq (pc' := 15) (tgt := 24) dX1_fine_12 (by decide) rfl (fun c9 => ?_) (fun c9 => ?_)
    · replace h := h.1 c9
      refine za_iconst (pc' := 25) dX1_fine_24 zi_m1 rfl ?_
      exact za_ireturn rfl dX1_fine_25 h
    · replace h := h.2 c9
      refine za_aload_n (pc' := 16) 0 dX1_fine_15 rfl rfl rfl ?_
      refine za_iload_n (pc' := 17) 1 dX1_fine_16 rfl rfl rfl ?_
      refine za_iload_n (pc' := 18) 2 dX1_fine_17 rfl rfl rfl ?_
      refine za_callVW (κ := 1000) (M2 := mX1_fineOf) (d2 := 201) (b2 := 0) (n := 2) (As := [.int v1, .int v2]) (st := []) (pc' := 21) zc0 (by decide) (congrArg Prod.fst (zX_t1000 hx)) dX1_fine_18 rfl (lw_VW q1352 q1354 qs56 q131 q1355) ⟨rfl, hd_X1_fineOf⟩ rfl (by decide) (by decide) (Nat.zero_le _) (Or.inl rfl) (Nat.le_of_ble_eq_true rfl) h (zqI_IL_k rfl (fun r3 I4 L5 h => ?_)) (fun _ _ _ _ _ _ h9 h8 => absurd h8.1 h9) rfl
      refine za_goto (tgt := 25) dX1_fine_21 (by decide) ?_
      exact za_ireturn rfl dX1_fine_25 h
theorem sX1_fine {d b : Nat} {v1 : Int32} {v2 : Int32} {T : zT} {I : zI} {L : zL} {R : zR} {P : zP} (h : zAW mX1_fine d b 0 [(0, .ref 1000), (1, .int v1), (2, .int v2)] [] T I L R P) : zMet mX1_fine d b [.ref 1000, .int v1, .int v2] T I L R P := zMet_of (by decide +kernel) rfl (Nat.le_of_ble_eq_true rfl) rfl h
/-! TwoTongues.fineOf (II)I -/
def dkwX1_fineOf_6 : List UInt8 := [182, 0, 205, 172]
abbrev dktX1_fineOf_6 : List UInt8 := dkwX1_fineOf_6 ++ []
def dkwX1_fineOf_5 : List UInt8 := [180, 0, 39, 180, 1, 187, 42, 180, 0, 75, 182, 1, 193, 184, 1, 199, 184, 1, 202, 136, 172, 58, 4, 45]
abbrev dktX1_fineOf_5 : List UInt8 := dkwX1_fineOf_5 ++ dktX1_fineOf_6
def dkwX1_fineOf_4 : List UInt8 := [8, 28, 133, 80, 42, 180, 0, 39, 180, 1, 187, 199, 0, 8, 45, 182, 0, 205, 172, 9, 20, 1, 191, 42]
abbrev dktX1_fineOf_4 : List UInt8 := dkwX1_fineOf_4 ++ dktX1_fineOf_5
def dkwX1_fineOf_3 : List UInt8 := [153, 0, 7, 10, 167, 0, 4, 9, 80, 42, 180, 0, 75, 7, 45, 182, 0, 205, 133, 80, 42, 180, 0, 75]
abbrev dktX1_fineOf_3 : List UInt8 := dkwX1_fineOf_3 ++ dktX1_fineOf_4
def dkwX1_fineOf_2 : List UInt8 := [182, 1, 13, 153, 0, 7, 10, 167, 0, 4, 9, 80, 42, 180, 0, 75, 6, 42, 27, 4, 28, 182, 1, 13]
abbrev dktX1_fineOf_2 : List UInt8 := dkwX1_fineOf_2 ++ dktX1_fineOf_3
def dkwX1_fineOf_1 : List UInt8 := [180, 0, 75, 4, 42, 180, 0, 39, 45, 182, 0, 208, 133, 80, 42, 180, 0, 75, 5, 42, 27, 3, 28]
abbrev dktX1_fineOf_1 : List UInt8 := dkwX1_fineOf_1 ++ dktX1_fineOf_2
def dkwX1_fineOf_0 : List UInt8 := [42, 180, 0, 64, 180, 0, 186, 27, 50, 78, 42, 180, 0, 75, 3, 45, 180, 0, 190, 133, 80, 42]
abbrev dktX1_fineOf_0 : List UInt8 := dkwX1_fineOf_0 ++ dktX1_fineOf_1
theorem dksX1_fineOf_0 : cX1_fineOf.data.toList.drop 0 = dktX1_fineOf_0 := by decide +kernel
theorem dksX1_fineOf_1 : cX1_fineOf.data.toList.drop 22 = dktX1_fineOf_1 := dk_seg dksX1_fineOf_0 22 rfl rfl
theorem dksX1_fineOf_2 : cX1_fineOf.data.toList.drop 45 = dktX1_fineOf_2 := dk_seg dksX1_fineOf_1 23 rfl rfl
theorem dksX1_fineOf_3 : cX1_fineOf.data.toList.drop 69 = dktX1_fineOf_3 := dk_seg dksX1_fineOf_2 24 rfl rfl
theorem dksX1_fineOf_4 : cX1_fineOf.data.toList.drop 93 = dktX1_fineOf_4 := dk_seg dksX1_fineOf_3 24 rfl rfl
theorem dksX1_fineOf_5 : cX1_fineOf.data.toList.drop 117 = dktX1_fineOf_5 := dk_seg dksX1_fineOf_4 24 rfl rfl
theorem dksX1_fineOf_6 : cX1_fineOf.data.toList.drop 141 = dktX1_fineOf_6 := dk_seg dksX1_fineOf_5 24 rfl rfl
theorem dX1_fineOf_0 : decode cX1_fineOf 0 = .ok (.aload_n 0, 1) := dk_42 (dk_at dksX1_fineOf_0 0 rfl rfl)
theorem dX1_fineOf_1 : decode cX1_fineOf 1 = .ok (.getfield 64, 3) := dk_180 0 64 (dk_at dksX1_fineOf_0 1 rfl rfl)
theorem dX1_fineOf_4 : decode cX1_fineOf 4 = .ok (.getfield 186, 3) := dk_180 0 186 (dk_at dksX1_fineOf_0 4 rfl rfl)
theorem dX1_fineOf_7 : decode cX1_fineOf 7 = .ok (.iload_n 1, 1) := dk_27 (dk_at dksX1_fineOf_0 7 rfl rfl)
theorem dX1_fineOf_8 : decode cX1_fineOf 8 = .ok (.aaload, 1) := dk_50 (dk_at dksX1_fineOf_0 8 rfl rfl)
theorem dX1_fineOf_9 : decode cX1_fineOf 9 = .ok (.astore_n 3, 1) := dk_78 (dk_at dksX1_fineOf_0 9 rfl rfl)
theorem dX1_fineOf_10 : decode cX1_fineOf 10 = .ok (.aload_n 0, 1) := dk_42 (dk_at dksX1_fineOf_0 10 rfl rfl)
theorem dX1_fineOf_11 : decode cX1_fineOf 11 = .ok (.getfield 75, 3) := dk_180 0 75 (dk_at dksX1_fineOf_0 11 rfl rfl)
theorem dX1_fineOf_14 : decode cX1_fineOf 14 = .ok (.iconst 0, 1) := dk_3 (dk_at dksX1_fineOf_0 14 rfl rfl)
theorem dX1_fineOf_15 : decode cX1_fineOf 15 = .ok (.aload_n 3, 1) := dk_45 (dk_at dksX1_fineOf_0 15 rfl rfl)
theorem dX1_fineOf_16 : decode cX1_fineOf 16 = .ok (.getfield 190, 3) := dk_180 0 190 (dk_at dksX1_fineOf_0 16 rfl rfl)
theorem dX1_fineOf_19 : decode cX1_fineOf 19 = .ok (.i2l, 1) := dk_133 (dk_at dksX1_fineOf_0 19 rfl rfl)
theorem dX1_fineOf_20 : decode cX1_fineOf 20 = .ok (.lastore, 1) := dk_80 (dk_at dksX1_fineOf_0 20 rfl rfl)
theorem dX1_fineOf_21 : decode cX1_fineOf 21 = .ok (.aload_n 0, 1) := dk_42 (dk_at dksX1_fineOf_0 21 rfl rfl)
theorem dX1_fineOf_22 : decode cX1_fineOf 22 = .ok (.getfield 75, 3) := dk_180 0 75 (dk_at dksX1_fineOf_1 0 rfl rfl)
theorem dX1_fineOf_25 : decode cX1_fineOf 25 = .ok (.iconst 1, 1) := dk_4 (dk_at dksX1_fineOf_1 3 rfl rfl)
theorem dX1_fineOf_26 : decode cX1_fineOf 26 = .ok (.aload_n 0, 1) := dk_42 (dk_at dksX1_fineOf_1 4 rfl rfl)
theorem dX1_fineOf_27 : decode cX1_fineOf 27 = .ok (.getfield 39, 3) := dk_180 0 39 (dk_at dksX1_fineOf_1 5 rfl rfl)
theorem dX1_fineOf_30 : decode cX1_fineOf 30 = .ok (.aload_n 3, 1) := dk_45 (dk_at dksX1_fineOf_1 8 rfl rfl)
theorem dX1_fineOf_31 : decode cX1_fineOf 31 = .ok (.invokevirtual 208, 3) := dk_182 0 208 (dk_at dksX1_fineOf_1 9 rfl rfl)
theorem dX1_fineOf_34 : decode cX1_fineOf 34 = .ok (.i2l, 1) := dk_133 (dk_at dksX1_fineOf_1 12 rfl rfl)
theorem dX1_fineOf_35 : decode cX1_fineOf 35 = .ok (.lastore, 1) := dk_80 (dk_at dksX1_fineOf_1 13 rfl rfl)
theorem dX1_fineOf_36 : decode cX1_fineOf 36 = .ok (.aload_n 0, 1) := dk_42 (dk_at dksX1_fineOf_1 14 rfl rfl)
theorem dX1_fineOf_37 : decode cX1_fineOf 37 = .ok (.getfield 75, 3) := dk_180 0 75 (dk_at dksX1_fineOf_1 15 rfl rfl)
theorem dX1_fineOf_40 : decode cX1_fineOf 40 = .ok (.iconst 2, 1) := dk_5 (dk_at dksX1_fineOf_1 18 rfl rfl)
theorem dX1_fineOf_41 : decode cX1_fineOf 41 = .ok (.aload_n 0, 1) := dk_42 (dk_at dksX1_fineOf_1 19 rfl rfl)
theorem dX1_fineOf_42 : decode cX1_fineOf 42 = .ok (.iload_n 1, 1) := dk_27 (dk_at dksX1_fineOf_1 20 rfl rfl)
theorem dX1_fineOf_43 : decode cX1_fineOf 43 = .ok (.iconst 0, 1) := dk_3 (dk_at dksX1_fineOf_1 21 rfl rfl)
theorem dX1_fineOf_44 : decode cX1_fineOf 44 = .ok (.iload_n 2, 1) := dk_28 (dk_at dksX1_fineOf_1 22 rfl rfl)
theorem dX1_fineOf_45 : decode cX1_fineOf 45 = .ok (.invokevirtual 269, 3) := dk_182 1 13 (dk_at dksX1_fineOf_2 0 rfl rfl)
theorem dX1_fineOf_48 : decode cX1_fineOf 48 = .ok (.ifCond .eq 7, 3) := dk_153 0 7 (dk_at dksX1_fineOf_2 3 rfl rfl)
theorem dX1_fineOf_51 : decode cX1_fineOf 51 = .ok (.lconst 1, 1) := dk_10 (dk_at dksX1_fineOf_2 6 rfl rfl)
theorem dX1_fineOf_52 : decode cX1_fineOf 52 = .ok (.goto 4, 3) := dk_167 0 4 (dk_at dksX1_fineOf_2 7 rfl rfl)
theorem dX1_fineOf_55 : decode cX1_fineOf 55 = .ok (.lconst 0, 1) := dk_9 (dk_at dksX1_fineOf_2 10 rfl rfl)
theorem dX1_fineOf_56 : decode cX1_fineOf 56 = .ok (.lastore, 1) := dk_80 (dk_at dksX1_fineOf_2 11 rfl rfl)
theorem dX1_fineOf_57 : decode cX1_fineOf 57 = .ok (.aload_n 0, 1) := dk_42 (dk_at dksX1_fineOf_2 12 rfl rfl)
theorem dX1_fineOf_58 : decode cX1_fineOf 58 = .ok (.getfield 75, 3) := dk_180 0 75 (dk_at dksX1_fineOf_2 13 rfl rfl)
theorem dX1_fineOf_61 : decode cX1_fineOf 61 = .ok (.iconst 3, 1) := dk_6 (dk_at dksX1_fineOf_2 16 rfl rfl)
theorem dX1_fineOf_62 : decode cX1_fineOf 62 = .ok (.aload_n 0, 1) := dk_42 (dk_at dksX1_fineOf_2 17 rfl rfl)
theorem dX1_fineOf_63 : decode cX1_fineOf 63 = .ok (.iload_n 1, 1) := dk_27 (dk_at dksX1_fineOf_2 18 rfl rfl)
theorem dX1_fineOf_64 : decode cX1_fineOf 64 = .ok (.iconst 1, 1) := dk_4 (dk_at dksX1_fineOf_2 19 rfl rfl)
theorem dX1_fineOf_65 : decode cX1_fineOf 65 = .ok (.iload_n 2, 1) := dk_28 (dk_at dksX1_fineOf_2 20 rfl rfl)
theorem dX1_fineOf_66 : decode cX1_fineOf 66 = .ok (.invokevirtual 269, 3) := dk_182 1 13 (dk_at dksX1_fineOf_2 21 rfl rfl)
theorem dX1_fineOf_69 : decode cX1_fineOf 69 = .ok (.ifCond .eq 7, 3) := dk_153 0 7 (dk_at dksX1_fineOf_3 0 rfl rfl)
theorem dX1_fineOf_72 : decode cX1_fineOf 72 = .ok (.lconst 1, 1) := dk_10 (dk_at dksX1_fineOf_3 3 rfl rfl)
theorem dX1_fineOf_73 : decode cX1_fineOf 73 = .ok (.goto 4, 3) := dk_167 0 4 (dk_at dksX1_fineOf_3 4 rfl rfl)
theorem dX1_fineOf_76 : decode cX1_fineOf 76 = .ok (.lconst 0, 1) := dk_9 (dk_at dksX1_fineOf_3 7 rfl rfl)
theorem dX1_fineOf_77 : decode cX1_fineOf 77 = .ok (.lastore, 1) := dk_80 (dk_at dksX1_fineOf_3 8 rfl rfl)
theorem dX1_fineOf_78 : decode cX1_fineOf 78 = .ok (.aload_n 0, 1) := dk_42 (dk_at dksX1_fineOf_3 9 rfl rfl)
theorem dX1_fineOf_79 : decode cX1_fineOf 79 = .ok (.getfield 75, 3) := dk_180 0 75 (dk_at dksX1_fineOf_3 10 rfl rfl)
theorem dX1_fineOf_82 : decode cX1_fineOf 82 = .ok (.iconst 4, 1) := dk_7 (dk_at dksX1_fineOf_3 13 rfl rfl)
theorem dX1_fineOf_83 : decode cX1_fineOf 83 = .ok (.aload_n 3, 1) := dk_45 (dk_at dksX1_fineOf_3 14 rfl rfl)
theorem dX1_fineOf_84 : decode cX1_fineOf 84 = .ok (.invokevirtual 205, 3) := dk_182 0 205 (dk_at dksX1_fineOf_3 15 rfl rfl)
theorem dX1_fineOf_87 : decode cX1_fineOf 87 = .ok (.i2l, 1) := dk_133 (dk_at dksX1_fineOf_3 18 rfl rfl)
theorem dX1_fineOf_88 : decode cX1_fineOf 88 = .ok (.lastore, 1) := dk_80 (dk_at dksX1_fineOf_3 19 rfl rfl)
theorem dX1_fineOf_89 : decode cX1_fineOf 89 = .ok (.aload_n 0, 1) := dk_42 (dk_at dksX1_fineOf_3 20 rfl rfl)
theorem dX1_fineOf_90 : decode cX1_fineOf 90 = .ok (.getfield 75, 3) := dk_180 0 75 (dk_at dksX1_fineOf_3 21 rfl rfl)
theorem dX1_fineOf_93 : decode cX1_fineOf 93 = .ok (.iconst 5, 1) := dk_8 (dk_at dksX1_fineOf_4 0 rfl rfl)
theorem dX1_fineOf_94 : decode cX1_fineOf 94 = .ok (.iload_n 2, 1) := dk_28 (dk_at dksX1_fineOf_4 1 rfl rfl)
theorem dX1_fineOf_95 : decode cX1_fineOf 95 = .ok (.i2l, 1) := dk_133 (dk_at dksX1_fineOf_4 2 rfl rfl)
theorem dX1_fineOf_96 : decode cX1_fineOf 96 = .ok (.lastore, 1) := dk_80 (dk_at dksX1_fineOf_4 3 rfl rfl)
theorem dX1_fineOf_97 : decode cX1_fineOf 97 = .ok (.aload_n 0, 1) := dk_42 (dk_at dksX1_fineOf_4 4 rfl rfl)
theorem dX1_fineOf_98 : decode cX1_fineOf 98 = .ok (.getfield 39, 3) := dk_180 0 39 (dk_at dksX1_fineOf_4 5 rfl rfl)
theorem dX1_fineOf_101 : decode cX1_fineOf 101 = .ok (.getfield 443, 3) := dk_180 1 187 (dk_at dksX1_fineOf_4 8 rfl rfl)
theorem dX1_fineOf_104 : decode cX1_fineOf 104 = .ok (.ifnonnull 8, 3) := dk_199 0 8 (dk_at dksX1_fineOf_4 11 rfl rfl)
theorem dX1_fineOf_107 : decode cX1_fineOf 107 = .ok (.aload_n 3, 1) := dk_45 (dk_at dksX1_fineOf_4 14 rfl rfl)
theorem dX1_fineOf_108 : decode cX1_fineOf 108 = .ok (.invokevirtual 205, 3) := dk_182 0 205 (dk_at dksX1_fineOf_4 15 rfl rfl)
theorem dX1_fineOf_111 : decode cX1_fineOf 111 = .ok (.ireturn, 1) := dk_172 (dk_at dksX1_fineOf_4 18 rfl rfl)
theorem dX1_fineOf_112 : decode cX1_fineOf 112 = .ok (.lconst 0, 1) := dk_9 (dk_at dksX1_fineOf_4 19 rfl rfl)
theorem dX1_fineOf_113 : decode cX1_fineOf 113 = .ok (.ldc2_w 447, 3) := dk_20 1 191 (dk_at dksX1_fineOf_4 20 rfl rfl)
theorem dX1_fineOf_116 : decode cX1_fineOf 116 = .ok (.aload_n 0, 1) := dk_42 (dk_at dksX1_fineOf_4 23 rfl rfl)
theorem dX1_fineOf_117 : decode cX1_fineOf 117 = .ok (.getfield 39, 3) := dk_180 0 39 (dk_at dksX1_fineOf_5 0 rfl rfl)
theorem dX1_fineOf_120 : decode cX1_fineOf 120 = .ok (.getfield 443, 3) := dk_180 1 187 (dk_at dksX1_fineOf_5 3 rfl rfl)
theorem dX1_fineOf_123 : decode cX1_fineOf 123 = .ok (.aload_n 0, 1) := dk_42 (dk_at dksX1_fineOf_5 6 rfl rfl)
theorem dX1_fineOf_124 : decode cX1_fineOf 124 = .ok (.getfield 75, 3) := dk_180 0 75 (dk_at dksX1_fineOf_5 7 rfl rfl)
theorem dX1_fineOf_127 : decode cX1_fineOf 127 = .ok (.invokevirtual 449, 3) := dk_182 1 193 (dk_at dksX1_fineOf_5 10 rfl rfl)
theorem dX1_fineOf_130 : decode cX1_fineOf 130 = .ok (.invokestatic 455, 3) := dk_184 1 199 (dk_at dksX1_fineOf_5 13 rfl rfl)
theorem dX1_fineOf_133 : decode cX1_fineOf 133 = .ok (.invokestatic 458, 3) := dk_184 1 202 (dk_at dksX1_fineOf_5 16 rfl rfl)
theorem dX1_fineOf_136 : decode cX1_fineOf 136 = .ok (.l2i, 1) := dk_136 (dk_at dksX1_fineOf_5 19 rfl rfl)
theorem dX1_fineOf_137 : decode cX1_fineOf 137 = .ok (.ireturn, 1) := dk_172 (dk_at dksX1_fineOf_5 20 rfl rfl)
theorem dX1_fineOf_138 : decode cX1_fineOf 138 = .ok (.astore 4, 2) := dk_58 4 (dk_at dksX1_fineOf_5 21 rfl rfl)
theorem dX1_fineOf_140 : decode cX1_fineOf 140 = .ok (.aload_n 3, 1) := dk_45 (dk_at dksX1_fineOf_5 23 rfl rfl)
theorem dX1_fineOf_141 : decode cX1_fineOf 141 = .ok (.invokevirtual 205, 3) := dk_182 0 205 (dk_at dksX1_fineOf_6 0 rfl rfl)
theorem dX1_fineOf_144 : decode cX1_fineOf 144 = .ok (.ireturn, 1) := dk_172 (dk_at dksX1_fineOf_6 3 rfl rfl)
theorem gX1_fineOf_0 {v1 : Int32} {v2 : Int32} {T : zT} {I : zI} {L : zL} {R : zR} {P : zP} (hx : zXok T R) (h : vp_in v1 6 ∧ (T (R 1202 (v1.toNatClampNeg))).1 = 11 ∧ (T (R 1000 8)).1 = 3 ∧ zMet mX3_iron 1 0 [.ref (R 1000 8), .ref (R 1202 (v1.toNatClampNeg))] T I (z2 L 1014 0 ((I (R 1202 (v1.toNatClampNeg)) 1).toInt64)) R (zqI_ T I (z2 L 1014 0 ((I (R 1202 (v1.toNatClampNeg)) 1).toInt64)) R  (fun (r3 : Int32)  => zMet mX1_isSaid 6 0 [.ref 1000, .int v1, .int (0 : Int32), .int v2] T I (z2 (z2 L 1014 0 ((I (R 1202 (v1.toNatClampNeg)) 1).toInt64)) 1014 1 (r3.toInt64)) R (zqI_IL T R  (fun (r5 : Int32) (I6 : zI) (L7 : zL)  => ((r5 = 0 → zAW mX1_fineOf 201 0 56 [(0, .ref 1000), (1, .int v1), (2, .int v2), (3, .ref (R 1202 (v1.toNatClampNeg)))] [.long (0 : Int64), .int (2 : Int32), .ref 1014] T I6 L7 R P) ∧ (¬ r5 = 0 → zAW mX1_fineOf 201 0 56 [(0, .ref 1000), (1, .int v1), (2, .int v2), (3, .ref (R 1202 (v1.toNatClampNeg)))] [.long (1 : Int64), .int (2 : Int32), .ref 1014] T I6 L7 R P))))))) : zAW mX1_fineOf 201 0 0 [(0, .ref 1000), (1, .int v1), (2, .int v2)] [] T I L R P := by
  refine za_aload_n (pc' := 1) 0 dX1_fineOf_0 rfl rfl rfl ?_
  refine za_get (fi := 10) (v := .ref 1200) (pc' := 4) dX1_fineOf_1 zc0 (by decide) in_X1 (by decide) q500 (Or.inl rfl) (congrArg Prod.fst (zX_t1000 hx)) (congrArg Value.ref (zX_r1000_10 hx)) rfl ?_
  refine za_getN (fi := 1) (v := .ref 1202) (pc' := 7) dX1_fineOf_4 zc9 (by decide) in_X10 (by decide) q418 (Or.inl rfl) (congrArg Prod.fst (zX_t1200 hx)) (congrArg Value.ref (zX_r1200_1 hx)) rfl ?_
  refine za_iload_n (pc' := 8) 1 dX1_fineOf_7 rfl rfl rfl ?_
  obtain ⟨hi1, h⟩ := h
  refine za_aald (r := (R 1202 (v1.toNatClampNeg))) (t := 5) (C := RX11) (pc' := 9) dX1_fineOf_8 (by decide) (fun _ => rfl) (zX_t1202 hx) hi1 (rfl) rfl ?_
  refine za_astore_n (pc' := 10) (l' := [(3, .ref (R 1202 (v1.toNatClampNeg))), (0, .ref 1000), (1, .int v1), (2, .int v2)]) dX1_fineOf_9 rfl (Nat.le_of_ble_eq_true rfl) rfl rfl ?_
  refine za_aload_n (pc' := 11) 1 dX1_fineOf_10 rfl rfl rfl ?_
  refine za_get (fi := 13) (v := .ref 1014) (pc' := 14) dX1_fineOf_11 zc0 (by decide) in_X1 (by decide) q503 (Or.inl rfl) (congrArg Prod.fst (zX_t1000 hx)) (congrArg Value.ref (zX_r1000_13 hx)) rfl ?_
  refine za_iconst (pc' := 15) dX1_fineOf_14 zi_0 rfl ?_
  refine za_aload_n (pc' := 16) 0 dX1_fineOf_15 rfl rfl rfl ?_
  obtain ⟨ht2, h⟩ := h
  refine za_getN (fi := 1) (v := .int (I (R 1202 (v1.toNatClampNeg)) 1)) (pc' := 19) dX1_fineOf_16 zc10 (by decide) in_X11 (by decide) q408 (Or.inl rfl) ht2 rfl rfl ?_
  refine za_i2l (pc' := 20) dX1_fineOf_19 rfl rfl ?_
  refine za_last (k := 0) (pc' := 21) dX1_fineOf_20 (zX_t1014 hx) (zin (by decide)) zn_0 rfl ?_
  refine za_aload_n (pc' := 22) 1 dX1_fineOf_21 rfl rfl rfl ?_
  refine za_get (fi := 13) (v := .ref 1014) (pc' := 25) dX1_fineOf_22 zc0 (by decide) in_X1 (by decide) q503 (Or.inl rfl) (congrArg Prod.fst (zX_t1000 hx)) (congrArg Value.ref (zX_r1000_13 hx)) rfl ?_
  refine za_iconst (pc' := 26) dX1_fineOf_25 zi_1 rfl ?_
  refine za_aload_n (pc' := 27) 1 dX1_fineOf_26 rfl rfl rfl ?_
  refine za_get (fi := 8) (v := .ref (R 1000 8)) (pc' := 30) dX1_fineOf_27 zc0 (by decide) in_X1 (by decide) q498 (Or.inl rfl) (congrArg Prod.fst (zX_t1000 hx)) rfl rfl ?_
  refine za_aload_n (pc' := 31) 0 dX1_fineOf_30 rfl rfl rfl ?_
  obtain ⟨ht4, h⟩ := h
  refine za_callV (κ := (R 1000 8)) (M2 := mX3_iron) (d2 := 1) (b2 := 0) (n := 1) (As := [.ref (R 1202 (v1.toNatClampNeg))]) (st := [.int (1 : Int32), .ref 1014]) (pc' := 34) zc2 (by decide) ht4 dX1_fineOf_31 rfl (lw_V q1357 q1358 q1359 q133 q1360) ⟨rfl, hd_X3_iron⟩ rfl (by decide) (by decide) (Nat.zero_le _) (Or.inr (fun _ _ _ _ _ _ h9 h8 => h9 h8.1)) (Nat.le_of_ble_eq_true rfl) h (zqI__k rfl (fun r3 h => ?_)) (fun _ _ _ _ _ _ h9 h8 => absurd h8.1 h9) rfl
  refine za_i2l (pc' := 35) dX1_fineOf_34 rfl rfl ?_
  refine za_last (k := 1) (pc' := 36) dX1_fineOf_35 (zX_t1014 hx) (zin (by decide)) zn_1 rfl ?_
  refine za_aload_n (pc' := 37) 1 dX1_fineOf_36 rfl rfl rfl ?_
  refine za_get (fi := 13) (v := .ref 1014) (pc' := 40) dX1_fineOf_37 zc0 (by decide) in_X1 (by decide) q503 (Or.inl rfl) (congrArg Prod.fst (zX_t1000 hx)) (congrArg Value.ref (zX_r1000_13 hx)) rfl ?_
  refine za_iconst (pc' := 41) dX1_fineOf_40 zi_2 rfl ?_
  refine za_aload_n (pc' := 42) 1 dX1_fineOf_41 rfl rfl rfl ?_
  refine za_iload_n (pc' := 43) 2 dX1_fineOf_42 rfl rfl rfl ?_
  refine za_iconst (pc' := 44) dX1_fineOf_43 zi_0 rfl ?_
  refine za_iload_n (pc' := 45) 3 dX1_fineOf_44 rfl rfl rfl ?_
  refine za_callV (κ := 1000) (M2 := mX1_isSaid) (d2 := 6) (b2 := 0) (n := 3) (As := [.int v1, .int (0 : Int32), .int v2]) (st := [.int (2 : Int32), .ref 1014]) (pc' := 48) zc0 (by decide) (congrArg Prod.fst (zX_t1000 hx)) dX1_fineOf_45 rfl (lw_V q1142 q1144 qs36 q131 q1145) ⟨rfl, hd_X1_isSaid⟩ rfl (by decide) (by decide) (Nat.zero_le _) (Or.inr (fun _ _ _ _ _ _ h9 h8 => h9 h8.1)) (Nat.le_of_ble_eq_true rfl) h (zqI_IL_k rfl (fun r5 I6 L7 h => ?_)) (fun _ _ _ _ _ _ h9 h8 => absurd h8.1 h9) rfl
  refine za_if_eq (pc' := 51) (tgt := 55) dX1_fineOf_48 (by decide) rfl (fun c9 => ?_) (fun c9 => ?_)
  · replace h := h.1 c9
    refine za_lconst (pc' := 56) dX1_fineOf_55 zl_0 rfl ?_
    exact zAW_sub [1, 2, 3, 0] rfl h
  · replace h := h.2 c9
    refine za_lconst (pc' := 52) dX1_fineOf_51 zl_1 rfl ?_
    refine za_goto (tgt := 56) dX1_fineOf_52 (by decide) ?_
    exact zAW_sub [1, 2, 3, 0] rfl h
theorem gX1_fineOf_56 {v1 : Int32} {v2 : Int32} {v3 : Nat} {s0 : Int64} {s1 : Int32} {s2 : Nat} {T : zT} {I : zI} {L : zL} {R : zR} {P : zP} (hx : zXok T R) (h : (T s2).1 = 101 ∧ vp_in s1 ((T s2).2) ∧ zMet mX1_isSaid 6 0 [.ref 1000, .int v1, .int (1 : Int32), .int v2] T I (z2 L s2 (s1.toNatClampNeg) s0) R (zqI_IL T R  (fun (r10 : Int32) (I11 : zI) (L12 : zL)  => ((r10 = 0 → zAW mX1_fineOf 201 0 77 [(0, .ref 1000), (2, .int v2), (3, .ref v3)] [.long (0 : Int64), .int (3 : Int32), .ref 1014] T I11 L12 R P) ∧ (¬ r10 = 0 → zAW mX1_fineOf 201 0 77 [(0, .ref 1000), (2, .int v2), (3, .ref v3)] [.long (1 : Int64), .int (3 : Int32), .ref 1014] T I11 L12 R P))))) : zAW mX1_fineOf 201 0 56 [(0, .ref 1000), (1, .int v1), (2, .int v2), (3, .ref v3)] [.long s0, .int s1, .ref s2] T I L R P := by
  obtain ⟨ht8, h⟩ := h
  obtain ⟨hi9, h⟩ := h
  refine za_last (k := s1.toNatClampNeg) (pc' := 57) dX1_fineOf_56 (zpair ht8) hi9 rfl rfl ?_
  refine za_aload_n (pc' := 58) 0 dX1_fineOf_57 rfl rfl rfl ?_
  refine za_get (fi := 13) (v := .ref 1014) (pc' := 61) dX1_fineOf_58 zc0 (by decide) in_X1 (by decide) q503 (Or.inl rfl) (congrArg Prod.fst (zX_t1000 hx)) (congrArg Value.ref (zX_r1000_13 hx)) rfl ?_
  refine za_iconst (pc' := 62) dX1_fineOf_61 zi_3 rfl ?_
  refine za_aload_n (pc' := 63) 0 dX1_fineOf_62 rfl rfl rfl ?_
  refine za_iload_n (pc' := 64) 1 dX1_fineOf_63 rfl rfl rfl ?_
  refine za_iconst (pc' := 65) dX1_fineOf_64 zi_1 rfl ?_
  refine za_iload_n (pc' := 66) 2 dX1_fineOf_65 rfl rfl rfl ?_
  refine za_callV (κ := 1000) (M2 := mX1_isSaid) (d2 := 6) (b2 := 0) (n := 3) (As := [.int v1, .int (1 : Int32), .int v2]) (st := [.int (3 : Int32), .ref 1014]) (pc' := 69) zc0 (by decide) (congrArg Prod.fst (zX_t1000 hx)) dX1_fineOf_66 rfl (lw_V q1142 q1144 qs36 q131 q1145) ⟨rfl, hd_X1_isSaid⟩ rfl (by decide) (by decide) (Nat.zero_le _) (Or.inr (fun _ _ _ _ _ _ h9 h8 => h9 h8.1)) (Nat.le_of_ble_eq_true rfl) h (zqI_IL_k rfl (fun r10 I11 L12 h => ?_)) (fun _ _ _ _ _ _ h9 h8 => absurd h8.1 h9) rfl
  refine za_if_eq (pc' := 72) (tgt := 76) dX1_fineOf_69 (by decide) rfl (fun c9 => ?_) (fun c9 => ?_)
  · replace h := h.1 c9
    refine za_lconst (pc' := 77) dX1_fineOf_76 zl_0 rfl ?_
    exact zAW_sub [0, 2, 3] rfl h
  · replace h := h.2 c9
    refine za_lconst (pc' := 73) dX1_fineOf_72 zl_1 rfl ?_
    refine za_goto (tgt := 77) dX1_fineOf_73 (by decide) ?_
    exact zAW_sub [0, 2, 3] rfl h
theorem gX1_fineOf_77 {v2 : Int32} {v3 : Nat} {s0 : Int64} {s1 : Int32} {s2 : Nat} {T : zT} {I : zI} {L : zL} {R : zR} {P : zP} (hx : zXok T R) (h : (T s2).1 = 101 ∧ vp_in s1 ((T s2).2) ∧ (T v3).1 = 11 ∧ zMet mX11_lost 1 0 [.ref v3] T I (z2 L s2 (s1.toNatClampNeg) s0) R (zqI_ T I (z2 L s2 (s1.toNatClampNeg) s0) R  (fun (r15 : Int32)  => (T (R 1000 8)).1 = 3 ∧ ((R (R 1000 8) 11) = 0 ∨ 100 ≤ (R (R 1000 8) 11)) ∧ (((R (R 1000 8) 11) = 0 → zMet mX11_lost 1 0 [.ref v3] T I (z2 (z2 (z2 L s2 (s1.toNatClampNeg) s0) 1014 4 (r15.toInt64)) 1014 5 (v2.toInt64)) R (zqI_ T I (z2 (z2 (z2 L s2 (s1.toNatClampNeg) s0) 1014 4 (r15.toInt64)) 1014 5 (v2.toInt64)) R  (fun (r22 : Int32)  => P 0 (.int r22) T I (z2 (z2 (z2 L s2 (s1.toNatClampNeg) s0) 1014 4 (r15.toInt64)) 1014 5 (v2.toInt64)) R))) ∧ (¬ (R (R 1000 8) 11) = 0 → ((((T (R (R 1000 8) 11)).1 = 16 ∧ zMet mX17_of 1 0 [.ref (R (R 1000 8) 11), .ref 1014] T I (z2 (z2 (z2 L s2 (s1.toNatClampNeg) s0) 1014 4 (r15.toInt64)) 1014 5 (v2.toInt64)) R (zqJ_x T I (z2 (z2 (z2 L s2 (s1.toNatClampNeg) s0) 1014 4 (r15.toInt64)) 1014 5 (v2.toInt64)) R (fun o9 v9 T9 I9 L9 R9 => o9 = 2 ∧ ∃ r9, v9 = .ref r9 ∧ zAW mX1_fineOf 201 0 138 [(3, .ref v3)] [.ref r9] T9 I9 L9 R9 P) (fun (r18 : Int64)  => zAW mX1_fineOf 201 0 130 [(3, .ref v3)] [.long r18, .long (9999 : Int64), .long (0 : Int64)] T I (z2 (z2 (z2 L s2 (s1.toNatClampNeg) s0) 1014 4 (r15.toInt64)) 1014 5 (v2.toInt64)) R P)))) ∨ (((T (R (R 1000 8) 11)).1 = 17 ∧ zMet mX18_of 1 0 [.ref (R (R 1000 8) 11), .ref 1014] T I (z2 (z2 (z2 L s2 (s1.toNatClampNeg) s0) 1014 4 (r15.toInt64)) 1014 5 (v2.toInt64)) R (zqJ_x T I (z2 (z2 (z2 L s2 (s1.toNatClampNeg) s0) 1014 4 (r15.toInt64)) 1014 5 (v2.toInt64)) R (fun o9 v9 T9 I9 L9 R9 => o9 = 2 ∧ ∃ r9, v9 = .ref r9 ∧ zAW mX1_fineOf 201 0 138 [(3, .ref v3)] [.ref r9] T9 I9 L9 R9 P) (fun (r19 : Int64)  => zAW mX1_fineOf 201 0 130 [(3, .ref v3)] [.long r19, .long (9999 : Int64), .long (0 : Int64)] T I (z2 (z2 (z2 L s2 (s1.toNatClampNeg) s0) 1014 4 (r15.toInt64)) 1014 5 (v2.toInt64)) R P)))) ∨ (((T (R (R 1000 8) 11)).1 = 18 ∧ zMet mX19_of 200 0 [.ref (R (R 1000 8) 11), .ref 1014] T I (z2 (z2 (z2 L s2 (s1.toNatClampNeg) s0) 1014 4 (r15.toInt64)) 1014 5 (v2.toInt64)) R (zqJ_x T I (z2 (z2 (z2 L s2 (s1.toNatClampNeg) s0) 1014 4 (r15.toInt64)) 1014 5 (v2.toInt64)) R (fun o9 v9 T9 I9 L9 R9 => o9 = 2 ∧ ∃ r9, v9 = .ref r9 ∧ zAW mX1_fineOf 201 0 138 [(3, .ref v3)] [.ref r9] T9 I9 L9 R9 P) (fun (r20 : Int64)  => zAW mX1_fineOf 201 0 130 [(3, .ref v3)] [.long r20, .long (9999 : Int64), .long (0 : Int64)] T I (z2 (z2 (z2 L s2 (s1.toNatClampNeg) s0) 1014 4 (r15.toInt64)) 1014 5 (v2.toInt64)) R P)))) ∨ (((T (R (R 1000 8) 11)).1 = 19 ∧ zMet mX20_of 200 0 [.ref (R (R 1000 8) 11), .ref 1014] T I (z2 (z2 (z2 L s2 (s1.toNatClampNeg) s0) 1014 4 (r15.toInt64)) 1014 5 (v2.toInt64)) R (zqJ_x T I (z2 (z2 (z2 L s2 (s1.toNatClampNeg) s0) 1014 4 (r15.toInt64)) 1014 5 (v2.toInt64)) R (fun o9 v9 T9 I9 L9 R9 => o9 = 2 ∧ ∃ r9, v9 = .ref r9 ∧ zAW mX1_fineOf 201 0 138 [(3, .ref v3)] [.ref r9] T9 I9 L9 R9 P) (fun (r21 : Int64)  => zAW mX1_fineOf 201 0 130 [(3, .ref v3)] [.long r21, .long (9999 : Int64), .long (0 : Int64)] T I (z2 (z2 (z2 L s2 (s1.toNatClampNeg) s0) 1014 4 (r15.toInt64)) 1014 5 (v2.toInt64)) R P)))))))))) : zAW mX1_fineOf 201 0 77 [(0, .ref 1000), (2, .int v2), (3, .ref v3)] [.long s0, .int s1, .ref s2] T I L R P := by
  obtain ⟨ht13, h⟩ := h
  obtain ⟨hi14, h⟩ := h
  refine za_last (k := s1.toNatClampNeg) (pc' := 78) dX1_fineOf_77 (zpair ht13) hi14 rfl rfl ?_
  refine za_aload_n (pc' := 79) 0 dX1_fineOf_78 rfl rfl rfl ?_
  refine za_get (fi := 13) (v := .ref 1014) (pc' := 82) dX1_fineOf_79 zc0 (by decide) in_X1 (by decide) q503 (Or.inl rfl) (congrArg Prod.fst (zX_t1000 hx)) (congrArg Value.ref (zX_r1000_13 hx)) rfl ?_
  refine za_iconst (pc' := 83) dX1_fineOf_82 zi_4 rfl ?_
  refine za_aload_n (pc' := 84) 2 dX1_fineOf_83 rfl rfl rfl ?_
  obtain ⟨ht16, h⟩ := h
  refine za_callV (κ := v3) (M2 := mX11_lost) (d2 := 1) (b2 := 0) (n := 0) (As := []) (st := [.int (4 : Int32), .ref 1014]) (pc' := 87) zc10 (by decide) ht16 dX1_fineOf_84 rfl (lw_V q1361 q1362 q1363 q144 q1364) ⟨rfl, hd_X11_lost⟩ rfl (by decide) (by decide) (Nat.zero_le _) (Or.inr (fun _ _ _ _ _ _ h9 h8 => h9 h8.1)) (Nat.le_of_ble_eq_true rfl) h (zqI__k rfl (fun r15 h => ?_)) (fun _ _ _ _ _ _ h9 h8 => absurd h8.1 h9) rfl
  refine za_i2l (pc' := 88) dX1_fineOf_87 rfl rfl ?_
  refine za_last (k := 4) (pc' := 89) dX1_fineOf_88 (zX_t1014 hx) (zin (by decide)) zn_4 rfl ?_
  refine za_aload_n (pc' := 90) 0 dX1_fineOf_89 rfl rfl rfl ?_
  refine za_get (fi := 13) (v := .ref 1014) (pc' := 93) dX1_fineOf_90 zc0 (by decide) in_X1 (by decide) q503 (Or.inl rfl) (congrArg Prod.fst (zX_t1000 hx)) (congrArg Value.ref (zX_r1000_13 hx)) rfl ?_
  refine za_iconst (pc' := 94) dX1_fineOf_93 zi_5 rfl ?_
  refine za_iload_n (pc' := 95) 1 dX1_fineOf_94 rfl rfl rfl ?_
  refine za_i2l (pc' := 96) dX1_fineOf_95 rfl rfl ?_
  refine za_last (k := 5) (pc' := 97) dX1_fineOf_96 (zX_t1014 hx) (zin (by decide)) zn_5 rfl ?_
  refine za_aload_n (pc' := 98) 0 dX1_fineOf_97 rfl rfl rfl ?_
  refine za_get (fi := 8) (v := .ref (R 1000 8)) (pc' := 101) dX1_fineOf_98 zc0 (by decide) in_X1 (by decide) q498 (Or.inl rfl) (congrArg Prod.fst (zX_t1000 hx)) rfl rfl ?_
  obtain ⟨ht17, h⟩ := h
  refine za_getN (fi := 11) (v := .ref (R (R 1000 8) 11)) (pc' := 104) dX1_fineOf_101 zc2 (by decide) in_X3 (by decide) q303 (Or.inl rfl) ht17 rfl rfl ?_
  obtain ⟨hn23, h⟩ := h
  refine za_ifnonnull (pc' := 107) (tgt := 112) dX1_fineOf_104 hn23 (by decide) rfl (fun c9 => ?_) (fun c9 => ?_)
  · replace h := h.1 c9
    refine za_aload_n (pc' := 108) 2 dX1_fineOf_107 rfl rfl rfl ?_
    refine za_callV (κ := v3) (M2 := mX11_lost) (d2 := 1) (b2 := 0) (n := 0) (As := []) (st := []) (pc' := 111) zc10 (by decide) ht16 dX1_fineOf_108 rfl (lw_V q1361 q1362 q1363 q144 q1364) ⟨rfl, hd_X11_lost⟩ rfl (by decide) (by decide) (Nat.zero_le _) (Or.inr (fun _ _ _ _ _ _ h9 h8 => h9 h8.1)) (Nat.le_of_ble_eq_true rfl) h (zqI__k rfl (fun r22 h => ?_)) (fun _ _ _ _ _ _ h9 h8 => absurd h8.1 h9) rfl
    exact za_ireturn rfl dX1_fineOf_111 h
  · replace h := h.2 c9
    refine za_lconst (pc' := 113) dX1_fineOf_112 zl_0 rfl ?_
    refine za_ldc2 (pc' := 116) (v := (9999 : Int64)) (own := "") dX1_fineOf_113 q1365 rfl ?_
    refine za_aload_n (pc' := 117) 0 dX1_fineOf_116 rfl rfl rfl ?_
    refine za_get (fi := 8) (v := .ref (R 1000 8)) (pc' := 120) dX1_fineOf_117 zc0 (by decide) in_X1 (by decide) q498 (Or.inl rfl) (congrArg Prod.fst (zX_t1000 hx)) rfl rfl ?_
    refine za_getN (fi := 11) (v := .ref (R (R 1000 8) 11)) (pc' := 123) dX1_fineOf_120 zc2 (by decide) in_X3 (by decide) q303 (Or.inl rfl) ht17 rfl rfl ?_
    refine za_aload_n (pc' := 124) 0 dX1_fineOf_123 rfl rfl rfl ?_
    refine za_get (fi := 13) (v := .ref 1014) (pc' := 127) dX1_fineOf_124 zc0 (by decide) in_X1 (by decide) q503 (Or.inl rfl) (congrArg Prod.fst (zX_t1000 hx)) (congrArg Value.ref (zX_r1000_13 hx)) rfl ?_
    rcases h with h | h | h | h
    · obtain ⟨h0, h⟩ := h
      exact za_callUH (oc := 2) (pch := 138) (κ := (R (R 1000 8) 11)) (owner := "TwoTongues$Part") (x9 := ⟨"TwoTongues$Part", "of", "([J)J"⟩) (M2 := mX17_of) (d2 := 1) (b2 := 0) (n := 1) (As := [.ref 1014]) (st := [.long (9999 : Int64), .long (0 : Int64)]) (pc' := 130) (nm := "TwoTongues$Trouble") zc15 (by decide) h0 dX1_fineOf_127 rfl (lw_U q1366 q1368 q1399 q1376 q162 q1377) q1367 hdx_part rfl (by decide) (by decide) (Nat.zero_le _) rfl (Nat.le_of_ble_eq_true rfl) rfl (by decide) q1356 q2261 rfl h (zqJ_x_k rfl (fun r18 h => zAW_sub [2] rfl h)) (fun o9 v9 T9 I9 L9 R9 e9 h9 => by obtain ⟨-, r9, e8, h8⟩ := h9.2 (by rw [e9]; decide); rw [e8]; exact zAW_sub [2] rfl h8) (fun _ _ _ _ _ _ h9 h8 => (h8.2 h9).1) rfl
    · obtain ⟨h0, h⟩ := h
      exact za_callUH (oc := 2) (pch := 138) (κ := (R (R 1000 8) 11)) (owner := "TwoTongues$Part") (x9 := ⟨"TwoTongues$Part", "of", "([J)J"⟩) (M2 := mX18_of) (d2 := 1) (b2 := 0) (n := 1) (As := [.ref 1014]) (st := [.long (9999 : Int64), .long (0 : Int64)]) (pc' := 130) (nm := "TwoTongues$Trouble") zc16 (by decide) h0 dX1_fineOf_127 rfl (lw_U q1366 q1368 q1369 q1370 q163 q1371) q1367 hdx_part rfl (by decide) (by decide) (Nat.zero_le _) rfl (Nat.le_of_ble_eq_true rfl) rfl (by decide) q1356 q2261 rfl h (zqJ_x_k rfl (fun r19 h => zAW_sub [2] rfl h)) (fun o9 v9 T9 I9 L9 R9 e9 h9 => by obtain ⟨-, r9, e8, h8⟩ := h9.2 (by rw [e9]; decide); rw [e8]; exact zAW_sub [2] rfl h8) (fun _ _ _ _ _ _ h9 h8 => (h8.2 h9).1) rfl
    · obtain ⟨h0, h⟩ := h
      exact za_callUH (oc := 2) (pch := 138) (κ := (R (R 1000 8) 11)) (owner := "TwoTongues$Part") (x9 := ⟨"TwoTongues$Part", "of", "([J)J"⟩) (M2 := mX19_of) (d2 := 200) (b2 := 0) (n := 1) (As := [.ref 1014]) (st := [.long (9999 : Int64), .long (0 : Int64)]) (pc' := 130) (nm := "TwoTongues$Trouble") zc17 (by decide) h0 dX1_fineOf_127 rfl (lw_U q1366 q1368 q1372 q1373 q164 q1374) q1367 hdx_part rfl (by decide) (by decide) (Nat.zero_le _) rfl (Nat.le_of_ble_eq_true rfl) rfl (by decide) q1356 q2261 rfl h (zqJ_x_k rfl (fun r20 h => zAW_sub [2] rfl h)) (fun o9 v9 T9 I9 L9 R9 e9 h9 => by obtain ⟨-, r9, e8, h8⟩ := h9.2 (by rw [e9]; decide); rw [e8]; exact zAW_sub [2] rfl h8) (fun _ _ _ _ _ _ h9 h8 => (h8.2 h9).1) rfl
    · obtain ⟨h0, h⟩ := h
      exact za_callUH (oc := 2) (pch := 138) (κ := (R (R 1000 8) 11)) (owner := "TwoTongues$Part") (x9 := ⟨"TwoTongues$Part", "of", "([J)J"⟩) (M2 := mX20_of) (d2 := 200) (b2 := 0) (n := 1) (As := [.ref 1014]) (st := [.long (9999 : Int64), .long (0 : Int64)]) (pc' := 130) (nm := "TwoTongues$Trouble") zc18 (by decide) h0 dX1_fineOf_127 rfl (lw_U q1366 q1368 q1400 q1378 q165 q1379) q1367 hdx_part rfl (by decide) (by decide) (Nat.zero_le _) rfl (Nat.le_of_ble_eq_true rfl) rfl (by decide) q1356 q2261 rfl h (zqJ_x_k rfl (fun r21 h => zAW_sub [2] rfl h)) (fun o9 v9 T9 I9 L9 R9 e9 h9 => by obtain ⟨-, r9, e8, h8⟩ := h9.2 (by rw [e9]; decide); rw [e8]; exact zAW_sub [2] rfl h8) (fun _ _ _ _ _ _ h9 h8 => (h8.2 h9).1) rfl
theorem gX1_fineOf_130 {v3 : Nat} {s0 : Int64} {s1 : Int64} {s2 : Int64} {T : zT} {I : zI} {L : zL} {R : zR} {P : zP} (hx : zXok T R) (h : P 0 (.int ((if (if s0 < s1 then s0 else s1) < s2 then s2 else (if s0 < s1 then s0 else s1)).toInt32)) T I L R) : zAW mX1_fineOf 201 0 130 [(3, .ref v3)] [.long s0, .long s1, .long s2] T I L R P := by
  refine za_mminL (pc' := 133) dX1_fineOf_130 q1401 (by decide) (Nat.le_of_ble_eq_true rfl) rfl ?_
  refine za_mmaxL (pc' := 136) dX1_fineOf_133 q1404 (by decide) (Nat.le_of_ble_eq_true rfl) rfl ?_
  refine za_l2i (pc' := 137) dX1_fineOf_136 rfl rfl ?_
  exact za_ireturn rfl dX1_fineOf_137 h
theorem gX1_fineOf_138 {v3 : Nat} {s0 : Nat} {T : zT} {I : zI} {L : zL} {R : zR} {P : zP} (hx : zXok T R) (h : (T v3).1 = 11 ∧ zMet mX11_lost 1 0 [.ref v3] T I L R (zqI_ T I L R  (fun (r24 : Int32)  => P 0 (.int r24) T I L R))) : zAW mX1_fineOf 201 0 138 [(3, .ref v3)] [.ref s0] T I L R P := by
  refine za_astore (pc' := 140) (l' := [(4, .ref s0), (3, .ref v3)]) dX1_fineOf_138 (Nat.le_of_ble_eq_true rfl) rfl rfl ?_
  refine za_aload_n (pc' := 141) 1 dX1_fineOf_140 rfl rfl rfl ?_
  obtain ⟨ht25, h⟩ := h
  refine za_callV (κ := v3) (M2 := mX11_lost) (d2 := 1) (b2 := 0) (n := 0) (As := []) (st := []) (pc' := 144) zc10 (by decide) ht25 dX1_fineOf_141 rfl (lw_V q1361 q1362 q1363 q144 q1364) ⟨rfl, hd_X11_lost⟩ rfl (by decide) (by decide) (Nat.zero_le _) (Or.inr (fun _ _ _ _ _ _ h9 h8 => h9 h8.1)) (Nat.le_of_ble_eq_true rfl) h (zqI__k rfl (fun r24 h => ?_)) (fun _ _ _ _ _ _ h9 h8 => absurd h8.1 h9) rfl
  exact za_ireturn rfl dX1_fineOf_144 h
theorem sX1_fineOf {d b : Nat} {v1 : Int32} {v2 : Int32} {T : zT} {I : zI} {L : zL} {R : zR} {P : zP} (h : zAW mX1_fineOf d b 0 [(0, .ref 1000), (1, .int v1), (2, .int v2)] [] T I L R P) : zMet mX1_fineOf d b [.ref 1000, .int v1, .int v2] T I L R P := zMet_ofH (by decide +kernel) rfl (Nat.le_of_ble_eq_true rfl) rfl h
/-! TwoTongues.sure (J)J -/
def dkwX1_sure_2_0 : List UInt8 := [30, 20, 0, 5, 148, 157, 0, 11, 30, 20, 0, 7, 148, 156, 0, 7, 178, 0, 9, 191, 30, 173]
abbrev dktX1_sure_2_0 : List UInt8 := dkwX1_sure_2_0 ++ []
theorem dksX1_sure_2_0 : cX1_sure_2.data.toList.drop 0 = dktX1_sure_2_0 := by decide +kernel
theorem dX1_sure_2_0 : decode cX1_sure_2 0 = .ok (.lload_n 0, 1) := dk_30 (dk_at dksX1_sure_2_0 0 rfl rfl)
theorem dX1_sure_2_1 : decode cX1_sure_2 1 = .ok (.ldc2_w 5, 3) := dk_20 0 5 (dk_at dksX1_sure_2_0 1 rfl rfl)
theorem dX1_sure_2_4 : decode cX1_sure_2 4 = .ok (.lcmp, 1) := dk_148 (dk_at dksX1_sure_2_0 4 rfl rfl)
theorem dX1_sure_2_5 : decode cX1_sure_2 5 = .ok (.ifCond .gt 11, 3) := dk_157 0 11 (dk_at dksX1_sure_2_0 5 rfl rfl)
theorem dX1_sure_2_8 : decode cX1_sure_2 8 = .ok (.lload_n 0, 1) := dk_30 (dk_at dksX1_sure_2_0 8 rfl rfl)
theorem dX1_sure_2_9 : decode cX1_sure_2 9 = .ok (.ldc2_w 7, 3) := dk_20 0 7 (dk_at dksX1_sure_2_0 9 rfl rfl)
theorem dX1_sure_2_12 : decode cX1_sure_2 12 = .ok (.lcmp, 1) := dk_148 (dk_at dksX1_sure_2_0 12 rfl rfl)
theorem dX1_sure_2_13 : decode cX1_sure_2 13 = .ok (.ifCond .ge 7, 3) := dk_156 0 7 (dk_at dksX1_sure_2_0 13 rfl rfl)
theorem dX1_sure_2_16 : decode cX1_sure_2 16 = .ok (.getstatic 9, 3) := dk_178 0 9 (dk_at dksX1_sure_2_0 16 rfl rfl)
theorem dX1_sure_2_19 : decode cX1_sure_2 19 = .ok (.athrow, 1) := dk_191 (dk_at dksX1_sure_2_0 19 rfl rfl)
theorem dX1_sure_2_20 : decode cX1_sure_2 20 = .ok (.lload_n 0, 1) := dk_30 (dk_at dksX1_sure_2_0 20 rfl rfl)
theorem dX1_sure_2_21 : decode cX1_sure_2 21 = .ok (.lreturn, 1) := dk_173 (dk_at dksX1_sure_2_0 21 rfl rfl)
theorem gX1_sure_2_0 {v0 : Int64} {T : zT} {I : zI} {L : zL} {R : zR} {P : zP} (h : (((1000000000000 : Int64) < v0 → P 2 (.ref 2) T I L R) ∧ (¬ (1000000000000 : Int64) < v0 → (((-1000000000000 : Int64) ≤ v0 → P 0 (.long v0) T I L R) ∧ (¬ (-1000000000000 : Int64) ≤ v0 → P 2 (.ref 2) T I L R))))) : zAW mX1_sure_2 1 0 0 [(0, .long v0)] [] T I L R P := by
  refine za_lload_n (pc' := 1) 0 dX1_sure_2_0 rfl rfl rfl ?_
  refine za_ldc2 (pc' := 4) (v := (1000000000000 : Int64)) (own := "") dX1_sure_2_1 q1384 rfl ?_
  refine za_lcmp (pc' := 5) dX1_sure_2_4 rfl ?_
  refine za_if_gt (pc' := 8) (tgt := 16) dX1_sure_2_5 (by decide) rfl (fun c9 => ?_) (fun c9 => ?_)
  · replace h := h.1 ((lg_cmp_gt v0 (1000000000000 : Int64)).mp c9)
    refine za_getTrouble (pc' := 19) dX1_sure_2_16 q1386 rfl ?_
    exact za_trouble dX1_sure_2_19 rfl h
  · replace h := h.2 (fun c8 => c9 ((lg_cmp_gt v0 (1000000000000 : Int64)).mpr c8))
    refine za_lload_n (pc' := 9) 0 dX1_sure_2_8 rfl rfl rfl ?_
    refine za_ldc2 (pc' := 12) (v := (-1000000000000 : Int64)) (own := "") dX1_sure_2_9 q1385 rfl ?_
    refine za_lcmp (pc' := 13) dX1_sure_2_12 rfl ?_
    refine za_if_ge (pc' := 16) (tgt := 20) dX1_sure_2_13 (by decide) rfl (fun c9 => ?_) (fun c9 => ?_)
    · replace h := h.1 ((lg_cmp_ge v0 (-1000000000000 : Int64)).mp c9)
      refine za_lload_n (pc' := 21) 0 dX1_sure_2_20 rfl rfl rfl ?_
      exact za_lreturn rfl dX1_sure_2_21 h
    · replace h := h.2 (fun c8 => c9 ((lg_cmp_ge v0 (-1000000000000 : Int64)).mpr c8))
      refine za_getTrouble (pc' := 19) dX1_sure_2_16 q1386 rfl ?_
      exact za_trouble dX1_sure_2_19 rfl h
theorem sX1_sure_2 {d b : Nat} {v0 : Int64} {T : zT} {I : zI} {L : zL} {R : zR} {P : zP} (h : zAW mX1_sure_2 d b 0 [(0, .long v0)] [] T I L R P) : zMet mX1_sure_2 d b [.long v0] T I L R P := zMet_of (by decide +kernel) rfl (Nat.le_of_ble_eq_true rfl) rfl h
/-! TwoTongues.bought (II)I -/
def dkwX1_bought_8 : List UInt8 := [167, 0, 14, 28, 4, 160, 0, 8, 21, 5, 167, 0, 4, 29, 172]
abbrev dktX1_bought_8 : List UInt8 := dkwX1_bought_8 ++ []
def dkwX1_bought_7 : List UInt8 := [21, 6, 62, 21, 7, 54, 4, 21, 8, 54, 5, 132, 6, 1, 167, 255, 112, 28, 154, 0, 8, 21, 4]
abbrev dktX1_bought_7 : List UInt8 := dkwX1_bought_7 ++ dktX1_bought_8
def dkwX1_bought_6 : List UInt8 := [21, 7, 21, 4, 161, 0, 31, 21, 7, 21, 4, 160, 0, 13, 21, 8, 21, 5, 161, 0, 6, 167, 0, 14]
abbrev dktX1_bought_6 : List UInt8 := dkwX1_bought_6 ++ dktX1_bought_7
def dkwX1_bought_5 : List UInt8 := [182, 0, 208, 96, 54, 8, 132, 9, 1, 167, 255, 191, 21, 8, 42, 180, 0, 64, 180, 1, 42, 163, 0, 38]
abbrev dktX1_bought_5 : List UInt8 := dkwX1_bought_5 ++ dktX1_bought_6
def dkwX1_bought_4 : List UInt8 := [182, 1, 206, 96, 54, 7, 21, 8, 42, 180, 0, 39, 42, 180, 0, 64, 180, 0, 186, 21, 9, 50]
abbrev dktX1_bought_4 : List UInt8 := dkwX1_bought_4 ++ dktX1_bought_5
def dkwX1_bought_3 : List UInt8 := [162, 0, 56, 21, 6, 21, 9, 122, 4, 126, 154, 0, 6, 167, 0, 37, 21, 7, 42, 21, 9, 27]
abbrev dktX1_bought_3 : List UInt8 := dkwX1_bought_3 ++ dktX1_bought_4
def dkwX1_bought_2 : List UInt8 := [162, 0, 133, 3, 54, 7, 3, 54, 8, 3, 54, 9, 21, 9, 42, 180, 0, 39, 180, 0, 172, 182, 0, 176]
abbrev dktX1_bought_2 : List UInt8 := dkwX1_bought_2 ++ dktX1_bought_3
def dkwX1_bought_1 : List UInt8 := [54, 4, 3, 54, 5, 4, 54, 6, 21, 6, 4, 42, 180, 0, 39, 180, 0, 172, 182, 0, 176, 120]
abbrev dktX1_bought_1 : List UInt8 := dkwX1_bought_1 ++ dktX1_bought_2
def dkwX1_bought_0 : List UInt8 := [27, 184, 1, 10, 153, 0, 15, 28, 133, 9, 20, 1, 209, 184, 0, 126, 154, 0, 5, 2, 172, 3, 62, 3]
abbrev dktX1_bought_0 : List UInt8 := dkwX1_bought_0 ++ dktX1_bought_1
theorem dksX1_bought_0 : cX1_bought.data.toList.drop 0 = dktX1_bought_0 := by decide +kernel
theorem dksX1_bought_1 : cX1_bought.data.toList.drop 24 = dktX1_bought_1 := dk_seg dksX1_bought_0 24 rfl rfl
theorem dksX1_bought_2 : cX1_bought.data.toList.drop 46 = dktX1_bought_2 := dk_seg dksX1_bought_1 22 rfl rfl
theorem dksX1_bought_3 : cX1_bought.data.toList.drop 70 = dktX1_bought_3 := dk_seg dksX1_bought_2 24 rfl rfl
theorem dksX1_bought_4 : cX1_bought.data.toList.drop 92 = dktX1_bought_4 := dk_seg dksX1_bought_3 22 rfl rfl
theorem dksX1_bought_5 : cX1_bought.data.toList.drop 114 = dktX1_bought_5 := dk_seg dksX1_bought_4 22 rfl rfl
theorem dksX1_bought_6 : cX1_bought.data.toList.drop 138 = dktX1_bought_6 := dk_seg dksX1_bought_5 24 rfl rfl
theorem dksX1_bought_7 : cX1_bought.data.toList.drop 162 = dktX1_bought_7 := dk_seg dksX1_bought_6 24 rfl rfl
theorem dksX1_bought_8 : cX1_bought.data.toList.drop 185 = dktX1_bought_8 := dk_seg dksX1_bought_7 23 rfl rfl
theorem dX1_bought_0 : decode cX1_bought 0 = .ok (.iload_n 1, 1) := dk_27 (dk_at dksX1_bought_0 0 rfl rfl)
theorem dX1_bought_1 : decode cX1_bought 1 = .ok (.invokestatic 266, 3) := dk_184 1 10 (dk_at dksX1_bought_0 1 rfl rfl)
theorem dX1_bought_4 : decode cX1_bought 4 = .ok (.ifCond .eq 15, 3) := dk_153 0 15 (dk_at dksX1_bought_0 4 rfl rfl)
theorem dX1_bought_7 : decode cX1_bought 7 = .ok (.iload_n 2, 1) := dk_28 (dk_at dksX1_bought_0 7 rfl rfl)
theorem dX1_bought_8 : decode cX1_bought 8 = .ok (.i2l, 1) := dk_133 (dk_at dksX1_bought_0 8 rfl rfl)
theorem dX1_bought_9 : decode cX1_bought 9 = .ok (.lconst 0, 1) := dk_9 (dk_at dksX1_bought_0 9 rfl rfl)
theorem dX1_bought_10 : decode cX1_bought 10 = .ok (.ldc2_w 465, 3) := dk_20 1 209 (dk_at dksX1_bought_0 10 rfl rfl)
theorem dX1_bought_13 : decode cX1_bought 13 = .ok (.invokestatic 126, 3) := dk_184 0 126 (dk_at dksX1_bought_0 13 rfl rfl)
theorem dX1_bought_16 : decode cX1_bought 16 = .ok (.ifCond .ne 5, 3) := dk_154 0 5 (dk_at dksX1_bought_0 16 rfl rfl)
theorem dX1_bought_19 : decode cX1_bought 19 = .ok (.iconst (-1), 1) := dk_2 (dk_at dksX1_bought_0 19 rfl rfl)
theorem dX1_bought_20 : decode cX1_bought 20 = .ok (.ireturn, 1) := dk_172 (dk_at dksX1_bought_0 20 rfl rfl)
theorem dX1_bought_21 : decode cX1_bought 21 = .ok (.iconst 0, 1) := dk_3 (dk_at dksX1_bought_0 21 rfl rfl)
theorem dX1_bought_22 : decode cX1_bought 22 = .ok (.istore_n 3, 1) := dk_62 (dk_at dksX1_bought_0 22 rfl rfl)
theorem dX1_bought_23 : decode cX1_bought 23 = .ok (.iconst 0, 1) := dk_3 (dk_at dksX1_bought_0 23 rfl rfl)
theorem dX1_bought_24 : decode cX1_bought 24 = .ok (.istore 4, 2) := dk_54 4 (dk_at dksX1_bought_1 0 rfl rfl)
theorem dX1_bought_26 : decode cX1_bought 26 = .ok (.iconst 0, 1) := dk_3 (dk_at dksX1_bought_1 2 rfl rfl)
theorem dX1_bought_27 : decode cX1_bought 27 = .ok (.istore 5, 2) := dk_54 5 (dk_at dksX1_bought_1 3 rfl rfl)
theorem dX1_bought_29 : decode cX1_bought 29 = .ok (.iconst 1, 1) := dk_4 (dk_at dksX1_bought_1 5 rfl rfl)
theorem dX1_bought_30 : decode cX1_bought 30 = .ok (.istore 6, 2) := dk_54 6 (dk_at dksX1_bought_1 6 rfl rfl)
theorem dX1_bought_32 : decode cX1_bought 32 = .ok (.iload 6, 2) := dk_21 6 (dk_at dksX1_bought_1 8 rfl rfl)
theorem dX1_bought_34 : decode cX1_bought 34 = .ok (.iconst 1, 1) := dk_4 (dk_at dksX1_bought_1 10 rfl rfl)
theorem dX1_bought_35 : decode cX1_bought 35 = .ok (.aload_n 0, 1) := dk_42 (dk_at dksX1_bought_1 11 rfl rfl)
theorem dX1_bought_36 : decode cX1_bought 36 = .ok (.getfield 39, 3) := dk_180 0 39 (dk_at dksX1_bought_1 12 rfl rfl)
theorem dX1_bought_39 : decode cX1_bought 39 = .ok (.getfield 172, 3) := dk_180 0 172 (dk_at dksX1_bought_1 15 rfl rfl)
theorem dX1_bought_42 : decode cX1_bought 42 = .ok (.invokevirtual 176, 3) := dk_182 0 176 (dk_at dksX1_bought_1 18 rfl rfl)
theorem dX1_bought_45 : decode cX1_bought 45 = .ok (.ishl, 1) := dk_120 (dk_at dksX1_bought_1 21 rfl rfl)
theorem dX1_bought_46 : decode cX1_bought 46 = .ok (.if_icmp .ge 133, 3) := dk_162 0 133 (dk_at dksX1_bought_2 0 rfl rfl)
theorem dX1_bought_49 : decode cX1_bought 49 = .ok (.iconst 0, 1) := dk_3 (dk_at dksX1_bought_2 3 rfl rfl)
theorem dX1_bought_50 : decode cX1_bought 50 = .ok (.istore 7, 2) := dk_54 7 (dk_at dksX1_bought_2 4 rfl rfl)
theorem dX1_bought_52 : decode cX1_bought 52 = .ok (.iconst 0, 1) := dk_3 (dk_at dksX1_bought_2 6 rfl rfl)
theorem dX1_bought_53 : decode cX1_bought 53 = .ok (.istore 8, 2) := dk_54 8 (dk_at dksX1_bought_2 7 rfl rfl)
theorem dX1_bought_55 : decode cX1_bought 55 = .ok (.iconst 0, 1) := dk_3 (dk_at dksX1_bought_2 9 rfl rfl)
theorem dX1_bought_56 : decode cX1_bought 56 = .ok (.istore 9, 2) := dk_54 9 (dk_at dksX1_bought_2 10 rfl rfl)
theorem dX1_bought_58 : decode cX1_bought 58 = .ok (.iload 9, 2) := dk_21 9 (dk_at dksX1_bought_2 12 rfl rfl)
theorem dX1_bought_60 : decode cX1_bought 60 = .ok (.aload_n 0, 1) := dk_42 (dk_at dksX1_bought_2 14 rfl rfl)
theorem dX1_bought_61 : decode cX1_bought 61 = .ok (.getfield 39, 3) := dk_180 0 39 (dk_at dksX1_bought_2 15 rfl rfl)
theorem dX1_bought_64 : decode cX1_bought 64 = .ok (.getfield 172, 3) := dk_180 0 172 (dk_at dksX1_bought_2 18 rfl rfl)
theorem dX1_bought_67 : decode cX1_bought 67 = .ok (.invokevirtual 176, 3) := dk_182 0 176 (dk_at dksX1_bought_2 21 rfl rfl)
theorem dX1_bought_70 : decode cX1_bought 70 = .ok (.if_icmp .ge 56, 3) := dk_162 0 56 (dk_at dksX1_bought_3 0 rfl rfl)
theorem dX1_bought_73 : decode cX1_bought 73 = .ok (.iload 6, 2) := dk_21 6 (dk_at dksX1_bought_3 3 rfl rfl)
theorem dX1_bought_75 : decode cX1_bought 75 = .ok (.iload 9, 2) := dk_21 9 (dk_at dksX1_bought_3 5 rfl rfl)
theorem dX1_bought_77 : decode cX1_bought 77 = .ok (.ishr, 1) := dk_122 (dk_at dksX1_bought_3 7 rfl rfl)
theorem dX1_bought_78 : decode cX1_bought 78 = .ok (.iconst 1, 1) := dk_4 (dk_at dksX1_bought_3 8 rfl rfl)
theorem dX1_bought_79 : decode cX1_bought 79 = .ok (.iand, 1) := dk_126 (dk_at dksX1_bought_3 9 rfl rfl)
theorem dX1_bought_80 : decode cX1_bought 80 = .ok (.ifCond .ne 6, 3) := dk_154 0 6 (dk_at dksX1_bought_3 10 rfl rfl)
theorem dX1_bought_83 : decode cX1_bought 83 = .ok (.goto 37, 3) := dk_167 0 37 (dk_at dksX1_bought_3 13 rfl rfl)
theorem dX1_bought_86 : decode cX1_bought 86 = .ok (.iload 7, 2) := dk_21 7 (dk_at dksX1_bought_3 16 rfl rfl)
theorem dX1_bought_88 : decode cX1_bought 88 = .ok (.aload_n 0, 1) := dk_42 (dk_at dksX1_bought_3 18 rfl rfl)
theorem dX1_bought_89 : decode cX1_bought 89 = .ok (.iload 9, 2) := dk_21 9 (dk_at dksX1_bought_3 19 rfl rfl)
theorem dX1_bought_91 : decode cX1_bought 91 = .ok (.iload_n 1, 1) := dk_27 (dk_at dksX1_bought_3 21 rfl rfl)
theorem dX1_bought_92 : decode cX1_bought 92 = .ok (.invokevirtual 462, 3) := dk_182 1 206 (dk_at dksX1_bought_4 0 rfl rfl)
theorem dX1_bought_95 : decode cX1_bought 95 = .ok (.iadd, 1) := dk_96 (dk_at dksX1_bought_4 3 rfl rfl)
theorem dX1_bought_96 : decode cX1_bought 96 = .ok (.istore 7, 2) := dk_54 7 (dk_at dksX1_bought_4 4 rfl rfl)
theorem dX1_bought_98 : decode cX1_bought 98 = .ok (.iload 8, 2) := dk_21 8 (dk_at dksX1_bought_4 6 rfl rfl)
theorem dX1_bought_100 : decode cX1_bought 100 = .ok (.aload_n 0, 1) := dk_42 (dk_at dksX1_bought_4 8 rfl rfl)
theorem dX1_bought_101 : decode cX1_bought 101 = .ok (.getfield 39, 3) := dk_180 0 39 (dk_at dksX1_bought_4 9 rfl rfl)
theorem dX1_bought_104 : decode cX1_bought 104 = .ok (.aload_n 0, 1) := dk_42 (dk_at dksX1_bought_4 12 rfl rfl)
theorem dX1_bought_105 : decode cX1_bought 105 = .ok (.getfield 64, 3) := dk_180 0 64 (dk_at dksX1_bought_4 13 rfl rfl)
theorem dX1_bought_108 : decode cX1_bought 108 = .ok (.getfield 186, 3) := dk_180 0 186 (dk_at dksX1_bought_4 16 rfl rfl)
theorem dX1_bought_111 : decode cX1_bought 111 = .ok (.iload 9, 2) := dk_21 9 (dk_at dksX1_bought_4 19 rfl rfl)
theorem dX1_bought_113 : decode cX1_bought 113 = .ok (.aaload, 1) := dk_50 (dk_at dksX1_bought_4 21 rfl rfl)
theorem dX1_bought_114 : decode cX1_bought 114 = .ok (.invokevirtual 208, 3) := dk_182 0 208 (dk_at dksX1_bought_5 0 rfl rfl)
theorem dX1_bought_117 : decode cX1_bought 117 = .ok (.iadd, 1) := dk_96 (dk_at dksX1_bought_5 3 rfl rfl)
theorem dX1_bought_118 : decode cX1_bought 118 = .ok (.istore 8, 2) := dk_54 8 (dk_at dksX1_bought_5 4 rfl rfl)
theorem dX1_bought_120 : decode cX1_bought 120 = .ok (.iinc 9 1, 3) := dk_132 9 1 (dk_at dksX1_bought_5 6 rfl rfl)
theorem dX1_bought_123 : decode cX1_bought 123 = .ok (.goto (-65), 3) := dk_167 255 191 (dk_at dksX1_bought_5 9 rfl rfl)
theorem dX1_bought_126 : decode cX1_bought 126 = .ok (.iload 8, 2) := dk_21 8 (dk_at dksX1_bought_5 12 rfl rfl)
theorem dX1_bought_128 : decode cX1_bought 128 = .ok (.aload_n 0, 1) := dk_42 (dk_at dksX1_bought_5 14 rfl rfl)
theorem dX1_bought_129 : decode cX1_bought 129 = .ok (.getfield 64, 3) := dk_180 0 64 (dk_at dksX1_bought_5 15 rfl rfl)
theorem dX1_bought_132 : decode cX1_bought 132 = .ok (.getfield 298, 3) := dk_180 1 42 (dk_at dksX1_bought_5 18 rfl rfl)
theorem dX1_bought_135 : decode cX1_bought 135 = .ok (.if_icmp .gt 38, 3) := dk_163 0 38 (dk_at dksX1_bought_5 21 rfl rfl)
theorem dX1_bought_138 : decode cX1_bought 138 = .ok (.iload 7, 2) := dk_21 7 (dk_at dksX1_bought_6 0 rfl rfl)
theorem dX1_bought_140 : decode cX1_bought 140 = .ok (.iload 4, 2) := dk_21 4 (dk_at dksX1_bought_6 2 rfl rfl)
theorem dX1_bought_142 : decode cX1_bought 142 = .ok (.if_icmp .lt 31, 3) := dk_161 0 31 (dk_at dksX1_bought_6 4 rfl rfl)
theorem dX1_bought_145 : decode cX1_bought 145 = .ok (.iload 7, 2) := dk_21 7 (dk_at dksX1_bought_6 7 rfl rfl)
theorem dX1_bought_147 : decode cX1_bought 147 = .ok (.iload 4, 2) := dk_21 4 (dk_at dksX1_bought_6 9 rfl rfl)
theorem dX1_bought_149 : decode cX1_bought 149 = .ok (.if_icmp .ne 13, 3) := dk_160 0 13 (dk_at dksX1_bought_6 11 rfl rfl)
theorem dX1_bought_152 : decode cX1_bought 152 = .ok (.iload 8, 2) := dk_21 8 (dk_at dksX1_bought_6 14 rfl rfl)
theorem dX1_bought_154 : decode cX1_bought 154 = .ok (.iload 5, 2) := dk_21 5 (dk_at dksX1_bought_6 16 rfl rfl)
theorem dX1_bought_156 : decode cX1_bought 156 = .ok (.if_icmp .lt 6, 3) := dk_161 0 6 (dk_at dksX1_bought_6 18 rfl rfl)
theorem dX1_bought_159 : decode cX1_bought 159 = .ok (.goto 14, 3) := dk_167 0 14 (dk_at dksX1_bought_6 21 rfl rfl)
theorem dX1_bought_162 : decode cX1_bought 162 = .ok (.iload 6, 2) := dk_21 6 (dk_at dksX1_bought_7 0 rfl rfl)
theorem dX1_bought_164 : decode cX1_bought 164 = .ok (.istore_n 3, 1) := dk_62 (dk_at dksX1_bought_7 2 rfl rfl)
theorem dX1_bought_165 : decode cX1_bought 165 = .ok (.iload 7, 2) := dk_21 7 (dk_at dksX1_bought_7 3 rfl rfl)
theorem dX1_bought_167 : decode cX1_bought 167 = .ok (.istore 4, 2) := dk_54 4 (dk_at dksX1_bought_7 5 rfl rfl)
theorem dX1_bought_169 : decode cX1_bought 169 = .ok (.iload 8, 2) := dk_21 8 (dk_at dksX1_bought_7 7 rfl rfl)
theorem dX1_bought_171 : decode cX1_bought 171 = .ok (.istore 5, 2) := dk_54 5 (dk_at dksX1_bought_7 9 rfl rfl)
theorem dX1_bought_173 : decode cX1_bought 173 = .ok (.iinc 6 1, 3) := dk_132 6 1 (dk_at dksX1_bought_7 11 rfl rfl)
theorem dX1_bought_176 : decode cX1_bought 176 = .ok (.goto (-144), 3) := dk_167 255 112 (dk_at dksX1_bought_7 14 rfl rfl)
theorem dX1_bought_179 : decode cX1_bought 179 = .ok (.iload_n 2, 1) := dk_28 (dk_at dksX1_bought_7 17 rfl rfl)
theorem dX1_bought_180 : decode cX1_bought 180 = .ok (.ifCond .ne 8, 3) := dk_154 0 8 (dk_at dksX1_bought_7 18 rfl rfl)
theorem dX1_bought_183 : decode cX1_bought 183 = .ok (.iload 4, 2) := dk_21 4 (dk_at dksX1_bought_7 21 rfl rfl)
theorem dX1_bought_185 : decode cX1_bought 185 = .ok (.goto 14, 3) := dk_167 0 14 (dk_at dksX1_bought_8 0 rfl rfl)
theorem dX1_bought_188 : decode cX1_bought 188 = .ok (.iload_n 2, 1) := dk_28 (dk_at dksX1_bought_8 3 rfl rfl)
theorem dX1_bought_189 : decode cX1_bought 189 = .ok (.iconst 1, 1) := dk_4 (dk_at dksX1_bought_8 4 rfl rfl)
theorem dX1_bought_190 : decode cX1_bought 190 = .ok (.if_icmp .ne 8, 3) := dk_160 0 8 (dk_at dksX1_bought_8 5 rfl rfl)
theorem dX1_bought_193 : decode cX1_bought 193 = .ok (.iload 5, 2) := dk_21 5 (dk_at dksX1_bought_8 8 rfl rfl)
theorem dX1_bought_195 : decode cX1_bought 195 = .ok (.goto 4, 3) := dk_167 0 4 (dk_at dksX1_bought_8 10 rfl rfl)
theorem dX1_bought_198 : decode cX1_bought 198 = .ok (.iload_n 3, 1) := dk_29 (dk_at dksX1_bought_8 13 rfl rfl)
theorem dX1_bought_199 : decode cX1_bought 199 = .ok (.ireturn, 1) := dk_172 (dk_at dksX1_bought_8 14 rfl rfl)
theorem gX1_bought_0 {v1 : Int32} {v2 : Int32} {T : zT} {I : zI} {L : zL} {R : zR} {P : zP} (hx : zXok T R) (h : zMet mX1_isDay 2 0 [.int v1] T I L R (zqI_ T I L R  (fun (r1 : Int32)  => ((r1 = 0 → P 0 (.int (-1 : Int32)) T I L R) ∧ (¬ r1 = 0 → zMet mX1_in 1 0 [.long (v2.toInt64), .long (0 : Int64), .long (2 : Int64)] T I L R (zqI_ T I L R  (fun (r2 : Int32)  => ((r2 = 0 → P 0 (.int (-1 : Int32)) T I L R) ∧ (¬ r2 = 0 → zAW mX1_bought 202 0 32 [(0, .ref 1000), (1, .int v1), (2, .int v2), (3, .int (0 : Int32)), (4, .int (0 : Int32)), (5, .int (0 : Int32)), (6, .int (1 : Int32))] [] T I L R P))))))))) : zAW mX1_bought 202 0 0 [(0, .ref 1000), (1, .int v1), (2, .int v2)] [] T I L R P := by
  refine za_iload_n (pc' := 1) 1 dX1_bought_0 rfl rfl rfl ?_
  refine za_callS (M2 := mX1_isDay) (d2 := 2) (b2 := 0) (n := 1) (As := [.int v1]) (st := []) (pc' := 4) dX1_bought_1 rfl (lw_S q1138 q1139 q131 q1140) hd_X1_isDay rfl (by decide) (by decide) (Nat.zero_le _) (Or.inl rfl) (Nat.le_of_ble_eq_true rfl) h (zqI__k rfl (fun r1 h => ?_)) (fun _ _ _ _ _ _ h9 h8 => absurd h8.1 h9) rfl
  refine za_if_eq (pc' := 7) (tgt := 19) dX1_bought_4 (by decide) rfl (fun c9 => ?_) (fun c9 => ?_)
  · replace h := h.1 c9
    refine za_iconst (pc' := 20) dX1_bought_19 zi_m1 rfl ?_
    exact za_ireturn rfl dX1_bought_20 h
  · replace h := h.2 c9
    refine za_iload_n (pc' := 8) 2 dX1_bought_7 rfl rfl rfl ?_
    refine za_i2l (pc' := 9) dX1_bought_8 rfl rfl ?_
    refine za_lconst (pc' := 10) dX1_bought_9 zl_0 rfl ?_
    refine za_ldc2 (pc' := 13) (v := (2 : Int64)) (own := "") dX1_bought_10 q1411 rfl ?_
    refine za_callS (M2 := mX1_in) (d2 := 1) (b2 := 0) (n := 3) (As := [.long (v2.toInt64), .long (0 : Int64), .long (2 : Int64)]) (st := []) (pc' := 16) dX1_bought_13 rfl (lw_S q588 q589 q131 q590) hd_X1_in rfl (by decide) (by decide) (Nat.zero_le _) (Or.inl rfl) (Nat.le_of_ble_eq_true rfl) h (zqI__k rfl (fun r2 h => ?_)) (fun _ _ _ _ _ _ h9 h8 => absurd h8.1 h9) rfl
    refine za_if_ne (pc' := 19) (tgt := 21) dX1_bought_16 (by decide) rfl (fun c9 => ?_) (fun c9 => ?_)
    · replace h := h.2 c9
      refine za_iconst (pc' := 22) dX1_bought_21 zi_0 rfl ?_
      refine za_istore_n (pc' := 23) (l' := [(3, .int (0 : Int32)), (0, .ref 1000), (1, .int v1), (2, .int v2)]) dX1_bought_22 rfl (Nat.le_of_ble_eq_true rfl) rfl rfl ?_
      refine za_iconst (pc' := 24) dX1_bought_23 zi_0 rfl ?_
      refine za_istore (pc' := 26) (l' := [(4, .int (0 : Int32)), (3, .int (0 : Int32)), (0, .ref 1000), (1, .int v1), (2, .int v2)]) dX1_bought_24 (Nat.le_of_ble_eq_true rfl) rfl rfl ?_
      refine za_iconst (pc' := 27) dX1_bought_26 zi_0 rfl ?_
      refine za_istore (pc' := 29) (l' := [(5, .int (0 : Int32)), (4, .int (0 : Int32)), (3, .int (0 : Int32)), (0, .ref 1000), (1, .int v1), (2, .int v2)]) dX1_bought_27 (Nat.le_of_ble_eq_true rfl) rfl rfl ?_
      refine za_iconst (pc' := 30) dX1_bought_29 zi_1 rfl ?_
      refine za_istore (pc' := 32) (l' := [(6, .int (1 : Int32)), (5, .int (0 : Int32)), (4, .int (0 : Int32)), (3, .int (0 : Int32)), (0, .ref 1000), (1, .int v1), (2, .int v2)]) dX1_bought_30 (Nat.le_of_ble_eq_true rfl) rfl rfl ?_
      exact zAW_sub [4, 5, 6, 3, 2, 1, 0] rfl h
    · replace h := h.1 c9
      refine za_iconst (pc' := 20) dX1_bought_19 zi_m1 rfl ?_
      exact za_ireturn rfl dX1_bought_20 h
theorem gX1_bought_32 {v1 : Int32} {v2 : Int32} {v3 : Int32} {v4 : Int32} {v5 : Int32} {v6 : Int32} {T : zT} {I : zI} {L : zL} {R : zR} {P : zP} (hx : zXok T R) (h : (T (R 1000 8)).1 = 3 ∧ (T (R (R 1000 8) 2)).1 = 5 ∧ zMet mJ2_size 1 0 [.ref (R (R 1000 8) 2)] T I L R (zqI_ T I L R  (fun (r4 : Int32)  => ((((1 : Int32) <<< (r4 &&& 31)) ≤ v6 → ((v2 = 0 → P 0 (.int v4) T I L R) ∧ (¬ v2 = 0 → ((v2 = (1 : Int32) → P 0 (.int v5) T I L R) ∧ (¬ v2 = (1 : Int32) → P 0 (.int v3) T I L R))))) ∧ (¬ ((1 : Int32) <<< (r4 &&& 31)) ≤ v6 → zAW mX1_bought 202 0 58 [(0, .ref 1000), (1, .int v1), (2, .int v2), (3, .int v3), (4, .int v4), (5, .int v5), (6, .int v6), (7, .int (0 : Int32)), (8, .int (0 : Int32)), (9, .int (0 : Int32))] [] T I L R P))))) : zAW mX1_bought 202 0 32 [(0, .ref 1000), (1, .int v1), (2, .int v2), (3, .int v3), (4, .int v4), (5, .int v5), (6, .int v6)] [] T I L R P := by
  refine za_iload (pc' := 34) 6 dX1_bought_32 rfl rfl ?_
  refine za_iconst (pc' := 35) dX1_bought_34 zi_1 rfl ?_
  refine za_aload_n (pc' := 36) 0 dX1_bought_35 rfl rfl rfl ?_
  refine za_get (fi := 8) (v := .ref (R 1000 8)) (pc' := 39) dX1_bought_36 zc0 (by decide) in_X1 (by decide) q498 (Or.inl rfl) (congrArg Prod.fst (zX_t1000 hx)) rfl rfl ?_
  obtain ⟨ht3, h⟩ := h
  refine za_getN (fi := 2) (v := .ref (R (R 1000 8) 2)) (pc' := 42) dX1_bought_39 zc2 (by decide) in_X3 (by decide) q278 (Or.inl rfl) ht3 rfl rfl ?_
  obtain ⟨ht5, h⟩ := h
  refine za_callV (κ := (R (R 1000 8) 2)) (M2 := mJ2_size) (d2 := 1) (b2 := 0) (n := 0) (As := []) (st := [.int (1 : Int32), .int v6]) (pc' := 45) zc4 (by decide) ht5 dX1_bought_42 rfl (lw_V q1070 q466 q467 q137 q468) ⟨rfl, hd_J2_size⟩ rfl (by decide) (by decide) (Nat.zero_le _) (Or.inl rfl) (Nat.le_of_ble_eq_true rfl) h (zqI__k rfl (fun r4 h => ?_)) (fun _ _ _ _ _ _ h9 h8 => absurd h8.1 h9) rfl
  refine za_ishl (pc' := 46) dX1_bought_45 rfl ?_
  refine za_icmp_ge (pc' := 49) (tgt := 179) dX1_bought_46 (by decide) rfl (fun c9 => ?_) (fun c9 => ?_)
  · replace h := h.1 c9
    refine za_iload_n (pc' := 180) 2 dX1_bought_179 rfl rfl rfl ?_
    refine za_if_ne (pc' := 183) (tgt := 188) dX1_bought_180 (by decide) rfl (fun c9 => ?_) (fun c9 => ?_)
    · replace h := h.2 c9
      refine za_iload_n (pc' := 189) 2 dX1_bought_188 rfl rfl rfl ?_
      refine za_iconst (pc' := 190) dX1_bought_189 zi_1 rfl ?_
      refine za_icmp_ne (pc' := 193) (tgt := 198) dX1_bought_190 (by decide) rfl (fun c9 => ?_) (fun c9 => ?_)
      · replace h := h.2 c9
        refine za_iload_n (pc' := 199) 3 dX1_bought_198 rfl rfl rfl ?_
        exact za_ireturn rfl dX1_bought_199 h
      · replace h := h.1 c9
        refine za_iload (pc' := 195) 5 dX1_bought_193 rfl rfl ?_
        refine za_goto (tgt := 199) dX1_bought_195 (by decide) ?_
        exact za_ireturn rfl dX1_bought_199 h
    · replace h := h.1 c9
      refine za_iload (pc' := 185) 4 dX1_bought_183 rfl rfl ?_
      refine za_goto (tgt := 199) dX1_bought_185 (by decide) ?_
      exact za_ireturn rfl dX1_bought_199 h
  · replace h := h.2 c9
    refine za_iconst (pc' := 50) dX1_bought_49 zi_0 rfl ?_
    refine za_istore (pc' := 52) (l' := [(7, .int (0 : Int32)), (0, .ref 1000), (1, .int v1), (2, .int v2), (3, .int v3), (4, .int v4), (5, .int v5), (6, .int v6)]) dX1_bought_50 (Nat.le_of_ble_eq_true rfl) rfl rfl ?_
    refine za_iconst (pc' := 53) dX1_bought_52 zi_0 rfl ?_
    refine za_istore (pc' := 55) (l' := [(8, .int (0 : Int32)), (7, .int (0 : Int32)), (0, .ref 1000), (1, .int v1), (2, .int v2), (3, .int v3), (4, .int v4), (5, .int v5), (6, .int v6)]) dX1_bought_53 (Nat.le_of_ble_eq_true rfl) rfl rfl ?_
    refine za_iconst (pc' := 56) dX1_bought_55 zi_0 rfl ?_
    refine za_istore (pc' := 58) (l' := [(9, .int (0 : Int32)), (8, .int (0 : Int32)), (7, .int (0 : Int32)), (0, .ref 1000), (1, .int v1), (2, .int v2), (3, .int v3), (4, .int v4), (5, .int v5), (6, .int v6)]) dX1_bought_56 (Nat.le_of_ble_eq_true rfl) rfl rfl ?_
    exact zAW_sub [3, 4, 5, 6, 7, 8, 9, 2, 1, 0] rfl h
theorem gX1_bought_58 {v1 : Int32} {v2 : Int32} {v3 : Int32} {v4 : Int32} {v5 : Int32} {v6 : Int32} {v7 : Int32} {v8 : Int32} {v9 : Int32} {T : zT} {I : zI} {L : zL} {R : zR} {P : zP} (hx : zXok T R) (h : (T (R 1000 8)).1 = 3 ∧ (T (R (R 1000 8) 2)).1 = 5 ∧ zMet mJ2_size 1 0 [.ref (R (R 1000 8) 2)] T I L R (zqI_ T I L R  (fun (r7 : Int32)  => ((r7 ≤ v9 → (((I 1200 3) < v8 → zAW mX1_bought 202 0 32 [(0, .ref 1000), (1, .int v1), (2, .int v2), (3, .int v3), (4, .int v4), (5, .int v5), (6, .int (v6 + (1 : Int32)))] [] T I L R P) ∧ (¬ (I 1200 3) < v8 → ((v7 < v4 → zAW mX1_bought 202 0 32 [(0, .ref 1000), (1, .int v1), (2, .int v2), (3, .int v3), (4, .int v4), (5, .int v5), (6, .int (v6 + (1 : Int32)))] [] T I L R P) ∧ (¬ v7 < v4 → ((v7 = v4 → ((v8 < v5 → zAW mX1_bought 202 0 32 [(0, .ref 1000), (1, .int v1), (2, .int v2), (3, .int v6), (4, .int v7), (5, .int v8), (6, .int (v6 + (1 : Int32)))] [] T I L R P) ∧ (¬ v8 < v5 → zAW mX1_bought 202 0 32 [(0, .ref 1000), (1, .int v1), (2, .int v2), (3, .int v3), (4, .int v4), (5, .int v5), (6, .int (v6 + (1 : Int32)))] [] T I L R P))) ∧ (¬ v7 = v4 → zAW mX1_bought 202 0 32 [(0, .ref 1000), (1, .int v1), (2, .int v2), (3, .int v6), (4, .int v7), (5, .int v8), (6, .int (v6 + (1 : Int32)))] [] T I L R P))))))) ∧ (¬ r7 ≤ v9 → ((((v6 >>> (v9 &&& 31)) &&& (1 : Int32)) = 0 → zAW mX1_bought 202 0 58 [(0, .ref 1000), (1, .int v1), (2, .int v2), (3, .int v3), (4, .int v4), (5, .int v5), (6, .int v6), (7, .int v7), (8, .int v8), (9, .int (v9 + (1 : Int32)))] [] T I L R P) ∧ (¬ ((v6 >>> (v9 &&& 31)) &&& (1 : Int32)) = 0 → zMet mX1_fineOf 201 0 [.ref 1000, .int v9, .int v1] T I L R (zqI_IL T R  (fun (r9 : Int32) (I10 : zI) (L11 : zL)  => vp_in v9 6 ∧ zMet mX3_iron 1 0 [.ref (R 1000 8), .ref (R 1202 (v9.toNatClampNeg))] T I10 L11 R (zqI_ T I10 L11 R  (fun (r13 : Int32)  => zAW mX1_bought 202 0 58 [(0, .ref 1000), (1, .int v1), (2, .int v2), (3, .int v3), (4, .int v4), (5, .int v5), (6, .int v6), (7, .int (v7 + r9)), (8, .int (v8 + r13)), (9, .int (v9 + (1 : Int32)))] [] T I10 L11 R P))))))))))) : zAW mX1_bought 202 0 58 [(0, .ref 1000), (1, .int v1), (2, .int v2), (3, .int v3), (4, .int v4), (5, .int v5), (6, .int v6), (7, .int v7), (8, .int v8), (9, .int v9)] [] T I L R P := by
  refine za_iload (pc' := 60) 9 dX1_bought_58 rfl rfl ?_
  refine za_aload_n (pc' := 61) 0 dX1_bought_60 rfl rfl rfl ?_
  refine za_get (fi := 8) (v := .ref (R 1000 8)) (pc' := 64) dX1_bought_61 zc0 (by decide) in_X1 (by decide) q498 (Or.inl rfl) (congrArg Prod.fst (zX_t1000 hx)) rfl rfl ?_
  obtain ⟨ht6, h⟩ := h
  refine za_getN (fi := 2) (v := .ref (R (R 1000 8) 2)) (pc' := 67) dX1_bought_64 zc2 (by decide) in_X3 (by decide) q278 (Or.inl rfl) ht6 rfl rfl ?_
  obtain ⟨ht8, h⟩ := h
  refine za_callV (κ := (R (R 1000 8) 2)) (M2 := mJ2_size) (d2 := 1) (b2 := 0) (n := 0) (As := []) (st := [.int v9]) (pc' := 70) zc4 (by decide) ht8 dX1_bought_67 rfl (lw_V q1070 q466 q467 q137 q468) ⟨rfl, hd_J2_size⟩ rfl (by decide) (by decide) (Nat.zero_le _) (Or.inl rfl) (Nat.le_of_ble_eq_true rfl) h (zqI__k rfl (fun r7 h => ?_)) (fun _ _ _ _ _ _ h9 h8 => absurd h8.1 h9) rfl
  refine za_icmp_ge (pc' := 73) (tgt := 126) dX1_bought_70 (by decide) rfl (fun c9 => ?_) (fun c9 => ?_)
  · replace h := h.1 c9
    refine za_iload (pc' := 128) 8 dX1_bought_126 rfl rfl ?_
    refine za_aload_n (pc' := 129) 0 dX1_bought_128 rfl rfl rfl ?_
    refine za_get (fi := 10) (v := .ref 1200) (pc' := 132) dX1_bought_129 zc0 (by decide) in_X1 (by decide) q500 (Or.inl rfl) (congrArg Prod.fst (zX_t1000 hx)) (congrArg Value.ref (zX_r1000_10 hx)) rfl ?_
    refine za_getN (fi := 3) (v := .int (I 1200 3)) (pc' := 135) dX1_bought_132 zc9 (by decide) in_X10 (by decide) q422 (Or.inl rfl) (congrArg Prod.fst (zX_t1200 hx)) rfl rfl ?_
    refine za_icmp_gt (pc' := 138) (tgt := 173) dX1_bought_135 (by decide) rfl (fun c9 => ?_) (fun c9 => ?_)
    · replace h := h.1 c9
      refine za_iinc (pc' := 176) (l' := [(6, .int (v6 + (1 : Int32))), (0, .ref 1000), (1, .int v1), (2, .int v2), (3, .int v3), (4, .int v4), (5, .int v5), (7, .int v7), (8, .int v8), (9, .int v9)]) 6 dX1_bought_173 rfl (zinc zi_1) (Nat.le_of_ble_eq_true rfl) rfl rfl ?_
      refine za_goto (tgt := 32) dX1_bought_176 (by decide) ?_
      exact zAW_sub [1, 2, 3, 4, 5, 6, 0] rfl h
    · replace h := h.2 c9
      refine za_iload (pc' := 140) 7 dX1_bought_138 rfl rfl ?_
      refine za_iload (pc' := 142) 4 dX1_bought_140 rfl rfl ?_
      refine za_icmp_lt (pc' := 145) (tgt := 173) dX1_bought_142 (by decide) rfl (fun c9 => ?_) (fun c9 => ?_)
      · replace h := h.1 c9
        refine za_iinc (pc' := 176) (l' := [(6, .int (v6 + (1 : Int32))), (0, .ref 1000), (1, .int v1), (2, .int v2), (3, .int v3), (4, .int v4), (5, .int v5), (7, .int v7), (8, .int v8), (9, .int v9)]) 6 dX1_bought_173 rfl (zinc zi_1) (Nat.le_of_ble_eq_true rfl) rfl rfl ?_
        refine za_goto (tgt := 32) dX1_bought_176 (by decide) ?_
        exact zAW_sub [1, 2, 3, 4, 5, 6, 0] rfl h
      · replace h := h.2 c9
        refine za_iload (pc' := 147) 7 dX1_bought_145 rfl rfl ?_
        refine za_iload (pc' := 149) 4 dX1_bought_147 rfl rfl ?_
        refine za_icmp_ne (pc' := 152) (tgt := 162) dX1_bought_149 (by decide) rfl (fun c9 => ?_) (fun c9 => ?_)
        · replace h := h.2 c9
          refine za_iload (pc' := 164) 6 dX1_bought_162 rfl rfl ?_
          refine za_istore_n (pc' := 165) (l' := [(3, .int v6), (0, .ref 1000), (1, .int v1), (2, .int v2), (4, .int v4), (5, .int v5), (6, .int v6), (7, .int v7), (8, .int v8), (9, .int v9)]) dX1_bought_164 rfl (Nat.le_of_ble_eq_true rfl) rfl rfl ?_
          refine za_iload (pc' := 167) 7 dX1_bought_165 rfl rfl ?_
          refine za_istore (pc' := 169) (l' := [(4, .int v7), (3, .int v6), (0, .ref 1000), (1, .int v1), (2, .int v2), (5, .int v5), (6, .int v6), (7, .int v7), (8, .int v8), (9, .int v9)]) dX1_bought_167 (Nat.le_of_ble_eq_true rfl) rfl rfl ?_
          refine za_iload (pc' := 171) 8 dX1_bought_169 rfl rfl ?_
          refine za_istore (pc' := 173) (l' := [(5, .int v8), (4, .int v7), (3, .int v6), (0, .ref 1000), (1, .int v1), (2, .int v2), (6, .int v6), (7, .int v7), (8, .int v8), (9, .int v9)]) dX1_bought_171 (Nat.le_of_ble_eq_true rfl) rfl rfl ?_
          refine za_iinc (pc' := 176) (l' := [(6, .int (v6 + (1 : Int32))), (5, .int v8), (4, .int v7), (3, .int v6), (0, .ref 1000), (1, .int v1), (2, .int v2), (7, .int v7), (8, .int v8), (9, .int v9)]) 6 dX1_bought_173 rfl (zinc zi_1) (Nat.le_of_ble_eq_true rfl) rfl rfl ?_
          refine za_goto (tgt := 32) dX1_bought_176 (by decide) ?_
          exact zAW_sub [4, 5, 6, 3, 2, 1, 0] rfl h
        · replace h := h.1 c9
          refine za_iload (pc' := 154) 8 dX1_bought_152 rfl rfl ?_
          refine za_iload (pc' := 156) 5 dX1_bought_154 rfl rfl ?_
          refine za_icmp_lt (pc' := 159) (tgt := 162) dX1_bought_156 (by decide) rfl (fun c9 => ?_) (fun c9 => ?_)
          · replace h := h.1 c9
            refine za_iload (pc' := 164) 6 dX1_bought_162 rfl rfl ?_
            refine za_istore_n (pc' := 165) (l' := [(3, .int v6), (0, .ref 1000), (1, .int v1), (2, .int v2), (4, .int v4), (5, .int v5), (6, .int v6), (7, .int v7), (8, .int v8), (9, .int v9)]) dX1_bought_164 rfl (Nat.le_of_ble_eq_true rfl) rfl rfl ?_
            refine za_iload (pc' := 167) 7 dX1_bought_165 rfl rfl ?_
            refine za_istore (pc' := 169) (l' := [(4, .int v7), (3, .int v6), (0, .ref 1000), (1, .int v1), (2, .int v2), (5, .int v5), (6, .int v6), (7, .int v7), (8, .int v8), (9, .int v9)]) dX1_bought_167 (Nat.le_of_ble_eq_true rfl) rfl rfl ?_
            refine za_iload (pc' := 171) 8 dX1_bought_169 rfl rfl ?_
            refine za_istore (pc' := 173) (l' := [(5, .int v8), (4, .int v7), (3, .int v6), (0, .ref 1000), (1, .int v1), (2, .int v2), (6, .int v6), (7, .int v7), (8, .int v8), (9, .int v9)]) dX1_bought_171 (Nat.le_of_ble_eq_true rfl) rfl rfl ?_
            refine za_iinc (pc' := 176) (l' := [(6, .int (v6 + (1 : Int32))), (5, .int v8), (4, .int v7), (3, .int v6), (0, .ref 1000), (1, .int v1), (2, .int v2), (7, .int v7), (8, .int v8), (9, .int v9)]) 6 dX1_bought_173 rfl (zinc zi_1) (Nat.le_of_ble_eq_true rfl) rfl rfl ?_
            refine za_goto (tgt := 32) dX1_bought_176 (by decide) ?_
            exact zAW_sub [4, 5, 6, 3, 2, 1, 0] rfl h
          · replace h := h.2 c9
            refine za_goto (tgt := 173) dX1_bought_159 (by decide) ?_
            refine za_iinc (pc' := 176) (l' := [(6, .int (v6 + (1 : Int32))), (0, .ref 1000), (1, .int v1), (2, .int v2), (3, .int v3), (4, .int v4), (5, .int v5), (7, .int v7), (8, .int v8), (9, .int v9)]) 6 dX1_bought_173 rfl (zinc zi_1) (Nat.le_of_ble_eq_true rfl) rfl rfl ?_
            refine za_goto (tgt := 32) dX1_bought_176 (by decide) ?_
            exact zAW_sub [1, 2, 3, 4, 5, 6, 0] rfl h
  · replace h := h.2 c9
    refine za_iload (pc' := 75) 6 dX1_bought_73 rfl rfl ?_
    refine za_iload (pc' := 77) 9 dX1_bought_75 rfl rfl ?_
    refine za_ishr (pc' := 78) dX1_bought_77 rfl ?_
    refine za_iconst (pc' := 79) dX1_bought_78 zi_1 rfl ?_
    refine za_iand (pc' := 80) dX1_bought_79 rfl ?_
    refine za_if_ne (pc' := 83) (tgt := 86) dX1_bought_80 (by decide) rfl (fun c9 => ?_) (fun c9 => ?_)
    · replace h := h.2 c9
      refine za_iload (pc' := 88) 7 dX1_bought_86 rfl rfl ?_
      refine za_aload_n (pc' := 89) 0 dX1_bought_88 rfl rfl rfl ?_
      refine za_iload (pc' := 91) 9 dX1_bought_89 rfl rfl ?_
      refine za_iload_n (pc' := 92) 1 dX1_bought_91 rfl rfl rfl ?_
      refine za_callVW (κ := 1000) (M2 := mX1_fineOf) (d2 := 201) (b2 := 0) (n := 2) (As := [.int v9, .int v1]) (st := [.int v7]) (pc' := 95) zc0 (by decide) (congrArg Prod.fst (zX_t1000 hx)) dX1_bought_92 rfl (lw_VW q1352 q1354 qs56 q131 q1355) ⟨rfl, hd_X1_fineOf⟩ rfl (by decide) (by decide) (Nat.zero_le _) (Or.inl rfl) (Nat.le_of_ble_eq_true rfl) h (zqI_IL_k rfl (fun r9 I10 L11 h => ?_)) (fun _ _ _ _ _ _ h9 h8 => absurd h8.1 h9) rfl
      refine za_iadd (pc' := 96) dX1_bought_95 rfl ?_
      refine za_istore (pc' := 98) (l' := [(7, .int (v7 + r9)), (0, .ref 1000), (1, .int v1), (2, .int v2), (3, .int v3), (4, .int v4), (5, .int v5), (6, .int v6), (8, .int v8), (9, .int v9)]) dX1_bought_96 (Nat.le_of_ble_eq_true rfl) rfl rfl ?_
      refine za_iload (pc' := 100) 8 dX1_bought_98 rfl rfl ?_
      refine za_aload_n (pc' := 101) 1 dX1_bought_100 rfl rfl rfl ?_
      refine za_get (fi := 8) (v := .ref (R 1000 8)) (pc' := 104) dX1_bought_101 zc0 (by decide) in_X1 (by decide) q498 (Or.inl rfl) (congrArg Prod.fst (zX_t1000 hx)) rfl rfl ?_
      refine za_aload_n (pc' := 105) 1 dX1_bought_104 rfl rfl rfl ?_
      refine za_get (fi := 10) (v := .ref 1200) (pc' := 108) dX1_bought_105 zc0 (by decide) in_X1 (by decide) q500 (Or.inl rfl) (congrArg Prod.fst (zX_t1000 hx)) (congrArg Value.ref (zX_r1000_10 hx)) rfl ?_
      refine za_getN (fi := 1) (v := .ref 1202) (pc' := 111) dX1_bought_108 zc9 (by decide) in_X10 (by decide) q418 (Or.inl rfl) (congrArg Prod.fst (zX_t1200 hx)) (congrArg Value.ref (zX_r1200_1 hx)) rfl ?_
      refine za_iload (pc' := 113) 9 dX1_bought_111 rfl rfl ?_
      obtain ⟨hi12, h⟩ := h
      refine za_aald (r := (R 1202 (v9.toNatClampNeg))) (t := 5) (C := RX11) (pc' := 114) dX1_bought_113 (by decide) (fun _ => rfl) (zX_t1202 hx) hi12 (rfl) rfl ?_
      refine za_callV (κ := (R 1000 8)) (M2 := mX3_iron) (d2 := 1) (b2 := 0) (n := 1) (As := [.ref (R 1202 (v9.toNatClampNeg))]) (st := [.int v8]) (pc' := 117) zc2 (by decide) ht6 dX1_bought_114 rfl (lw_V q1357 q1358 q1359 q133 q1360) ⟨rfl, hd_X3_iron⟩ rfl (by decide) (by decide) (Nat.zero_le _) (Or.inl rfl) (Nat.le_of_ble_eq_true rfl) h (zqI__k rfl (fun r13 h => ?_)) (fun _ _ _ _ _ _ h9 h8 => absurd h8.1 h9) rfl
      refine za_iadd (pc' := 118) dX1_bought_117 rfl ?_
      refine za_istore (pc' := 120) (l' := [(8, .int (v8 + r13)), (7, .int (v7 + r9)), (0, .ref 1000), (1, .int v1), (2, .int v2), (3, .int v3), (4, .int v4), (5, .int v5), (6, .int v6), (9, .int v9)]) dX1_bought_118 (Nat.le_of_ble_eq_true rfl) rfl rfl ?_
      refine za_iinc (pc' := 123) (l' := [(9, .int (v9 + (1 : Int32))), (8, .int (v8 + r13)), (7, .int (v7 + r9)), (0, .ref 1000), (1, .int v1), (2, .int v2), (3, .int v3), (4, .int v4), (5, .int v5), (6, .int v6)]) 9 dX1_bought_120 rfl (zinc zi_1) (Nat.le_of_ble_eq_true rfl) rfl rfl ?_
      refine za_goto (tgt := 58) dX1_bought_123 (by decide) ?_
      exact zAW_sub [3, 4, 5, 6, 7, 8, 9, 2, 1, 0] rfl h
    · replace h := h.1 c9
      refine za_goto (tgt := 120) dX1_bought_83 (by decide) ?_
      refine za_iinc (pc' := 123) (l' := [(9, .int (v9 + (1 : Int32))), (0, .ref 1000), (1, .int v1), (2, .int v2), (3, .int v3), (4, .int v4), (5, .int v5), (6, .int v6), (7, .int v7), (8, .int v8)]) 9 dX1_bought_120 rfl (zinc zi_1) (Nat.le_of_ble_eq_true rfl) rfl rfl ?_
      refine za_goto (tgt := 58) dX1_bought_123 (by decide) ?_
      exact zAW_sub [1, 2, 3, 4, 5, 6, 7, 8, 9, 0] rfl h
theorem sX1_bought {d b : Nat} {v1 : Int32} {v2 : Int32} {T : zT} {I : zI} {L : zL} {R : zR} {P : zP} (h : zAW mX1_bought d b 0 [(0, .ref 1000), (1, .int v1), (2, .int v2)] [] T I L R P) : zMet mX1_bought d b [.ref 1000, .int v1, .int v2] T I L R P := zMet_of (by decide +kernel) rfl (Nat.le_of_ble_eq_true rfl) rfl h
/-! TwoTongues.undo ()I -/
def dkwX1_undo_1 : List UInt8 := [180, 0, 71, 42, 180, 0, 151, 50, 182, 1, 33, 42, 180, 0, 151, 172]
abbrev dktX1_undo_1 : List UInt8 := dkwX1_undo_1 ++ []
def dkwX1_undo_0 : List UInt8 := [42, 180, 0, 151, 154, 0, 5, 2, 172, 42, 89, 180, 0, 151, 4, 100, 181, 0, 151, 42, 180, 0, 64, 42]
abbrev dktX1_undo_0 : List UInt8 := dkwX1_undo_0 ++ dktX1_undo_1
theorem dksX1_undo_0 : cX1_undo.data.toList.drop 0 = dktX1_undo_0 := by decide +kernel
theorem dksX1_undo_1 : cX1_undo.data.toList.drop 24 = dktX1_undo_1 := dk_seg dksX1_undo_0 24 rfl rfl
theorem dX1_undo_0 : decode cX1_undo 0 = .ok (.aload_n 0, 1) := dk_42 (dk_at dksX1_undo_0 0 rfl rfl)
theorem dX1_undo_1 : decode cX1_undo 1 = .ok (.getfield 151, 3) := dk_180 0 151 (dk_at dksX1_undo_0 1 rfl rfl)
theorem dX1_undo_4 : decode cX1_undo 4 = .ok (.ifCond .ne 5, 3) := dk_154 0 5 (dk_at dksX1_undo_0 4 rfl rfl)
theorem dX1_undo_7 : decode cX1_undo 7 = .ok (.iconst (-1), 1) := dk_2 (dk_at dksX1_undo_0 7 rfl rfl)
theorem dX1_undo_8 : decode cX1_undo 8 = .ok (.ireturn, 1) := dk_172 (dk_at dksX1_undo_0 8 rfl rfl)
theorem dX1_undo_9 : decode cX1_undo 9 = .ok (.aload_n 0, 1) := dk_42 (dk_at dksX1_undo_0 9 rfl rfl)
theorem dX1_undo_10 : decode cX1_undo 10 = .ok (.dup, 1) := dk_89 (dk_at dksX1_undo_0 10 rfl rfl)
theorem dX1_undo_11 : decode cX1_undo 11 = .ok (.getfield 151, 3) := dk_180 0 151 (dk_at dksX1_undo_0 11 rfl rfl)
theorem dX1_undo_14 : decode cX1_undo 14 = .ok (.iconst 1, 1) := dk_4 (dk_at dksX1_undo_0 14 rfl rfl)
theorem dX1_undo_15 : decode cX1_undo 15 = .ok (.isub, 1) := dk_100 (dk_at dksX1_undo_0 15 rfl rfl)
theorem dX1_undo_16 : decode cX1_undo 16 = .ok (.putfield 151, 3) := dk_181 0 151 (dk_at dksX1_undo_0 16 rfl rfl)
theorem dX1_undo_19 : decode cX1_undo 19 = .ok (.aload_n 0, 1) := dk_42 (dk_at dksX1_undo_0 19 rfl rfl)
theorem dX1_undo_20 : decode cX1_undo 20 = .ok (.getfield 64, 3) := dk_180 0 64 (dk_at dksX1_undo_0 20 rfl rfl)
theorem dX1_undo_23 : decode cX1_undo 23 = .ok (.aload_n 0, 1) := dk_42 (dk_at dksX1_undo_0 23 rfl rfl)
theorem dX1_undo_24 : decode cX1_undo 24 = .ok (.getfield 71, 3) := dk_180 0 71 (dk_at dksX1_undo_1 0 rfl rfl)
theorem dX1_undo_27 : decode cX1_undo 27 = .ok (.aload_n 0, 1) := dk_42 (dk_at dksX1_undo_1 3 rfl rfl)
theorem dX1_undo_28 : decode cX1_undo 28 = .ok (.getfield 151, 3) := dk_180 0 151 (dk_at dksX1_undo_1 4 rfl rfl)
theorem dX1_undo_31 : decode cX1_undo 31 = .ok (.aaload, 1) := dk_50 (dk_at dksX1_undo_1 7 rfl rfl)
theorem dX1_undo_32 : decode cX1_undo 32 = .ok (.invokevirtual 289, 3) := dk_182 1 33 (dk_at dksX1_undo_1 8 rfl rfl)
theorem dX1_undo_35 : decode cX1_undo 35 = .ok (.aload_n 0, 1) := dk_42 (dk_at dksX1_undo_1 11 rfl rfl)
theorem dX1_undo_36 : decode cX1_undo 36 = .ok (.getfield 151, 3) := dk_180 0 151 (dk_at dksX1_undo_1 12 rfl rfl)
theorem dX1_undo_39 : decode cX1_undo 39 = .ok (.ireturn, 1) := dk_172 (dk_at dksX1_undo_1 15 rfl rfl)
theorem gX1_undo_0  {T : zT} {I : zI} {L : zL} {R : zR} {P : zP} (hx : zXok T R) (h : (((I 1000 4) = 0 → P 0 (.int (-1 : Int32)) T I L R) ∧ (¬ (I 1000 4) = 0 → vp_in ((I 1000 4) - (1 : Int32)) 20 ∧ zMet mX10_become 2 0 [.ref 1200, .ref (R 1013 (((I 1000 4) - (1 : Int32)).toNatClampNeg))] T (z2 I 1000 4 ((I 1000 4) - (1 : Int32))) L R (zqV_I T L R  (fun (I2 : zI)  => P 0 (.int (I2 1000 4)) T I2 L R))))) : zAW mX1_undo 3 0 0 [(0, .ref 1000)] [] T I L R P := by
  refine za_aload_n (pc' := 1) 0 dX1_undo_0 rfl rfl rfl ?_
  refine za_get (fi := 4) (v := .int (I 1000 4)) (pc' := 4) dX1_undo_1 zc0 (by decide) in_X1 (by decide) q493 (Or.inl rfl) (congrArg Prod.fst (zX_t1000 hx)) rfl rfl ?_
  refine za_if_ne (pc' := 7) (tgt := 9) dX1_undo_4 (by decide) rfl (fun c9 => ?_) (fun c9 => ?_)
  · replace h := h.2 c9
    refine za_aload_n (pc' := 10) 0 dX1_undo_9 rfl rfl rfl ?_
    refine za_dup (pc' := 11) dX1_undo_10 rfl rfl ?_
    refine za_get (fi := 4) (v := .int (I 1000 4)) (pc' := 14) dX1_undo_11 zc0 (by decide) in_X1 (by decide) q493 (Or.inl rfl) (congrArg Prod.fst (zX_t1000 hx)) rfl rfl ?_
    refine za_iconst (pc' := 15) dX1_undo_14 zi_1 rfl ?_
    refine za_isub (pc' := 16) dX1_undo_15 rfl ?_
    refine za_putI (fi := 4) (pc' := 19) dX1_undo_16 zc0 (by decide) in_X1 zok0 znm0 (by decide) q493 (Or.inl rfl) rfl rfl (fun _ _ _ => rfl) rfl rfl (congrArg Prod.fst (zX_t1000 hx)) rfl ?_
    refine za_aload_n (pc' := 20) 0 dX1_undo_19 rfl rfl rfl ?_
    refine za_get (fi := 10) (v := .ref 1200) (pc' := 23) dX1_undo_20 zc0 (by decide) in_X1 (by decide) q500 (Or.inl rfl) (congrArg Prod.fst (zX_t1000 hx)) (congrArg Value.ref (zX_r1000_10 hx)) rfl ?_
    refine za_aload_n (pc' := 24) 0 dX1_undo_23 rfl rfl rfl ?_
    refine za_get (fi := 12) (v := .ref 1013) (pc' := 27) dX1_undo_24 zc0 (by decide) in_X1 (by decide) q502 (Or.inl rfl) (congrArg Prod.fst (zX_t1000 hx)) (congrArg Value.ref (zX_r1000_12 hx)) rfl ?_
    refine za_aload_n (pc' := 28) 0 dX1_undo_27 rfl rfl rfl ?_
    refine za_get (fi := 4) (v := .int ((I 1000 4) - (1 : Int32))) (pc' := 31) dX1_undo_28 zc0 (by decide) in_X1 (by decide) q493 (Or.inl rfl) (congrArg Prod.fst (zX_t1000 hx)) (congrArg Value.int (z2_s)) rfl ?_
    obtain ⟨hi1, h⟩ := h
    refine za_aald (r := (R 1013 (((I 1000 4) - (1 : Int32)).toNatClampNeg))) (t := 6) (C := RX10) (pc' := 32) dX1_undo_31 (by decide) (fun _ => rfl) (zX_t1013 hx) hi1 (rfl) rfl ?_
    refine za_callV (κ := 1200) (M2 := mX10_become) (d2 := 2) (b2 := 0) (n := 1) (As := [.ref (R 1013 (((I 1000 4) - (1 : Int32)).toNatClampNeg))]) (st := []) (pc' := 35) zc9 (by decide) (congrArg Prod.fst (zX_t1200 hx)) dX1_undo_32 rfl (lw_V q1171 q1172 q1173 q143 q1174) ⟨rfl, hd_X10_become⟩ rfl (by decide) (by decide) (Nat.zero_le _) (Or.inl rfl) (Nat.le_of_ble_eq_true rfl) h (zqV_I_k rfl (fun I2 h => ?_)) (fun _ _ _ _ _ _ h9 h8 => absurd h8.1 h9) rfl
    refine za_aload_n (pc' := 36) 0 dX1_undo_35 rfl rfl rfl ?_
    refine za_get (fi := 4) (v := .int (I2 1000 4)) (pc' := 39) dX1_undo_36 zc0 (by decide) in_X1 (by decide) q493 (Or.inl rfl) (congrArg Prod.fst (zX_t1000 hx)) rfl rfl ?_
    exact za_ireturn rfl dX1_undo_39 h
  · replace h := h.1 c9
    refine za_iconst (pc' := 8) dX1_undo_7 zi_m1 rfl ?_
    exact za_ireturn rfl dX1_undo_8 h
theorem sX1_undo {d b : Nat}  {T : zT} {I : zI} {L : zL} {R : zR} {P : zP} (h : zAW mX1_undo d b 0 [(0, .ref 1000)] [] T I L R P) : zMet mX1_undo d b [.ref 1000] T I L R P := zMet_of (by decide +kernel) rfl (Nat.le_of_ble_eq_true rfl) rfl h
/-! TwoTongues.keep ()I -/
def dkwX1_keep_1 : List UInt8 := [42, 180, 0, 64, 180, 1, 23, 172]
abbrev dktX1_keep_1 : List UInt8 := dkwX1_keep_1 ++ []
def dkwX1_keep_0 : List UInt8 := [42, 180, 0, 68, 42, 180, 0, 64, 182, 1, 33, 42, 42, 180, 0, 148, 181, 1, 211, 42, 4, 181, 0, 154]
abbrev dktX1_keep_0 : List UInt8 := dkwX1_keep_0 ++ dktX1_keep_1
theorem dksX1_keep_0 : cX1_keep.data.toList.drop 0 = dktX1_keep_0 := by decide +kernel
theorem dksX1_keep_1 : cX1_keep.data.toList.drop 24 = dktX1_keep_1 := dk_seg dksX1_keep_0 24 rfl rfl
theorem dX1_keep_0 : decode cX1_keep 0 = .ok (.aload_n 0, 1) := dk_42 (dk_at dksX1_keep_0 0 rfl rfl)
theorem dX1_keep_1 : decode cX1_keep 1 = .ok (.getfield 68, 3) := dk_180 0 68 (dk_at dksX1_keep_0 1 rfl rfl)
theorem dX1_keep_4 : decode cX1_keep 4 = .ok (.aload_n 0, 1) := dk_42 (dk_at dksX1_keep_0 4 rfl rfl)
theorem dX1_keep_5 : decode cX1_keep 5 = .ok (.getfield 64, 3) := dk_180 0 64 (dk_at dksX1_keep_0 5 rfl rfl)
theorem dX1_keep_8 : decode cX1_keep 8 = .ok (.invokevirtual 289, 3) := dk_182 1 33 (dk_at dksX1_keep_0 8 rfl rfl)
theorem dX1_keep_11 : decode cX1_keep 11 = .ok (.aload_n 0, 1) := dk_42 (dk_at dksX1_keep_0 11 rfl rfl)
theorem dX1_keep_12 : decode cX1_keep 12 = .ok (.aload_n 0, 1) := dk_42 (dk_at dksX1_keep_0 12 rfl rfl)
theorem dX1_keep_13 : decode cX1_keep 13 = .ok (.getfield 148, 3) := dk_180 0 148 (dk_at dksX1_keep_0 13 rfl rfl)
theorem dX1_keep_16 : decode cX1_keep 16 = .ok (.putfield 467, 3) := dk_181 1 211 (dk_at dksX1_keep_0 16 rfl rfl)
theorem dX1_keep_19 : decode cX1_keep 19 = .ok (.aload_n 0, 1) := dk_42 (dk_at dksX1_keep_0 19 rfl rfl)
theorem dX1_keep_20 : decode cX1_keep 20 = .ok (.iconst 1, 1) := dk_4 (dk_at dksX1_keep_0 20 rfl rfl)
theorem dX1_keep_21 : decode cX1_keep 21 = .ok (.putfield 154, 3) := dk_181 0 154 (dk_at dksX1_keep_0 21 rfl rfl)
theorem dX1_keep_24 : decode cX1_keep 24 = .ok (.aload_n 0, 1) := dk_42 (dk_at dksX1_keep_1 0 rfl rfl)
theorem dX1_keep_25 : decode cX1_keep 25 = .ok (.getfield 64, 3) := dk_180 0 64 (dk_at dksX1_keep_1 1 rfl rfl)
theorem dX1_keep_28 : decode cX1_keep 28 = .ok (.getfield 279, 3) := dk_180 1 23 (dk_at dksX1_keep_1 4 rfl rfl)
theorem dX1_keep_31 : decode cX1_keep 31 = .ok (.ireturn, 1) := dk_172 (dk_at dksX1_keep_1 7 rfl rfl)
theorem gX1_keep_0  {T : zT} {I : zI} {L : zL} {R : zR} {P : zP} (hx : zXok T R) (h : zMet mX10_become 2 0 [.ref 1230, .ref 1200] T I L R (zqV_I T L R  (fun (I1 : zI)  => P 0 (.int (I1 1200 2)) T (z2 (z2 I1 1000 6 (I1 1000 5)) 1000 14 (1 : Int32)) L R))) : zAW mX1_keep 3 0 0 [(0, .ref 1000)] [] T I L R P := by
  refine za_aload_n (pc' := 1) 0 dX1_keep_0 rfl rfl rfl ?_
  refine za_get (fi := 11) (v := .ref 1230) (pc' := 4) dX1_keep_1 zc0 (by decide) in_X1 (by decide) q501 (Or.inl rfl) (congrArg Prod.fst (zX_t1000 hx)) (congrArg Value.ref (zX_r1000_11 hx)) rfl ?_
  refine za_aload_n (pc' := 5) 0 dX1_keep_4 rfl rfl rfl ?_
  refine za_get (fi := 10) (v := .ref 1200) (pc' := 8) dX1_keep_5 zc0 (by decide) in_X1 (by decide) q500 (Or.inl rfl) (congrArg Prod.fst (zX_t1000 hx)) (congrArg Value.ref (zX_r1000_10 hx)) rfl ?_
  refine za_callV (κ := 1230) (M2 := mX10_become) (d2 := 2) (b2 := 0) (n := 1) (As := [.ref 1200]) (st := []) (pc' := 11) zc9 (by decide) (congrArg Prod.fst (zX_t1230 hx)) dX1_keep_8 rfl (lw_V q1171 q1172 q1173 q143 q1174) ⟨rfl, hd_X10_become⟩ rfl (by decide) (by decide) (Nat.zero_le _) (Or.inl rfl) (Nat.le_of_ble_eq_true rfl) h (zqV_I_k rfl (fun I1 h => ?_)) (fun _ _ _ _ _ _ h9 h8 => absurd h8.1 h9) rfl
  refine za_aload_n (pc' := 12) 0 dX1_keep_11 rfl rfl rfl ?_
  refine za_aload_n (pc' := 13) 0 dX1_keep_12 rfl rfl rfl ?_
  refine za_get (fi := 5) (v := .int (I1 1000 5)) (pc' := 16) dX1_keep_13 zc0 (by decide) in_X1 (by decide) q494 (Or.inl rfl) (congrArg Prod.fst (zX_t1000 hx)) rfl rfl ?_
  refine za_putI (fi := 6) (pc' := 19) dX1_keep_16 zc0 (by decide) in_X1 zok0 znm0 (by decide) q495 (Or.inl rfl) rfl rfl (fun _ _ _ => rfl) rfl rfl (congrArg Prod.fst (zX_t1000 hx)) rfl ?_
  refine za_aload_n (pc' := 20) 0 dX1_keep_19 rfl rfl rfl ?_
  refine za_iconst (pc' := 21) dX1_keep_20 zi_1 rfl ?_
  refine za_putI (fi := 14) (pc' := 24) dX1_keep_21 zc0 (by decide) in_X1 zok0 znm0 (by decide) q504 (Or.inl rfl) rfl rfl (fun _ _ _ => rfl) (by decide) (by decide) (congrArg Prod.fst (zX_t1000 hx)) rfl ?_
  refine za_aload_n (pc' := 25) 0 dX1_keep_24 rfl rfl rfl ?_
  refine za_get (fi := 10) (v := .ref 1200) (pc' := 28) dX1_keep_25 zc0 (by decide) in_X1 (by decide) q500 (Or.inl rfl) (congrArg Prod.fst (zX_t1000 hx)) (congrArg Value.ref (zX_r1000_10 hx)) rfl ?_
  refine za_getN (fi := 2) (v := .int (I1 1200 2)) (pc' := 31) dX1_keep_28 zc9 (by decide) in_X10 (by decide) q420 (Or.inl rfl) (congrArg Prod.fst (zX_t1200 hx)) (congrArg Value.int ((z2_na (by decide)).trans (z2_na (by decide)))) rfl ?_
  exact za_ireturn rfl dX1_keep_31 h
theorem sX1_keep {d b : Nat}  {T : zT} {I : zI} {L : zL} {R : zR} {P : zP} (h : zAW mX1_keep d b 0 [(0, .ref 1000)] [] T I L R P) : zMet mX1_keep d b [.ref 1000] T I L R P := zMet_of (by decide +kernel) rfl (Nat.le_of_ble_eq_true rfl) rfl h
/-! TwoTongues.back ()I -/
def dkwX1_back_1 : List UInt8 := [180, 1, 211, 181, 0, 148, 42, 3, 181, 0, 151, 42, 180, 0, 64, 180, 1, 23, 172]
abbrev dktX1_back_1 : List UInt8 := dkwX1_back_1 ++ []
def dkwX1_back_0 : List UInt8 := [42, 180, 0, 154, 154, 0, 5, 2, 172, 42, 180, 0, 64, 42, 180, 0, 68, 182, 1, 33, 42, 42]
abbrev dktX1_back_0 : List UInt8 := dkwX1_back_0 ++ dktX1_back_1
theorem dksX1_back_0 : cX1_back.data.toList.drop 0 = dktX1_back_0 := by decide +kernel
theorem dksX1_back_1 : cX1_back.data.toList.drop 22 = dktX1_back_1 := dk_seg dksX1_back_0 22 rfl rfl
theorem dX1_back_0 : decode cX1_back 0 = .ok (.aload_n 0, 1) := dk_42 (dk_at dksX1_back_0 0 rfl rfl)
theorem dX1_back_1 : decode cX1_back 1 = .ok (.getfield 154, 3) := dk_180 0 154 (dk_at dksX1_back_0 1 rfl rfl)
theorem dX1_back_4 : decode cX1_back 4 = .ok (.ifCond .ne 5, 3) := dk_154 0 5 (dk_at dksX1_back_0 4 rfl rfl)
theorem dX1_back_7 : decode cX1_back 7 = .ok (.iconst (-1), 1) := dk_2 (dk_at dksX1_back_0 7 rfl rfl)
theorem dX1_back_8 : decode cX1_back 8 = .ok (.ireturn, 1) := dk_172 (dk_at dksX1_back_0 8 rfl rfl)
theorem dX1_back_9 : decode cX1_back 9 = .ok (.aload_n 0, 1) := dk_42 (dk_at dksX1_back_0 9 rfl rfl)
theorem dX1_back_10 : decode cX1_back 10 = .ok (.getfield 64, 3) := dk_180 0 64 (dk_at dksX1_back_0 10 rfl rfl)
theorem dX1_back_13 : decode cX1_back 13 = .ok (.aload_n 0, 1) := dk_42 (dk_at dksX1_back_0 13 rfl rfl)
theorem dX1_back_14 : decode cX1_back 14 = .ok (.getfield 68, 3) := dk_180 0 68 (dk_at dksX1_back_0 14 rfl rfl)
theorem dX1_back_17 : decode cX1_back 17 = .ok (.invokevirtual 289, 3) := dk_182 1 33 (dk_at dksX1_back_0 17 rfl rfl)
theorem dX1_back_20 : decode cX1_back 20 = .ok (.aload_n 0, 1) := dk_42 (dk_at dksX1_back_0 20 rfl rfl)
theorem dX1_back_21 : decode cX1_back 21 = .ok (.aload_n 0, 1) := dk_42 (dk_at dksX1_back_0 21 rfl rfl)
theorem dX1_back_22 : decode cX1_back 22 = .ok (.getfield 467, 3) := dk_180 1 211 (dk_at dksX1_back_1 0 rfl rfl)
theorem dX1_back_25 : decode cX1_back 25 = .ok (.putfield 148, 3) := dk_181 0 148 (dk_at dksX1_back_1 3 rfl rfl)
theorem dX1_back_28 : decode cX1_back 28 = .ok (.aload_n 0, 1) := dk_42 (dk_at dksX1_back_1 6 rfl rfl)
theorem dX1_back_29 : decode cX1_back 29 = .ok (.iconst 0, 1) := dk_3 (dk_at dksX1_back_1 7 rfl rfl)
theorem dX1_back_30 : decode cX1_back 30 = .ok (.putfield 151, 3) := dk_181 0 151 (dk_at dksX1_back_1 8 rfl rfl)
theorem dX1_back_33 : decode cX1_back 33 = .ok (.aload_n 0, 1) := dk_42 (dk_at dksX1_back_1 11 rfl rfl)
theorem dX1_back_34 : decode cX1_back 34 = .ok (.getfield 64, 3) := dk_180 0 64 (dk_at dksX1_back_1 12 rfl rfl)
theorem dX1_back_37 : decode cX1_back 37 = .ok (.getfield 279, 3) := dk_180 1 23 (dk_at dksX1_back_1 15 rfl rfl)
theorem dX1_back_40 : decode cX1_back 40 = .ok (.ireturn, 1) := dk_172 (dk_at dksX1_back_1 18 rfl rfl)
theorem gX1_back_0  {T : zT} {I : zI} {L : zL} {R : zR} {P : zP} (hx : zXok T R) (h : (((I 1000 14) = 0 → P 0 (.int (-1 : Int32)) T I L R) ∧ (¬ (I 1000 14) = 0 → zMet mX10_become 2 0 [.ref 1200, .ref 1230] T I L R (zqV_I T L R  (fun (I1 : zI)  => P 0 (.int (I1 1200 2)) T (z2 (z2 I1 1000 5 (I1 1000 6)) 1000 4 (0 : Int32)) L R))))) : zAW mX1_back 3 0 0 [(0, .ref 1000)] [] T I L R P := by
  refine za_aload_n (pc' := 1) 0 dX1_back_0 rfl rfl rfl ?_
  refine za_get (fi := 14) (v := .int (I 1000 14)) (pc' := 4) dX1_back_1 zc0 (by decide) in_X1 (by decide) q504 (Or.inl rfl) (congrArg Prod.fst (zX_t1000 hx)) rfl rfl ?_
  refine za_if_ne (pc' := 7) (tgt := 9) dX1_back_4 (by decide) rfl (fun c9 => ?_) (fun c9 => ?_)
  · replace h := h.2 c9
    refine za_aload_n (pc' := 10) 0 dX1_back_9 rfl rfl rfl ?_
    refine za_get (fi := 10) (v := .ref 1200) (pc' := 13) dX1_back_10 zc0 (by decide) in_X1 (by decide) q500 (Or.inl rfl) (congrArg Prod.fst (zX_t1000 hx)) (congrArg Value.ref (zX_r1000_10 hx)) rfl ?_
    refine za_aload_n (pc' := 14) 0 dX1_back_13 rfl rfl rfl ?_
    refine za_get (fi := 11) (v := .ref 1230) (pc' := 17) dX1_back_14 zc0 (by decide) in_X1 (by decide) q501 (Or.inl rfl) (congrArg Prod.fst (zX_t1000 hx)) (congrArg Value.ref (zX_r1000_11 hx)) rfl ?_
    refine za_callV (κ := 1200) (M2 := mX10_become) (d2 := 2) (b2 := 0) (n := 1) (As := [.ref 1230]) (st := []) (pc' := 20) zc9 (by decide) (congrArg Prod.fst (zX_t1200 hx)) dX1_back_17 rfl (lw_V q1171 q1172 q1173 q143 q1174) ⟨rfl, hd_X10_become⟩ rfl (by decide) (by decide) (Nat.zero_le _) (Or.inl rfl) (Nat.le_of_ble_eq_true rfl) h (zqV_I_k rfl (fun I1 h => ?_)) (fun _ _ _ _ _ _ h9 h8 => absurd h8.1 h9) rfl
    refine za_aload_n (pc' := 21) 0 dX1_back_20 rfl rfl rfl ?_
    refine za_aload_n (pc' := 22) 0 dX1_back_21 rfl rfl rfl ?_
    refine za_get (fi := 6) (v := .int (I1 1000 6)) (pc' := 25) dX1_back_22 zc0 (by decide) in_X1 (by decide) q495 (Or.inl rfl) (congrArg Prod.fst (zX_t1000 hx)) rfl rfl ?_
    refine za_putI (fi := 5) (pc' := 28) dX1_back_25 zc0 (by decide) in_X1 zok0 znm0 (by decide) q494 (Or.inl rfl) rfl rfl (fun _ _ _ => rfl) rfl rfl (congrArg Prod.fst (zX_t1000 hx)) rfl ?_
    refine za_aload_n (pc' := 29) 0 dX1_back_28 rfl rfl rfl ?_
    refine za_iconst (pc' := 30) dX1_back_29 zi_0 rfl ?_
    refine za_putI (fi := 4) (pc' := 33) dX1_back_30 zc0 (by decide) in_X1 zok0 znm0 (by decide) q493 (Or.inl rfl) rfl rfl (fun _ _ _ => rfl) rfl rfl (congrArg Prod.fst (zX_t1000 hx)) rfl ?_
    refine za_aload_n (pc' := 34) 0 dX1_back_33 rfl rfl rfl ?_
    refine za_get (fi := 10) (v := .ref 1200) (pc' := 37) dX1_back_34 zc0 (by decide) in_X1 (by decide) q500 (Or.inl rfl) (congrArg Prod.fst (zX_t1000 hx)) (congrArg Value.ref (zX_r1000_10 hx)) rfl ?_
    refine za_getN (fi := 2) (v := .int (I1 1200 2)) (pc' := 40) dX1_back_37 zc9 (by decide) in_X10 (by decide) q420 (Or.inl rfl) (congrArg Prod.fst (zX_t1200 hx)) (congrArg Value.int ((z2_na (by decide)).trans (z2_na (by decide)))) rfl ?_
    exact za_ireturn rfl dX1_back_40 h
  · replace h := h.1 c9
    refine za_iconst (pc' := 8) dX1_back_7 zi_m1 rfl ?_
    exact za_ireturn rfl dX1_back_8 h
theorem sX1_back {d b : Nat}  {T : zT} {I : zI} {L : zL} {R : zR} {P : zP} (h : zAW mX1_back d b 0 [(0, .ref 1000)] [] T I L R P) : zMet mX1_back d b [.ref 1000] T I L R P := zMet_of (by decide +kernel) rfl (Nat.le_of_ble_eq_true rfl) rfl h
/-! TwoTongues.count (I)I -/
def dkwX1_count_6 : List UInt8 := [180, 0, 186, 29, 50, 182, 0, 205, 96, 61, 132, 3, 1, 167, 255, 224, 28, 172, 2, 172]
abbrev dktX1_count_6 : List UInt8 := dkwX1_count_6 ++ []
def dkwX1_count_5 : List UInt8 := [172, 3, 61, 3, 62, 29, 42, 180, 0, 39, 180, 0, 172, 182, 0, 176, 162, 0, 24, 28, 42, 180, 0, 64]
abbrev dktX1_count_5 : List UInt8 := dkwX1_count_5 ++ dktX1_count_6
def dkwX1_count_4 : List UInt8 := [180, 1, 214, 172, 42, 180, 0, 64, 180, 1, 23, 172, 42, 180, 0, 64, 180, 1, 42, 172, 42, 180, 0, 151]
abbrev dktX1_count_4 : List UInt8 := dkwX1_count_4 ++ dktX1_count_5
def dkwX1_count_3 : List UInt8 := [42, 180, 0, 39, 180, 1, 165, 172, 42, 180, 0, 39, 180, 1, 146, 182, 0, 176, 172, 42, 180, 0, 39]
abbrev dktX1_count_3 : List UInt8 := dkwX1_count_3 ++ dktX1_count_4
def dkwX1_count_2 : List UInt8 := [42, 180, 0, 64, 180, 0, 161, 27, 50, 180, 0, 225, 172, 42, 180, 0, 39, 180, 0, 172, 182, 0, 176, 172]
abbrev dktX1_count_2 : List UInt8 := dkwX1_count_2 ++ dktX1_count_3
def dkwX1_count_1 : List UInt8 := [170, 0, 0, 0, 0, 0, 168, 0, 0, 0, 0, 0, 0, 0, 9, 0, 0, 0, 55, 0, 0, 0, 55, 0, 0, 0, 68, 0, 0, 0, 79, 0, 0, 0, 87, 0, 0, 0, 98, 0, 0, 0, 106, 0, 0, 0, 114, 0, 0, 0, 122, 0, 0, 0, 127]
abbrev dktX1_count_1 : List UInt8 := dkwX1_count_1 ++ dktX1_count_2
def dkwX1_count_0 : List UInt8 := [27]
abbrev dktX1_count_0 : List UInt8 := dkwX1_count_0 ++ dktX1_count_1
theorem dksX1_count_0 : cX1_count.data.toList.drop 0 = dktX1_count_0 := by decide +kernel
theorem dksX1_count_1 : cX1_count.data.toList.drop 1 = dktX1_count_1 := dk_seg dksX1_count_0 1 rfl rfl
theorem dksX1_count_2 : cX1_count.data.toList.drop 56 = dktX1_count_2 := dk_seg dksX1_count_1 55 rfl rfl
theorem dksX1_count_3 : cX1_count.data.toList.drop 80 = dktX1_count_3 := dk_seg dksX1_count_2 24 rfl rfl
theorem dksX1_count_4 : cX1_count.data.toList.drop 103 = dktX1_count_4 := dk_seg dksX1_count_3 23 rfl rfl
theorem dksX1_count_5 : cX1_count.data.toList.drop 127 = dktX1_count_5 := dk_seg dksX1_count_4 24 rfl rfl
theorem dksX1_count_6 : cX1_count.data.toList.drop 151 = dktX1_count_6 := dk_seg dksX1_count_5 24 rfl rfl
theorem dX1_count_0 : decode cX1_count 0 = .ok (.iload_n 1, 1) := dk_27 (dk_at dksX1_count_0 0 rfl rfl)
theorem dX1_count_1 : decode cX1_count 1 = .ok (.tableswitch 168 0 9 #[55, 55, 68, 79, 87, 98, 106, 114, 122, 127], 55) := by decide +kernel
theorem dX1_count_56 : decode cX1_count 56 = .ok (.aload_n 0, 1) := dk_42 (dk_at dksX1_count_2 0 rfl rfl)
theorem dX1_count_57 : decode cX1_count 57 = .ok (.getfield 64, 3) := dk_180 0 64 (dk_at dksX1_count_2 1 rfl rfl)
theorem dX1_count_60 : decode cX1_count 60 = .ok (.getfield 161, 3) := dk_180 0 161 (dk_at dksX1_count_2 4 rfl rfl)
theorem dX1_count_63 : decode cX1_count 63 = .ok (.iload_n 1, 1) := dk_27 (dk_at dksX1_count_2 7 rfl rfl)
theorem dX1_count_64 : decode cX1_count 64 = .ok (.aaload, 1) := dk_50 (dk_at dksX1_count_2 8 rfl rfl)
theorem dX1_count_65 : decode cX1_count 65 = .ok (.getfield 225, 3) := dk_180 0 225 (dk_at dksX1_count_2 9 rfl rfl)
theorem dX1_count_68 : decode cX1_count 68 = .ok (.ireturn, 1) := dk_172 (dk_at dksX1_count_2 12 rfl rfl)
theorem dX1_count_69 : decode cX1_count 69 = .ok (.aload_n 0, 1) := dk_42 (dk_at dksX1_count_2 13 rfl rfl)
theorem dX1_count_70 : decode cX1_count 70 = .ok (.getfield 39, 3) := dk_180 0 39 (dk_at dksX1_count_2 14 rfl rfl)
theorem dX1_count_73 : decode cX1_count 73 = .ok (.getfield 172, 3) := dk_180 0 172 (dk_at dksX1_count_2 17 rfl rfl)
theorem dX1_count_76 : decode cX1_count 76 = .ok (.invokevirtual 176, 3) := dk_182 0 176 (dk_at dksX1_count_2 20 rfl rfl)
theorem dX1_count_79 : decode cX1_count 79 = .ok (.ireturn, 1) := dk_172 (dk_at dksX1_count_2 23 rfl rfl)
theorem dX1_count_80 : decode cX1_count 80 = .ok (.aload_n 0, 1) := dk_42 (dk_at dksX1_count_3 0 rfl rfl)
theorem dX1_count_81 : decode cX1_count 81 = .ok (.getfield 39, 3) := dk_180 0 39 (dk_at dksX1_count_3 1 rfl rfl)
theorem dX1_count_84 : decode cX1_count 84 = .ok (.getfield 421, 3) := dk_180 1 165 (dk_at dksX1_count_3 4 rfl rfl)
theorem dX1_count_87 : decode cX1_count 87 = .ok (.ireturn, 1) := dk_172 (dk_at dksX1_count_3 7 rfl rfl)
theorem dX1_count_88 : decode cX1_count 88 = .ok (.aload_n 0, 1) := dk_42 (dk_at dksX1_count_3 8 rfl rfl)
theorem dX1_count_89 : decode cX1_count 89 = .ok (.getfield 39, 3) := dk_180 0 39 (dk_at dksX1_count_3 9 rfl rfl)
theorem dX1_count_92 : decode cX1_count 92 = .ok (.getfield 402, 3) := dk_180 1 146 (dk_at dksX1_count_3 12 rfl rfl)
theorem dX1_count_95 : decode cX1_count 95 = .ok (.invokevirtual 176, 3) := dk_182 0 176 (dk_at dksX1_count_3 15 rfl rfl)
theorem dX1_count_98 : decode cX1_count 98 = .ok (.ireturn, 1) := dk_172 (dk_at dksX1_count_3 18 rfl rfl)
theorem dX1_count_99 : decode cX1_count 99 = .ok (.aload_n 0, 1) := dk_42 (dk_at dksX1_count_3 19 rfl rfl)
theorem dX1_count_100 : decode cX1_count 100 = .ok (.getfield 39, 3) := dk_180 0 39 (dk_at dksX1_count_3 20 rfl rfl)
theorem dX1_count_103 : decode cX1_count 103 = .ok (.getfield 470, 3) := dk_180 1 214 (dk_at dksX1_count_4 0 rfl rfl)
theorem dX1_count_106 : decode cX1_count 106 = .ok (.ireturn, 1) := dk_172 (dk_at dksX1_count_4 3 rfl rfl)
theorem dX1_count_107 : decode cX1_count 107 = .ok (.aload_n 0, 1) := dk_42 (dk_at dksX1_count_4 4 rfl rfl)
theorem dX1_count_108 : decode cX1_count 108 = .ok (.getfield 64, 3) := dk_180 0 64 (dk_at dksX1_count_4 5 rfl rfl)
theorem dX1_count_111 : decode cX1_count 111 = .ok (.getfield 279, 3) := dk_180 1 23 (dk_at dksX1_count_4 8 rfl rfl)
theorem dX1_count_114 : decode cX1_count 114 = .ok (.ireturn, 1) := dk_172 (dk_at dksX1_count_4 11 rfl rfl)
theorem dX1_count_115 : decode cX1_count 115 = .ok (.aload_n 0, 1) := dk_42 (dk_at dksX1_count_4 12 rfl rfl)
theorem dX1_count_116 : decode cX1_count 116 = .ok (.getfield 64, 3) := dk_180 0 64 (dk_at dksX1_count_4 13 rfl rfl)
theorem dX1_count_119 : decode cX1_count 119 = .ok (.getfield 298, 3) := dk_180 1 42 (dk_at dksX1_count_4 16 rfl rfl)
theorem dX1_count_122 : decode cX1_count 122 = .ok (.ireturn, 1) := dk_172 (dk_at dksX1_count_4 19 rfl rfl)
theorem dX1_count_123 : decode cX1_count 123 = .ok (.aload_n 0, 1) := dk_42 (dk_at dksX1_count_4 20 rfl rfl)
theorem dX1_count_124 : decode cX1_count 124 = .ok (.getfield 151, 3) := dk_180 0 151 (dk_at dksX1_count_4 21 rfl rfl)
theorem dX1_count_127 : decode cX1_count 127 = .ok (.ireturn, 1) := dk_172 (dk_at dksX1_count_5 0 rfl rfl)
theorem dX1_count_128 : decode cX1_count 128 = .ok (.iconst 0, 1) := dk_3 (dk_at dksX1_count_5 1 rfl rfl)
theorem dX1_count_129 : decode cX1_count 129 = .ok (.istore_n 2, 1) := dk_61 (dk_at dksX1_count_5 2 rfl rfl)
theorem dX1_count_130 : decode cX1_count 130 = .ok (.iconst 0, 1) := dk_3 (dk_at dksX1_count_5 3 rfl rfl)
theorem dX1_count_131 : decode cX1_count 131 = .ok (.istore_n 3, 1) := dk_62 (dk_at dksX1_count_5 4 rfl rfl)
theorem dX1_count_132 : decode cX1_count 132 = .ok (.iload_n 3, 1) := dk_29 (dk_at dksX1_count_5 5 rfl rfl)
theorem dX1_count_133 : decode cX1_count 133 = .ok (.aload_n 0, 1) := dk_42 (dk_at dksX1_count_5 6 rfl rfl)
theorem dX1_count_134 : decode cX1_count 134 = .ok (.getfield 39, 3) := dk_180 0 39 (dk_at dksX1_count_5 7 rfl rfl)
theorem dX1_count_137 : decode cX1_count 137 = .ok (.getfield 172, 3) := dk_180 0 172 (dk_at dksX1_count_5 10 rfl rfl)
theorem dX1_count_140 : decode cX1_count 140 = .ok (.invokevirtual 176, 3) := dk_182 0 176 (dk_at dksX1_count_5 13 rfl rfl)
theorem dX1_count_143 : decode cX1_count 143 = .ok (.if_icmp .ge 24, 3) := dk_162 0 24 (dk_at dksX1_count_5 16 rfl rfl)
theorem dX1_count_146 : decode cX1_count 146 = .ok (.iload_n 2, 1) := dk_28 (dk_at dksX1_count_5 19 rfl rfl)
theorem dX1_count_147 : decode cX1_count 147 = .ok (.aload_n 0, 1) := dk_42 (dk_at dksX1_count_5 20 rfl rfl)
theorem dX1_count_148 : decode cX1_count 148 = .ok (.getfield 64, 3) := dk_180 0 64 (dk_at dksX1_count_5 21 rfl rfl)
theorem dX1_count_151 : decode cX1_count 151 = .ok (.getfield 186, 3) := dk_180 0 186 (dk_at dksX1_count_6 0 rfl rfl)
theorem dX1_count_154 : decode cX1_count 154 = .ok (.iload_n 3, 1) := dk_29 (dk_at dksX1_count_6 3 rfl rfl)
theorem dX1_count_155 : decode cX1_count 155 = .ok (.aaload, 1) := dk_50 (dk_at dksX1_count_6 4 rfl rfl)
theorem dX1_count_156 : decode cX1_count 156 = .ok (.invokevirtual 205, 3) := dk_182 0 205 (dk_at dksX1_count_6 5 rfl rfl)
theorem dX1_count_159 : decode cX1_count 159 = .ok (.iadd, 1) := dk_96 (dk_at dksX1_count_6 8 rfl rfl)
theorem dX1_count_160 : decode cX1_count 160 = .ok (.istore_n 2, 1) := dk_61 (dk_at dksX1_count_6 9 rfl rfl)
theorem dX1_count_161 : decode cX1_count 161 = .ok (.iinc 3 1, 3) := dk_132 3 1 (dk_at dksX1_count_6 10 rfl rfl)
theorem dX1_count_164 : decode cX1_count 164 = .ok (.goto (-32), 3) := dk_167 255 224 (dk_at dksX1_count_6 13 rfl rfl)
theorem dX1_count_167 : decode cX1_count 167 = .ok (.iload_n 2, 1) := dk_28 (dk_at dksX1_count_6 16 rfl rfl)
theorem dX1_count_168 : decode cX1_count 168 = .ok (.ireturn, 1) := dk_172 (dk_at dksX1_count_6 17 rfl rfl)
theorem dX1_count_169 : decode cX1_count 169 = .ok (.iconst (-1), 1) := dk_2 (dk_at dksX1_count_6 18 rfl rfl)
theorem dX1_count_170 : decode cX1_count 170 = .ok (.ireturn, 1) := dk_172 (dk_at dksX1_count_6 19 rfl rfl)
theorem gX1_count_0 {v1 : Int32} {T : zT} {I : zI} {L : zL} {R : zR} {P : zP} (hx : zXok T R) (h : ((v1 = (0 : Int32) → vp_in v1 2 ∧ (T (R 1201 (v1.toNatClampNeg))).1 = 4 ∧ P 0 (.int (I (R 1201 (v1.toNatClampNeg)) 2)) T I L R) ∧ (¬ v1 = (0 : Int32) → ((v1 = (1 : Int32) → vp_in v1 2 ∧ (T (R 1201 (v1.toNatClampNeg))).1 = 4 ∧ P 0 (.int (I (R 1201 (v1.toNatClampNeg)) 2)) T I L R) ∧ (¬ v1 = (1 : Int32) → ((v1 = (2 : Int32) → (T (R 1000 8)).1 = 3 ∧ (T (R (R 1000 8) 2)).1 = 5 ∧ zMet mJ2_size 1 0 [.ref (R (R 1000 8) 2)] T I L R (zqI_ T I L R  (fun (r6 : Int32)  => P 0 (.int r6) T I L R))) ∧ (¬ v1 = (2 : Int32) → ((v1 = (3 : Int32) → (T (R 1000 8)).1 = 3 ∧ P 0 (.int (I (R 1000 8) 12)) T I L R) ∧ (¬ v1 = (3 : Int32) → ((v1 = (4 : Int32) → (T (R 1000 8)).1 = 3 ∧ (T (R (R 1000 8) 3)).1 = 5 ∧ zMet mJ2_size 1 0 [.ref (R (R 1000 8) 3)] T I L R (zqI_ T I L R  (fun (r10 : Int32)  => P 0 (.int r10) T I L R))) ∧ (¬ v1 = (4 : Int32) → ((v1 = (5 : Int32) → (T (R 1000 8)).1 = 3 ∧ P 0 (.int (I (R 1000 8) 16)) T I L R) ∧ (¬ v1 = (5 : Int32) → ((v1 = (6 : Int32) → P 0 (.int (I 1200 2)) T I L R) ∧ (¬ v1 = (6 : Int32) → ((v1 = (7 : Int32) → P 0 (.int (I 1200 3)) T I L R) ∧ (¬ v1 = (7 : Int32) → ((v1 = (8 : Int32) → P 0 (.int (I 1000 4)) T I L R) ∧ (¬ v1 = (8 : Int32) → ((v1 = (9 : Int32) → zAW mX1_count 2 0 132 [(0, .ref 1000), (2, .int (0 : Int32)), (3, .int (0 : Int32))] [] T I L R P) ∧ (¬ v1 = (9 : Int32) → P 0 (.int (-1 : Int32)) T I L R))))))))))))))))))))) : zAW mX1_count 2 0 0 [(0, .ref 1000), (1, .int v1)] [] T I L R P := by
  refine za_iload_n (pc' := 1) 1 dX1_count_0 rfl rfl rfl ?_
  by_cases hs13 : v1 = (0 : Int32)
  · replace h := h.1 hs13
    refine za_tableIn (off := 55) (tgt := 56) dX1_count_1 (by rw [hs13]; decide) (by rw [hs13]; decide) (by rw [hs13]; rfl) (by decide) ?_
    refine za_aload_n (pc' := 57) 0 dX1_count_56 rfl rfl rfl ?_
    refine za_get (fi := 10) (v := .ref 1200) (pc' := 60) dX1_count_57 zc0 (by decide) in_X1 (by decide) q500 (Or.inl rfl) (congrArg Prod.fst (zX_t1000 hx)) (congrArg Value.ref (zX_r1000_10 hx)) rfl ?_
    refine za_getN (fi := 0) (v := .ref 1201) (pc' := 63) dX1_count_60 zc9 (by decide) in_X10 (by decide) q416 (Or.inl rfl) (congrArg Prod.fst (zX_t1200 hx)) (congrArg Value.ref (zX_r1200_0 hx)) rfl ?_
    refine za_iload_n (pc' := 64) 1 dX1_count_63 rfl rfl rfl ?_
    obtain ⟨hi1, h⟩ := h
    refine za_aald (r := (R 1201 (v1.toNatClampNeg))) (t := 4) (C := RX4) (pc' := 65) dX1_count_64 (by decide) (fun _ => rfl) (zX_t1201 hx) hi1 (rfl) rfl ?_
    obtain ⟨ht2, h⟩ := h
    refine za_getN (fi := 2) (v := .int (I (R 1201 (v1.toNatClampNeg)) 2)) (pc' := 68) dX1_count_65 zc3 (by decide) in_X4 (by decide) q233 (Or.inl rfl) ht2 rfl rfl ?_
    exact za_ireturn rfl dX1_count_68 h
  replace h := h.2 hs13
  by_cases hs14 : v1 = (1 : Int32)
  · replace h := h.1 hs14
    refine za_tableIn (off := 55) (tgt := 56) dX1_count_1 (by rw [hs14]; decide) (by rw [hs14]; decide) (by rw [hs14]; rfl) (by decide) ?_
    refine za_aload_n (pc' := 57) 0 dX1_count_56 rfl rfl rfl ?_
    refine za_get (fi := 10) (v := .ref 1200) (pc' := 60) dX1_count_57 zc0 (by decide) in_X1 (by decide) q500 (Or.inl rfl) (congrArg Prod.fst (zX_t1000 hx)) (congrArg Value.ref (zX_r1000_10 hx)) rfl ?_
    refine za_getN (fi := 0) (v := .ref 1201) (pc' := 63) dX1_count_60 zc9 (by decide) in_X10 (by decide) q416 (Or.inl rfl) (congrArg Prod.fst (zX_t1200 hx)) (congrArg Value.ref (zX_r1200_0 hx)) rfl ?_
    refine za_iload_n (pc' := 64) 1 dX1_count_63 rfl rfl rfl ?_
    obtain ⟨hi3, h⟩ := h
    refine za_aald (r := (R 1201 (v1.toNatClampNeg))) (t := 4) (C := RX4) (pc' := 65) dX1_count_64 (by decide) (fun _ => rfl) (zX_t1201 hx) hi3 (rfl) rfl ?_
    obtain ⟨ht4, h⟩ := h
    refine za_getN (fi := 2) (v := .int (I (R 1201 (v1.toNatClampNeg)) 2)) (pc' := 68) dX1_count_65 zc3 (by decide) in_X4 (by decide) q233 (Or.inl rfl) ht4 rfl rfl ?_
    exact za_ireturn rfl dX1_count_68 h
  replace h := h.2 hs14
  by_cases hs15 : v1 = (2 : Int32)
  · replace h := h.1 hs15
    refine za_tableIn (off := 68) (tgt := 69) dX1_count_1 (by rw [hs15]; decide) (by rw [hs15]; decide) (by rw [hs15]; rfl) (by decide) ?_
    refine za_aload_n (pc' := 70) 0 dX1_count_69 rfl rfl rfl ?_
    refine za_get (fi := 8) (v := .ref (R 1000 8)) (pc' := 73) dX1_count_70 zc0 (by decide) in_X1 (by decide) q498 (Or.inl rfl) (congrArg Prod.fst (zX_t1000 hx)) rfl rfl ?_
    obtain ⟨ht5, h⟩ := h
    refine za_getN (fi := 2) (v := .ref (R (R 1000 8) 2)) (pc' := 76) dX1_count_73 zc2 (by decide) in_X3 (by decide) q278 (Or.inl rfl) ht5 rfl rfl ?_
    obtain ⟨ht7, h⟩ := h
    refine za_callV (κ := (R (R 1000 8) 2)) (M2 := mJ2_size) (d2 := 1) (b2 := 0) (n := 0) (As := []) (st := []) (pc' := 79) zc4 (by decide) ht7 dX1_count_76 rfl (lw_V q1070 q466 q467 q137 q468) ⟨rfl, hd_J2_size⟩ rfl (by decide) (by decide) (Nat.zero_le _) (Or.inl rfl) (Nat.le_of_ble_eq_true rfl) h (zqI__k rfl (fun r6 h => ?_)) (fun _ _ _ _ _ _ h9 h8 => absurd h8.1 h9) rfl
    exact za_ireturn rfl dX1_count_79 h
  replace h := h.2 hs15
  by_cases hs16 : v1 = (3 : Int32)
  · replace h := h.1 hs16
    refine za_tableIn (off := 79) (tgt := 80) dX1_count_1 (by rw [hs16]; decide) (by rw [hs16]; decide) (by rw [hs16]; rfl) (by decide) ?_
    refine za_aload_n (pc' := 81) 0 dX1_count_80 rfl rfl rfl ?_
    refine za_get (fi := 8) (v := .ref (R 1000 8)) (pc' := 84) dX1_count_81 zc0 (by decide) in_X1 (by decide) q498 (Or.inl rfl) (congrArg Prod.fst (zX_t1000 hx)) rfl rfl ?_
    obtain ⟨ht8, h⟩ := h
    refine za_getN (fi := 12) (v := .int (I (R 1000 8) 12)) (pc' := 87) dX1_count_84 zc2 (by decide) in_X3 (by decide) q305 (Or.inl rfl) ht8 rfl rfl ?_
    exact za_ireturn rfl dX1_count_87 h
  replace h := h.2 hs16
  by_cases hs17 : v1 = (4 : Int32)
  · replace h := h.1 hs17
    refine za_tableIn (off := 87) (tgt := 88) dX1_count_1 (by rw [hs17]; decide) (by rw [hs17]; decide) (by rw [hs17]; rfl) (by decide) ?_
    refine za_aload_n (pc' := 89) 0 dX1_count_88 rfl rfl rfl ?_
    refine za_get (fi := 8) (v := .ref (R 1000 8)) (pc' := 92) dX1_count_89 zc0 (by decide) in_X1 (by decide) q498 (Or.inl rfl) (congrArg Prod.fst (zX_t1000 hx)) rfl rfl ?_
    obtain ⟨ht9, h⟩ := h
    refine za_getN (fi := 3) (v := .ref (R (R 1000 8) 3)) (pc' := 95) dX1_count_92 zc2 (by decide) in_X3 (by decide) q282 (Or.inl rfl) ht9 rfl rfl ?_
    obtain ⟨ht11, h⟩ := h
    refine za_callV (κ := (R (R 1000 8) 3)) (M2 := mJ2_size) (d2 := 1) (b2 := 0) (n := 0) (As := []) (st := []) (pc' := 98) zc4 (by decide) ht11 dX1_count_95 rfl (lw_V q1070 q466 q467 q137 q468) ⟨rfl, hd_J2_size⟩ rfl (by decide) (by decide) (Nat.zero_le _) (Or.inl rfl) (Nat.le_of_ble_eq_true rfl) h (zqI__k rfl (fun r10 h => ?_)) (fun _ _ _ _ _ _ h9 h8 => absurd h8.1 h9) rfl
    exact za_ireturn rfl dX1_count_98 h
  replace h := h.2 hs17
  by_cases hs18 : v1 = (5 : Int32)
  · replace h := h.1 hs18
    refine za_tableIn (off := 98) (tgt := 99) dX1_count_1 (by rw [hs18]; decide) (by rw [hs18]; decide) (by rw [hs18]; rfl) (by decide) ?_
    refine za_aload_n (pc' := 100) 0 dX1_count_99 rfl rfl rfl ?_
    refine za_get (fi := 8) (v := .ref (R 1000 8)) (pc' := 103) dX1_count_100 zc0 (by decide) in_X1 (by decide) q498 (Or.inl rfl) (congrArg Prod.fst (zX_t1000 hx)) rfl rfl ?_
    obtain ⟨ht12, h⟩ := h
    refine za_getN (fi := 16) (v := .int (I (R 1000 8) 16)) (pc' := 106) dX1_count_103 zc2 (by decide) in_X3 (by decide) q313 (Or.inl rfl) ht12 rfl rfl ?_
    exact za_ireturn rfl dX1_count_106 h
  replace h := h.2 hs18
  by_cases hs19 : v1 = (6 : Int32)
  · replace h := h.1 hs19
    refine za_tableIn (off := 106) (tgt := 107) dX1_count_1 (by rw [hs19]; decide) (by rw [hs19]; decide) (by rw [hs19]; rfl) (by decide) ?_
    refine za_aload_n (pc' := 108) 0 dX1_count_107 rfl rfl rfl ?_
    refine za_get (fi := 10) (v := .ref 1200) (pc' := 111) dX1_count_108 zc0 (by decide) in_X1 (by decide) q500 (Or.inl rfl) (congrArg Prod.fst (zX_t1000 hx)) (congrArg Value.ref (zX_r1000_10 hx)) rfl ?_
    refine za_getN (fi := 2) (v := .int (I 1200 2)) (pc' := 114) dX1_count_111 zc9 (by decide) in_X10 (by decide) q420 (Or.inl rfl) (congrArg Prod.fst (zX_t1200 hx)) rfl rfl ?_
    exact za_ireturn rfl dX1_count_114 h
  replace h := h.2 hs19
  by_cases hs20 : v1 = (7 : Int32)
  · replace h := h.1 hs20
    refine za_tableIn (off := 114) (tgt := 115) dX1_count_1 (by rw [hs20]; decide) (by rw [hs20]; decide) (by rw [hs20]; rfl) (by decide) ?_
    refine za_aload_n (pc' := 116) 0 dX1_count_115 rfl rfl rfl ?_
    refine za_get (fi := 10) (v := .ref 1200) (pc' := 119) dX1_count_116 zc0 (by decide) in_X1 (by decide) q500 (Or.inl rfl) (congrArg Prod.fst (zX_t1000 hx)) (congrArg Value.ref (zX_r1000_10 hx)) rfl ?_
    refine za_getN (fi := 3) (v := .int (I 1200 3)) (pc' := 122) dX1_count_119 zc9 (by decide) in_X10 (by decide) q422 (Or.inl rfl) (congrArg Prod.fst (zX_t1200 hx)) rfl rfl ?_
    exact za_ireturn rfl dX1_count_122 h
  replace h := h.2 hs20
  by_cases hs21 : v1 = (8 : Int32)
  · replace h := h.1 hs21
    refine za_tableIn (off := 122) (tgt := 123) dX1_count_1 (by rw [hs21]; decide) (by rw [hs21]; decide) (by rw [hs21]; rfl) (by decide) ?_
    refine za_aload_n (pc' := 124) 0 dX1_count_123 rfl rfl rfl ?_
    refine za_get (fi := 4) (v := .int (I 1000 4)) (pc' := 127) dX1_count_124 zc0 (by decide) in_X1 (by decide) q493 (Or.inl rfl) (congrArg Prod.fst (zX_t1000 hx)) rfl rfl ?_
    exact za_ireturn rfl dX1_count_127 h
  replace h := h.2 hs21
  by_cases hs22 : v1 = (9 : Int32)
  · replace h := h.1 hs22
    refine za_tableIn (off := 127) (tgt := 128) dX1_count_1 (by rw [hs22]; decide) (by rw [hs22]; decide) (by rw [hs22]; rfl) (by decide) ?_
    refine za_iconst (pc' := 129) dX1_count_128 zi_0 rfl ?_
    refine za_istore_n (pc' := 130) (l' := [(2, .int (0 : Int32)), (0, .ref 1000), (1, .int v1)]) dX1_count_129 rfl (Nat.le_of_ble_eq_true rfl) rfl rfl ?_
    refine za_iconst (pc' := 131) dX1_count_130 zi_0 rfl ?_
    refine za_istore_n (pc' := 132) (l' := [(3, .int (0 : Int32)), (2, .int (0 : Int32)), (0, .ref 1000), (1, .int v1)]) dX1_count_131 rfl (Nat.le_of_ble_eq_true rfl) rfl rfl ?_
    exact zAW_sub [2, 1, 0] rfl h
  replace h := h.2 hs22
  refine za_tableOut (tgt := 169) dX1_count_1 (ztabOut (lo := 0) (hi := 9) (by omega) (fun k9 h8 h7 => by have q0 := zsw_n (0) (by decide) hs13; have q1 := zsw_n (1) (by decide) hs14; have q2 := zsw_n (2) (by decide) hs15; have q3 := zsw_n (3) (by decide) hs16; have q4 := zsw_n (4) (by decide) hs17; have q5 := zsw_n (5) (by decide) hs18; have q6 := zsw_n (6) (by decide) hs19; have q7 := zsw_n (7) (by decide) hs20; have q8 := zsw_n (8) (by decide) hs21; have q9 := zsw_n (9) (by decide) hs22; omega)) (by decide) ?_
  refine za_iconst (pc' := 170) dX1_count_169 zi_m1 rfl ?_
  exact za_ireturn rfl dX1_count_170 h
theorem gX1_count_132 {v2 : Int32} {v3 : Int32} {T : zT} {I : zI} {L : zL} {R : zR} {P : zP} (hx : zXok T R) (h : (T (R 1000 8)).1 = 3 ∧ (T (R (R 1000 8) 2)).1 = 5 ∧ zMet mJ2_size 1 0 [.ref (R (R 1000 8) 2)] T I L R (zqI_ T I L R  (fun (r24 : Int32)  => ((r24 ≤ v3 → P 0 (.int v2) T I L R) ∧ (¬ r24 ≤ v3 → vp_in v3 6 ∧ (T (R 1202 (v3.toNatClampNeg))).1 = 11 ∧ zMet mX11_lost 1 0 [.ref (R 1202 (v3.toNatClampNeg))] T I L R (zqI_ T I L R  (fun (r27 : Int32)  => zAW mX1_count 2 0 132 [(0, .ref 1000), (2, .int (v2 + r27)), (3, .int (v3 + (1 : Int32)))] [] T I L R P))))))) : zAW mX1_count 2 0 132 [(0, .ref 1000), (2, .int v2), (3, .int v3)] [] T I L R P := by
  refine za_iload_n (pc' := 133) 2 dX1_count_132 rfl rfl rfl ?_
  refine za_aload_n (pc' := 134) 0 dX1_count_133 rfl rfl rfl ?_
  refine za_get (fi := 8) (v := .ref (R 1000 8)) (pc' := 137) dX1_count_134 zc0 (by decide) in_X1 (by decide) q498 (Or.inl rfl) (congrArg Prod.fst (zX_t1000 hx)) rfl rfl ?_
  obtain ⟨ht23, h⟩ := h
  refine za_getN (fi := 2) (v := .ref (R (R 1000 8) 2)) (pc' := 140) dX1_count_137 zc2 (by decide) in_X3 (by decide) q278 (Or.inl rfl) ht23 rfl rfl ?_
  obtain ⟨ht25, h⟩ := h
  refine za_callV (κ := (R (R 1000 8) 2)) (M2 := mJ2_size) (d2 := 1) (b2 := 0) (n := 0) (As := []) (st := [.int v3]) (pc' := 143) zc4 (by decide) ht25 dX1_count_140 rfl (lw_V q1070 q466 q467 q137 q468) ⟨rfl, hd_J2_size⟩ rfl (by decide) (by decide) (Nat.zero_le _) (Or.inl rfl) (Nat.le_of_ble_eq_true rfl) h (zqI__k rfl (fun r24 h => ?_)) (fun _ _ _ _ _ _ h9 h8 => absurd h8.1 h9) rfl
  refine za_icmp_ge (pc' := 146) (tgt := 167) dX1_count_143 (by decide) rfl (fun c9 => ?_) (fun c9 => ?_)
  · replace h := h.1 c9
    refine za_iload_n (pc' := 168) 1 dX1_count_167 rfl rfl rfl ?_
    exact za_ireturn rfl dX1_count_168 h
  · replace h := h.2 c9
    refine za_iload_n (pc' := 147) 1 dX1_count_146 rfl rfl rfl ?_
    refine za_aload_n (pc' := 148) 0 dX1_count_147 rfl rfl rfl ?_
    refine za_get (fi := 10) (v := .ref 1200) (pc' := 151) dX1_count_148 zc0 (by decide) in_X1 (by decide) q500 (Or.inl rfl) (congrArg Prod.fst (zX_t1000 hx)) (congrArg Value.ref (zX_r1000_10 hx)) rfl ?_
    refine za_getN (fi := 1) (v := .ref 1202) (pc' := 154) dX1_count_151 zc9 (by decide) in_X10 (by decide) q418 (Or.inl rfl) (congrArg Prod.fst (zX_t1200 hx)) (congrArg Value.ref (zX_r1200_1 hx)) rfl ?_
    refine za_iload_n (pc' := 155) 2 dX1_count_154 rfl rfl rfl ?_
    obtain ⟨hi26, h⟩ := h
    refine za_aald (r := (R 1202 (v3.toNatClampNeg))) (t := 5) (C := RX11) (pc' := 156) dX1_count_155 (by decide) (fun _ => rfl) (zX_t1202 hx) hi26 (rfl) rfl ?_
    obtain ⟨ht28, h⟩ := h
    refine za_callV (κ := (R 1202 (v3.toNatClampNeg))) (M2 := mX11_lost) (d2 := 1) (b2 := 0) (n := 0) (As := []) (st := [.int v2]) (pc' := 159) zc10 (by decide) ht28 dX1_count_156 rfl (lw_V q1361 q1362 q1363 q144 q1364) ⟨rfl, hd_X11_lost⟩ rfl (by decide) (by decide) (Nat.zero_le _) (Or.inl rfl) (Nat.le_of_ble_eq_true rfl) h (zqI__k rfl (fun r27 h => ?_)) (fun _ _ _ _ _ _ h9 h8 => absurd h8.1 h9) rfl
    refine za_iadd (pc' := 160) dX1_count_159 rfl ?_
    refine za_istore_n (pc' := 161) (l' := [(2, .int (v2 + r27)), (0, .ref 1000), (3, .int v3)]) dX1_count_160 rfl (Nat.le_of_ble_eq_true rfl) rfl rfl ?_
    refine za_iinc (pc' := 164) (l' := [(3, .int (v3 + (1 : Int32))), (2, .int (v2 + r27)), (0, .ref 1000)]) 2 dX1_count_161 rfl (zinc zi_1) (Nat.le_of_ble_eq_true rfl) rfl rfl ?_
    refine za_goto (tgt := 132) dX1_count_164 (by decide) ?_
    exact zAW_sub [2, 1, 0] rfl h
theorem sX1_count {d b : Nat} {v1 : Int32} {T : zT} {I : zI} {L : zL} {R : zR} {P : zP} (h : zAW mX1_count d b 0 [(0, .ref 1000), (1, .int v1)] [] T I L R P) : zMet mX1_count d b [.ref 1000, .int v1] T I L R P := zMet_of (by decide +kernel) rfl (Nat.le_of_ble_eq_true rfl) rfl h
/-! TwoTongues.look (II)I -/
def dkwX1_look_4 : List UInt8 := [180, 0, 39, 42, 180, 0, 64, 180, 0, 186, 27, 50, 182, 0, 208, 172, 187, 0, 212, 89, 183, 0, 214, 191]
abbrev dktX1_look_4 : List UInt8 := dkwX1_look_4 ++ []
def dkwX1_look_3 : List UInt8 := [180, 0, 186, 27, 50, 180, 0, 190, 172, 42, 180, 0, 64, 180, 0, 186, 27, 50, 182, 0, 205, 172, 42]
abbrev dktX1_look_3 : List UInt8 := dkwX1_look_3 ++ dktX1_look_4
def dkwX1_look_2 : List UInt8 := [42, 180, 0, 39, 180, 0, 172, 27, 182, 0, 195, 192, 0, 199, 180, 0, 201, 172, 42, 180, 0, 64]
abbrev dktX1_look_2 : List UInt8 := dkwX1_look_2 ++ dktX1_look_3
def dkwX1_look_1 : List UInt8 := [170, 0, 0, 0, 0, 0, 92, 0, 0, 0, 0, 0, 0, 0, 3, 0, 0, 0, 31, 0, 0, 0, 49, 0, 0, 0, 62, 0, 0, 0, 75]
abbrev dktX1_look_1 : List UInt8 := dkwX1_look_1 ++ dktX1_look_2
def dkwX1_look_0 : List UInt8 := [42, 27, 182, 0, 182, 154, 0, 11, 187, 0, 202, 89, 183, 0, 204, 191, 28]
abbrev dktX1_look_0 : List UInt8 := dkwX1_look_0 ++ dktX1_look_1
theorem dksX1_look_0 : cX1_look.data.toList.drop 0 = dktX1_look_0 := by decide +kernel
theorem dksX1_look_1 : cX1_look.data.toList.drop 17 = dktX1_look_1 := dk_seg dksX1_look_0 17 rfl rfl
theorem dksX1_look_2 : cX1_look.data.toList.drop 48 = dktX1_look_2 := dk_seg dksX1_look_1 31 rfl rfl
theorem dksX1_look_3 : cX1_look.data.toList.drop 70 = dktX1_look_3 := dk_seg dksX1_look_2 22 rfl rfl
theorem dksX1_look_4 : cX1_look.data.toList.drop 93 = dktX1_look_4 := dk_seg dksX1_look_3 23 rfl rfl
theorem dX1_look_0 : decode cX1_look 0 = .ok (.aload_n 0, 1) := dk_42 (dk_at dksX1_look_0 0 rfl rfl)
theorem dX1_look_1 : decode cX1_look 1 = .ok (.iload_n 1, 1) := dk_27 (dk_at dksX1_look_0 1 rfl rfl)
theorem dX1_look_2 : decode cX1_look 2 = .ok (.invokevirtual 182, 3) := dk_182 0 182 (dk_at dksX1_look_0 2 rfl rfl)
theorem dX1_look_5 : decode cX1_look 5 = .ok (.ifCond .ne 11, 3) := dk_154 0 11 (dk_at dksX1_look_0 5 rfl rfl)
theorem dX1_look_8 : decode cX1_look 8 = .ok (.new 202, 3) := dk_187 0 202 (dk_at dksX1_look_0 8 rfl rfl)
theorem dX1_look_11 : decode cX1_look 11 = .ok (.dup, 1) := dk_89 (dk_at dksX1_look_0 11 rfl rfl)
theorem dX1_look_12 : decode cX1_look 12 = .ok (.invokespecial 204, 3) := dk_183 0 204 (dk_at dksX1_look_0 12 rfl rfl)
theorem dX1_look_15 : decode cX1_look 15 = .ok (.athrow, 1) := dk_191 (dk_at dksX1_look_0 15 rfl rfl)
theorem dX1_look_16 : decode cX1_look 16 = .ok (.iload_n 2, 1) := dk_28 (dk_at dksX1_look_0 16 rfl rfl)
theorem dX1_look_17 : decode cX1_look 17 = .ok (.tableswitch 92 0 3 #[31, 49, 62, 75], 31) := by decide +kernel
theorem dX1_look_48 : decode cX1_look 48 = .ok (.aload_n 0, 1) := dk_42 (dk_at dksX1_look_2 0 rfl rfl)
theorem dX1_look_49 : decode cX1_look 49 = .ok (.getfield 39, 3) := dk_180 0 39 (dk_at dksX1_look_2 1 rfl rfl)
theorem dX1_look_52 : decode cX1_look 52 = .ok (.getfield 172, 3) := dk_180 0 172 (dk_at dksX1_look_2 4 rfl rfl)
theorem dX1_look_55 : decode cX1_look 55 = .ok (.iload_n 1, 1) := dk_27 (dk_at dksX1_look_2 7 rfl rfl)
theorem dX1_look_56 : decode cX1_look 56 = .ok (.invokevirtual 195, 3) := dk_182 0 195 (dk_at dksX1_look_2 8 rfl rfl)
theorem dX1_look_59 : decode cX1_look 59 = .ok (.checkcast 199, 3) := dk_192 0 199 (dk_at dksX1_look_2 11 rfl rfl)
theorem dX1_look_62 : decode cX1_look 62 = .ok (.getfield 201, 3) := dk_180 0 201 (dk_at dksX1_look_2 14 rfl rfl)
theorem dX1_look_65 : decode cX1_look 65 = .ok (.ireturn, 1) := dk_172 (dk_at dksX1_look_2 17 rfl rfl)
theorem dX1_look_66 : decode cX1_look 66 = .ok (.aload_n 0, 1) := dk_42 (dk_at dksX1_look_2 18 rfl rfl)
theorem dX1_look_67 : decode cX1_look 67 = .ok (.getfield 64, 3) := dk_180 0 64 (dk_at dksX1_look_2 19 rfl rfl)
theorem dX1_look_70 : decode cX1_look 70 = .ok (.getfield 186, 3) := dk_180 0 186 (dk_at dksX1_look_3 0 rfl rfl)
theorem dX1_look_73 : decode cX1_look 73 = .ok (.iload_n 1, 1) := dk_27 (dk_at dksX1_look_3 3 rfl rfl)
theorem dX1_look_74 : decode cX1_look 74 = .ok (.aaload, 1) := dk_50 (dk_at dksX1_look_3 4 rfl rfl)
theorem dX1_look_75 : decode cX1_look 75 = .ok (.getfield 190, 3) := dk_180 0 190 (dk_at dksX1_look_3 5 rfl rfl)
theorem dX1_look_78 : decode cX1_look 78 = .ok (.ireturn, 1) := dk_172 (dk_at dksX1_look_3 8 rfl rfl)
theorem dX1_look_79 : decode cX1_look 79 = .ok (.aload_n 0, 1) := dk_42 (dk_at dksX1_look_3 9 rfl rfl)
theorem dX1_look_80 : decode cX1_look 80 = .ok (.getfield 64, 3) := dk_180 0 64 (dk_at dksX1_look_3 10 rfl rfl)
theorem dX1_look_83 : decode cX1_look 83 = .ok (.getfield 186, 3) := dk_180 0 186 (dk_at dksX1_look_3 13 rfl rfl)
theorem dX1_look_86 : decode cX1_look 86 = .ok (.iload_n 1, 1) := dk_27 (dk_at dksX1_look_3 16 rfl rfl)
theorem dX1_look_87 : decode cX1_look 87 = .ok (.aaload, 1) := dk_50 (dk_at dksX1_look_3 17 rfl rfl)
theorem dX1_look_88 : decode cX1_look 88 = .ok (.invokevirtual 205, 3) := dk_182 0 205 (dk_at dksX1_look_3 18 rfl rfl)
theorem dX1_look_91 : decode cX1_look 91 = .ok (.ireturn, 1) := dk_172 (dk_at dksX1_look_3 21 rfl rfl)
theorem dX1_look_92 : decode cX1_look 92 = .ok (.aload_n 0, 1) := dk_42 (dk_at dksX1_look_3 22 rfl rfl)
theorem dX1_look_93 : decode cX1_look 93 = .ok (.getfield 39, 3) := dk_180 0 39 (dk_at dksX1_look_4 0 rfl rfl)
theorem dX1_look_96 : decode cX1_look 96 = .ok (.aload_n 0, 1) := dk_42 (dk_at dksX1_look_4 3 rfl rfl)
theorem dX1_look_97 : decode cX1_look 97 = .ok (.getfield 64, 3) := dk_180 0 64 (dk_at dksX1_look_4 4 rfl rfl)
theorem dX1_look_100 : decode cX1_look 100 = .ok (.getfield 186, 3) := dk_180 0 186 (dk_at dksX1_look_4 7 rfl rfl)
theorem dX1_look_103 : decode cX1_look 103 = .ok (.iload_n 1, 1) := dk_27 (dk_at dksX1_look_4 10 rfl rfl)
theorem dX1_look_104 : decode cX1_look 104 = .ok (.aaload, 1) := dk_50 (dk_at dksX1_look_4 11 rfl rfl)
theorem dX1_look_105 : decode cX1_look 105 = .ok (.invokevirtual 208, 3) := dk_182 0 208 (dk_at dksX1_look_4 12 rfl rfl)
theorem dX1_look_108 : decode cX1_look 108 = .ok (.ireturn, 1) := dk_172 (dk_at dksX1_look_4 15 rfl rfl)
theorem dX1_look_109 : decode cX1_look 109 = .ok (.new 212, 3) := dk_187 0 212 (dk_at dksX1_look_4 16 rfl rfl)
theorem dX1_look_112 : decode cX1_look 112 = .ok (.dup, 1) := dk_89 (dk_at dksX1_look_4 19 rfl rfl)
theorem dX1_look_113 : decode cX1_look 113 = .ok (.invokespecial 214, 3) := dk_183 0 214 (dk_at dksX1_look_4 20 rfl rfl)
theorem dX1_look_116 : decode cX1_look 116 = .ok (.athrow, 1) := dk_191 (dk_at dksX1_look_4 23 rfl rfl)
theorem gX1_look_0 {b : Nat} {v1 : Int32} {v2 : Int32} {T : zT} {I : zI} {L : zL} {R : zR} {P : zP} (hx : zXok T R) (h : zMet mX1_isSign 2 0 [.ref 1000, .int v1] T I L R (zqI_ T I L R  (fun (r1 : Int32)  => ((r1 = 0 → ∃ κ22, 100 ≤ κ22 ∧ (T κ22).1 = 0 ∧ 6 ≤ (b - 0) ∧ P 3 (.ref κ22) (z1 T κ22 (20, 0)) (z1 I κ22 fun _ => 0) (z1 L κ22 fun _ => 0) (z1 R κ22 fun _ => 0)) ∧ (¬ r1 = 0 → ((v2 = (0 : Int32) → (T (R 1000 8)).1 = 3 ∧ (T (R (R 1000 8) 2)).1 = 5 ∧ zMet mJ2_get 3 0 [.ref (R (R 1000 8) 2), .int v1] T I L R (zqR_ T I L R  (fun (r3 : Nat)  => (T r3).1 = 15 ∧ P 0 (.int (I r3 1)) T I L R))) ∧ (¬ v2 = (0 : Int32) → ((v2 = (1 : Int32) → vp_in v1 6 ∧ (T (R 1202 (v1.toNatClampNeg))).1 = 11 ∧ P 0 (.int (I (R 1202 (v1.toNatClampNeg)) 1)) T I L R) ∧ (¬ v2 = (1 : Int32) → ((v2 = (2 : Int32) → vp_in v1 6 ∧ (T (R 1202 (v1.toNatClampNeg))).1 = 11 ∧ zMet mX11_lost 1 0 [.ref (R 1202 (v1.toNatClampNeg))] T I L R (zqI_ T I L R  (fun (r9 : Int32)  => P 0 (.int r9) T I L R))) ∧ (¬ v2 = (2 : Int32) → ((v2 = (3 : Int32) → vp_in v1 6 ∧ (T (R 1000 8)).1 = 3 ∧ zMet mX3_iron 1 0 [.ref (R 1000 8), .ref (R 1202 (v1.toNatClampNeg))] T I L R (zqI_ T I L R  (fun (r12 : Int32)  => P 0 (.int r12) T I L R))) ∧ (¬ v2 = (3 : Int32) → ∃ κ14, 100 ≤ κ14 ∧ (T κ14).1 = 0 ∧ 6 ≤ (b - 0) ∧ zAW mX1_look 12 ((b - 0) - 6) 116 [] [.ref κ14] (z1 T κ14 (21, 0)) (z1 I κ14 fun _ => 0) (z1 L κ14 fun _ => 0) (z1 R κ14 fun _ => 0) P))))))))))))) : zAW mX1_look 12 b 0 [(0, .ref 1000), (1, .int v1), (2, .int v2)] [] T I L R P := by
  refine za_aload_n (pc' := 1) 0 dX1_look_0 rfl rfl rfl ?_
  refine za_iload_n (pc' := 2) 1 dX1_look_1 rfl rfl rfl ?_
  refine za_callV (κ := 1000) (M2 := mX1_isSign) (d2 := 2) (b2 := 0) (n := 1) (As := [.int v1]) (st := []) (pc' := 5) zc0 (by decide) (congrArg Prod.fst (zX_t1000 hx)) dX1_look_2 rfl (lw_V q1066 q1068 qs32 q131 q1069) ⟨rfl, hd_X1_isSign⟩ rfl (by decide) (by decide) (Nat.zero_le _) (Or.inl rfl) (Nat.le_of_ble_eq_true rfl) h (zqI__k rfl (fun r1 h => ?_)) (fun _ _ _ _ _ _ h9 h8 => absurd h8.1 h9) rfl
  refine za_if_ne (pc' := 8) (tgt := 16) dX1_look_5 (by decide) rfl (fun c9 => ?_) (fun c9 => ?_)
  · replace h := h.2 c9
    refine za_iload_n (pc' := 17) 2 dX1_look_16 rfl rfl rfl ?_
    by_cases hs18 : v2 = (0 : Int32)
    · replace h := h.1 hs18
      refine za_tableIn (off := 31) (tgt := 48) dX1_look_17 (by rw [hs18]; decide) (by rw [hs18]; decide) (by rw [hs18]; rfl) (by decide) ?_
      refine za_aload_n (pc' := 49) 0 dX1_look_48 rfl rfl rfl ?_
      refine za_get (fi := 8) (v := .ref (R 1000 8)) (pc' := 52) dX1_look_49 zc0 (by decide) in_X1 (by decide) q498 (Or.inl rfl) (congrArg Prod.fst (zX_t1000 hx)) rfl rfl ?_
      obtain ⟨ht2, h⟩ := h
      refine za_getN (fi := 2) (v := .ref (R (R 1000 8) 2)) (pc' := 55) dX1_look_52 zc2 (by decide) in_X3 (by decide) q278 (Or.inl rfl) ht2 rfl rfl ?_
      refine za_iload_n (pc' := 56) 1 dX1_look_55 rfl rfl rfl ?_
      obtain ⟨ht4, h⟩ := h
      refine za_callV (κ := (R (R 1000 8) 2)) (M2 := mJ2_get) (d2 := 3) (b2 := 0) (n := 1) (As := [.int v1]) (st := []) (pc' := 59) zc4 (by decide) ht4 dX1_look_56 rfl (lw_V q1091 q470 q471 q137 q472) ⟨rfl, hd_J2_get⟩ rfl (by decide) (by decide) (Nat.zero_le _) (Or.inl rfl) (Nat.le_of_ble_eq_true rfl) h (zqR__k rfl (fun r3 h => ?_)) (fun _ _ _ _ _ _ h9 h8 => absurd h8.1 h9) rfl
      obtain ⟨ht5, h⟩ := h
      refine za_cast (pc' := 62) dX1_look_59 q1092 zc14 (by decide) ht5 rfl ?_
      refine za_getN (fi := 1) (v := .int (I r3 1)) (pc' := 65) dX1_look_62 zc14 (by decide) in_X15 (by decide) q859 (Or.inl rfl) ht5 rfl rfl ?_
      exact za_ireturn rfl dX1_look_65 h
    replace h := h.2 hs18
    by_cases hs19 : v2 = (1 : Int32)
    · replace h := h.1 hs19
      refine za_tableIn (off := 49) (tgt := 66) dX1_look_17 (by rw [hs19]; decide) (by rw [hs19]; decide) (by rw [hs19]; rfl) (by decide) ?_
      refine za_aload_n (pc' := 67) 0 dX1_look_66 rfl rfl rfl ?_
      refine za_get (fi := 10) (v := .ref 1200) (pc' := 70) dX1_look_67 zc0 (by decide) in_X1 (by decide) q500 (Or.inl rfl) (congrArg Prod.fst (zX_t1000 hx)) (congrArg Value.ref (zX_r1000_10 hx)) rfl ?_
      refine za_getN (fi := 1) (v := .ref 1202) (pc' := 73) dX1_look_70 zc9 (by decide) in_X10 (by decide) q418 (Or.inl rfl) (congrArg Prod.fst (zX_t1200 hx)) (congrArg Value.ref (zX_r1200_1 hx)) rfl ?_
      refine za_iload_n (pc' := 74) 1 dX1_look_73 rfl rfl rfl ?_
      obtain ⟨hi6, h⟩ := h
      refine za_aald (r := (R 1202 (v1.toNatClampNeg))) (t := 5) (C := RX11) (pc' := 75) dX1_look_74 (by decide) (fun _ => rfl) (zX_t1202 hx) hi6 (rfl) rfl ?_
      obtain ⟨ht7, h⟩ := h
      refine za_getN (fi := 1) (v := .int (I (R 1202 (v1.toNatClampNeg)) 1)) (pc' := 78) dX1_look_75 zc10 (by decide) in_X11 (by decide) q408 (Or.inl rfl) ht7 rfl rfl ?_
      exact za_ireturn rfl dX1_look_78 h
    replace h := h.2 hs19
    by_cases hs20 : v2 = (2 : Int32)
    · replace h := h.1 hs20
      refine za_tableIn (off := 62) (tgt := 79) dX1_look_17 (by rw [hs20]; decide) (by rw [hs20]; decide) (by rw [hs20]; rfl) (by decide) ?_
      refine za_aload_n (pc' := 80) 0 dX1_look_79 rfl rfl rfl ?_
      refine za_get (fi := 10) (v := .ref 1200) (pc' := 83) dX1_look_80 zc0 (by decide) in_X1 (by decide) q500 (Or.inl rfl) (congrArg Prod.fst (zX_t1000 hx)) (congrArg Value.ref (zX_r1000_10 hx)) rfl ?_
      refine za_getN (fi := 1) (v := .ref 1202) (pc' := 86) dX1_look_83 zc9 (by decide) in_X10 (by decide) q418 (Or.inl rfl) (congrArg Prod.fst (zX_t1200 hx)) (congrArg Value.ref (zX_r1200_1 hx)) rfl ?_
      refine za_iload_n (pc' := 87) 1 dX1_look_86 rfl rfl rfl ?_
      obtain ⟨hi8, h⟩ := h
      refine za_aald (r := (R 1202 (v1.toNatClampNeg))) (t := 5) (C := RX11) (pc' := 88) dX1_look_87 (by decide) (fun _ => rfl) (zX_t1202 hx) hi8 (rfl) rfl ?_
      obtain ⟨ht10, h⟩ := h
      refine za_callV (κ := (R 1202 (v1.toNatClampNeg))) (M2 := mX11_lost) (d2 := 1) (b2 := 0) (n := 0) (As := []) (st := []) (pc' := 91) zc10 (by decide) ht10 dX1_look_88 rfl (lw_V q1361 q1362 q1363 q144 q1364) ⟨rfl, hd_X11_lost⟩ rfl (by decide) (by decide) (Nat.zero_le _) (Or.inl rfl) (Nat.le_of_ble_eq_true rfl) h (zqI__k rfl (fun r9 h => ?_)) (fun _ _ _ _ _ _ h9 h8 => absurd h8.1 h9) rfl
      exact za_ireturn rfl dX1_look_91 h
    replace h := h.2 hs20
    by_cases hs21 : v2 = (3 : Int32)
    · replace h := h.1 hs21
      refine za_tableIn (off := 75) (tgt := 92) dX1_look_17 (by rw [hs21]; decide) (by rw [hs21]; decide) (by rw [hs21]; rfl) (by decide) ?_
      refine za_aload_n (pc' := 93) 0 dX1_look_92 rfl rfl rfl ?_
      refine za_get (fi := 8) (v := .ref (R 1000 8)) (pc' := 96) dX1_look_93 zc0 (by decide) in_X1 (by decide) q498 (Or.inl rfl) (congrArg Prod.fst (zX_t1000 hx)) rfl rfl ?_
      refine za_aload_n (pc' := 97) 0 dX1_look_96 rfl rfl rfl ?_
      refine za_get (fi := 10) (v := .ref 1200) (pc' := 100) dX1_look_97 zc0 (by decide) in_X1 (by decide) q500 (Or.inl rfl) (congrArg Prod.fst (zX_t1000 hx)) (congrArg Value.ref (zX_r1000_10 hx)) rfl ?_
      refine za_getN (fi := 1) (v := .ref 1202) (pc' := 103) dX1_look_100 zc9 (by decide) in_X10 (by decide) q418 (Or.inl rfl) (congrArg Prod.fst (zX_t1200 hx)) (congrArg Value.ref (zX_r1200_1 hx)) rfl ?_
      refine za_iload_n (pc' := 104) 1 dX1_look_103 rfl rfl rfl ?_
      obtain ⟨hi11, h⟩ := h
      refine za_aald (r := (R 1202 (v1.toNatClampNeg))) (t := 5) (C := RX11) (pc' := 105) dX1_look_104 (by decide) (fun _ => rfl) (zX_t1202 hx) hi11 (rfl) rfl ?_
      obtain ⟨ht13, h⟩ := h
      refine za_callV (κ := (R 1000 8)) (M2 := mX3_iron) (d2 := 1) (b2 := 0) (n := 1) (As := [.ref (R 1202 (v1.toNatClampNeg))]) (st := []) (pc' := 108) zc2 (by decide) ht13 dX1_look_105 rfl (lw_V q1357 q1358 q1359 q133 q1360) ⟨rfl, hd_X3_iron⟩ rfl (by decide) (by decide) (Nat.zero_le _) (Or.inl rfl) (Nat.le_of_ble_eq_true rfl) h (zqI__k rfl (fun r12 h => ?_)) (fun _ _ _ _ _ _ h9 h8 => absurd h8.1 h9) rfl
      exact za_ireturn rfl dX1_look_108 h
    replace h := h.2 hs21
    refine za_tableOut (tgt := 109) dX1_look_17 (ztabOut (lo := 0) (hi := 3) (by omega) (fun k9 h8 h7 => by have q0 := zsw_n (0) (by decide) hs18; have q1 := zsw_n (1) (by decide) hs19; have q2 := zsw_n (2) (by decide) hs20; have q3 := zsw_n (3) (by decide) hs21; omega)) (by decide) ?_
    obtain ⟨κ14, hk15, hf16, hb17, h⟩ := h
    refine za_make0 (κ := κ14) (pc2 := 116) (names := ["java/lang/RuntimeException", "java/lang/Exception"]) (C := "java/util/NoSuchElementException") dX1_look_109 dX1_look_112 dX1_look_113 (by decide +kernel) (by decide +kernel) q1491 q169 zm0_X1_look_109_tbl (by decide +kernel) zm0_X1_look_109_all zc20 (by decide) (by decide) (by decide) (Nat.le_of_ble_eq_true rfl) hk15 hf16 hb17 rfl ?_
    exact zAW_sub [] rfl h
  · replace h := h.1 c9
    obtain ⟨κ22, hk23, hf24, hb25, h⟩ := h
    refine za_make0 (κ := κ22) (pc2 := 15) (names := ["java/lang/RuntimeException", "java/lang/Exception"]) (C := "java/lang/IndexOutOfBoundsException") dX1_look_8 dX1_look_11 dX1_look_12 (by decide +kernel) (by decide +kernel) q1470 q167 zm0_X1_look_8_tbl (by decide +kernel) zm0_X1_look_8_all zc19 (by decide) (by decide) (by decide) (Nat.le_of_ble_eq_true rfl) hk23 hf24 hb25 rfl ?_
    exact za_athrow dX1_look_15 rfl (by decide) zc19 (by decide) (congrArg Prod.fst z1_s) rfl h
theorem gX1_look_116 {b : Nat} {s0 : Nat} {T : zT} {I : zI} {L : zL} {R : zR} {P : zP} (hx : zXok T R) (h : (T s0).1 = 21 ∧ P 4 (.ref s0) T I L R) : zAW mX1_look 12 b 116 [] [.ref s0] T I L R P := by
  obtain ⟨ht26, h⟩ := h
  exact za_athrow dX1_look_116 rfl (by decide) zc20 (by decide) ht26 rfl h
theorem sX1_look {d b : Nat} {v1 : Int32} {v2 : Int32} {T : zT} {I : zI} {L : zL} {R : zR} {P : zP} (h : zAW mX1_look d b 0 [(0, .ref 1000), (1, .int v1), (2, .int v2)] [] T I L R P) : zMet mX1_look d b [.ref 1000, .int v1, .int v2] T I L R P := zMet_of (by decide +kernel) rfl (Nat.le_of_ble_eq_true rfl) rfl h
