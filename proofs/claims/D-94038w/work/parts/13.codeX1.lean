set_option maxRecDepth 100000
def dkwX1_init_11 : List UInt8 := [183, 0, 108, 83, 132, 1, 1, 167, 255, 235, 177]
abbrev dktX1_init_11 : List UInt8 := dkwX1_init_11 ++ []
def dkwX1_init_10 : List UInt8 := [132, 1, 1, 167, 255, 235, 3, 60, 27, 7, 162, 0, 22, 42, 180, 0, 52, 27, 187, 0, 50, 89]
abbrev dktX1_init_10 : List UInt8 := dkwX1_init_10 ++ dktX1_init_11
def dkwX1_init_9 : List UInt8 := [167, 255, 234, 3, 60, 27, 7, 162, 0, 22, 42, 180, 0, 46, 27, 187, 0, 44, 89, 183, 0, 107, 83]
abbrev dktX1_init_9 : List UInt8 := dkwX1_init_9 ++ dktX1_init_10
def dkwX1_init_8 : List UInt8 := [60, 27, 16, 24, 162, 0, 22, 42, 180, 0, 21, 27, 187, 0, 19, 89, 183, 0, 106, 83, 132, 1, 1]
abbrev dktX1_init_8 : List UInt8 := dkwX1_init_8 ++ dktX1_init_9
def dkwX1_init_7 : List UInt8 := [16, 9, 188, 10, 181, 0, 96, 42, 16, 9, 188, 10, 181, 0, 99, 42, 7, 189, 0, 102, 181, 0, 103, 3]
abbrev dktX1_init_7 : List UInt8 := dkwX1_init_7 ++ dktX1_init_8
def dkwX1_init_6 : List UInt8 := [16, 20, 188, 10, 181, 0, 86, 42, 16, 20, 188, 10, 181, 0, 89, 42, 16, 20, 188, 4, 181, 0, 92, 42]
abbrev dktX1_init_6 : List UInt8 := dkwX1_init_6 ++ dktX1_init_7
def dkwX1_init_5 : List UInt8 := [181, 0, 77, 42, 16, 24, 16, 12, 197, 0, 25, 2, 181, 0, 80, 42, 16, 10, 188, 10, 181, 0, 83, 42]
abbrev dktX1_init_5 : List UInt8 := dkwX1_init_5 ++ dktX1_init_6
def dkwX1_init_4 : List UInt8 := [89, 183, 0, 65, 181, 0, 70, 42, 16, 24, 188, 10, 181, 0, 73, 42, 16, 24, 16, 12, 197, 0, 25, 2]
abbrev dktX1_init_4 : List UInt8 := dkwX1_init_4 ++ dktX1_init_5
def dkwX1_init_3 : List UInt8 := [8, 181, 0, 56, 42, 8, 181, 0, 60, 42, 187, 0, 63, 89, 183, 0, 65, 181, 0, 66, 42, 187, 0, 63]
abbrev dktX1_init_3 : List UInt8 := dkwX1_init_3 ++ dktX1_init_4
def dkwX1_init_2 : List UInt8 := [89, 183, 0, 39, 181, 0, 40, 42, 7, 189, 0, 44, 181, 0, 46, 42, 7, 189, 0, 50, 181, 0, 52, 42]
abbrev dktX1_init_2 : List UInt8 := dkwX1_init_2 ++ dktX1_init_3
def dkwX1_init_1 : List UInt8 := [42, 5, 16, 12, 197, 0, 25, 2, 181, 0, 30, 42, 17, 3, 232, 188, 8, 181, 0, 33, 42, 187, 0, 37]
abbrev dktX1_init_1 : List UInt8 := dkwX1_init_1 ++ dktX1_init_2
def dkwX1_init_0 : List UInt8 := [42, 183, 0, 13, 42, 16, 24, 189, 0, 19, 181, 0, 21, 42, 5, 16, 12, 197, 0, 25, 2, 181, 0, 27]
abbrev dktX1_init_0 : List UInt8 := dkwX1_init_0 ++ dktX1_init_1
theorem dksX1_init_0 : cX1_init.data.toList.drop 0 = dktX1_init_0 := by decide +kernel
theorem dksX1_init_1 : cX1_init.data.toList.drop 24 = dktX1_init_1 := dk_seg dksX1_init_0 24 rfl rfl
theorem dksX1_init_2 : cX1_init.data.toList.drop 48 = dktX1_init_2 := dk_seg dksX1_init_1 24 rfl rfl
theorem dksX1_init_3 : cX1_init.data.toList.drop 72 = dktX1_init_3 := dk_seg dksX1_init_2 24 rfl rfl
theorem dksX1_init_4 : cX1_init.data.toList.drop 96 = dktX1_init_4 := dk_seg dksX1_init_3 24 rfl rfl
theorem dksX1_init_5 : cX1_init.data.toList.drop 120 = dktX1_init_5 := dk_seg dksX1_init_4 24 rfl rfl
theorem dksX1_init_6 : cX1_init.data.toList.drop 144 = dktX1_init_6 := dk_seg dksX1_init_5 24 rfl rfl
theorem dksX1_init_7 : cX1_init.data.toList.drop 168 = dktX1_init_7 := dk_seg dksX1_init_6 24 rfl rfl
theorem dksX1_init_8 : cX1_init.data.toList.drop 192 = dktX1_init_8 := dk_seg dksX1_init_7 24 rfl rfl
theorem dksX1_init_9 : cX1_init.data.toList.drop 215 = dktX1_init_9 := dk_seg dksX1_init_8 23 rfl rfl
theorem dksX1_init_10 : cX1_init.data.toList.drop 238 = dktX1_init_10 := dk_seg dksX1_init_9 23 rfl rfl
theorem dksX1_init_11 : cX1_init.data.toList.drop 260 = dktX1_init_11 := dk_seg dksX1_init_10 22 rfl rfl
theorem dX1_init_0 : decode cX1_init 0 = .ok (.aload_n 0, 1) := dk_42 (dk_at dksX1_init_0 0 rfl rfl)
theorem dX1_init_1 : decode cX1_init 1 = .ok (.invokespecial 13, 3) := dk_183 0 13 (dk_at dksX1_init_0 1 rfl rfl)
theorem dX1_init_4 : decode cX1_init 4 = .ok (.aload_n 0, 1) := dk_42 (dk_at dksX1_init_0 4 rfl rfl)
theorem dX1_init_5 : decode cX1_init 5 = .ok (.bipush 24, 2) := dk_16 24 (dk_at dksX1_init_0 5 rfl rfl)
theorem dX1_init_7 : decode cX1_init 7 = .ok (.anewarray 19, 3) := dk_189 0 19 (dk_at dksX1_init_0 7 rfl rfl)
theorem dX1_init_10 : decode cX1_init 10 = .ok (.putfield 21, 3) := dk_181 0 21 (dk_at dksX1_init_0 10 rfl rfl)
theorem dX1_init_13 : decode cX1_init 13 = .ok (.aload_n 0, 1) := dk_42 (dk_at dksX1_init_0 13 rfl rfl)
theorem dX1_init_14 : decode cX1_init 14 = .ok (.iconst 2, 1) := dk_5 (dk_at dksX1_init_0 14 rfl rfl)
theorem dX1_init_15 : decode cX1_init 15 = .ok (.bipush 12, 2) := dk_16 12 (dk_at dksX1_init_0 15 rfl rfl)
theorem dX1_init_17 : decode cX1_init 17 = .ok (.multianewarray 25 2, 4) := by decide +kernel
theorem dX1_init_21 : decode cX1_init 21 = .ok (.putfield 27, 3) := dk_181 0 27 (dk_at dksX1_init_0 21 rfl rfl)
theorem dX1_init_24 : decode cX1_init 24 = .ok (.aload_n 0, 1) := dk_42 (dk_at dksX1_init_1 0 rfl rfl)
theorem dX1_init_25 : decode cX1_init 25 = .ok (.iconst 2, 1) := dk_5 (dk_at dksX1_init_1 1 rfl rfl)
theorem dX1_init_26 : decode cX1_init 26 = .ok (.bipush 12, 2) := dk_16 12 (dk_at dksX1_init_1 2 rfl rfl)
theorem dX1_init_28 : decode cX1_init 28 = .ok (.multianewarray 25 2, 4) := by decide +kernel
theorem dX1_init_32 : decode cX1_init 32 = .ok (.putfield 30, 3) := dk_181 0 30 (dk_at dksX1_init_1 8 rfl rfl)
theorem dX1_init_35 : decode cX1_init 35 = .ok (.aload_n 0, 1) := dk_42 (dk_at dksX1_init_1 11 rfl rfl)
theorem dX1_init_36 : decode cX1_init 36 = .ok (.sipush 1000, 3) := dk_17 3 232 (dk_at dksX1_init_1 12 rfl rfl)
theorem dX1_init_39 : decode cX1_init 39 = .ok (.newarray .byte, 2) := dk_188_8 (dk_at dksX1_init_1 15 rfl rfl)
theorem dX1_init_41 : decode cX1_init 41 = .ok (.putfield 33, 3) := dk_181 0 33 (dk_at dksX1_init_1 17 rfl rfl)
theorem dX1_init_44 : decode cX1_init 44 = .ok (.aload_n 0, 1) := dk_42 (dk_at dksX1_init_1 20 rfl rfl)
theorem dX1_init_45 : decode cX1_init 45 = .ok (.new 37, 3) := dk_187 0 37 (dk_at dksX1_init_1 21 rfl rfl)
theorem dX1_init_48 : decode cX1_init 48 = .ok (.dup, 1) := dk_89 (dk_at dksX1_init_2 0 rfl rfl)
theorem dX1_init_49 : decode cX1_init 49 = .ok (.invokespecial 39, 3) := dk_183 0 39 (dk_at dksX1_init_2 1 rfl rfl)
theorem dX1_init_52 : decode cX1_init 52 = .ok (.putfield 40, 3) := dk_181 0 40 (dk_at dksX1_init_2 4 rfl rfl)
theorem dX1_init_55 : decode cX1_init 55 = .ok (.aload_n 0, 1) := dk_42 (dk_at dksX1_init_2 7 rfl rfl)
theorem dX1_init_56 : decode cX1_init 56 = .ok (.iconst 4, 1) := dk_7 (dk_at dksX1_init_2 8 rfl rfl)
theorem dX1_init_57 : decode cX1_init 57 = .ok (.anewarray 44, 3) := dk_189 0 44 (dk_at dksX1_init_2 9 rfl rfl)
theorem dX1_init_60 : decode cX1_init 60 = .ok (.putfield 46, 3) := dk_181 0 46 (dk_at dksX1_init_2 12 rfl rfl)
theorem dX1_init_63 : decode cX1_init 63 = .ok (.aload_n 0, 1) := dk_42 (dk_at dksX1_init_2 15 rfl rfl)
theorem dX1_init_64 : decode cX1_init 64 = .ok (.iconst 4, 1) := dk_7 (dk_at dksX1_init_2 16 rfl rfl)
theorem dX1_init_65 : decode cX1_init 65 = .ok (.anewarray 50, 3) := dk_189 0 50 (dk_at dksX1_init_2 17 rfl rfl)
theorem dX1_init_68 : decode cX1_init 68 = .ok (.putfield 52, 3) := dk_181 0 52 (dk_at dksX1_init_2 20 rfl rfl)
theorem dX1_init_71 : decode cX1_init 71 = .ok (.aload_n 0, 1) := dk_42 (dk_at dksX1_init_2 23 rfl rfl)
theorem dX1_init_72 : decode cX1_init 72 = .ok (.iconst 5, 1) := dk_8 (dk_at dksX1_init_3 0 rfl rfl)
theorem dX1_init_73 : decode cX1_init 73 = .ok (.putfield 56, 3) := dk_181 0 56 (dk_at dksX1_init_3 1 rfl rfl)
theorem dX1_init_76 : decode cX1_init 76 = .ok (.aload_n 0, 1) := dk_42 (dk_at dksX1_init_3 4 rfl rfl)
theorem dX1_init_77 : decode cX1_init 77 = .ok (.iconst 5, 1) := dk_8 (dk_at dksX1_init_3 5 rfl rfl)
theorem dX1_init_78 : decode cX1_init 78 = .ok (.putfield 60, 3) := dk_181 0 60 (dk_at dksX1_init_3 6 rfl rfl)
theorem dX1_init_81 : decode cX1_init 81 = .ok (.aload_n 0, 1) := dk_42 (dk_at dksX1_init_3 9 rfl rfl)
theorem dX1_init_82 : decode cX1_init 82 = .ok (.new 63, 3) := dk_187 0 63 (dk_at dksX1_init_3 10 rfl rfl)
theorem dX1_init_85 : decode cX1_init 85 = .ok (.dup, 1) := dk_89 (dk_at dksX1_init_3 13 rfl rfl)
theorem dX1_init_86 : decode cX1_init 86 = .ok (.invokespecial 65, 3) := dk_183 0 65 (dk_at dksX1_init_3 14 rfl rfl)
theorem dX1_init_89 : decode cX1_init 89 = .ok (.putfield 66, 3) := dk_181 0 66 (dk_at dksX1_init_3 17 rfl rfl)
theorem dX1_init_92 : decode cX1_init 92 = .ok (.aload_n 0, 1) := dk_42 (dk_at dksX1_init_3 20 rfl rfl)
theorem dX1_init_93 : decode cX1_init 93 = .ok (.new 63, 3) := dk_187 0 63 (dk_at dksX1_init_3 21 rfl rfl)
theorem dX1_init_96 : decode cX1_init 96 = .ok (.dup, 1) := dk_89 (dk_at dksX1_init_4 0 rfl rfl)
theorem dX1_init_97 : decode cX1_init 97 = .ok (.invokespecial 65, 3) := dk_183 0 65 (dk_at dksX1_init_4 1 rfl rfl)
theorem dX1_init_100 : decode cX1_init 100 = .ok (.putfield 70, 3) := dk_181 0 70 (dk_at dksX1_init_4 4 rfl rfl)
theorem dX1_init_103 : decode cX1_init 103 = .ok (.aload_n 0, 1) := dk_42 (dk_at dksX1_init_4 7 rfl rfl)
theorem dX1_init_104 : decode cX1_init 104 = .ok (.bipush 24, 2) := dk_16 24 (dk_at dksX1_init_4 8 rfl rfl)
theorem dX1_init_106 : decode cX1_init 106 = .ok (.newarray .int, 2) := dk_188_10 (dk_at dksX1_init_4 10 rfl rfl)
theorem dX1_init_108 : decode cX1_init 108 = .ok (.putfield 73, 3) := dk_181 0 73 (dk_at dksX1_init_4 12 rfl rfl)
theorem dX1_init_111 : decode cX1_init 111 = .ok (.aload_n 0, 1) := dk_42 (dk_at dksX1_init_4 15 rfl rfl)
theorem dX1_init_112 : decode cX1_init 112 = .ok (.bipush 24, 2) := dk_16 24 (dk_at dksX1_init_4 16 rfl rfl)
theorem dX1_init_114 : decode cX1_init 114 = .ok (.bipush 12, 2) := dk_16 12 (dk_at dksX1_init_4 18 rfl rfl)
theorem dX1_init_116 : decode cX1_init 116 = .ok (.multianewarray 25 2, 4) := by decide +kernel
theorem dX1_init_120 : decode cX1_init 120 = .ok (.putfield 77, 3) := dk_181 0 77 (dk_at dksX1_init_5 0 rfl rfl)
theorem dX1_init_123 : decode cX1_init 123 = .ok (.aload_n 0, 1) := dk_42 (dk_at dksX1_init_5 3 rfl rfl)
theorem dX1_init_124 : decode cX1_init 124 = .ok (.bipush 24, 2) := dk_16 24 (dk_at dksX1_init_5 4 rfl rfl)
theorem dX1_init_126 : decode cX1_init 126 = .ok (.bipush 12, 2) := dk_16 12 (dk_at dksX1_init_5 6 rfl rfl)
theorem dX1_init_128 : decode cX1_init 128 = .ok (.multianewarray 25 2, 4) := by decide +kernel
theorem dX1_init_132 : decode cX1_init 132 = .ok (.putfield 80, 3) := dk_181 0 80 (dk_at dksX1_init_5 12 rfl rfl)
theorem dX1_init_135 : decode cX1_init 135 = .ok (.aload_n 0, 1) := dk_42 (dk_at dksX1_init_5 15 rfl rfl)
theorem dX1_init_136 : decode cX1_init 136 = .ok (.bipush 10, 2) := dk_16 10 (dk_at dksX1_init_5 16 rfl rfl)
theorem dX1_init_138 : decode cX1_init 138 = .ok (.newarray .int, 2) := dk_188_10 (dk_at dksX1_init_5 18 rfl rfl)
theorem dX1_init_140 : decode cX1_init 140 = .ok (.putfield 83, 3) := dk_181 0 83 (dk_at dksX1_init_5 20 rfl rfl)
theorem dX1_init_143 : decode cX1_init 143 = .ok (.aload_n 0, 1) := dk_42 (dk_at dksX1_init_5 23 rfl rfl)
theorem dX1_init_144 : decode cX1_init 144 = .ok (.bipush 20, 2) := dk_16 20 (dk_at dksX1_init_6 0 rfl rfl)
theorem dX1_init_146 : decode cX1_init 146 = .ok (.newarray .int, 2) := dk_188_10 (dk_at dksX1_init_6 2 rfl rfl)
theorem dX1_init_148 : decode cX1_init 148 = .ok (.putfield 86, 3) := dk_181 0 86 (dk_at dksX1_init_6 4 rfl rfl)
theorem dX1_init_151 : decode cX1_init 151 = .ok (.aload_n 0, 1) := dk_42 (dk_at dksX1_init_6 7 rfl rfl)
theorem dX1_init_152 : decode cX1_init 152 = .ok (.bipush 20, 2) := dk_16 20 (dk_at dksX1_init_6 8 rfl rfl)
theorem dX1_init_154 : decode cX1_init 154 = .ok (.newarray .int, 2) := dk_188_10 (dk_at dksX1_init_6 10 rfl rfl)
theorem dX1_init_156 : decode cX1_init 156 = .ok (.putfield 89, 3) := dk_181 0 89 (dk_at dksX1_init_6 12 rfl rfl)
theorem dX1_init_159 : decode cX1_init 159 = .ok (.aload_n 0, 1) := dk_42 (dk_at dksX1_init_6 15 rfl rfl)
theorem dX1_init_160 : decode cX1_init 160 = .ok (.bipush 20, 2) := dk_16 20 (dk_at dksX1_init_6 16 rfl rfl)
theorem dX1_init_162 : decode cX1_init 162 = .ok (.newarray .boolean, 2) := dk_188_4 (dk_at dksX1_init_6 18 rfl rfl)
theorem dX1_init_164 : decode cX1_init 164 = .ok (.putfield 92, 3) := dk_181 0 92 (dk_at dksX1_init_6 20 rfl rfl)
theorem dX1_init_167 : decode cX1_init 167 = .ok (.aload_n 0, 1) := dk_42 (dk_at dksX1_init_6 23 rfl rfl)
theorem dX1_init_168 : decode cX1_init 168 = .ok (.bipush 9, 2) := dk_16 9 (dk_at dksX1_init_7 0 rfl rfl)
theorem dX1_init_170 : decode cX1_init 170 = .ok (.newarray .int, 2) := dk_188_10 (dk_at dksX1_init_7 2 rfl rfl)
theorem dX1_init_172 : decode cX1_init 172 = .ok (.putfield 96, 3) := dk_181 0 96 (dk_at dksX1_init_7 4 rfl rfl)
theorem dX1_init_175 : decode cX1_init 175 = .ok (.aload_n 0, 1) := dk_42 (dk_at dksX1_init_7 7 rfl rfl)
theorem dX1_init_176 : decode cX1_init 176 = .ok (.bipush 9, 2) := dk_16 9 (dk_at dksX1_init_7 8 rfl rfl)
theorem dX1_init_178 : decode cX1_init 178 = .ok (.newarray .int, 2) := dk_188_10 (dk_at dksX1_init_7 10 rfl rfl)
theorem dX1_init_180 : decode cX1_init 180 = .ok (.putfield 99, 3) := dk_181 0 99 (dk_at dksX1_init_7 12 rfl rfl)
theorem dX1_init_183 : decode cX1_init 183 = .ok (.aload_n 0, 1) := dk_42 (dk_at dksX1_init_7 15 rfl rfl)
theorem dX1_init_184 : decode cX1_init 184 = .ok (.iconst 4, 1) := dk_7 (dk_at dksX1_init_7 16 rfl rfl)
theorem dX1_init_185 : decode cX1_init 185 = .ok (.anewarray 102, 3) := dk_189 0 102 (dk_at dksX1_init_7 17 rfl rfl)
theorem dX1_init_188 : decode cX1_init 188 = .ok (.putfield 103, 3) := dk_181 0 103 (dk_at dksX1_init_7 20 rfl rfl)
theorem dX1_init_191 : decode cX1_init 191 = .ok (.iconst 0, 1) := dk_3 (dk_at dksX1_init_7 23 rfl rfl)
theorem dX1_init_192 : decode cX1_init 192 = .ok (.istore_n 1, 1) := dk_60 (dk_at dksX1_init_8 0 rfl rfl)
theorem dX1_init_193 : decode cX1_init 193 = .ok (.iload_n 1, 1) := dk_27 (dk_at dksX1_init_8 1 rfl rfl)
theorem dX1_init_194 : decode cX1_init 194 = .ok (.bipush 24, 2) := dk_16 24 (dk_at dksX1_init_8 2 rfl rfl)
theorem dX1_init_196 : decode cX1_init 196 = .ok (.if_icmp .ge 22, 3) := dk_162 0 22 (dk_at dksX1_init_8 4 rfl rfl)
theorem dX1_init_199 : decode cX1_init 199 = .ok (.aload_n 0, 1) := dk_42 (dk_at dksX1_init_8 7 rfl rfl)
theorem dX1_init_200 : decode cX1_init 200 = .ok (.getfield 21, 3) := dk_180 0 21 (dk_at dksX1_init_8 8 rfl rfl)
theorem dX1_init_203 : decode cX1_init 203 = .ok (.iload_n 1, 1) := dk_27 (dk_at dksX1_init_8 11 rfl rfl)
theorem dX1_init_204 : decode cX1_init 204 = .ok (.new 19, 3) := dk_187 0 19 (dk_at dksX1_init_8 12 rfl rfl)
theorem dX1_init_207 : decode cX1_init 207 = .ok (.dup, 1) := dk_89 (dk_at dksX1_init_8 15 rfl rfl)
theorem dX1_init_208 : decode cX1_init 208 = .ok (.invokespecial 106, 3) := dk_183 0 106 (dk_at dksX1_init_8 16 rfl rfl)
theorem dX1_init_211 : decode cX1_init 211 = .ok (.aastore, 1) := dk_83 (dk_at dksX1_init_8 19 rfl rfl)
theorem dX1_init_212 : decode cX1_init 212 = .ok (.iinc 1 1, 3) := dk_132 1 1 (dk_at dksX1_init_8 20 rfl rfl)
theorem dX1_init_215 : decode cX1_init 215 = .ok (.goto (-22), 3) := dk_167 255 234 (dk_at dksX1_init_9 0 rfl rfl)
theorem dX1_init_218 : decode cX1_init 218 = .ok (.iconst 0, 1) := dk_3 (dk_at dksX1_init_9 3 rfl rfl)
theorem dX1_init_219 : decode cX1_init 219 = .ok (.istore_n 1, 1) := dk_60 (dk_at dksX1_init_9 4 rfl rfl)
theorem dX1_init_220 : decode cX1_init 220 = .ok (.iload_n 1, 1) := dk_27 (dk_at dksX1_init_9 5 rfl rfl)
theorem dX1_init_221 : decode cX1_init 221 = .ok (.iconst 4, 1) := dk_7 (dk_at dksX1_init_9 6 rfl rfl)
theorem dX1_init_222 : decode cX1_init 222 = .ok (.if_icmp .ge 22, 3) := dk_162 0 22 (dk_at dksX1_init_9 7 rfl rfl)
theorem dX1_init_225 : decode cX1_init 225 = .ok (.aload_n 0, 1) := dk_42 (dk_at dksX1_init_9 10 rfl rfl)
theorem dX1_init_226 : decode cX1_init 226 = .ok (.getfield 46, 3) := dk_180 0 46 (dk_at dksX1_init_9 11 rfl rfl)
theorem dX1_init_229 : decode cX1_init 229 = .ok (.iload_n 1, 1) := dk_27 (dk_at dksX1_init_9 14 rfl rfl)
theorem dX1_init_230 : decode cX1_init 230 = .ok (.new 44, 3) := dk_187 0 44 (dk_at dksX1_init_9 15 rfl rfl)
theorem dX1_init_233 : decode cX1_init 233 = .ok (.dup, 1) := dk_89 (dk_at dksX1_init_9 18 rfl rfl)
theorem dX1_init_234 : decode cX1_init 234 = .ok (.invokespecial 107, 3) := dk_183 0 107 (dk_at dksX1_init_9 19 rfl rfl)
theorem dX1_init_237 : decode cX1_init 237 = .ok (.aastore, 1) := dk_83 (dk_at dksX1_init_9 22 rfl rfl)
theorem dX1_init_238 : decode cX1_init 238 = .ok (.iinc 1 1, 3) := dk_132 1 1 (dk_at dksX1_init_10 0 rfl rfl)
theorem dX1_init_241 : decode cX1_init 241 = .ok (.goto (-21), 3) := dk_167 255 235 (dk_at dksX1_init_10 3 rfl rfl)
theorem dX1_init_244 : decode cX1_init 244 = .ok (.iconst 0, 1) := dk_3 (dk_at dksX1_init_10 6 rfl rfl)
theorem dX1_init_245 : decode cX1_init 245 = .ok (.istore_n 1, 1) := dk_60 (dk_at dksX1_init_10 7 rfl rfl)
theorem dX1_init_246 : decode cX1_init 246 = .ok (.iload_n 1, 1) := dk_27 (dk_at dksX1_init_10 8 rfl rfl)
theorem dX1_init_247 : decode cX1_init 247 = .ok (.iconst 4, 1) := dk_7 (dk_at dksX1_init_10 9 rfl rfl)
theorem dX1_init_248 : decode cX1_init 248 = .ok (.if_icmp .ge 22, 3) := dk_162 0 22 (dk_at dksX1_init_10 10 rfl rfl)
theorem dX1_init_251 : decode cX1_init 251 = .ok (.aload_n 0, 1) := dk_42 (dk_at dksX1_init_10 13 rfl rfl)
theorem dX1_init_252 : decode cX1_init 252 = .ok (.getfield 52, 3) := dk_180 0 52 (dk_at dksX1_init_10 14 rfl rfl)
theorem dX1_init_255 : decode cX1_init 255 = .ok (.iload_n 1, 1) := dk_27 (dk_at dksX1_init_10 17 rfl rfl)
theorem dX1_init_256 : decode cX1_init 256 = .ok (.new 50, 3) := dk_187 0 50 (dk_at dksX1_init_10 18 rfl rfl)
theorem dX1_init_259 : decode cX1_init 259 = .ok (.dup, 1) := dk_89 (dk_at dksX1_init_10 21 rfl rfl)
theorem dX1_init_260 : decode cX1_init 260 = .ok (.invokespecial 108, 3) := dk_183 0 108 (dk_at dksX1_init_11 0 rfl rfl)
theorem dX1_init_263 : decode cX1_init 263 = .ok (.aastore, 1) := dk_83 (dk_at dksX1_init_11 3 rfl rfl)
theorem dX1_init_264 : decode cX1_init 264 = .ok (.iinc 1 1, 3) := dk_132 1 1 (dk_at dksX1_init_11 4 rfl rfl)
theorem dX1_init_267 : decode cX1_init 267 = .ok (.goto (-21), 3) := dk_167 255 235 (dk_at dksX1_init_11 7 rfl rfl)
theorem dX1_init_270 : decode cX1_init 270 = .ok (.return_, 1) := dk_177 (dk_at dksX1_init_11 10 rfl rfl)
def dkwX1_kitchen_3 : List UInt8 := [21, 4, 181, 0, 130, 25, 6, 21, 5, 181, 0, 133, 4, 172]
abbrev dktX1_kitchen_3 : List UInt8 := dkwX1_kitchen_3 ++ []
def dkwX1_kitchen_2 : List UInt8 := [50, 58, 6, 25, 6, 4, 181, 0, 116, 25, 6, 28, 181, 0, 124, 25, 6, 29, 181, 0, 127, 25, 6]
abbrev dktX1_kitchen_2 : List UInt8 := dkwX1_kitchen_2 ++ dktX1_kitchen_3
def dkwX1_kitchen_1 : List UInt8 := [184, 0, 112, 153, 0, 14, 21, 4, 3, 16, 99, 184, 0, 112, 154, 0, 5, 3, 172, 42, 180, 0, 21, 27]
abbrev dktX1_kitchen_1 : List UInt8 := dkwX1_kitchen_1 ++ dktX1_kitchen_2
def dkwX1_kitchen_0 : List UInt8 := [27, 3, 16, 23, 184, 0, 112, 153, 0, 34, 28, 3, 4, 184, 0, 112, 153, 0, 25, 29, 3, 17, 3, 231]
abbrev dktX1_kitchen_0 : List UInt8 := dkwX1_kitchen_0 ++ dktX1_kitchen_1
theorem dksX1_kitchen_0 : cX1_kitchen.data.toList.drop 0 = dktX1_kitchen_0 := by decide +kernel
theorem dksX1_kitchen_1 : cX1_kitchen.data.toList.drop 24 = dktX1_kitchen_1 := dk_seg dksX1_kitchen_0 24 rfl rfl
theorem dksX1_kitchen_2 : cX1_kitchen.data.toList.drop 48 = dktX1_kitchen_2 := dk_seg dksX1_kitchen_1 24 rfl rfl
theorem dksX1_kitchen_3 : cX1_kitchen.data.toList.drop 71 = dktX1_kitchen_3 := dk_seg dksX1_kitchen_2 23 rfl rfl
theorem dX1_kitchen_0 : decode cX1_kitchen 0 = .ok (.iload_n 1, 1) := dk_27 (dk_at dksX1_kitchen_0 0 rfl rfl)
theorem dX1_kitchen_1 : decode cX1_kitchen 1 = .ok (.iconst 0, 1) := dk_3 (dk_at dksX1_kitchen_0 1 rfl rfl)
theorem dX1_kitchen_2 : decode cX1_kitchen 2 = .ok (.bipush 23, 2) := dk_16 23 (dk_at dksX1_kitchen_0 2 rfl rfl)
theorem dX1_kitchen_4 : decode cX1_kitchen 4 = .ok (.invokestatic 112, 3) := dk_184 0 112 (dk_at dksX1_kitchen_0 4 rfl rfl)
theorem dX1_kitchen_7 : decode cX1_kitchen 7 = .ok (.ifCond .eq 34, 3) := dk_153 0 34 (dk_at dksX1_kitchen_0 7 rfl rfl)
theorem dX1_kitchen_10 : decode cX1_kitchen 10 = .ok (.iload_n 2, 1) := dk_28 (dk_at dksX1_kitchen_0 10 rfl rfl)
theorem dX1_kitchen_11 : decode cX1_kitchen 11 = .ok (.iconst 0, 1) := dk_3 (dk_at dksX1_kitchen_0 11 rfl rfl)
theorem dX1_kitchen_12 : decode cX1_kitchen 12 = .ok (.iconst 1, 1) := dk_4 (dk_at dksX1_kitchen_0 12 rfl rfl)
theorem dX1_kitchen_13 : decode cX1_kitchen 13 = .ok (.invokestatic 112, 3) := dk_184 0 112 (dk_at dksX1_kitchen_0 13 rfl rfl)
theorem dX1_kitchen_16 : decode cX1_kitchen 16 = .ok (.ifCond .eq 25, 3) := dk_153 0 25 (dk_at dksX1_kitchen_0 16 rfl rfl)
theorem dX1_kitchen_19 : decode cX1_kitchen 19 = .ok (.iload_n 3, 1) := dk_29 (dk_at dksX1_kitchen_0 19 rfl rfl)
theorem dX1_kitchen_20 : decode cX1_kitchen 20 = .ok (.iconst 0, 1) := dk_3 (dk_at dksX1_kitchen_0 20 rfl rfl)
theorem dX1_kitchen_21 : decode cX1_kitchen 21 = .ok (.sipush 999, 3) := dk_17 3 231 (dk_at dksX1_kitchen_0 21 rfl rfl)
theorem dX1_kitchen_24 : decode cX1_kitchen 24 = .ok (.invokestatic 112, 3) := dk_184 0 112 (dk_at dksX1_kitchen_1 0 rfl rfl)
theorem dX1_kitchen_27 : decode cX1_kitchen 27 = .ok (.ifCond .eq 14, 3) := dk_153 0 14 (dk_at dksX1_kitchen_1 3 rfl rfl)
theorem dX1_kitchen_30 : decode cX1_kitchen 30 = .ok (.iload 4, 2) := dk_21 4 (dk_at dksX1_kitchen_1 6 rfl rfl)
theorem dX1_kitchen_32 : decode cX1_kitchen 32 = .ok (.iconst 0, 1) := dk_3 (dk_at dksX1_kitchen_1 8 rfl rfl)
theorem dX1_kitchen_33 : decode cX1_kitchen 33 = .ok (.bipush 99, 2) := dk_16 99 (dk_at dksX1_kitchen_1 9 rfl rfl)
theorem dX1_kitchen_35 : decode cX1_kitchen 35 = .ok (.invokestatic 112, 3) := dk_184 0 112 (dk_at dksX1_kitchen_1 11 rfl rfl)
theorem dX1_kitchen_38 : decode cX1_kitchen 38 = .ok (.ifCond .ne 5, 3) := dk_154 0 5 (dk_at dksX1_kitchen_1 14 rfl rfl)
theorem dX1_kitchen_41 : decode cX1_kitchen 41 = .ok (.iconst 0, 1) := dk_3 (dk_at dksX1_kitchen_1 17 rfl rfl)
theorem dX1_kitchen_42 : decode cX1_kitchen 42 = .ok (.ireturn, 1) := dk_172 (dk_at dksX1_kitchen_1 18 rfl rfl)
theorem dX1_kitchen_43 : decode cX1_kitchen 43 = .ok (.aload_n 0, 1) := dk_42 (dk_at dksX1_kitchen_1 19 rfl rfl)
theorem dX1_kitchen_44 : decode cX1_kitchen 44 = .ok (.getfield 21, 3) := dk_180 0 21 (dk_at dksX1_kitchen_1 20 rfl rfl)
theorem dX1_kitchen_47 : decode cX1_kitchen 47 = .ok (.iload_n 1, 1) := dk_27 (dk_at dksX1_kitchen_1 23 rfl rfl)
theorem dX1_kitchen_48 : decode cX1_kitchen 48 = .ok (.aaload, 1) := dk_50 (dk_at dksX1_kitchen_2 0 rfl rfl)
theorem dX1_kitchen_49 : decode cX1_kitchen 49 = .ok (.astore 6, 2) := dk_58 6 (dk_at dksX1_kitchen_2 1 rfl rfl)
theorem dX1_kitchen_51 : decode cX1_kitchen 51 = .ok (.aload 6, 2) := dk_25 6 (dk_at dksX1_kitchen_2 3 rfl rfl)
theorem dX1_kitchen_53 : decode cX1_kitchen 53 = .ok (.iconst 1, 1) := dk_4 (dk_at dksX1_kitchen_2 5 rfl rfl)
theorem dX1_kitchen_54 : decode cX1_kitchen 54 = .ok (.putfield 116, 3) := dk_181 0 116 (dk_at dksX1_kitchen_2 6 rfl rfl)
theorem dX1_kitchen_57 : decode cX1_kitchen 57 = .ok (.aload 6, 2) := dk_25 6 (dk_at dksX1_kitchen_2 9 rfl rfl)
theorem dX1_kitchen_59 : decode cX1_kitchen 59 = .ok (.iload_n 2, 1) := dk_28 (dk_at dksX1_kitchen_2 11 rfl rfl)
theorem dX1_kitchen_60 : decode cX1_kitchen 60 = .ok (.putfield 124, 3) := dk_181 0 124 (dk_at dksX1_kitchen_2 12 rfl rfl)
theorem dX1_kitchen_63 : decode cX1_kitchen 63 = .ok (.aload 6, 2) := dk_25 6 (dk_at dksX1_kitchen_2 15 rfl rfl)
theorem dX1_kitchen_65 : decode cX1_kitchen 65 = .ok (.iload_n 3, 1) := dk_29 (dk_at dksX1_kitchen_2 17 rfl rfl)
theorem dX1_kitchen_66 : decode cX1_kitchen 66 = .ok (.putfield 127, 3) := dk_181 0 127 (dk_at dksX1_kitchen_2 18 rfl rfl)
theorem dX1_kitchen_69 : decode cX1_kitchen 69 = .ok (.aload 6, 2) := dk_25 6 (dk_at dksX1_kitchen_2 21 rfl rfl)
theorem dX1_kitchen_71 : decode cX1_kitchen 71 = .ok (.iload 4, 2) := dk_21 4 (dk_at dksX1_kitchen_3 0 rfl rfl)
theorem dX1_kitchen_73 : decode cX1_kitchen 73 = .ok (.putfield 130, 3) := dk_181 0 130 (dk_at dksX1_kitchen_3 2 rfl rfl)
theorem dX1_kitchen_76 : decode cX1_kitchen 76 = .ok (.aload 6, 2) := dk_25 6 (dk_at dksX1_kitchen_3 5 rfl rfl)
theorem dX1_kitchen_78 : decode cX1_kitchen 78 = .ok (.iload 5, 2) := dk_21 5 (dk_at dksX1_kitchen_3 7 rfl rfl)
theorem dX1_kitchen_80 : decode cX1_kitchen 80 = .ok (.putfield 133, 3) := dk_181 0 133 (dk_at dksX1_kitchen_3 9 rfl rfl)
theorem dX1_kitchen_83 : decode cX1_kitchen 83 = .ok (.iconst 1, 1) := dk_4 (dk_at dksX1_kitchen_3 12 rfl rfl)
theorem dX1_kitchen_84 : decode cX1_kitchen 84 = .ok (.ireturn, 1) := dk_172 (dk_at dksX1_kitchen_3 13 rfl rfl)
def dkwX1_in_0 : List UInt8 := [26, 27, 161, 0, 12, 26, 28, 163, 0, 7, 4, 167, 0, 4, 3, 172]
abbrev dktX1_in_0 : List UInt8 := dkwX1_in_0 ++ []
theorem dksX1_in_0 : cX1_in.data.toList.drop 0 = dktX1_in_0 := by decide +kernel
theorem dX1_in_0 : decode cX1_in 0 = .ok (.iload_n 0, 1) := dk_26 (dk_at dksX1_in_0 0 rfl rfl)
theorem dX1_in_1 : decode cX1_in 1 = .ok (.iload_n 1, 1) := dk_27 (dk_at dksX1_in_0 1 rfl rfl)
theorem dX1_in_2 : decode cX1_in 2 = .ok (.if_icmp .lt 12, 3) := dk_161 0 12 (dk_at dksX1_in_0 2 rfl rfl)
theorem dX1_in_5 : decode cX1_in 5 = .ok (.iload_n 0, 1) := dk_26 (dk_at dksX1_in_0 5 rfl rfl)
theorem dX1_in_6 : decode cX1_in 6 = .ok (.iload_n 2, 1) := dk_28 (dk_at dksX1_in_0 6 rfl rfl)
theorem dX1_in_7 : decode cX1_in 7 = .ok (.if_icmp .gt 7, 3) := dk_163 0 7 (dk_at dksX1_in_0 7 rfl rfl)
theorem dX1_in_10 : decode cX1_in 10 = .ok (.iconst 1, 1) := dk_4 (dk_at dksX1_in_0 10 rfl rfl)
theorem dX1_in_11 : decode cX1_in 11 = .ok (.goto 4, 3) := dk_167 0 4 (dk_at dksX1_in_0 11 rfl rfl)
theorem dX1_in_14 : decode cX1_in 14 = .ok (.iconst 0, 1) := dk_3 (dk_at dksX1_in_0 14 rfl rfl)
theorem dX1_in_15 : decode cX1_in 15 = .ok (.ireturn, 1) := dk_172 (dk_at dksX1_in_0 15 rfl rfl)
def dkwX1_call_4 : List UInt8 := [21, 4, 184, 0, 145, 79, 4, 172]
abbrev dktX1_call_4 : List UInt8 := dkwX1_call_4 ++ []
def dkwX1_call_3 : List UInt8 := [16, 254, 167, 0, 14, 21, 4, 2, 160, 0, 7, 2, 167, 0, 4, 29, 79, 25, 5, 180, 0, 142, 28, 3]
abbrev dktX1_call_3 : List UInt8 := dkwX1_call_3 ++ dktX1_call_4
def dkwX1_call_2 : List UInt8 := [159, 0, 5, 3, 172, 42, 180, 0, 21, 27, 50, 58, 5, 25, 5, 180, 0, 139, 28, 29, 2, 160, 0, 8]
abbrev dktX1_call_2 : List UInt8 := dkwX1_call_2 ++ dktX1_call_3
def dkwX1_call_1 : List UInt8 := [153, 0, 25, 21, 4, 2, 16, 99, 184, 0, 112, 153, 0, 14, 29, 2, 160, 0, 11, 21, 4, 2]
abbrev dktX1_call_1 : List UInt8 := dkwX1_call_1 ++ dktX1_call_2
def dkwX1_call_0 : List UInt8 := [42, 27, 182, 0, 136, 153, 0, 42, 28, 184, 0, 120, 153, 0, 35, 29, 2, 16, 99, 184, 0, 112]
abbrev dktX1_call_0 : List UInt8 := dkwX1_call_0 ++ dktX1_call_1
theorem dksX1_call_0 : cX1_call.data.toList.drop 0 = dktX1_call_0 := by decide +kernel
theorem dksX1_call_1 : cX1_call.data.toList.drop 22 = dktX1_call_1 := dk_seg dksX1_call_0 22 rfl rfl
theorem dksX1_call_2 : cX1_call.data.toList.drop 44 = dktX1_call_2 := dk_seg dksX1_call_1 22 rfl rfl
theorem dksX1_call_3 : cX1_call.data.toList.drop 68 = dktX1_call_3 := dk_seg dksX1_call_2 24 rfl rfl
theorem dksX1_call_4 : cX1_call.data.toList.drop 92 = dktX1_call_4 := dk_seg dksX1_call_3 24 rfl rfl
theorem dX1_call_0 : decode cX1_call 0 = .ok (.aload_n 0, 1) := dk_42 (dk_at dksX1_call_0 0 rfl rfl)
theorem dX1_call_1 : decode cX1_call 1 = .ok (.iload_n 1, 1) := dk_27 (dk_at dksX1_call_0 1 rfl rfl)
theorem dX1_call_2 : decode cX1_call 2 = .ok (.invokevirtual 136, 3) := dk_182 0 136 (dk_at dksX1_call_0 2 rfl rfl)
theorem dX1_call_5 : decode cX1_call 5 = .ok (.ifCond .eq 42, 3) := dk_153 0 42 (dk_at dksX1_call_0 5 rfl rfl)
theorem dX1_call_8 : decode cX1_call 8 = .ok (.iload_n 2, 1) := dk_28 (dk_at dksX1_call_0 8 rfl rfl)
theorem dX1_call_9 : decode cX1_call 9 = .ok (.invokestatic 120, 3) := dk_184 0 120 (dk_at dksX1_call_0 9 rfl rfl)
theorem dX1_call_12 : decode cX1_call 12 = .ok (.ifCond .eq 35, 3) := dk_153 0 35 (dk_at dksX1_call_0 12 rfl rfl)
theorem dX1_call_15 : decode cX1_call 15 = .ok (.iload_n 3, 1) := dk_29 (dk_at dksX1_call_0 15 rfl rfl)
theorem dX1_call_16 : decode cX1_call 16 = .ok (.iconst (-1), 1) := dk_2 (dk_at dksX1_call_0 16 rfl rfl)
theorem dX1_call_17 : decode cX1_call 17 = .ok (.bipush 99, 2) := dk_16 99 (dk_at dksX1_call_0 17 rfl rfl)
theorem dX1_call_19 : decode cX1_call 19 = .ok (.invokestatic 112, 3) := dk_184 0 112 (dk_at dksX1_call_0 19 rfl rfl)
theorem dX1_call_22 : decode cX1_call 22 = .ok (.ifCond .eq 25, 3) := dk_153 0 25 (dk_at dksX1_call_1 0 rfl rfl)
theorem dX1_call_25 : decode cX1_call 25 = .ok (.iload 4, 2) := dk_21 4 (dk_at dksX1_call_1 3 rfl rfl)
theorem dX1_call_27 : decode cX1_call 27 = .ok (.iconst (-1), 1) := dk_2 (dk_at dksX1_call_1 5 rfl rfl)
theorem dX1_call_28 : decode cX1_call 28 = .ok (.bipush 99, 2) := dk_16 99 (dk_at dksX1_call_1 6 rfl rfl)
theorem dX1_call_30 : decode cX1_call 30 = .ok (.invokestatic 112, 3) := dk_184 0 112 (dk_at dksX1_call_1 8 rfl rfl)
theorem dX1_call_33 : decode cX1_call 33 = .ok (.ifCond .eq 14, 3) := dk_153 0 14 (dk_at dksX1_call_1 11 rfl rfl)
theorem dX1_call_36 : decode cX1_call 36 = .ok (.iload_n 3, 1) := dk_29 (dk_at dksX1_call_1 14 rfl rfl)
theorem dX1_call_37 : decode cX1_call 37 = .ok (.iconst (-1), 1) := dk_2 (dk_at dksX1_call_1 15 rfl rfl)
theorem dX1_call_38 : decode cX1_call 38 = .ok (.if_icmp .ne 11, 3) := dk_160 0 11 (dk_at dksX1_call_1 16 rfl rfl)
theorem dX1_call_41 : decode cX1_call 41 = .ok (.iload 4, 2) := dk_21 4 (dk_at dksX1_call_1 19 rfl rfl)
theorem dX1_call_43 : decode cX1_call 43 = .ok (.iconst (-1), 1) := dk_2 (dk_at dksX1_call_1 21 rfl rfl)
theorem dX1_call_44 : decode cX1_call 44 = .ok (.if_icmp .eq 5, 3) := dk_159 0 5 (dk_at dksX1_call_2 0 rfl rfl)
theorem dX1_call_47 : decode cX1_call 47 = .ok (.iconst 0, 1) := dk_3 (dk_at dksX1_call_2 3 rfl rfl)
theorem dX1_call_48 : decode cX1_call 48 = .ok (.ireturn, 1) := dk_172 (dk_at dksX1_call_2 4 rfl rfl)
theorem dX1_call_49 : decode cX1_call 49 = .ok (.aload_n 0, 1) := dk_42 (dk_at dksX1_call_2 5 rfl rfl)
theorem dX1_call_50 : decode cX1_call 50 = .ok (.getfield 21, 3) := dk_180 0 21 (dk_at dksX1_call_2 6 rfl rfl)
theorem dX1_call_53 : decode cX1_call 53 = .ok (.iload_n 1, 1) := dk_27 (dk_at dksX1_call_2 9 rfl rfl)
theorem dX1_call_54 : decode cX1_call 54 = .ok (.aaload, 1) := dk_50 (dk_at dksX1_call_2 10 rfl rfl)
theorem dX1_call_55 : decode cX1_call 55 = .ok (.astore 5, 2) := dk_58 5 (dk_at dksX1_call_2 11 rfl rfl)
theorem dX1_call_57 : decode cX1_call 57 = .ok (.aload 5, 2) := dk_25 5 (dk_at dksX1_call_2 13 rfl rfl)
theorem dX1_call_59 : decode cX1_call 59 = .ok (.getfield 139, 3) := dk_180 0 139 (dk_at dksX1_call_2 15 rfl rfl)
theorem dX1_call_62 : decode cX1_call 62 = .ok (.iload_n 2, 1) := dk_28 (dk_at dksX1_call_2 18 rfl rfl)
theorem dX1_call_63 : decode cX1_call 63 = .ok (.iload_n 3, 1) := dk_29 (dk_at dksX1_call_2 19 rfl rfl)
theorem dX1_call_64 : decode cX1_call 64 = .ok (.iconst (-1), 1) := dk_2 (dk_at dksX1_call_2 20 rfl rfl)
theorem dX1_call_65 : decode cX1_call 65 = .ok (.if_icmp .ne 8, 3) := dk_160 0 8 (dk_at dksX1_call_2 21 rfl rfl)
theorem dX1_call_68 : decode cX1_call 68 = .ok (.bipush (-2), 2) := dk_16 254 (dk_at dksX1_call_3 0 rfl rfl)
theorem dX1_call_70 : decode cX1_call 70 = .ok (.goto 14, 3) := dk_167 0 14 (dk_at dksX1_call_3 2 rfl rfl)
theorem dX1_call_73 : decode cX1_call 73 = .ok (.iload 4, 2) := dk_21 4 (dk_at dksX1_call_3 5 rfl rfl)
theorem dX1_call_75 : decode cX1_call 75 = .ok (.iconst (-1), 1) := dk_2 (dk_at dksX1_call_3 7 rfl rfl)
theorem dX1_call_76 : decode cX1_call 76 = .ok (.if_icmp .ne 7, 3) := dk_160 0 7 (dk_at dksX1_call_3 8 rfl rfl)
theorem dX1_call_79 : decode cX1_call 79 = .ok (.iconst (-1), 1) := dk_2 (dk_at dksX1_call_3 11 rfl rfl)
theorem dX1_call_80 : decode cX1_call 80 = .ok (.goto 4, 3) := dk_167 0 4 (dk_at dksX1_call_3 12 rfl rfl)
theorem dX1_call_83 : decode cX1_call 83 = .ok (.iload_n 3, 1) := dk_29 (dk_at dksX1_call_3 15 rfl rfl)
theorem dX1_call_84 : decode cX1_call 84 = .ok (.iastore, 1) := dk_79 (dk_at dksX1_call_3 16 rfl rfl)
theorem dX1_call_85 : decode cX1_call 85 = .ok (.aload 5, 2) := dk_25 5 (dk_at dksX1_call_3 17 rfl rfl)
theorem dX1_call_87 : decode cX1_call 87 = .ok (.getfield 142, 3) := dk_180 0 142 (dk_at dksX1_call_3 19 rfl rfl)
theorem dX1_call_90 : decode cX1_call 90 = .ok (.iload_n 2, 1) := dk_28 (dk_at dksX1_call_3 22 rfl rfl)
theorem dX1_call_91 : decode cX1_call 91 = .ok (.iconst 0, 1) := dk_3 (dk_at dksX1_call_3 23 rfl rfl)
theorem dX1_call_92 : decode cX1_call 92 = .ok (.iload 4, 2) := dk_21 4 (dk_at dksX1_call_4 0 rfl rfl)
theorem dX1_call_94 : decode cX1_call 94 = .ok (.invokestatic 145, 3) := dk_184 0 145 (dk_at dksX1_call_4 2 rfl rfl)
theorem dX1_call_97 : decode cX1_call 97 = .ok (.iastore, 1) := dk_79 (dk_at dksX1_call_4 5 rfl rfl)
theorem dX1_call_98 : decode cX1_call 98 = .ok (.iconst 1, 1) := dk_4 (dk_at dksX1_call_4 6 rfl rfl)
theorem dX1_call_99 : decode cX1_call 99 = .ok (.ireturn, 1) := dk_172 (dk_at dksX1_call_4 7 rfl rfl)
def dkwX1_isKitchen_1 : List UInt8 := [167, 0, 4, 3, 172]
abbrev dktX1_isKitchen_1 : List UInt8 := dkwX1_isKitchen_1 ++ []
def dkwX1_isKitchen_0 : List UInt8 := [27, 3, 16, 23, 184, 0, 112, 153, 0, 19, 42, 180, 0, 21, 27, 50, 180, 0, 116, 153, 0, 7, 4]
abbrev dktX1_isKitchen_0 : List UInt8 := dkwX1_isKitchen_0 ++ dktX1_isKitchen_1
theorem dksX1_isKitchen_0 : cX1_isKitchen.data.toList.drop 0 = dktX1_isKitchen_0 := by decide +kernel
theorem dksX1_isKitchen_1 : cX1_isKitchen.data.toList.drop 23 = dktX1_isKitchen_1 := dk_seg dksX1_isKitchen_0 23 rfl rfl
theorem dX1_isKitchen_0 : decode cX1_isKitchen 0 = .ok (.iload_n 1, 1) := dk_27 (dk_at dksX1_isKitchen_0 0 rfl rfl)
theorem dX1_isKitchen_1 : decode cX1_isKitchen 1 = .ok (.iconst 0, 1) := dk_3 (dk_at dksX1_isKitchen_0 1 rfl rfl)
theorem dX1_isKitchen_2 : decode cX1_isKitchen 2 = .ok (.bipush 23, 2) := dk_16 23 (dk_at dksX1_isKitchen_0 2 rfl rfl)
theorem dX1_isKitchen_4 : decode cX1_isKitchen 4 = .ok (.invokestatic 112, 3) := dk_184 0 112 (dk_at dksX1_isKitchen_0 4 rfl rfl)
theorem dX1_isKitchen_7 : decode cX1_isKitchen 7 = .ok (.ifCond .eq 19, 3) := dk_153 0 19 (dk_at dksX1_isKitchen_0 7 rfl rfl)
theorem dX1_isKitchen_10 : decode cX1_isKitchen 10 = .ok (.aload_n 0, 1) := dk_42 (dk_at dksX1_isKitchen_0 10 rfl rfl)
theorem dX1_isKitchen_11 : decode cX1_isKitchen 11 = .ok (.getfield 21, 3) := dk_180 0 21 (dk_at dksX1_isKitchen_0 11 rfl rfl)
theorem dX1_isKitchen_14 : decode cX1_isKitchen 14 = .ok (.iload_n 1, 1) := dk_27 (dk_at dksX1_isKitchen_0 14 rfl rfl)
theorem dX1_isKitchen_15 : decode cX1_isKitchen 15 = .ok (.aaload, 1) := dk_50 (dk_at dksX1_isKitchen_0 15 rfl rfl)
theorem dX1_isKitchen_16 : decode cX1_isKitchen 16 = .ok (.getfield 116, 3) := dk_180 0 116 (dk_at dksX1_isKitchen_0 16 rfl rfl)
theorem dX1_isKitchen_19 : decode cX1_isKitchen 19 = .ok (.ifCond .eq 7, 3) := dk_153 0 7 (dk_at dksX1_isKitchen_0 19 rfl rfl)
theorem dX1_isKitchen_22 : decode cX1_isKitchen 22 = .ok (.iconst 1, 1) := dk_4 (dk_at dksX1_isKitchen_0 22 rfl rfl)
theorem dX1_isKitchen_23 : decode cX1_isKitchen 23 = .ok (.goto 4, 3) := dk_167 0 4 (dk_at dksX1_isKitchen_1 0 rfl rfl)
theorem dX1_isKitchen_26 : decode cX1_isKitchen 26 = .ok (.iconst 0, 1) := dk_3 (dk_at dksX1_isKitchen_1 3 rfl rfl)
theorem dX1_isKitchen_27 : decode cX1_isKitchen 27 = .ok (.ireturn, 1) := dk_172 (dk_at dksX1_isKitchen_1 4 rfl rfl)
def dkwX1_isMonth_0 : List UInt8 := [26, 3, 16, 11, 184, 0, 112, 172]
abbrev dktX1_isMonth_0 : List UInt8 := dkwX1_isMonth_0 ++ []
theorem dksX1_isMonth_0 : cX1_isMonth.data.toList.drop 0 = dktX1_isMonth_0 := by decide +kernel
theorem dX1_isMonth_0 : decode cX1_isMonth 0 = .ok (.iload_n 0, 1) := dk_26 (dk_at dksX1_isMonth_0 0 rfl rfl)
theorem dX1_isMonth_1 : decode cX1_isMonth 1 = .ok (.iconst 0, 1) := dk_3 (dk_at dksX1_isMonth_0 1 rfl rfl)
theorem dX1_isMonth_2 : decode cX1_isMonth 2 = .ok (.bipush 11, 2) := dk_16 11 (dk_at dksX1_isMonth_0 2 rfl rfl)
theorem dX1_isMonth_4 : decode cX1_isMonth 4 = .ok (.invokestatic 112, 3) := dk_184 0 112 (dk_at dksX1_isMonth_0 4 rfl rfl)
theorem dX1_isMonth_7 : decode cX1_isMonth 7 = .ok (.ireturn, 1) := dk_172 (dk_at dksX1_isMonth_0 7 rfl rfl)
def dkwX1_sheet_2 : List UInt8 := [180, 0, 149, 28, 29, 79, 42, 180, 0, 21, 27, 50, 180, 0, 152, 28, 21, 4, 79, 4, 172]
abbrev dktX1_sheet_2 : List UInt8 := dkwX1_sheet_2 ++ []
def dkwX1_sheet_1 : List UInt8 := [153, 0, 14, 21, 4, 3, 16, 99, 184, 0, 112, 154, 0, 5, 3, 172, 42, 180, 0, 21, 27, 50]
abbrev dktX1_sheet_1 : List UInt8 := dkwX1_sheet_1 ++ dktX1_sheet_2
def dkwX1_sheet_0 : List UInt8 := [42, 27, 182, 0, 136, 153, 0, 31, 28, 184, 0, 120, 153, 0, 24, 29, 3, 16, 99, 184, 0, 112]
abbrev dktX1_sheet_0 : List UInt8 := dkwX1_sheet_0 ++ dktX1_sheet_1
theorem dksX1_sheet_0 : cX1_sheet.data.toList.drop 0 = dktX1_sheet_0 := by decide +kernel
theorem dksX1_sheet_1 : cX1_sheet.data.toList.drop 22 = dktX1_sheet_1 := dk_seg dksX1_sheet_0 22 rfl rfl
theorem dksX1_sheet_2 : cX1_sheet.data.toList.drop 44 = dktX1_sheet_2 := dk_seg dksX1_sheet_1 22 rfl rfl
theorem dX1_sheet_0 : decode cX1_sheet 0 = .ok (.aload_n 0, 1) := dk_42 (dk_at dksX1_sheet_0 0 rfl rfl)
theorem dX1_sheet_1 : decode cX1_sheet 1 = .ok (.iload_n 1, 1) := dk_27 (dk_at dksX1_sheet_0 1 rfl rfl)
theorem dX1_sheet_2 : decode cX1_sheet 2 = .ok (.invokevirtual 136, 3) := dk_182 0 136 (dk_at dksX1_sheet_0 2 rfl rfl)
theorem dX1_sheet_5 : decode cX1_sheet 5 = .ok (.ifCond .eq 31, 3) := dk_153 0 31 (dk_at dksX1_sheet_0 5 rfl rfl)
theorem dX1_sheet_8 : decode cX1_sheet 8 = .ok (.iload_n 2, 1) := dk_28 (dk_at dksX1_sheet_0 8 rfl rfl)
theorem dX1_sheet_9 : decode cX1_sheet 9 = .ok (.invokestatic 120, 3) := dk_184 0 120 (dk_at dksX1_sheet_0 9 rfl rfl)
theorem dX1_sheet_12 : decode cX1_sheet 12 = .ok (.ifCond .eq 24, 3) := dk_153 0 24 (dk_at dksX1_sheet_0 12 rfl rfl)
theorem dX1_sheet_15 : decode cX1_sheet 15 = .ok (.iload_n 3, 1) := dk_29 (dk_at dksX1_sheet_0 15 rfl rfl)
theorem dX1_sheet_16 : decode cX1_sheet 16 = .ok (.iconst 0, 1) := dk_3 (dk_at dksX1_sheet_0 16 rfl rfl)
theorem dX1_sheet_17 : decode cX1_sheet 17 = .ok (.bipush 99, 2) := dk_16 99 (dk_at dksX1_sheet_0 17 rfl rfl)
theorem dX1_sheet_19 : decode cX1_sheet 19 = .ok (.invokestatic 112, 3) := dk_184 0 112 (dk_at dksX1_sheet_0 19 rfl rfl)
theorem dX1_sheet_22 : decode cX1_sheet 22 = .ok (.ifCond .eq 14, 3) := dk_153 0 14 (dk_at dksX1_sheet_1 0 rfl rfl)
theorem dX1_sheet_25 : decode cX1_sheet 25 = .ok (.iload 4, 2) := dk_21 4 (dk_at dksX1_sheet_1 3 rfl rfl)
theorem dX1_sheet_27 : decode cX1_sheet 27 = .ok (.iconst 0, 1) := dk_3 (dk_at dksX1_sheet_1 5 rfl rfl)
theorem dX1_sheet_28 : decode cX1_sheet 28 = .ok (.bipush 99, 2) := dk_16 99 (dk_at dksX1_sheet_1 6 rfl rfl)
theorem dX1_sheet_30 : decode cX1_sheet 30 = .ok (.invokestatic 112, 3) := dk_184 0 112 (dk_at dksX1_sheet_1 8 rfl rfl)
theorem dX1_sheet_33 : decode cX1_sheet 33 = .ok (.ifCond .ne 5, 3) := dk_154 0 5 (dk_at dksX1_sheet_1 11 rfl rfl)
theorem dX1_sheet_36 : decode cX1_sheet 36 = .ok (.iconst 0, 1) := dk_3 (dk_at dksX1_sheet_1 14 rfl rfl)
theorem dX1_sheet_37 : decode cX1_sheet 37 = .ok (.ireturn, 1) := dk_172 (dk_at dksX1_sheet_1 15 rfl rfl)
theorem dX1_sheet_38 : decode cX1_sheet 38 = .ok (.aload_n 0, 1) := dk_42 (dk_at dksX1_sheet_1 16 rfl rfl)
theorem dX1_sheet_39 : decode cX1_sheet 39 = .ok (.getfield 21, 3) := dk_180 0 21 (dk_at dksX1_sheet_1 17 rfl rfl)
theorem dX1_sheet_42 : decode cX1_sheet 42 = .ok (.iload_n 1, 1) := dk_27 (dk_at dksX1_sheet_1 20 rfl rfl)
theorem dX1_sheet_43 : decode cX1_sheet 43 = .ok (.aaload, 1) := dk_50 (dk_at dksX1_sheet_1 21 rfl rfl)
theorem dX1_sheet_44 : decode cX1_sheet 44 = .ok (.getfield 149, 3) := dk_180 0 149 (dk_at dksX1_sheet_2 0 rfl rfl)
theorem dX1_sheet_47 : decode cX1_sheet 47 = .ok (.iload_n 2, 1) := dk_28 (dk_at dksX1_sheet_2 3 rfl rfl)
theorem dX1_sheet_48 : decode cX1_sheet 48 = .ok (.iload_n 3, 1) := dk_29 (dk_at dksX1_sheet_2 4 rfl rfl)
theorem dX1_sheet_49 : decode cX1_sheet 49 = .ok (.iastore, 1) := dk_79 (dk_at dksX1_sheet_2 5 rfl rfl)
theorem dX1_sheet_50 : decode cX1_sheet 50 = .ok (.aload_n 0, 1) := dk_42 (dk_at dksX1_sheet_2 6 rfl rfl)
theorem dX1_sheet_51 : decode cX1_sheet 51 = .ok (.getfield 21, 3) := dk_180 0 21 (dk_at dksX1_sheet_2 7 rfl rfl)
theorem dX1_sheet_54 : decode cX1_sheet 54 = .ok (.iload_n 1, 1) := dk_27 (dk_at dksX1_sheet_2 10 rfl rfl)
theorem dX1_sheet_55 : decode cX1_sheet 55 = .ok (.aaload, 1) := dk_50 (dk_at dksX1_sheet_2 11 rfl rfl)
theorem dX1_sheet_56 : decode cX1_sheet 56 = .ok (.getfield 152, 3) := dk_180 0 152 (dk_at dksX1_sheet_2 12 rfl rfl)
theorem dX1_sheet_59 : decode cX1_sheet 59 = .ok (.iload_n 2, 1) := dk_28 (dk_at dksX1_sheet_2 15 rfl rfl)
theorem dX1_sheet_60 : decode cX1_sheet 60 = .ok (.iload 4, 2) := dk_21 4 (dk_at dksX1_sheet_2 16 rfl rfl)
theorem dX1_sheet_62 : decode cX1_sheet 62 = .ok (.iastore, 1) := dk_79 (dk_at dksX1_sheet_2 18 rfl rfl)
theorem dX1_sheet_63 : decode cX1_sheet 63 = .ok (.iconst 1, 1) := dk_4 (dk_at dksX1_sheet_2 19 rfl rfl)
theorem dX1_sheet_64 : decode cX1_sheet 64 = .ok (.ireturn, 1) := dk_172 (dk_at dksX1_sheet_2 20 rfl rfl)
def dkwX1_tenths_0 : List UInt8 := [27, 3, 16, 10, 184, 0, 112, 154, 0, 5, 3, 172, 42, 27, 181, 0, 56, 42, 27, 181, 0, 60, 4, 172]
abbrev dktX1_tenths_0 : List UInt8 := dkwX1_tenths_0 ++ []
theorem dksX1_tenths_0 : cX1_tenths.data.toList.drop 0 = dktX1_tenths_0 := by decide +kernel
theorem dX1_tenths_0 : decode cX1_tenths 0 = .ok (.iload_n 1, 1) := dk_27 (dk_at dksX1_tenths_0 0 rfl rfl)
theorem dX1_tenths_1 : decode cX1_tenths 1 = .ok (.iconst 0, 1) := dk_3 (dk_at dksX1_tenths_0 1 rfl rfl)
theorem dX1_tenths_2 : decode cX1_tenths 2 = .ok (.bipush 10, 2) := dk_16 10 (dk_at dksX1_tenths_0 2 rfl rfl)
theorem dX1_tenths_4 : decode cX1_tenths 4 = .ok (.invokestatic 112, 3) := dk_184 0 112 (dk_at dksX1_tenths_0 4 rfl rfl)
theorem dX1_tenths_7 : decode cX1_tenths 7 = .ok (.ifCond .ne 5, 3) := dk_154 0 5 (dk_at dksX1_tenths_0 7 rfl rfl)
theorem dX1_tenths_10 : decode cX1_tenths 10 = .ok (.iconst 0, 1) := dk_3 (dk_at dksX1_tenths_0 10 rfl rfl)
theorem dX1_tenths_11 : decode cX1_tenths 11 = .ok (.ireturn, 1) := dk_172 (dk_at dksX1_tenths_0 11 rfl rfl)
theorem dX1_tenths_12 : decode cX1_tenths 12 = .ok (.aload_n 0, 1) := dk_42 (dk_at dksX1_tenths_0 12 rfl rfl)
theorem dX1_tenths_13 : decode cX1_tenths 13 = .ok (.iload_n 1, 1) := dk_27 (dk_at dksX1_tenths_0 13 rfl rfl)
theorem dX1_tenths_14 : decode cX1_tenths 14 = .ok (.putfield 56, 3) := dk_181 0 56 (dk_at dksX1_tenths_0 14 rfl rfl)
theorem dX1_tenths_17 : decode cX1_tenths 17 = .ok (.aload_n 0, 1) := dk_42 (dk_at dksX1_tenths_0 17 rfl rfl)
theorem dX1_tenths_18 : decode cX1_tenths 18 = .ok (.iload_n 1, 1) := dk_27 (dk_at dksX1_tenths_0 18 rfl rfl)
theorem dX1_tenths_19 : decode cX1_tenths 19 = .ok (.putfield 60, 3) := dk_181 0 60 (dk_at dksX1_tenths_0 19 rfl rfl)
theorem dX1_tenths_22 : decode cX1_tenths 22 = .ok (.iconst 1, 1) := dk_4 (dk_at dksX1_tenths_0 22 rfl rfl)
theorem dX1_tenths_23 : decode cX1_tenths 23 = .ok (.ireturn, 1) := dk_172 (dk_at dksX1_tenths_0 23 rfl rfl)
def dkwX1_floor_3 : List UInt8 := [132, 5, 1, 167, 255, 225, 4, 172]
abbrev dktX1_floor_3 : List UInt8 := dkwX1_floor_3 ++ []
def dkwX1_floor_2 : List UInt8 := [162, 0, 30, 42, 180, 0, 27, 27, 50, 21, 5, 29, 79, 42, 180, 0, 30, 27, 50, 21, 5, 21, 4, 79]
abbrev dktX1_floor_2 : List UInt8 := dkwX1_floor_2 ++ dktX1_floor_3
def dkwX1_floor_1 : List UInt8 := [153, 0, 15, 21, 4, 16, 157, 16, 99, 184, 0, 112, 154, 0, 5, 3, 172, 28, 54, 5, 21, 5, 16, 12]
abbrev dktX1_floor_1 : List UInt8 := dkwX1_floor_1 ++ dktX1_floor_2
def dkwX1_floor_0 : List UInt8 := [27, 3, 4, 184, 0, 112, 153, 0, 33, 28, 184, 0, 120, 153, 0, 26, 29, 3, 17, 3, 231, 184, 0, 112]
abbrev dktX1_floor_0 : List UInt8 := dkwX1_floor_0 ++ dktX1_floor_1
theorem dksX1_floor_0 : cX1_floor.data.toList.drop 0 = dktX1_floor_0 := by decide +kernel
theorem dksX1_floor_1 : cX1_floor.data.toList.drop 24 = dktX1_floor_1 := dk_seg dksX1_floor_0 24 rfl rfl
theorem dksX1_floor_2 : cX1_floor.data.toList.drop 48 = dktX1_floor_2 := dk_seg dksX1_floor_1 24 rfl rfl
theorem dksX1_floor_3 : cX1_floor.data.toList.drop 72 = dktX1_floor_3 := dk_seg dksX1_floor_2 24 rfl rfl
theorem dX1_floor_0 : decode cX1_floor 0 = .ok (.iload_n 1, 1) := dk_27 (dk_at dksX1_floor_0 0 rfl rfl)
theorem dX1_floor_1 : decode cX1_floor 1 = .ok (.iconst 0, 1) := dk_3 (dk_at dksX1_floor_0 1 rfl rfl)
theorem dX1_floor_2 : decode cX1_floor 2 = .ok (.iconst 1, 1) := dk_4 (dk_at dksX1_floor_0 2 rfl rfl)
theorem dX1_floor_3 : decode cX1_floor 3 = .ok (.invokestatic 112, 3) := dk_184 0 112 (dk_at dksX1_floor_0 3 rfl rfl)
theorem dX1_floor_6 : decode cX1_floor 6 = .ok (.ifCond .eq 33, 3) := dk_153 0 33 (dk_at dksX1_floor_0 6 rfl rfl)
theorem dX1_floor_9 : decode cX1_floor 9 = .ok (.iload_n 2, 1) := dk_28 (dk_at dksX1_floor_0 9 rfl rfl)
theorem dX1_floor_10 : decode cX1_floor 10 = .ok (.invokestatic 120, 3) := dk_184 0 120 (dk_at dksX1_floor_0 10 rfl rfl)
theorem dX1_floor_13 : decode cX1_floor 13 = .ok (.ifCond .eq 26, 3) := dk_153 0 26 (dk_at dksX1_floor_0 13 rfl rfl)
theorem dX1_floor_16 : decode cX1_floor 16 = .ok (.iload_n 3, 1) := dk_29 (dk_at dksX1_floor_0 16 rfl rfl)
theorem dX1_floor_17 : decode cX1_floor 17 = .ok (.iconst 0, 1) := dk_3 (dk_at dksX1_floor_0 17 rfl rfl)
theorem dX1_floor_18 : decode cX1_floor 18 = .ok (.sipush 999, 3) := dk_17 3 231 (dk_at dksX1_floor_0 18 rfl rfl)
theorem dX1_floor_21 : decode cX1_floor 21 = .ok (.invokestatic 112, 3) := dk_184 0 112 (dk_at dksX1_floor_0 21 rfl rfl)
theorem dX1_floor_24 : decode cX1_floor 24 = .ok (.ifCond .eq 15, 3) := dk_153 0 15 (dk_at dksX1_floor_1 0 rfl rfl)
theorem dX1_floor_27 : decode cX1_floor 27 = .ok (.iload 4, 2) := dk_21 4 (dk_at dksX1_floor_1 3 rfl rfl)
theorem dX1_floor_29 : decode cX1_floor 29 = .ok (.bipush (-99), 2) := dk_16 157 (dk_at dksX1_floor_1 5 rfl rfl)
theorem dX1_floor_31 : decode cX1_floor 31 = .ok (.bipush 99, 2) := dk_16 99 (dk_at dksX1_floor_1 7 rfl rfl)
theorem dX1_floor_33 : decode cX1_floor 33 = .ok (.invokestatic 112, 3) := dk_184 0 112 (dk_at dksX1_floor_1 9 rfl rfl)
theorem dX1_floor_36 : decode cX1_floor 36 = .ok (.ifCond .ne 5, 3) := dk_154 0 5 (dk_at dksX1_floor_1 12 rfl rfl)
theorem dX1_floor_39 : decode cX1_floor 39 = .ok (.iconst 0, 1) := dk_3 (dk_at dksX1_floor_1 15 rfl rfl)
theorem dX1_floor_40 : decode cX1_floor 40 = .ok (.ireturn, 1) := dk_172 (dk_at dksX1_floor_1 16 rfl rfl)
theorem dX1_floor_41 : decode cX1_floor 41 = .ok (.iload_n 2, 1) := dk_28 (dk_at dksX1_floor_1 17 rfl rfl)
theorem dX1_floor_42 : decode cX1_floor 42 = .ok (.istore 5, 2) := dk_54 5 (dk_at dksX1_floor_1 18 rfl rfl)
theorem dX1_floor_44 : decode cX1_floor 44 = .ok (.iload 5, 2) := dk_21 5 (dk_at dksX1_floor_1 20 rfl rfl)
theorem dX1_floor_46 : decode cX1_floor 46 = .ok (.bipush 12, 2) := dk_16 12 (dk_at dksX1_floor_1 22 rfl rfl)
theorem dX1_floor_48 : decode cX1_floor 48 = .ok (.if_icmp .ge 30, 3) := dk_162 0 30 (dk_at dksX1_floor_2 0 rfl rfl)
theorem dX1_floor_51 : decode cX1_floor 51 = .ok (.aload_n 0, 1) := dk_42 (dk_at dksX1_floor_2 3 rfl rfl)
theorem dX1_floor_52 : decode cX1_floor 52 = .ok (.getfield 27, 3) := dk_180 0 27 (dk_at dksX1_floor_2 4 rfl rfl)
theorem dX1_floor_55 : decode cX1_floor 55 = .ok (.iload_n 1, 1) := dk_27 (dk_at dksX1_floor_2 7 rfl rfl)
theorem dX1_floor_56 : decode cX1_floor 56 = .ok (.aaload, 1) := dk_50 (dk_at dksX1_floor_2 8 rfl rfl)
theorem dX1_floor_57 : decode cX1_floor 57 = .ok (.iload 5, 2) := dk_21 5 (dk_at dksX1_floor_2 9 rfl rfl)
theorem dX1_floor_59 : decode cX1_floor 59 = .ok (.iload_n 3, 1) := dk_29 (dk_at dksX1_floor_2 11 rfl rfl)
theorem dX1_floor_60 : decode cX1_floor 60 = .ok (.iastore, 1) := dk_79 (dk_at dksX1_floor_2 12 rfl rfl)
theorem dX1_floor_61 : decode cX1_floor 61 = .ok (.aload_n 0, 1) := dk_42 (dk_at dksX1_floor_2 13 rfl rfl)
theorem dX1_floor_62 : decode cX1_floor 62 = .ok (.getfield 30, 3) := dk_180 0 30 (dk_at dksX1_floor_2 14 rfl rfl)
theorem dX1_floor_65 : decode cX1_floor 65 = .ok (.iload_n 1, 1) := dk_27 (dk_at dksX1_floor_2 17 rfl rfl)
theorem dX1_floor_66 : decode cX1_floor 66 = .ok (.aaload, 1) := dk_50 (dk_at dksX1_floor_2 18 rfl rfl)
theorem dX1_floor_67 : decode cX1_floor 67 = .ok (.iload 5, 2) := dk_21 5 (dk_at dksX1_floor_2 19 rfl rfl)
theorem dX1_floor_69 : decode cX1_floor 69 = .ok (.iload 4, 2) := dk_21 4 (dk_at dksX1_floor_2 21 rfl rfl)
theorem dX1_floor_71 : decode cX1_floor 71 = .ok (.iastore, 1) := dk_79 (dk_at dksX1_floor_2 23 rfl rfl)
theorem dX1_floor_72 : decode cX1_floor 72 = .ok (.iinc 5 1, 3) := dk_132 5 1 (dk_at dksX1_floor_3 0 rfl rfl)
theorem dX1_floor_75 : decode cX1_floor 75 = .ok (.goto (-31), 3) := dk_167 255 225 (dk_at dksX1_floor_3 3 rfl rfl)
theorem dX1_floor_78 : decode cX1_floor 78 = .ok (.iconst 1, 1) := dk_4 (dk_at dksX1_floor_3 6 rfl rfl)
theorem dX1_floor_79 : decode cX1_floor 79 = .ok (.ireturn, 1) := dk_172 (dk_at dksX1_floor_3 7 rfl rfl)
def dkwX1_hands_1 : List UInt8 := [182, 0, 158, 153, 0, 7, 2, 167, 0, 14, 42, 42, 180, 0, 21, 27, 50, 28, 182, 0, 161, 172]
abbrev dktX1_hands_1 : List UInt8 := dkwX1_hands_1 ++ []
def dkwX1_hands_0 : List UInt8 := [42, 27, 182, 0, 136, 153, 0, 23, 28, 184, 0, 120, 153, 0, 16, 42, 180, 0, 21, 27, 50, 28]
abbrev dktX1_hands_0 : List UInt8 := dkwX1_hands_0 ++ dktX1_hands_1
theorem dksX1_hands_0 : cX1_hands.data.toList.drop 0 = dktX1_hands_0 := by decide +kernel
theorem dksX1_hands_1 : cX1_hands.data.toList.drop 22 = dktX1_hands_1 := dk_seg dksX1_hands_0 22 rfl rfl
theorem dX1_hands_0 : decode cX1_hands 0 = .ok (.aload_n 0, 1) := dk_42 (dk_at dksX1_hands_0 0 rfl rfl)
theorem dX1_hands_1 : decode cX1_hands 1 = .ok (.iload_n 1, 1) := dk_27 (dk_at dksX1_hands_0 1 rfl rfl)
theorem dX1_hands_2 : decode cX1_hands 2 = .ok (.invokevirtual 136, 3) := dk_182 0 136 (dk_at dksX1_hands_0 2 rfl rfl)
theorem dX1_hands_5 : decode cX1_hands 5 = .ok (.ifCond .eq 23, 3) := dk_153 0 23 (dk_at dksX1_hands_0 5 rfl rfl)
theorem dX1_hands_8 : decode cX1_hands 8 = .ok (.iload_n 2, 1) := dk_28 (dk_at dksX1_hands_0 8 rfl rfl)
theorem dX1_hands_9 : decode cX1_hands 9 = .ok (.invokestatic 120, 3) := dk_184 0 120 (dk_at dksX1_hands_0 9 rfl rfl)
theorem dX1_hands_12 : decode cX1_hands 12 = .ok (.ifCond .eq 16, 3) := dk_153 0 16 (dk_at dksX1_hands_0 12 rfl rfl)
theorem dX1_hands_15 : decode cX1_hands 15 = .ok (.aload_n 0, 1) := dk_42 (dk_at dksX1_hands_0 15 rfl rfl)
theorem dX1_hands_16 : decode cX1_hands 16 = .ok (.getfield 21, 3) := dk_180 0 21 (dk_at dksX1_hands_0 16 rfl rfl)
theorem dX1_hands_19 : decode cX1_hands 19 = .ok (.iload_n 1, 1) := dk_27 (dk_at dksX1_hands_0 19 rfl rfl)
theorem dX1_hands_20 : decode cX1_hands 20 = .ok (.aaload, 1) := dk_50 (dk_at dksX1_hands_0 20 rfl rfl)
theorem dX1_hands_21 : decode cX1_hands 21 = .ok (.iload_n 2, 1) := dk_28 (dk_at dksX1_hands_0 21 rfl rfl)
theorem dX1_hands_22 : decode cX1_hands 22 = .ok (.invokevirtual 158, 3) := dk_182 0 158 (dk_at dksX1_hands_1 0 rfl rfl)
theorem dX1_hands_25 : decode cX1_hands 25 = .ok (.ifCond .eq 7, 3) := dk_153 0 7 (dk_at dksX1_hands_1 3 rfl rfl)
theorem dX1_hands_28 : decode cX1_hands 28 = .ok (.iconst (-1), 1) := dk_2 (dk_at dksX1_hands_1 6 rfl rfl)
theorem dX1_hands_29 : decode cX1_hands 29 = .ok (.goto 14, 3) := dk_167 0 14 (dk_at dksX1_hands_1 7 rfl rfl)
theorem dX1_hands_32 : decode cX1_hands 32 = .ok (.aload_n 0, 1) := dk_42 (dk_at dksX1_hands_1 10 rfl rfl)
theorem dX1_hands_33 : decode cX1_hands 33 = .ok (.aload_n 0, 1) := dk_42 (dk_at dksX1_hands_1 11 rfl rfl)
theorem dX1_hands_34 : decode cX1_hands 34 = .ok (.getfield 21, 3) := dk_180 0 21 (dk_at dksX1_hands_1 12 rfl rfl)
theorem dX1_hands_37 : decode cX1_hands 37 = .ok (.iload_n 1, 1) := dk_27 (dk_at dksX1_hands_1 15 rfl rfl)
theorem dX1_hands_38 : decode cX1_hands 38 = .ok (.aaload, 1) := dk_50 (dk_at dksX1_hands_1 16 rfl rfl)
theorem dX1_hands_39 : decode cX1_hands 39 = .ok (.iload_n 2, 1) := dk_28 (dk_at dksX1_hands_1 17 rfl rfl)
theorem dX1_hands_40 : decode cX1_hands 40 = .ok (.invokevirtual 161, 3) := dk_182 0 161 (dk_at dksX1_hands_1 18 rfl rfl)
theorem dX1_hands_43 : decode cX1_hands 43 = .ok (.ireturn, 1) := dk_172 (dk_at dksX1_hands_1 21 rfl rfl)
def dkwX1_handsOf_0 : List UInt8 := [42, 43, 180, 0, 139, 28, 46, 43, 180, 0, 142, 28, 46, 182, 0, 155, 172]
abbrev dktX1_handsOf_0 : List UInt8 := dkwX1_handsOf_0 ++ []
theorem dksX1_handsOf_0 : cX1_handsOf.data.toList.drop 0 = dktX1_handsOf_0 := by decide +kernel
theorem dX1_handsOf_0 : decode cX1_handsOf 0 = .ok (.aload_n 0, 1) := dk_42 (dk_at dksX1_handsOf_0 0 rfl rfl)
theorem dX1_handsOf_1 : decode cX1_handsOf 1 = .ok (.aload_n 1, 1) := dk_43 (dk_at dksX1_handsOf_0 1 rfl rfl)
theorem dX1_handsOf_2 : decode cX1_handsOf 2 = .ok (.getfield 139, 3) := dk_180 0 139 (dk_at dksX1_handsOf_0 2 rfl rfl)
theorem dX1_handsOf_5 : decode cX1_handsOf 5 = .ok (.iload_n 2, 1) := dk_28 (dk_at dksX1_handsOf_0 5 rfl rfl)
theorem dX1_handsOf_6 : decode cX1_handsOf 6 = .ok (.iaload, 1) := dk_46 (dk_at dksX1_handsOf_0 6 rfl rfl)
theorem dX1_handsOf_7 : decode cX1_handsOf 7 = .ok (.aload_n 1, 1) := dk_43 (dk_at dksX1_handsOf_0 7 rfl rfl)
theorem dX1_handsOf_8 : decode cX1_handsOf 8 = .ok (.getfield 142, 3) := dk_180 0 142 (dk_at dksX1_handsOf_0 8 rfl rfl)
theorem dX1_handsOf_11 : decode cX1_handsOf 11 = .ok (.iload_n 2, 1) := dk_28 (dk_at dksX1_handsOf_0 11 rfl rfl)
theorem dX1_handsOf_12 : decode cX1_handsOf 12 = .ok (.iaload, 1) := dk_46 (dk_at dksX1_handsOf_0 12 rfl rfl)
theorem dX1_handsOf_13 : decode cX1_handsOf 13 = .ok (.invokevirtual 155, 3) := dk_182 0 155 (dk_at dksX1_handsOf_0 13 rfl rfl)
theorem dX1_handsOf_16 : decode cX1_handsOf 16 = .ok (.ireturn, 1) := dk_172 (dk_at dksX1_handsOf_0 16 rfl rfl)
def dkwX1_handsOf_2_0 : List UInt8 := [27, 156, 0, 7, 3, 167, 0, 14, 16, 10, 27, 104, 42, 180, 0, 60, 28, 104, 96, 172]
abbrev dktX1_handsOf_2_0 : List UInt8 := dkwX1_handsOf_2_0 ++ []
theorem dksX1_handsOf_2_0 : cX1_handsOf_2.data.toList.drop 0 = dktX1_handsOf_2_0 := by decide +kernel
theorem dX1_handsOf_2_0 : decode cX1_handsOf_2 0 = .ok (.iload_n 1, 1) := dk_27 (dk_at dksX1_handsOf_2_0 0 rfl rfl)
theorem dX1_handsOf_2_1 : decode cX1_handsOf_2 1 = .ok (.ifCond .ge 7, 3) := dk_156 0 7 (dk_at dksX1_handsOf_2_0 1 rfl rfl)
theorem dX1_handsOf_2_4 : decode cX1_handsOf_2 4 = .ok (.iconst 0, 1) := dk_3 (dk_at dksX1_handsOf_2_0 4 rfl rfl)
theorem dX1_handsOf_2_5 : decode cX1_handsOf_2 5 = .ok (.goto 14, 3) := dk_167 0 14 (dk_at dksX1_handsOf_2_0 5 rfl rfl)
theorem dX1_handsOf_2_8 : decode cX1_handsOf_2 8 = .ok (.bipush 10, 2) := dk_16 10 (dk_at dksX1_handsOf_2_0 8 rfl rfl)
theorem dX1_handsOf_2_10 : decode cX1_handsOf_2 10 = .ok (.iload_n 1, 1) := dk_27 (dk_at dksX1_handsOf_2_0 10 rfl rfl)
theorem dX1_handsOf_2_11 : decode cX1_handsOf_2 11 = .ok (.imul, 1) := dk_104 (dk_at dksX1_handsOf_2_0 11 rfl rfl)
theorem dX1_handsOf_2_12 : decode cX1_handsOf_2 12 = .ok (.aload_n 0, 1) := dk_42 (dk_at dksX1_handsOf_2_0 12 rfl rfl)
theorem dX1_handsOf_2_13 : decode cX1_handsOf_2 13 = .ok (.getfield 60, 3) := dk_180 0 60 (dk_at dksX1_handsOf_2_0 13 rfl rfl)
theorem dX1_handsOf_2_16 : decode cX1_handsOf_2 16 = .ok (.iload_n 2, 1) := dk_28 (dk_at dksX1_handsOf_2_0 16 rfl rfl)
theorem dX1_handsOf_2_17 : decode cX1_handsOf_2 17 = .ok (.imul, 1) := dk_104 (dk_at dksX1_handsOf_2_0 17 rfl rfl)
theorem dX1_handsOf_2_18 : decode cX1_handsOf_2 18 = .ok (.iadd, 1) := dk_96 (dk_at dksX1_handsOf_2_0 18 rfl rfl)
theorem dX1_handsOf_2_19 : decode cX1_handsOf_2 19 = .ok (.ireturn, 1) := dk_172 (dk_at dksX1_handsOf_2_0 19 rfl rfl)
def dkwX1_swings_2 : List UInt8 := [182, 0, 211, 9, 148, 155, 0, 7, 4, 167, 0, 4, 3, 172]
abbrev dktX1_swings_2 : List UInt8 := dkwX1_swings_2 ++ []
def dkwX1_swings_1 : List UInt8 := [9, 148, 157, 0, 7, 4, 167, 0, 4, 3, 62, 42, 27, 28, 4, 182, 0, 226, 87, 29, 153, 0, 16, 42]
abbrev dktX1_swings_1 : List UInt8 := dkwX1_swings_1 ++ dktX1_swings_2
def dkwX1_swings_0 : List UInt8 := [27, 28, 184, 0, 164, 153, 0, 13, 42, 27, 28, 3, 182, 0, 226, 154, 0, 5, 2, 172, 42, 182, 0, 211]
abbrev dktX1_swings_0 : List UInt8 := dkwX1_swings_0 ++ dktX1_swings_1
theorem dksX1_swings_0 : cX1_swings.data.toList.drop 0 = dktX1_swings_0 := by decide +kernel
theorem dksX1_swings_1 : cX1_swings.data.toList.drop 24 = dktX1_swings_1 := dk_seg dksX1_swings_0 24 rfl rfl
theorem dksX1_swings_2 : cX1_swings.data.toList.drop 48 = dktX1_swings_2 := dk_seg dksX1_swings_1 24 rfl rfl
theorem dX1_swings_0 : decode cX1_swings 0 = .ok (.iload_n 1, 1) := dk_27 (dk_at dksX1_swings_0 0 rfl rfl)
theorem dX1_swings_1 : decode cX1_swings 1 = .ok (.iload_n 2, 1) := dk_28 (dk_at dksX1_swings_0 1 rfl rfl)
theorem dX1_swings_2 : decode cX1_swings 2 = .ok (.invokestatic 164, 3) := dk_184 0 164 (dk_at dksX1_swings_0 2 rfl rfl)
theorem dX1_swings_5 : decode cX1_swings 5 = .ok (.ifCond .eq 13, 3) := dk_153 0 13 (dk_at dksX1_swings_0 5 rfl rfl)
theorem dX1_swings_8 : decode cX1_swings 8 = .ok (.aload_n 0, 1) := dk_42 (dk_at dksX1_swings_0 8 rfl rfl)
theorem dX1_swings_9 : decode cX1_swings 9 = .ok (.iload_n 1, 1) := dk_27 (dk_at dksX1_swings_0 9 rfl rfl)
theorem dX1_swings_10 : decode cX1_swings 10 = .ok (.iload_n 2, 1) := dk_28 (dk_at dksX1_swings_0 10 rfl rfl)
theorem dX1_swings_11 : decode cX1_swings 11 = .ok (.iconst 0, 1) := dk_3 (dk_at dksX1_swings_0 11 rfl rfl)
theorem dX1_swings_12 : decode cX1_swings 12 = .ok (.invokevirtual 226, 3) := dk_182 0 226 (dk_at dksX1_swings_0 12 rfl rfl)
theorem dX1_swings_15 : decode cX1_swings 15 = .ok (.ifCond .ne 5, 3) := dk_154 0 5 (dk_at dksX1_swings_0 15 rfl rfl)
theorem dX1_swings_18 : decode cX1_swings 18 = .ok (.iconst (-1), 1) := dk_2 (dk_at dksX1_swings_0 18 rfl rfl)
theorem dX1_swings_19 : decode cX1_swings 19 = .ok (.ireturn, 1) := dk_172 (dk_at dksX1_swings_0 19 rfl rfl)
theorem dX1_swings_20 : decode cX1_swings 20 = .ok (.aload_n 0, 1) := dk_42 (dk_at dksX1_swings_0 20 rfl rfl)
theorem dX1_swings_21 : decode cX1_swings 21 = .ok (.invokevirtual 211, 3) := dk_182 0 211 (dk_at dksX1_swings_0 21 rfl rfl)
theorem dX1_swings_24 : decode cX1_swings 24 = .ok (.lconst 0, 1) := dk_9 (dk_at dksX1_swings_1 0 rfl rfl)
theorem dX1_swings_25 : decode cX1_swings 25 = .ok (.lcmp, 1) := dk_148 (dk_at dksX1_swings_1 1 rfl rfl)
theorem dX1_swings_26 : decode cX1_swings 26 = .ok (.ifCond .gt 7, 3) := dk_157 0 7 (dk_at dksX1_swings_1 2 rfl rfl)
theorem dX1_swings_29 : decode cX1_swings 29 = .ok (.iconst 1, 1) := dk_4 (dk_at dksX1_swings_1 5 rfl rfl)
theorem dX1_swings_30 : decode cX1_swings 30 = .ok (.goto 4, 3) := dk_167 0 4 (dk_at dksX1_swings_1 6 rfl rfl)
theorem dX1_swings_33 : decode cX1_swings 33 = .ok (.iconst 0, 1) := dk_3 (dk_at dksX1_swings_1 9 rfl rfl)
theorem dX1_swings_34 : decode cX1_swings 34 = .ok (.istore_n 3, 1) := dk_62 (dk_at dksX1_swings_1 10 rfl rfl)
theorem dX1_swings_35 : decode cX1_swings 35 = .ok (.aload_n 0, 1) := dk_42 (dk_at dksX1_swings_1 11 rfl rfl)
theorem dX1_swings_36 : decode cX1_swings 36 = .ok (.iload_n 1, 1) := dk_27 (dk_at dksX1_swings_1 12 rfl rfl)
theorem dX1_swings_37 : decode cX1_swings 37 = .ok (.iload_n 2, 1) := dk_28 (dk_at dksX1_swings_1 13 rfl rfl)
theorem dX1_swings_38 : decode cX1_swings 38 = .ok (.iconst 1, 1) := dk_4 (dk_at dksX1_swings_1 14 rfl rfl)
theorem dX1_swings_39 : decode cX1_swings 39 = .ok (.invokevirtual 226, 3) := dk_182 0 226 (dk_at dksX1_swings_1 15 rfl rfl)
theorem dX1_swings_42 : decode cX1_swings 42 = .ok (.pop, 1) := dk_87 (dk_at dksX1_swings_1 18 rfl rfl)
theorem dX1_swings_43 : decode cX1_swings 43 = .ok (.iload_n 3, 1) := dk_29 (dk_at dksX1_swings_1 19 rfl rfl)
theorem dX1_swings_44 : decode cX1_swings 44 = .ok (.ifCond .eq 16, 3) := dk_153 0 16 (dk_at dksX1_swings_1 20 rfl rfl)
theorem dX1_swings_47 : decode cX1_swings 47 = .ok (.aload_n 0, 1) := dk_42 (dk_at dksX1_swings_1 23 rfl rfl)
theorem dX1_swings_48 : decode cX1_swings 48 = .ok (.invokevirtual 211, 3) := dk_182 0 211 (dk_at dksX1_swings_2 0 rfl rfl)
theorem dX1_swings_51 : decode cX1_swings 51 = .ok (.lconst 0, 1) := dk_9 (dk_at dksX1_swings_2 3 rfl rfl)
theorem dX1_swings_52 : decode cX1_swings 52 = .ok (.lcmp, 1) := dk_148 (dk_at dksX1_swings_2 4 rfl rfl)
theorem dX1_swings_53 : decode cX1_swings 53 = .ok (.ifCond .lt 7, 3) := dk_155 0 7 (dk_at dksX1_swings_2 5 rfl rfl)
theorem dX1_swings_56 : decode cX1_swings 56 = .ok (.iconst 1, 1) := dk_4 (dk_at dksX1_swings_2 8 rfl rfl)
theorem dX1_swings_57 : decode cX1_swings 57 = .ok (.goto 4, 3) := dk_167 0 4 (dk_at dksX1_swings_2 9 rfl rfl)
theorem dX1_swings_60 : decode cX1_swings 60 = .ok (.iconst 0, 1) := dk_3 (dk_at dksX1_swings_2 12 rfl rfl)
theorem dX1_swings_61 : decode cX1_swings 61 = .ok (.ireturn, 1) := dk_172 (dk_at dksX1_swings_2 13 rfl rfl)
def dkwX1_areMonths_1 : List UInt8 := [172]
abbrev dktX1_areMonths_1 : List UInt8 := dkwX1_areMonths_1 ++ []
def dkwX1_areMonths_0 : List UInt8 := [26, 184, 0, 120, 153, 0, 19, 27, 184, 0, 120, 153, 0, 12, 27, 26, 159, 0, 7, 4, 167, 0, 4, 3]
abbrev dktX1_areMonths_0 : List UInt8 := dkwX1_areMonths_0 ++ dktX1_areMonths_1
theorem dksX1_areMonths_0 : cX1_areMonths.data.toList.drop 0 = dktX1_areMonths_0 := by decide +kernel
theorem dksX1_areMonths_1 : cX1_areMonths.data.toList.drop 24 = dktX1_areMonths_1 := dk_seg dksX1_areMonths_0 24 rfl rfl
theorem dX1_areMonths_0 : decode cX1_areMonths 0 = .ok (.iload_n 0, 1) := dk_26 (dk_at dksX1_areMonths_0 0 rfl rfl)
theorem dX1_areMonths_1 : decode cX1_areMonths 1 = .ok (.invokestatic 120, 3) := dk_184 0 120 (dk_at dksX1_areMonths_0 1 rfl rfl)
theorem dX1_areMonths_4 : decode cX1_areMonths 4 = .ok (.ifCond .eq 19, 3) := dk_153 0 19 (dk_at dksX1_areMonths_0 4 rfl rfl)
theorem dX1_areMonths_7 : decode cX1_areMonths 7 = .ok (.iload_n 1, 1) := dk_27 (dk_at dksX1_areMonths_0 7 rfl rfl)
theorem dX1_areMonths_8 : decode cX1_areMonths 8 = .ok (.invokestatic 120, 3) := dk_184 0 120 (dk_at dksX1_areMonths_0 8 rfl rfl)
theorem dX1_areMonths_11 : decode cX1_areMonths 11 = .ok (.ifCond .eq 12, 3) := dk_153 0 12 (dk_at dksX1_areMonths_0 11 rfl rfl)
theorem dX1_areMonths_14 : decode cX1_areMonths 14 = .ok (.iload_n 1, 1) := dk_27 (dk_at dksX1_areMonths_0 14 rfl rfl)
theorem dX1_areMonths_15 : decode cX1_areMonths 15 = .ok (.iload_n 0, 1) := dk_26 (dk_at dksX1_areMonths_0 15 rfl rfl)
theorem dX1_areMonths_16 : decode cX1_areMonths 16 = .ok (.if_icmp .eq 7, 3) := dk_159 0 7 (dk_at dksX1_areMonths_0 16 rfl rfl)
theorem dX1_areMonths_19 : decode cX1_areMonths 19 = .ok (.iconst 1, 1) := dk_4 (dk_at dksX1_areMonths_0 19 rfl rfl)
theorem dX1_areMonths_20 : decode cX1_areMonths 20 = .ok (.goto 4, 3) := dk_167 0 4 (dk_at dksX1_areMonths_0 20 rfl rfl)
theorem dX1_areMonths_23 : decode cX1_areMonths 23 = .ok (.iconst 0, 1) := dk_3 (dk_at dksX1_areMonths_0 23 rfl rfl)
theorem dX1_areMonths_24 : decode cX1_areMonths 24 = .ok (.ireturn, 1) := dk_172 (dk_at dksX1_areMonths_1 0 rfl rfl)
def dkwX1_ends_4 : List UInt8 := [182, 0, 196, 132, 4, 1, 167, 255, 162, 42, 182, 0, 200, 172]
abbrev dktX1_ends_4 : List UInt8 := dkwX1_ends_4 ++ []
def dkwX1_ends_3 : List UInt8 := [21, 6, 182, 0, 222, 42, 25, 5, 27, 21, 6, 154, 0, 7, 4, 167, 0, 4, 3, 182, 0, 222, 100, 133]
abbrev dktX1_ends_3 : List UInt8 := dkwX1_ends_3 ++ dktX1_ends_4
def dkwX1_ends_2 : List UInt8 := [3, 160, 0, 7, 4, 167, 0, 4, 3, 54, 6, 42, 25, 5, 180, 0, 124, 182, 0, 192, 42, 25, 5, 28]
abbrev dktX1_ends_2 : List UInt8 := dkwX1_ends_2 ++ dktX1_ends_3
def dkwX1_ends_1 : List UInt8 := [25, 5, 180, 0, 116, 154, 0, 6, 167, 0, 67, 29, 25, 5, 180, 0, 124, 154, 0, 7, 4, 167, 0, 4]
abbrev dktX1_ends_1 : List UInt8 := dkwX1_ends_1 ++ dktX1_ends_2
def dkwX1_ends_0 : List UInt8 := [42, 182, 0, 189, 3, 54, 4, 21, 4, 16, 24, 162, 0, 93, 42, 180, 0, 21, 21, 4, 50, 58, 5]
abbrev dktX1_ends_0 : List UInt8 := dkwX1_ends_0 ++ dktX1_ends_1
theorem dksX1_ends_0 : cX1_ends.data.toList.drop 0 = dktX1_ends_0 := by decide +kernel
theorem dksX1_ends_1 : cX1_ends.data.toList.drop 23 = dktX1_ends_1 := dk_seg dksX1_ends_0 23 rfl rfl
theorem dksX1_ends_2 : cX1_ends.data.toList.drop 47 = dktX1_ends_2 := dk_seg dksX1_ends_1 24 rfl rfl
theorem dksX1_ends_3 : cX1_ends.data.toList.drop 71 = dktX1_ends_3 := dk_seg dksX1_ends_2 24 rfl rfl
theorem dksX1_ends_4 : cX1_ends.data.toList.drop 95 = dktX1_ends_4 := dk_seg dksX1_ends_3 24 rfl rfl
theorem dX1_ends_0 : decode cX1_ends 0 = .ok (.aload_n 0, 1) := dk_42 (dk_at dksX1_ends_0 0 rfl rfl)
theorem dX1_ends_1 : decode cX1_ends 1 = .ok (.invokevirtual 189, 3) := dk_182 0 189 (dk_at dksX1_ends_0 1 rfl rfl)
theorem dX1_ends_4 : decode cX1_ends 4 = .ok (.iconst 0, 1) := dk_3 (dk_at dksX1_ends_0 4 rfl rfl)
theorem dX1_ends_5 : decode cX1_ends 5 = .ok (.istore 4, 2) := dk_54 4 (dk_at dksX1_ends_0 5 rfl rfl)
theorem dX1_ends_7 : decode cX1_ends 7 = .ok (.iload 4, 2) := dk_21 4 (dk_at dksX1_ends_0 7 rfl rfl)
theorem dX1_ends_9 : decode cX1_ends 9 = .ok (.bipush 24, 2) := dk_16 24 (dk_at dksX1_ends_0 9 rfl rfl)
theorem dX1_ends_11 : decode cX1_ends 11 = .ok (.if_icmp .ge 93, 3) := dk_162 0 93 (dk_at dksX1_ends_0 11 rfl rfl)
theorem dX1_ends_14 : decode cX1_ends 14 = .ok (.aload_n 0, 1) := dk_42 (dk_at dksX1_ends_0 14 rfl rfl)
theorem dX1_ends_15 : decode cX1_ends 15 = .ok (.getfield 21, 3) := dk_180 0 21 (dk_at dksX1_ends_0 15 rfl rfl)
theorem dX1_ends_18 : decode cX1_ends 18 = .ok (.iload 4, 2) := dk_21 4 (dk_at dksX1_ends_0 18 rfl rfl)
theorem dX1_ends_20 : decode cX1_ends 20 = .ok (.aaload, 1) := dk_50 (dk_at dksX1_ends_0 20 rfl rfl)
theorem dX1_ends_21 : decode cX1_ends 21 = .ok (.astore 5, 2) := dk_58 5 (dk_at dksX1_ends_0 21 rfl rfl)
theorem dX1_ends_23 : decode cX1_ends 23 = .ok (.aload 5, 2) := dk_25 5 (dk_at dksX1_ends_1 0 rfl rfl)
theorem dX1_ends_25 : decode cX1_ends 25 = .ok (.getfield 116, 3) := dk_180 0 116 (dk_at dksX1_ends_1 2 rfl rfl)
theorem dX1_ends_28 : decode cX1_ends 28 = .ok (.ifCond .ne 6, 3) := dk_154 0 6 (dk_at dksX1_ends_1 5 rfl rfl)
theorem dX1_ends_31 : decode cX1_ends 31 = .ok (.goto 67, 3) := dk_167 0 67 (dk_at dksX1_ends_1 8 rfl rfl)
theorem dX1_ends_34 : decode cX1_ends 34 = .ok (.iload_n 3, 1) := dk_29 (dk_at dksX1_ends_1 11 rfl rfl)
theorem dX1_ends_35 : decode cX1_ends 35 = .ok (.aload 5, 2) := dk_25 5 (dk_at dksX1_ends_1 12 rfl rfl)
theorem dX1_ends_37 : decode cX1_ends 37 = .ok (.getfield 124, 3) := dk_180 0 124 (dk_at dksX1_ends_1 14 rfl rfl)
theorem dX1_ends_40 : decode cX1_ends 40 = .ok (.ifCond .ne 7, 3) := dk_154 0 7 (dk_at dksX1_ends_1 17 rfl rfl)
theorem dX1_ends_43 : decode cX1_ends 43 = .ok (.iconst 1, 1) := dk_4 (dk_at dksX1_ends_1 20 rfl rfl)
theorem dX1_ends_44 : decode cX1_ends 44 = .ok (.goto 4, 3) := dk_167 0 4 (dk_at dksX1_ends_1 21 rfl rfl)
theorem dX1_ends_47 : decode cX1_ends 47 = .ok (.iconst 0, 1) := dk_3 (dk_at dksX1_ends_2 0 rfl rfl)
theorem dX1_ends_48 : decode cX1_ends 48 = .ok (.if_icmp .ne 7, 3) := dk_160 0 7 (dk_at dksX1_ends_2 1 rfl rfl)
theorem dX1_ends_51 : decode cX1_ends 51 = .ok (.iconst 1, 1) := dk_4 (dk_at dksX1_ends_2 4 rfl rfl)
theorem dX1_ends_52 : decode cX1_ends 52 = .ok (.goto 4, 3) := dk_167 0 4 (dk_at dksX1_ends_2 5 rfl rfl)
theorem dX1_ends_55 : decode cX1_ends 55 = .ok (.iconst 0, 1) := dk_3 (dk_at dksX1_ends_2 8 rfl rfl)
theorem dX1_ends_56 : decode cX1_ends 56 = .ok (.istore 6, 2) := dk_54 6 (dk_at dksX1_ends_2 9 rfl rfl)
theorem dX1_ends_58 : decode cX1_ends 58 = .ok (.aload_n 0, 1) := dk_42 (dk_at dksX1_ends_2 11 rfl rfl)
theorem dX1_ends_59 : decode cX1_ends 59 = .ok (.aload 5, 2) := dk_25 5 (dk_at dksX1_ends_2 12 rfl rfl)
theorem dX1_ends_61 : decode cX1_ends 61 = .ok (.getfield 124, 3) := dk_180 0 124 (dk_at dksX1_ends_2 14 rfl rfl)
theorem dX1_ends_64 : decode cX1_ends 64 = .ok (.invokevirtual 192, 3) := dk_182 0 192 (dk_at dksX1_ends_2 17 rfl rfl)
theorem dX1_ends_67 : decode cX1_ends 67 = .ok (.aload_n 0, 1) := dk_42 (dk_at dksX1_ends_2 20 rfl rfl)
theorem dX1_ends_68 : decode cX1_ends 68 = .ok (.aload 5, 2) := dk_25 5 (dk_at dksX1_ends_2 21 rfl rfl)
theorem dX1_ends_70 : decode cX1_ends 70 = .ok (.iload_n 2, 1) := dk_28 (dk_at dksX1_ends_2 23 rfl rfl)
theorem dX1_ends_71 : decode cX1_ends 71 = .ok (.iload 6, 2) := dk_21 6 (dk_at dksX1_ends_3 0 rfl rfl)
theorem dX1_ends_73 : decode cX1_ends 73 = .ok (.invokevirtual 222, 3) := dk_182 0 222 (dk_at dksX1_ends_3 2 rfl rfl)
theorem dX1_ends_76 : decode cX1_ends 76 = .ok (.aload_n 0, 1) := dk_42 (dk_at dksX1_ends_3 5 rfl rfl)
theorem dX1_ends_77 : decode cX1_ends 77 = .ok (.aload 5, 2) := dk_25 5 (dk_at dksX1_ends_3 6 rfl rfl)
theorem dX1_ends_79 : decode cX1_ends 79 = .ok (.iload_n 1, 1) := dk_27 (dk_at dksX1_ends_3 8 rfl rfl)
theorem dX1_ends_80 : decode cX1_ends 80 = .ok (.iload 6, 2) := dk_21 6 (dk_at dksX1_ends_3 9 rfl rfl)
theorem dX1_ends_82 : decode cX1_ends 82 = .ok (.ifCond .ne 7, 3) := dk_154 0 7 (dk_at dksX1_ends_3 11 rfl rfl)
theorem dX1_ends_85 : decode cX1_ends 85 = .ok (.iconst 1, 1) := dk_4 (dk_at dksX1_ends_3 14 rfl rfl)
theorem dX1_ends_86 : decode cX1_ends 86 = .ok (.goto 4, 3) := dk_167 0 4 (dk_at dksX1_ends_3 15 rfl rfl)
theorem dX1_ends_89 : decode cX1_ends 89 = .ok (.iconst 0, 1) := dk_3 (dk_at dksX1_ends_3 18 rfl rfl)
theorem dX1_ends_90 : decode cX1_ends 90 = .ok (.invokevirtual 222, 3) := dk_182 0 222 (dk_at dksX1_ends_3 19 rfl rfl)
theorem dX1_ends_93 : decode cX1_ends 93 = .ok (.isub, 1) := dk_100 (dk_at dksX1_ends_3 22 rfl rfl)
theorem dX1_ends_94 : decode cX1_ends 94 = .ok (.i2l, 1) := dk_133 (dk_at dksX1_ends_3 23 rfl rfl)
theorem dX1_ends_95 : decode cX1_ends 95 = .ok (.invokevirtual 196, 3) := dk_182 0 196 (dk_at dksX1_ends_4 0 rfl rfl)
theorem dX1_ends_98 : decode cX1_ends 98 = .ok (.iinc 4 1, 3) := dk_132 4 1 (dk_at dksX1_ends_4 3 rfl rfl)
theorem dX1_ends_101 : decode cX1_ends 101 = .ok (.goto (-94), 3) := dk_167 255 162 (dk_at dksX1_ends_4 6 rfl rfl)
theorem dX1_ends_104 : decode cX1_ends 104 = .ok (.aload_n 0, 1) := dk_42 (dk_at dksX1_ends_4 9 rfl rfl)
theorem dX1_ends_105 : decode cX1_ends 105 = .ok (.invokevirtual 200, 3) := dk_182 0 200 (dk_at dksX1_ends_4 10 rfl rfl)
theorem dX1_ends_108 : decode cX1_ends 108 = .ok (.ireturn, 1) := dk_172 (dk_at dksX1_ends_4 13 rfl rfl)
def dkwX1_begins_0 : List UInt8 := [42, 180, 0, 66, 182, 0, 179, 42, 180, 0, 70, 182, 0, 179, 177]
abbrev dktX1_begins_0 : List UInt8 := dkwX1_begins_0 ++ []
theorem dksX1_begins_0 : cX1_begins.data.toList.drop 0 = dktX1_begins_0 := by decide +kernel
theorem dX1_begins_0 : decode cX1_begins 0 = .ok (.aload_n 0, 1) := dk_42 (dk_at dksX1_begins_0 0 rfl rfl)
theorem dX1_begins_1 : decode cX1_begins 1 = .ok (.getfield 66, 3) := dk_180 0 66 (dk_at dksX1_begins_0 1 rfl rfl)
theorem dX1_begins_4 : decode cX1_begins 4 = .ok (.invokevirtual 179, 3) := dk_182 0 179 (dk_at dksX1_begins_0 4 rfl rfl)
theorem dX1_begins_7 : decode cX1_begins 7 = .ok (.aload_n 0, 1) := dk_42 (dk_at dksX1_begins_0 7 rfl rfl)
theorem dX1_begins_8 : decode cX1_begins 8 = .ok (.getfield 70, 3) := dk_180 0 70 (dk_at dksX1_begins_0 8 rfl rfl)
theorem dX1_begins_11 : decode cX1_begins 11 = .ok (.invokevirtual 179, 3) := dk_182 0 179 (dk_at dksX1_begins_0 11 rfl rfl)
theorem dX1_begins_14 : decode cX1_begins 14 = .ok (.return_, 1) := dk_177 (dk_at dksX1_begins_0 14 rfl rfl)
def dkwX1_of_0 : List UInt8 := [27, 154, 0, 10, 42, 180, 0, 66, 167, 0, 7, 42, 180, 0, 70, 176]
abbrev dktX1_of_0 : List UInt8 := dkwX1_of_0 ++ []
theorem dksX1_of_0 : cX1_of.data.toList.drop 0 = dktX1_of_0 := by decide +kernel
theorem dX1_of_0 : decode cX1_of 0 = .ok (.iload_n 1, 1) := dk_27 (dk_at dksX1_of_0 0 rfl rfl)
theorem dX1_of_1 : decode cX1_of 1 = .ok (.ifCond .ne 10, 3) := dk_154 0 10 (dk_at dksX1_of_0 1 rfl rfl)
theorem dX1_of_4 : decode cX1_of 4 = .ok (.aload_n 0, 1) := dk_42 (dk_at dksX1_of_0 4 rfl rfl)
theorem dX1_of_5 : decode cX1_of 5 = .ok (.getfield 66, 3) := dk_180 0 66 (dk_at dksX1_of_0 5 rfl rfl)
theorem dX1_of_8 : decode cX1_of 8 = .ok (.goto 7, 3) := dk_167 0 7 (dk_at dksX1_of_0 8 rfl rfl)
theorem dX1_of_11 : decode cX1_of 11 = .ok (.aload_n 0, 1) := dk_42 (dk_at dksX1_of_0 11 rfl rfl)
theorem dX1_of_12 : decode cX1_of 12 = .ok (.getfield 70, 3) := dk_180 0 70 (dk_at dksX1_of_0 12 rfl rfl)
theorem dX1_of_15 : decode cX1_of 15 = .ok (.areturn, 1) := dk_176 (dk_at dksX1_of_0 15 rfl rfl)
def dkwX1_may_1 : List UInt8 := [180, 0, 130, 104, 167, 0, 4, 3, 172]
abbrev dktX1_may_1 : List UInt8 := dkwX1_may_1 ++ []
def dkwX1_may_0 : List UInt8 := [43, 28, 182, 0, 158, 154, 0, 12, 42, 43, 28, 182, 0, 161, 167, 0, 18, 29, 153, 0, 13, 16, 10, 43]
abbrev dktX1_may_0 : List UInt8 := dkwX1_may_0 ++ dktX1_may_1
theorem dksX1_may_0 : cX1_may.data.toList.drop 0 = dktX1_may_0 := by decide +kernel
theorem dksX1_may_1 : cX1_may.data.toList.drop 24 = dktX1_may_1 := dk_seg dksX1_may_0 24 rfl rfl
theorem dX1_may_0 : decode cX1_may 0 = .ok (.aload_n 1, 1) := dk_43 (dk_at dksX1_may_0 0 rfl rfl)
theorem dX1_may_1 : decode cX1_may 1 = .ok (.iload_n 2, 1) := dk_28 (dk_at dksX1_may_0 1 rfl rfl)
theorem dX1_may_2 : decode cX1_may 2 = .ok (.invokevirtual 158, 3) := dk_182 0 158 (dk_at dksX1_may_0 2 rfl rfl)
theorem dX1_may_5 : decode cX1_may 5 = .ok (.ifCond .ne 12, 3) := dk_154 0 12 (dk_at dksX1_may_0 5 rfl rfl)
theorem dX1_may_8 : decode cX1_may 8 = .ok (.aload_n 0, 1) := dk_42 (dk_at dksX1_may_0 8 rfl rfl)
theorem dX1_may_9 : decode cX1_may 9 = .ok (.aload_n 1, 1) := dk_43 (dk_at dksX1_may_0 9 rfl rfl)
theorem dX1_may_10 : decode cX1_may 10 = .ok (.iload_n 2, 1) := dk_28 (dk_at dksX1_may_0 10 rfl rfl)
theorem dX1_may_11 : decode cX1_may 11 = .ok (.invokevirtual 161, 3) := dk_182 0 161 (dk_at dksX1_may_0 11 rfl rfl)
theorem dX1_may_14 : decode cX1_may 14 = .ok (.goto 18, 3) := dk_167 0 18 (dk_at dksX1_may_0 14 rfl rfl)
theorem dX1_may_17 : decode cX1_may 17 = .ok (.iload_n 3, 1) := dk_29 (dk_at dksX1_may_0 17 rfl rfl)
theorem dX1_may_18 : decode cX1_may 18 = .ok (.ifCond .eq 13, 3) := dk_153 0 13 (dk_at dksX1_may_0 18 rfl rfl)
theorem dX1_may_21 : decode cX1_may 21 = .ok (.bipush 10, 2) := dk_16 10 (dk_at dksX1_may_0 21 rfl rfl)
theorem dX1_may_23 : decode cX1_may 23 = .ok (.aload_n 1, 1) := dk_43 (dk_at dksX1_may_0 23 rfl rfl)
theorem dX1_may_24 : decode cX1_may 24 = .ok (.getfield 130, 3) := dk_180 0 130 (dk_at dksX1_may_1 0 rfl rfl)
theorem dX1_may_27 : decode cX1_may 27 = .ok (.imul, 1) := dk_104 (dk_at dksX1_may_1 3 rfl rfl)
theorem dX1_may_28 : decode cX1_may 28 = .ok (.goto 4, 3) := dk_167 0 4 (dk_at dksX1_may_1 4 rfl rfl)
theorem dX1_may_31 : decode cX1_may 31 = .ok (.iconst 0, 1) := dk_3 (dk_at dksX1_may_1 7 rfl rfl)
theorem dX1_may_32 : decode cX1_may 32 = .ok (.ireturn, 1) := dk_172 (dk_at dksX1_may_1 8 rfl rfl)
def dkwX1_isThere_1 : List UInt8 := [3, 172]
abbrev dktX1_isThere_1 : List UInt8 := dkwX1_isThere_1 ++ []
def dkwX1_isThere_0 : List UInt8 := [42, 180, 0, 66, 180, 0, 182, 158, 0, 17, 42, 180, 0, 70, 180, 0, 182, 158, 0, 7, 4, 167, 0, 4]
abbrev dktX1_isThere_0 : List UInt8 := dkwX1_isThere_0 ++ dktX1_isThere_1
theorem dksX1_isThere_0 : cX1_isThere.data.toList.drop 0 = dktX1_isThere_0 := by decide +kernel
theorem dksX1_isThere_1 : cX1_isThere.data.toList.drop 24 = dktX1_isThere_1 := dk_seg dksX1_isThere_0 24 rfl rfl
theorem dX1_isThere_0 : decode cX1_isThere 0 = .ok (.aload_n 0, 1) := dk_42 (dk_at dksX1_isThere_0 0 rfl rfl)
theorem dX1_isThere_1 : decode cX1_isThere 1 = .ok (.getfield 66, 3) := dk_180 0 66 (dk_at dksX1_isThere_0 1 rfl rfl)
theorem dX1_isThere_4 : decode cX1_isThere 4 = .ok (.getfield 182, 3) := dk_180 0 182 (dk_at dksX1_isThere_0 4 rfl rfl)
theorem dX1_isThere_7 : decode cX1_isThere 7 = .ok (.ifCond .le 17, 3) := dk_158 0 17 (dk_at dksX1_isThere_0 7 rfl rfl)
theorem dX1_isThere_10 : decode cX1_isThere 10 = .ok (.aload_n 0, 1) := dk_42 (dk_at dksX1_isThere_0 10 rfl rfl)
theorem dX1_isThere_11 : decode cX1_isThere 11 = .ok (.getfield 70, 3) := dk_180 0 70 (dk_at dksX1_isThere_0 11 rfl rfl)
theorem dX1_isThere_14 : decode cX1_isThere 14 = .ok (.getfield 182, 3) := dk_180 0 182 (dk_at dksX1_isThere_0 14 rfl rfl)
theorem dX1_isThere_17 : decode cX1_isThere 17 = .ok (.ifCond .le 7, 3) := dk_158 0 7 (dk_at dksX1_isThere_0 17 rfl rfl)
theorem dX1_isThere_20 : decode cX1_isThere 20 = .ok (.iconst 1, 1) := dk_4 (dk_at dksX1_isThere_0 20 rfl rfl)
theorem dX1_isThere_21 : decode cX1_isThere 21 = .ok (.goto 4, 3) := dk_167 0 4 (dk_at dksX1_isThere_0 21 rfl rfl)
theorem dX1_isThere_24 : decode cX1_isThere 24 = .ok (.iconst 0, 1) := dk_3 (dk_at dksX1_isThere_1 0 rfl rfl)
theorem dX1_isThere_25 : decode cX1_isThere 25 = .ok (.ireturn, 1) := dk_172 (dk_at dksX1_isThere_1 1 rfl rfl)
def dkwX1_above_1 : List UInt8 := [180, 0, 66, 180, 0, 182, 133, 105, 101, 173]
abbrev dktX1_above_1 : List UInt8 := dkwX1_above_1 ++ []
def dkwX1_above_0 : List UInt8 := [42, 180, 0, 66, 180, 0, 185, 42, 180, 0, 70, 180, 0, 182, 133, 105, 42, 180, 0, 70, 180, 0, 185, 42]
abbrev dktX1_above_0 : List UInt8 := dkwX1_above_0 ++ dktX1_above_1
theorem dksX1_above_0 : cX1_above.data.toList.drop 0 = dktX1_above_0 := by decide +kernel
theorem dksX1_above_1 : cX1_above.data.toList.drop 24 = dktX1_above_1 := dk_seg dksX1_above_0 24 rfl rfl
theorem dX1_above_0 : decode cX1_above 0 = .ok (.aload_n 0, 1) := dk_42 (dk_at dksX1_above_0 0 rfl rfl)
theorem dX1_above_1 : decode cX1_above 1 = .ok (.getfield 66, 3) := dk_180 0 66 (dk_at dksX1_above_0 1 rfl rfl)
theorem dX1_above_4 : decode cX1_above 4 = .ok (.getfield 185, 3) := dk_180 0 185 (dk_at dksX1_above_0 4 rfl rfl)
theorem dX1_above_7 : decode cX1_above 7 = .ok (.aload_n 0, 1) := dk_42 (dk_at dksX1_above_0 7 rfl rfl)
theorem dX1_above_8 : decode cX1_above 8 = .ok (.getfield 70, 3) := dk_180 0 70 (dk_at dksX1_above_0 8 rfl rfl)
theorem dX1_above_11 : decode cX1_above 11 = .ok (.getfield 182, 3) := dk_180 0 182 (dk_at dksX1_above_0 11 rfl rfl)
theorem dX1_above_14 : decode cX1_above 14 = .ok (.i2l, 1) := dk_133 (dk_at dksX1_above_0 14 rfl rfl)
theorem dX1_above_15 : decode cX1_above 15 = .ok (.lmul, 1) := dk_105 (dk_at dksX1_above_0 15 rfl rfl)
theorem dX1_above_16 : decode cX1_above 16 = .ok (.aload_n 0, 1) := dk_42 (dk_at dksX1_above_0 16 rfl rfl)
theorem dX1_above_17 : decode cX1_above 17 = .ok (.getfield 70, 3) := dk_180 0 70 (dk_at dksX1_above_0 17 rfl rfl)
theorem dX1_above_20 : decode cX1_above 20 = .ok (.getfield 185, 3) := dk_180 0 185 (dk_at dksX1_above_0 20 rfl rfl)
theorem dX1_above_23 : decode cX1_above 23 = .ok (.aload_n 0, 1) := dk_42 (dk_at dksX1_above_0 23 rfl rfl)
theorem dX1_above_24 : decode cX1_above 24 = .ok (.getfield 66, 3) := dk_180 0 66 (dk_at dksX1_above_1 0 rfl rfl)
theorem dX1_above_27 : decode cX1_above 27 = .ok (.getfield 182, 3) := dk_180 0 182 (dk_at dksX1_above_1 3 rfl rfl)
theorem dX1_above_30 : decode cX1_above 30 = .ok (.i2l, 1) := dk_133 (dk_at dksX1_above_1 6 rfl rfl)
theorem dX1_above_31 : decode cX1_above 31 = .ok (.lmul, 1) := dk_105 (dk_at dksX1_above_1 7 rfl rfl)
theorem dX1_above_32 : decode cX1_above 32 = .ok (.lsub, 1) := dk_101 (dk_at dksX1_above_1 8 rfl rfl)
theorem dX1_above_33 : decode cX1_above 33 = .ok (.lreturn, 1) := dk_173 (dk_at dksX1_above_1 9 rfl rfl)
def dkwX1_next_7 : List UInt8 := [54, 4, 132, 5, 1, 167, 255, 119, 29, 172]
abbrev dktX1_next_7 : List UInt8 := dkwX1_next_7 ++ []
def dkwX1_next_6 : List UInt8 := [25, 6, 180, 0, 124, 182, 0, 192, 180, 0, 182, 104, 163, 0, 6, 167, 0, 10, 21, 5, 62, 21, 7]
abbrev dktX1_next_6 : List UInt8 := dkwX1_next_6 ++ dktX1_next_7
def dkwX1_next_5 : List UInt8 := [180, 0, 124, 182, 0, 192, 180, 0, 182, 104, 42, 180, 0, 21, 29, 50, 180, 0, 130, 21, 4, 104, 42]
abbrev dktX1_next_5 : List UInt8 := dkwX1_next_5 ++ dktX1_next_6
def dkwX1_next_4 : List UInt8 := [167, 0, 70, 29, 155, 0, 59, 25, 6, 180, 0, 130, 21, 7, 104, 42, 42, 180, 0, 21, 29, 50]
abbrev dktX1_next_4 : List UInt8 := dkwX1_next_4 ++ dktX1_next_5
def dkwX1_next_3 : List UInt8 := [25, 6, 28, 182, 0, 158, 153, 0, 7, 4, 167, 0, 4, 3, 96, 54, 7, 21, 7, 154, 0, 6]
abbrev dktX1_next_3 : List UInt8 := dkwX1_next_3 ++ dktX1_next_4
def dkwX1_next_2 : List UInt8 := [180, 0, 116, 154, 0, 7, 3, 167, 0, 32, 25, 6, 27, 182, 0, 158, 153, 0, 7, 4, 167, 0, 4, 3]
abbrev dktX1_next_2 : List UInt8 := dkwX1_next_2 ++ dktX1_next_3
def dkwX1_next_1 : List UInt8 := [54, 4, 3, 54, 5, 21, 5, 16, 24, 162, 0, 136, 42, 180, 0, 21, 21, 5, 50, 58, 6, 25, 6]
abbrev dktX1_next_1 : List UInt8 := dkwX1_next_1 ++ dktX1_next_2
def dkwX1_next_0 : List UInt8 := [27, 28, 184, 0, 164, 153, 0, 13, 42, 27, 28, 3, 182, 0, 226, 154, 0, 5, 2, 172, 2, 62, 3]
abbrev dktX1_next_0 : List UInt8 := dkwX1_next_0 ++ dktX1_next_1
theorem dksX1_next_0 : cX1_next.data.toList.drop 0 = dktX1_next_0 := by decide +kernel
theorem dksX1_next_1 : cX1_next.data.toList.drop 23 = dktX1_next_1 := dk_seg dksX1_next_0 23 rfl rfl
theorem dksX1_next_2 : cX1_next.data.toList.drop 46 = dktX1_next_2 := dk_seg dksX1_next_1 23 rfl rfl
theorem dksX1_next_3 : cX1_next.data.toList.drop 70 = dktX1_next_3 := dk_seg dksX1_next_2 24 rfl rfl
theorem dksX1_next_4 : cX1_next.data.toList.drop 92 = dktX1_next_4 := dk_seg dksX1_next_3 22 rfl rfl
theorem dksX1_next_5 : cX1_next.data.toList.drop 114 = dktX1_next_5 := dk_seg dksX1_next_4 22 rfl rfl
theorem dksX1_next_6 : cX1_next.data.toList.drop 137 = dktX1_next_6 := dk_seg dksX1_next_5 23 rfl rfl
theorem dksX1_next_7 : cX1_next.data.toList.drop 160 = dktX1_next_7 := dk_seg dksX1_next_6 23 rfl rfl
theorem dX1_next_0 : decode cX1_next 0 = .ok (.iload_n 1, 1) := dk_27 (dk_at dksX1_next_0 0 rfl rfl)
theorem dX1_next_1 : decode cX1_next 1 = .ok (.iload_n 2, 1) := dk_28 (dk_at dksX1_next_0 1 rfl rfl)
theorem dX1_next_2 : decode cX1_next 2 = .ok (.invokestatic 164, 3) := dk_184 0 164 (dk_at dksX1_next_0 2 rfl rfl)
theorem dX1_next_5 : decode cX1_next 5 = .ok (.ifCond .eq 13, 3) := dk_153 0 13 (dk_at dksX1_next_0 5 rfl rfl)
theorem dX1_next_8 : decode cX1_next 8 = .ok (.aload_n 0, 1) := dk_42 (dk_at dksX1_next_0 8 rfl rfl)
theorem dX1_next_9 : decode cX1_next 9 = .ok (.iload_n 1, 1) := dk_27 (dk_at dksX1_next_0 9 rfl rfl)
theorem dX1_next_10 : decode cX1_next 10 = .ok (.iload_n 2, 1) := dk_28 (dk_at dksX1_next_0 10 rfl rfl)
theorem dX1_next_11 : decode cX1_next 11 = .ok (.iconst 0, 1) := dk_3 (dk_at dksX1_next_0 11 rfl rfl)
theorem dX1_next_12 : decode cX1_next 12 = .ok (.invokevirtual 226, 3) := dk_182 0 226 (dk_at dksX1_next_0 12 rfl rfl)
theorem dX1_next_15 : decode cX1_next 15 = .ok (.ifCond .ne 5, 3) := dk_154 0 5 (dk_at dksX1_next_0 15 rfl rfl)
theorem dX1_next_18 : decode cX1_next 18 = .ok (.iconst (-1), 1) := dk_2 (dk_at dksX1_next_0 18 rfl rfl)
theorem dX1_next_19 : decode cX1_next 19 = .ok (.ireturn, 1) := dk_172 (dk_at dksX1_next_0 19 rfl rfl)
theorem dX1_next_20 : decode cX1_next 20 = .ok (.iconst (-1), 1) := dk_2 (dk_at dksX1_next_0 20 rfl rfl)
theorem dX1_next_21 : decode cX1_next 21 = .ok (.istore_n 3, 1) := dk_62 (dk_at dksX1_next_0 21 rfl rfl)
theorem dX1_next_22 : decode cX1_next 22 = .ok (.iconst 0, 1) := dk_3 (dk_at dksX1_next_0 22 rfl rfl)
theorem dX1_next_23 : decode cX1_next 23 = .ok (.istore 4, 2) := dk_54 4 (dk_at dksX1_next_1 0 rfl rfl)
theorem dX1_next_25 : decode cX1_next 25 = .ok (.iconst 0, 1) := dk_3 (dk_at dksX1_next_1 2 rfl rfl)
theorem dX1_next_26 : decode cX1_next 26 = .ok (.istore 5, 2) := dk_54 5 (dk_at dksX1_next_1 3 rfl rfl)
theorem dX1_next_28 : decode cX1_next 28 = .ok (.iload 5, 2) := dk_21 5 (dk_at dksX1_next_1 5 rfl rfl)
theorem dX1_next_30 : decode cX1_next 30 = .ok (.bipush 24, 2) := dk_16 24 (dk_at dksX1_next_1 7 rfl rfl)
theorem dX1_next_32 : decode cX1_next 32 = .ok (.if_icmp .ge 136, 3) := dk_162 0 136 (dk_at dksX1_next_1 9 rfl rfl)
theorem dX1_next_35 : decode cX1_next 35 = .ok (.aload_n 0, 1) := dk_42 (dk_at dksX1_next_1 12 rfl rfl)
theorem dX1_next_36 : decode cX1_next 36 = .ok (.getfield 21, 3) := dk_180 0 21 (dk_at dksX1_next_1 13 rfl rfl)
theorem dX1_next_39 : decode cX1_next 39 = .ok (.iload 5, 2) := dk_21 5 (dk_at dksX1_next_1 16 rfl rfl)
theorem dX1_next_41 : decode cX1_next 41 = .ok (.aaload, 1) := dk_50 (dk_at dksX1_next_1 18 rfl rfl)
theorem dX1_next_42 : decode cX1_next 42 = .ok (.astore 6, 2) := dk_58 6 (dk_at dksX1_next_1 19 rfl rfl)
theorem dX1_next_44 : decode cX1_next 44 = .ok (.aload 6, 2) := dk_25 6 (dk_at dksX1_next_1 21 rfl rfl)
theorem dX1_next_46 : decode cX1_next 46 = .ok (.getfield 116, 3) := dk_180 0 116 (dk_at dksX1_next_2 0 rfl rfl)
theorem dX1_next_49 : decode cX1_next 49 = .ok (.ifCond .ne 7, 3) := dk_154 0 7 (dk_at dksX1_next_2 3 rfl rfl)
theorem dX1_next_52 : decode cX1_next 52 = .ok (.iconst 0, 1) := dk_3 (dk_at dksX1_next_2 6 rfl rfl)
theorem dX1_next_53 : decode cX1_next 53 = .ok (.goto 32, 3) := dk_167 0 32 (dk_at dksX1_next_2 7 rfl rfl)
theorem dX1_next_56 : decode cX1_next 56 = .ok (.aload 6, 2) := dk_25 6 (dk_at dksX1_next_2 10 rfl rfl)
theorem dX1_next_58 : decode cX1_next 58 = .ok (.iload_n 1, 1) := dk_27 (dk_at dksX1_next_2 12 rfl rfl)
theorem dX1_next_59 : decode cX1_next 59 = .ok (.invokevirtual 158, 3) := dk_182 0 158 (dk_at dksX1_next_2 13 rfl rfl)
theorem dX1_next_62 : decode cX1_next 62 = .ok (.ifCond .eq 7, 3) := dk_153 0 7 (dk_at dksX1_next_2 16 rfl rfl)
theorem dX1_next_65 : decode cX1_next 65 = .ok (.iconst 1, 1) := dk_4 (dk_at dksX1_next_2 19 rfl rfl)
theorem dX1_next_66 : decode cX1_next 66 = .ok (.goto 4, 3) := dk_167 0 4 (dk_at dksX1_next_2 20 rfl rfl)
theorem dX1_next_69 : decode cX1_next 69 = .ok (.iconst 0, 1) := dk_3 (dk_at dksX1_next_2 23 rfl rfl)
theorem dX1_next_70 : decode cX1_next 70 = .ok (.aload 6, 2) := dk_25 6 (dk_at dksX1_next_3 0 rfl rfl)
theorem dX1_next_72 : decode cX1_next 72 = .ok (.iload_n 2, 1) := dk_28 (dk_at dksX1_next_3 2 rfl rfl)
theorem dX1_next_73 : decode cX1_next 73 = .ok (.invokevirtual 158, 3) := dk_182 0 158 (dk_at dksX1_next_3 3 rfl rfl)
theorem dX1_next_76 : decode cX1_next 76 = .ok (.ifCond .eq 7, 3) := dk_153 0 7 (dk_at dksX1_next_3 6 rfl rfl)
theorem dX1_next_79 : decode cX1_next 79 = .ok (.iconst 1, 1) := dk_4 (dk_at dksX1_next_3 9 rfl rfl)
theorem dX1_next_80 : decode cX1_next 80 = .ok (.goto 4, 3) := dk_167 0 4 (dk_at dksX1_next_3 10 rfl rfl)
theorem dX1_next_83 : decode cX1_next 83 = .ok (.iconst 0, 1) := dk_3 (dk_at dksX1_next_3 13 rfl rfl)
theorem dX1_next_84 : decode cX1_next 84 = .ok (.iadd, 1) := dk_96 (dk_at dksX1_next_3 14 rfl rfl)
theorem dX1_next_85 : decode cX1_next 85 = .ok (.istore 7, 2) := dk_54 7 (dk_at dksX1_next_3 15 rfl rfl)
theorem dX1_next_87 : decode cX1_next 87 = .ok (.iload 7, 2) := dk_21 7 (dk_at dksX1_next_3 17 rfl rfl)
theorem dX1_next_89 : decode cX1_next 89 = .ok (.ifCond .ne 6, 3) := dk_154 0 6 (dk_at dksX1_next_3 19 rfl rfl)
theorem dX1_next_92 : decode cX1_next 92 = .ok (.goto 70, 3) := dk_167 0 70 (dk_at dksX1_next_4 0 rfl rfl)
theorem dX1_next_95 : decode cX1_next 95 = .ok (.iload_n 3, 1) := dk_29 (dk_at dksX1_next_4 3 rfl rfl)
theorem dX1_next_96 : decode cX1_next 96 = .ok (.ifCond .lt 59, 3) := dk_155 0 59 (dk_at dksX1_next_4 4 rfl rfl)
theorem dX1_next_99 : decode cX1_next 99 = .ok (.aload 6, 2) := dk_25 6 (dk_at dksX1_next_4 7 rfl rfl)
theorem dX1_next_101 : decode cX1_next 101 = .ok (.getfield 130, 3) := dk_180 0 130 (dk_at dksX1_next_4 9 rfl rfl)
theorem dX1_next_104 : decode cX1_next 104 = .ok (.iload 7, 2) := dk_21 7 (dk_at dksX1_next_4 12 rfl rfl)
theorem dX1_next_106 : decode cX1_next 106 = .ok (.imul, 1) := dk_104 (dk_at dksX1_next_4 14 rfl rfl)
theorem dX1_next_107 : decode cX1_next 107 = .ok (.aload_n 0, 1) := dk_42 (dk_at dksX1_next_4 15 rfl rfl)
theorem dX1_next_108 : decode cX1_next 108 = .ok (.aload_n 0, 1) := dk_42 (dk_at dksX1_next_4 16 rfl rfl)
theorem dX1_next_109 : decode cX1_next 109 = .ok (.getfield 21, 3) := dk_180 0 21 (dk_at dksX1_next_4 17 rfl rfl)
theorem dX1_next_112 : decode cX1_next 112 = .ok (.iload_n 3, 1) := dk_29 (dk_at dksX1_next_4 20 rfl rfl)
theorem dX1_next_113 : decode cX1_next 113 = .ok (.aaload, 1) := dk_50 (dk_at dksX1_next_4 21 rfl rfl)
theorem dX1_next_114 : decode cX1_next 114 = .ok (.getfield 124, 3) := dk_180 0 124 (dk_at dksX1_next_5 0 rfl rfl)
theorem dX1_next_117 : decode cX1_next 117 = .ok (.invokevirtual 192, 3) := dk_182 0 192 (dk_at dksX1_next_5 3 rfl rfl)
theorem dX1_next_120 : decode cX1_next 120 = .ok (.getfield 182, 3) := dk_180 0 182 (dk_at dksX1_next_5 6 rfl rfl)
theorem dX1_next_123 : decode cX1_next 123 = .ok (.imul, 1) := dk_104 (dk_at dksX1_next_5 9 rfl rfl)
theorem dX1_next_124 : decode cX1_next 124 = .ok (.aload_n 0, 1) := dk_42 (dk_at dksX1_next_5 10 rfl rfl)
theorem dX1_next_125 : decode cX1_next 125 = .ok (.getfield 21, 3) := dk_180 0 21 (dk_at dksX1_next_5 11 rfl rfl)
theorem dX1_next_128 : decode cX1_next 128 = .ok (.iload_n 3, 1) := dk_29 (dk_at dksX1_next_5 14 rfl rfl)
theorem dX1_next_129 : decode cX1_next 129 = .ok (.aaload, 1) := dk_50 (dk_at dksX1_next_5 15 rfl rfl)
theorem dX1_next_130 : decode cX1_next 130 = .ok (.getfield 130, 3) := dk_180 0 130 (dk_at dksX1_next_5 16 rfl rfl)
theorem dX1_next_133 : decode cX1_next 133 = .ok (.iload 4, 2) := dk_21 4 (dk_at dksX1_next_5 19 rfl rfl)
theorem dX1_next_135 : decode cX1_next 135 = .ok (.imul, 1) := dk_104 (dk_at dksX1_next_5 21 rfl rfl)
theorem dX1_next_136 : decode cX1_next 136 = .ok (.aload_n 0, 1) := dk_42 (dk_at dksX1_next_5 22 rfl rfl)
theorem dX1_next_137 : decode cX1_next 137 = .ok (.aload 6, 2) := dk_25 6 (dk_at dksX1_next_6 0 rfl rfl)
theorem dX1_next_139 : decode cX1_next 139 = .ok (.getfield 124, 3) := dk_180 0 124 (dk_at dksX1_next_6 2 rfl rfl)
theorem dX1_next_142 : decode cX1_next 142 = .ok (.invokevirtual 192, 3) := dk_182 0 192 (dk_at dksX1_next_6 5 rfl rfl)
theorem dX1_next_145 : decode cX1_next 145 = .ok (.getfield 182, 3) := dk_180 0 182 (dk_at dksX1_next_6 8 rfl rfl)
theorem dX1_next_148 : decode cX1_next 148 = .ok (.imul, 1) := dk_104 (dk_at dksX1_next_6 11 rfl rfl)
theorem dX1_next_149 : decode cX1_next 149 = .ok (.if_icmp .gt 6, 3) := dk_163 0 6 (dk_at dksX1_next_6 12 rfl rfl)
theorem dX1_next_152 : decode cX1_next 152 = .ok (.goto 10, 3) := dk_167 0 10 (dk_at dksX1_next_6 15 rfl rfl)
theorem dX1_next_155 : decode cX1_next 155 = .ok (.iload 5, 2) := dk_21 5 (dk_at dksX1_next_6 18 rfl rfl)
theorem dX1_next_157 : decode cX1_next 157 = .ok (.istore_n 3, 1) := dk_62 (dk_at dksX1_next_6 20 rfl rfl)
theorem dX1_next_158 : decode cX1_next 158 = .ok (.iload 7, 2) := dk_21 7 (dk_at dksX1_next_6 21 rfl rfl)
theorem dX1_next_160 : decode cX1_next 160 = .ok (.istore 4, 2) := dk_54 4 (dk_at dksX1_next_7 0 rfl rfl)
theorem dX1_next_162 : decode cX1_next 162 = .ok (.iinc 5 1, 3) := dk_132 5 1 (dk_at dksX1_next_7 2 rfl rfl)
theorem dX1_next_165 : decode cX1_next 165 = .ok (.goto (-137), 3) := dk_167 255 119 (dk_at dksX1_next_7 5 rfl rfl)
theorem dX1_next_168 : decode cX1_next 168 = .ok (.iload_n 3, 1) := dk_29 (dk_at dksX1_next_7 8 rfl rfl)
theorem dX1_next_169 : decode cX1_next 169 = .ok (.ireturn, 1) := dk_172 (dk_at dksX1_next_7 9 rfl rfl)
def dkwX1_odds_7 : List UInt8 := [180, 0, 243, 42, 180, 0, 237, 133, 29, 184, 0, 218, 173]
abbrev dktX1_odds_7 : List UInt8 := dkwX1_odds_7 ++ []
def dkwX1_odds_6 : List UInt8 := [180, 0, 182, 21, 4, 42, 180, 0, 66, 180, 0, 185, 42, 180, 0, 70, 180, 0, 185, 97, 182, 0, 246, 42]
abbrev dktX1_odds_6 : List UInt8 := dkwX1_odds_6 ++ dktX1_odds_7
def dkwX1_odds_5 : List UInt8 := [42, 182, 0, 211, 184, 0, 7, 181, 0, 240, 42, 3, 42, 180, 0, 66, 180, 0, 182, 9, 42, 180, 0, 66]
abbrev dktX1_odds_5 : List UInt8 := dkwX1_odds_5 ++ dktX1_odds_6
def dkwX1_odds_4 : List UInt8 := [50, 27, 28, 182, 0, 175, 79, 132, 5, 1, 167, 255, 208, 42, 9, 181, 0, 243, 42, 3, 181, 0, 237, 42]
abbrev dktX1_odds_4 : List UInt8 := dkwX1_odds_4 ++ dktX1_odds_5
def dkwX1_odds_3 : List UInt8 := [27, 28, 182, 0, 172, 153, 0, 26, 42, 180, 0, 73, 21, 4, 132, 4, 1, 42, 42, 180, 0, 21, 21, 5]
abbrev dktX1_odds_3 : List UInt8 := dkwX1_odds_3 ++ dktX1_odds_4
def dkwX1_odds_2 : List UInt8 := [20, 0, 250, 173, 3, 54, 4, 3, 54, 5, 21, 5, 16, 24, 162, 0, 47, 42, 180, 0, 21, 21, 5, 50]
abbrev dktX1_odds_2 : List UInt8 := dkwX1_odds_2 ++ dktX1_odds_3
def dkwX1_odds_1 : List UInt8 := [153, 0, 23, 42, 180, 0, 66, 180, 0, 182, 42, 180, 0, 70, 180, 0, 182, 96, 16, 14, 164, 0, 7]
abbrev dktX1_odds_1 : List UInt8 := dkwX1_odds_1 ++ dktX1_odds_2
def dkwX1_odds_0 : List UInt8 := [27, 28, 184, 0, 164, 153, 0, 42, 29, 3, 4, 184, 0, 112, 153, 0, 33, 42, 27, 28, 2, 182, 0, 204]
abbrev dktX1_odds_0 : List UInt8 := dkwX1_odds_0 ++ dktX1_odds_1
theorem dksX1_odds_0 : cX1_odds.data.toList.drop 0 = dktX1_odds_0 := by decide +kernel
theorem dksX1_odds_1 : cX1_odds.data.toList.drop 24 = dktX1_odds_1 := dk_seg dksX1_odds_0 24 rfl rfl
theorem dksX1_odds_2 : cX1_odds.data.toList.drop 47 = dktX1_odds_2 := dk_seg dksX1_odds_1 23 rfl rfl
theorem dksX1_odds_3 : cX1_odds.data.toList.drop 71 = dktX1_odds_3 := dk_seg dksX1_odds_2 24 rfl rfl
theorem dksX1_odds_4 : cX1_odds.data.toList.drop 95 = dktX1_odds_4 := dk_seg dksX1_odds_3 24 rfl rfl
theorem dksX1_odds_5 : cX1_odds.data.toList.drop 119 = dktX1_odds_5 := dk_seg dksX1_odds_4 24 rfl rfl
theorem dksX1_odds_6 : cX1_odds.data.toList.drop 143 = dktX1_odds_6 := dk_seg dksX1_odds_5 24 rfl rfl
theorem dksX1_odds_7 : cX1_odds.data.toList.drop 167 = dktX1_odds_7 := dk_seg dksX1_odds_6 24 rfl rfl
theorem dX1_odds_0 : decode cX1_odds 0 = .ok (.iload_n 1, 1) := dk_27 (dk_at dksX1_odds_0 0 rfl rfl)
theorem dX1_odds_1 : decode cX1_odds 1 = .ok (.iload_n 2, 1) := dk_28 (dk_at dksX1_odds_0 1 rfl rfl)
theorem dX1_odds_2 : decode cX1_odds 2 = .ok (.invokestatic 164, 3) := dk_184 0 164 (dk_at dksX1_odds_0 2 rfl rfl)
theorem dX1_odds_5 : decode cX1_odds 5 = .ok (.ifCond .eq 42, 3) := dk_153 0 42 (dk_at dksX1_odds_0 5 rfl rfl)
theorem dX1_odds_8 : decode cX1_odds 8 = .ok (.iload_n 3, 1) := dk_29 (dk_at dksX1_odds_0 8 rfl rfl)
theorem dX1_odds_9 : decode cX1_odds 9 = .ok (.iconst 0, 1) := dk_3 (dk_at dksX1_odds_0 9 rfl rfl)
theorem dX1_odds_10 : decode cX1_odds 10 = .ok (.iconst 1, 1) := dk_4 (dk_at dksX1_odds_0 10 rfl rfl)
theorem dX1_odds_11 : decode cX1_odds 11 = .ok (.invokestatic 112, 3) := dk_184 0 112 (dk_at dksX1_odds_0 11 rfl rfl)
theorem dX1_odds_14 : decode cX1_odds 14 = .ok (.ifCond .eq 33, 3) := dk_153 0 33 (dk_at dksX1_odds_0 14 rfl rfl)
theorem dX1_odds_17 : decode cX1_odds 17 = .ok (.aload_n 0, 1) := dk_42 (dk_at dksX1_odds_0 17 rfl rfl)
theorem dX1_odds_18 : decode cX1_odds 18 = .ok (.iload_n 1, 1) := dk_27 (dk_at dksX1_odds_0 18 rfl rfl)
theorem dX1_odds_19 : decode cX1_odds 19 = .ok (.iload_n 2, 1) := dk_28 (dk_at dksX1_odds_0 19 rfl rfl)
theorem dX1_odds_20 : decode cX1_odds 20 = .ok (.iconst (-1), 1) := dk_2 (dk_at dksX1_odds_0 20 rfl rfl)
theorem dX1_odds_21 : decode cX1_odds 21 = .ok (.invokevirtual 204, 3) := dk_182 0 204 (dk_at dksX1_odds_0 21 rfl rfl)
theorem dX1_odds_24 : decode cX1_odds 24 = .ok (.ifCond .eq 23, 3) := dk_153 0 23 (dk_at dksX1_odds_1 0 rfl rfl)
theorem dX1_odds_27 : decode cX1_odds 27 = .ok (.aload_n 0, 1) := dk_42 (dk_at dksX1_odds_1 3 rfl rfl)
theorem dX1_odds_28 : decode cX1_odds 28 = .ok (.getfield 66, 3) := dk_180 0 66 (dk_at dksX1_odds_1 4 rfl rfl)
theorem dX1_odds_31 : decode cX1_odds 31 = .ok (.getfield 182, 3) := dk_180 0 182 (dk_at dksX1_odds_1 7 rfl rfl)
theorem dX1_odds_34 : decode cX1_odds 34 = .ok (.aload_n 0, 1) := dk_42 (dk_at dksX1_odds_1 10 rfl rfl)
theorem dX1_odds_35 : decode cX1_odds 35 = .ok (.getfield 70, 3) := dk_180 0 70 (dk_at dksX1_odds_1 11 rfl rfl)
theorem dX1_odds_38 : decode cX1_odds 38 = .ok (.getfield 182, 3) := dk_180 0 182 (dk_at dksX1_odds_1 14 rfl rfl)
theorem dX1_odds_41 : decode cX1_odds 41 = .ok (.iadd, 1) := dk_96 (dk_at dksX1_odds_1 17 rfl rfl)
theorem dX1_odds_42 : decode cX1_odds 42 = .ok (.bipush 14, 2) := dk_16 14 (dk_at dksX1_odds_1 18 rfl rfl)
theorem dX1_odds_44 : decode cX1_odds 44 = .ok (.if_icmp .le 7, 3) := dk_164 0 7 (dk_at dksX1_odds_1 20 rfl rfl)
theorem dX1_odds_47 : decode cX1_odds 47 = .ok (.ldc2_w 250, 3) := dk_20 0 250 (dk_at dksX1_odds_2 0 rfl rfl)
theorem dX1_odds_50 : decode cX1_odds 50 = .ok (.lreturn, 1) := dk_173 (dk_at dksX1_odds_2 3 rfl rfl)
theorem dX1_odds_51 : decode cX1_odds 51 = .ok (.iconst 0, 1) := dk_3 (dk_at dksX1_odds_2 4 rfl rfl)
theorem dX1_odds_52 : decode cX1_odds 52 = .ok (.istore 4, 2) := dk_54 4 (dk_at dksX1_odds_2 5 rfl rfl)
theorem dX1_odds_54 : decode cX1_odds 54 = .ok (.iconst 0, 1) := dk_3 (dk_at dksX1_odds_2 7 rfl rfl)
theorem dX1_odds_55 : decode cX1_odds 55 = .ok (.istore 5, 2) := dk_54 5 (dk_at dksX1_odds_2 8 rfl rfl)
theorem dX1_odds_57 : decode cX1_odds 57 = .ok (.iload 5, 2) := dk_21 5 (dk_at dksX1_odds_2 10 rfl rfl)
theorem dX1_odds_59 : decode cX1_odds 59 = .ok (.bipush 24, 2) := dk_16 24 (dk_at dksX1_odds_2 12 rfl rfl)
theorem dX1_odds_61 : decode cX1_odds 61 = .ok (.if_icmp .ge 47, 3) := dk_162 0 47 (dk_at dksX1_odds_2 14 rfl rfl)
theorem dX1_odds_64 : decode cX1_odds 64 = .ok (.aload_n 0, 1) := dk_42 (dk_at dksX1_odds_2 17 rfl rfl)
theorem dX1_odds_65 : decode cX1_odds 65 = .ok (.getfield 21, 3) := dk_180 0 21 (dk_at dksX1_odds_2 18 rfl rfl)
theorem dX1_odds_68 : decode cX1_odds 68 = .ok (.iload 5, 2) := dk_21 5 (dk_at dksX1_odds_2 21 rfl rfl)
theorem dX1_odds_70 : decode cX1_odds 70 = .ok (.aaload, 1) := dk_50 (dk_at dksX1_odds_2 23 rfl rfl)
theorem dX1_odds_71 : decode cX1_odds 71 = .ok (.iload_n 1, 1) := dk_27 (dk_at dksX1_odds_3 0 rfl rfl)
theorem dX1_odds_72 : decode cX1_odds 72 = .ok (.iload_n 2, 1) := dk_28 (dk_at dksX1_odds_3 1 rfl rfl)
theorem dX1_odds_73 : decode cX1_odds 73 = .ok (.invokevirtual 172, 3) := dk_182 0 172 (dk_at dksX1_odds_3 2 rfl rfl)
theorem dX1_odds_76 : decode cX1_odds 76 = .ok (.ifCond .eq 26, 3) := dk_153 0 26 (dk_at dksX1_odds_3 5 rfl rfl)
theorem dX1_odds_79 : decode cX1_odds 79 = .ok (.aload_n 0, 1) := dk_42 (dk_at dksX1_odds_3 8 rfl rfl)
theorem dX1_odds_80 : decode cX1_odds 80 = .ok (.getfield 73, 3) := dk_180 0 73 (dk_at dksX1_odds_3 9 rfl rfl)
theorem dX1_odds_83 : decode cX1_odds 83 = .ok (.iload 4, 2) := dk_21 4 (dk_at dksX1_odds_3 12 rfl rfl)
theorem dX1_odds_85 : decode cX1_odds 85 = .ok (.iinc 4 1, 3) := dk_132 4 1 (dk_at dksX1_odds_3 14 rfl rfl)
theorem dX1_odds_88 : decode cX1_odds 88 = .ok (.aload_n 0, 1) := dk_42 (dk_at dksX1_odds_3 17 rfl rfl)
theorem dX1_odds_89 : decode cX1_odds 89 = .ok (.aload_n 0, 1) := dk_42 (dk_at dksX1_odds_3 18 rfl rfl)
theorem dX1_odds_90 : decode cX1_odds 90 = .ok (.getfield 21, 3) := dk_180 0 21 (dk_at dksX1_odds_3 19 rfl rfl)
theorem dX1_odds_93 : decode cX1_odds 93 = .ok (.iload 5, 2) := dk_21 5 (dk_at dksX1_odds_3 22 rfl rfl)
theorem dX1_odds_95 : decode cX1_odds 95 = .ok (.aaload, 1) := dk_50 (dk_at dksX1_odds_4 0 rfl rfl)
theorem dX1_odds_96 : decode cX1_odds 96 = .ok (.iload_n 1, 1) := dk_27 (dk_at dksX1_odds_4 1 rfl rfl)
theorem dX1_odds_97 : decode cX1_odds 97 = .ok (.iload_n 2, 1) := dk_28 (dk_at dksX1_odds_4 2 rfl rfl)
theorem dX1_odds_98 : decode cX1_odds 98 = .ok (.invokevirtual 175, 3) := dk_182 0 175 (dk_at dksX1_odds_4 3 rfl rfl)
theorem dX1_odds_101 : decode cX1_odds 101 = .ok (.iastore, 1) := dk_79 (dk_at dksX1_odds_4 6 rfl rfl)
theorem dX1_odds_102 : decode cX1_odds 102 = .ok (.iinc 5 1, 3) := dk_132 5 1 (dk_at dksX1_odds_4 7 rfl rfl)
theorem dX1_odds_105 : decode cX1_odds 105 = .ok (.goto (-48), 3) := dk_167 255 208 (dk_at dksX1_odds_4 10 rfl rfl)
theorem dX1_odds_108 : decode cX1_odds 108 = .ok (.aload_n 0, 1) := dk_42 (dk_at dksX1_odds_4 13 rfl rfl)
theorem dX1_odds_109 : decode cX1_odds 109 = .ok (.lconst 0, 1) := dk_9 (dk_at dksX1_odds_4 14 rfl rfl)
theorem dX1_odds_110 : decode cX1_odds 110 = .ok (.putfield 243, 3) := dk_181 0 243 (dk_at dksX1_odds_4 15 rfl rfl)
theorem dX1_odds_113 : decode cX1_odds 113 = .ok (.aload_n 0, 1) := dk_42 (dk_at dksX1_odds_4 18 rfl rfl)
theorem dX1_odds_114 : decode cX1_odds 114 = .ok (.iconst 0, 1) := dk_3 (dk_at dksX1_odds_4 19 rfl rfl)
theorem dX1_odds_115 : decode cX1_odds 115 = .ok (.putfield 237, 3) := dk_181 0 237 (dk_at dksX1_odds_4 20 rfl rfl)
theorem dX1_odds_118 : decode cX1_odds 118 = .ok (.aload_n 0, 1) := dk_42 (dk_at dksX1_odds_4 23 rfl rfl)
theorem dX1_odds_119 : decode cX1_odds 119 = .ok (.aload_n 0, 1) := dk_42 (dk_at dksX1_odds_5 0 rfl rfl)
theorem dX1_odds_120 : decode cX1_odds 120 = .ok (.invokevirtual 211, 3) := dk_182 0 211 (dk_at dksX1_odds_5 1 rfl rfl)
theorem dX1_odds_123 : decode cX1_odds 123 = .ok (.invokestatic 7, 3) := dk_184 0 7 (dk_at dksX1_odds_5 4 rfl rfl)
theorem dX1_odds_126 : decode cX1_odds 126 = .ok (.putfield 240, 3) := dk_181 0 240 (dk_at dksX1_odds_5 7 rfl rfl)
theorem dX1_odds_129 : decode cX1_odds 129 = .ok (.aload_n 0, 1) := dk_42 (dk_at dksX1_odds_5 10 rfl rfl)
theorem dX1_odds_130 : decode cX1_odds 130 = .ok (.iconst 0, 1) := dk_3 (dk_at dksX1_odds_5 11 rfl rfl)
theorem dX1_odds_131 : decode cX1_odds 131 = .ok (.aload_n 0, 1) := dk_42 (dk_at dksX1_odds_5 12 rfl rfl)
theorem dX1_odds_132 : decode cX1_odds 132 = .ok (.getfield 66, 3) := dk_180 0 66 (dk_at dksX1_odds_5 13 rfl rfl)
theorem dX1_odds_135 : decode cX1_odds 135 = .ok (.getfield 182, 3) := dk_180 0 182 (dk_at dksX1_odds_5 16 rfl rfl)
theorem dX1_odds_138 : decode cX1_odds 138 = .ok (.lconst 0, 1) := dk_9 (dk_at dksX1_odds_5 19 rfl rfl)
theorem dX1_odds_139 : decode cX1_odds 139 = .ok (.aload_n 0, 1) := dk_42 (dk_at dksX1_odds_5 20 rfl rfl)
theorem dX1_odds_140 : decode cX1_odds 140 = .ok (.getfield 66, 3) := dk_180 0 66 (dk_at dksX1_odds_5 21 rfl rfl)
theorem dX1_odds_143 : decode cX1_odds 143 = .ok (.getfield 182, 3) := dk_180 0 182 (dk_at dksX1_odds_6 0 rfl rfl)
theorem dX1_odds_146 : decode cX1_odds 146 = .ok (.iload 4, 2) := dk_21 4 (dk_at dksX1_odds_6 3 rfl rfl)
theorem dX1_odds_148 : decode cX1_odds 148 = .ok (.aload_n 0, 1) := dk_42 (dk_at dksX1_odds_6 5 rfl rfl)
theorem dX1_odds_149 : decode cX1_odds 149 = .ok (.getfield 66, 3) := dk_180 0 66 (dk_at dksX1_odds_6 6 rfl rfl)
theorem dX1_odds_152 : decode cX1_odds 152 = .ok (.getfield 185, 3) := dk_180 0 185 (dk_at dksX1_odds_6 9 rfl rfl)
theorem dX1_odds_155 : decode cX1_odds 155 = .ok (.aload_n 0, 1) := dk_42 (dk_at dksX1_odds_6 12 rfl rfl)
theorem dX1_odds_156 : decode cX1_odds 156 = .ok (.getfield 70, 3) := dk_180 0 70 (dk_at dksX1_odds_6 13 rfl rfl)
theorem dX1_odds_159 : decode cX1_odds 159 = .ok (.getfield 185, 3) := dk_180 0 185 (dk_at dksX1_odds_6 16 rfl rfl)
theorem dX1_odds_162 : decode cX1_odds 162 = .ok (.ladd, 1) := dk_97 (dk_at dksX1_odds_6 19 rfl rfl)
theorem dX1_odds_163 : decode cX1_odds 163 = .ok (.invokevirtual 246, 3) := dk_182 0 246 (dk_at dksX1_odds_6 20 rfl rfl)
theorem dX1_odds_166 : decode cX1_odds 166 = .ok (.aload_n 0, 1) := dk_42 (dk_at dksX1_odds_6 23 rfl rfl)
theorem dX1_odds_167 : decode cX1_odds 167 = .ok (.getfield 243, 3) := dk_180 0 243 (dk_at dksX1_odds_7 0 rfl rfl)
theorem dX1_odds_170 : decode cX1_odds 170 = .ok (.aload_n 0, 1) := dk_42 (dk_at dksX1_odds_7 3 rfl rfl)
theorem dX1_odds_171 : decode cX1_odds 171 = .ok (.getfield 237, 3) := dk_180 0 237 (dk_at dksX1_odds_7 4 rfl rfl)
theorem dX1_odds_174 : decode cX1_odds 174 = .ok (.i2l, 1) := dk_133 (dk_at dksX1_odds_7 7 rfl rfl)
theorem dX1_odds_175 : decode cX1_odds 175 = .ok (.iload_n 3, 1) := dk_29 (dk_at dksX1_odds_7 8 rfl rfl)
theorem dX1_odds_176 : decode cX1_odds 176 = .ok (.invokestatic 218, 3) := dk_184 0 218 (dk_at dksX1_odds_7 9 rfl rfl)
theorem dX1_odds_179 : decode cX1_odds 179 = .ok (.lreturn, 1) := dk_173 (dk_at dksX1_odds_7 12 rfl rfl)
def dkwX1_rivers_3 : List UInt8 := [167, 255, 194, 42, 182, 0, 200, 172]
abbrev dktX1_rivers_3 : List UInt8 := dkwX1_rivers_3 ++ []
def dkwX1_rivers_2 : List UInt8 := [182, 0, 192, 42, 42, 180, 0, 21, 21, 4, 50, 27, 28, 182, 0, 175, 133, 182, 0, 196, 132, 4, 1]
abbrev dktX1_rivers_2 : List UInt8 := dkwX1_rivers_2 ++ dktX1_rivers_3
def dkwX1_rivers_1 : List UInt8 := [21, 4, 50, 27, 28, 182, 0, 172, 153, 0, 34, 42, 42, 180, 0, 21, 21, 4, 50, 180, 0, 124]
abbrev dktX1_rivers_1 : List UInt8 := dkwX1_rivers_1 ++ dktX1_rivers_2
def dkwX1_rivers_0 : List UInt8 := [42, 182, 0, 189, 3, 54, 4, 21, 4, 16, 24, 162, 0, 61, 21, 4, 29, 159, 0, 49, 42, 180, 0, 21]
abbrev dktX1_rivers_0 : List UInt8 := dkwX1_rivers_0 ++ dktX1_rivers_1
theorem dksX1_rivers_0 : cX1_rivers.data.toList.drop 0 = dktX1_rivers_0 := by decide +kernel
theorem dksX1_rivers_1 : cX1_rivers.data.toList.drop 24 = dktX1_rivers_1 := dk_seg dksX1_rivers_0 24 rfl rfl
theorem dksX1_rivers_2 : cX1_rivers.data.toList.drop 46 = dktX1_rivers_2 := dk_seg dksX1_rivers_1 22 rfl rfl
theorem dksX1_rivers_3 : cX1_rivers.data.toList.drop 69 = dktX1_rivers_3 := dk_seg dksX1_rivers_2 23 rfl rfl
theorem dX1_rivers_0 : decode cX1_rivers 0 = .ok (.aload_n 0, 1) := dk_42 (dk_at dksX1_rivers_0 0 rfl rfl)
theorem dX1_rivers_1 : decode cX1_rivers 1 = .ok (.invokevirtual 189, 3) := dk_182 0 189 (dk_at dksX1_rivers_0 1 rfl rfl)
theorem dX1_rivers_4 : decode cX1_rivers 4 = .ok (.iconst 0, 1) := dk_3 (dk_at dksX1_rivers_0 4 rfl rfl)
theorem dX1_rivers_5 : decode cX1_rivers 5 = .ok (.istore 4, 2) := dk_54 4 (dk_at dksX1_rivers_0 5 rfl rfl)
theorem dX1_rivers_7 : decode cX1_rivers 7 = .ok (.iload 4, 2) := dk_21 4 (dk_at dksX1_rivers_0 7 rfl rfl)
theorem dX1_rivers_9 : decode cX1_rivers 9 = .ok (.bipush 24, 2) := dk_16 24 (dk_at dksX1_rivers_0 9 rfl rfl)
theorem dX1_rivers_11 : decode cX1_rivers 11 = .ok (.if_icmp .ge 61, 3) := dk_162 0 61 (dk_at dksX1_rivers_0 11 rfl rfl)
theorem dX1_rivers_14 : decode cX1_rivers 14 = .ok (.iload 4, 2) := dk_21 4 (dk_at dksX1_rivers_0 14 rfl rfl)
theorem dX1_rivers_16 : decode cX1_rivers 16 = .ok (.iload_n 3, 1) := dk_29 (dk_at dksX1_rivers_0 16 rfl rfl)
theorem dX1_rivers_17 : decode cX1_rivers 17 = .ok (.if_icmp .eq 49, 3) := dk_159 0 49 (dk_at dksX1_rivers_0 17 rfl rfl)
theorem dX1_rivers_20 : decode cX1_rivers 20 = .ok (.aload_n 0, 1) := dk_42 (dk_at dksX1_rivers_0 20 rfl rfl)
theorem dX1_rivers_21 : decode cX1_rivers 21 = .ok (.getfield 21, 3) := dk_180 0 21 (dk_at dksX1_rivers_0 21 rfl rfl)
theorem dX1_rivers_24 : decode cX1_rivers 24 = .ok (.iload 4, 2) := dk_21 4 (dk_at dksX1_rivers_1 0 rfl rfl)
theorem dX1_rivers_26 : decode cX1_rivers 26 = .ok (.aaload, 1) := dk_50 (dk_at dksX1_rivers_1 2 rfl rfl)
theorem dX1_rivers_27 : decode cX1_rivers 27 = .ok (.iload_n 1, 1) := dk_27 (dk_at dksX1_rivers_1 3 rfl rfl)
theorem dX1_rivers_28 : decode cX1_rivers 28 = .ok (.iload_n 2, 1) := dk_28 (dk_at dksX1_rivers_1 4 rfl rfl)
theorem dX1_rivers_29 : decode cX1_rivers 29 = .ok (.invokevirtual 172, 3) := dk_182 0 172 (dk_at dksX1_rivers_1 5 rfl rfl)
theorem dX1_rivers_32 : decode cX1_rivers 32 = .ok (.ifCond .eq 34, 3) := dk_153 0 34 (dk_at dksX1_rivers_1 8 rfl rfl)
theorem dX1_rivers_35 : decode cX1_rivers 35 = .ok (.aload_n 0, 1) := dk_42 (dk_at dksX1_rivers_1 11 rfl rfl)
theorem dX1_rivers_36 : decode cX1_rivers 36 = .ok (.aload_n 0, 1) := dk_42 (dk_at dksX1_rivers_1 12 rfl rfl)
theorem dX1_rivers_37 : decode cX1_rivers 37 = .ok (.getfield 21, 3) := dk_180 0 21 (dk_at dksX1_rivers_1 13 rfl rfl)
theorem dX1_rivers_40 : decode cX1_rivers 40 = .ok (.iload 4, 2) := dk_21 4 (dk_at dksX1_rivers_1 16 rfl rfl)
theorem dX1_rivers_42 : decode cX1_rivers 42 = .ok (.aaload, 1) := dk_50 (dk_at dksX1_rivers_1 18 rfl rfl)
theorem dX1_rivers_43 : decode cX1_rivers 43 = .ok (.getfield 124, 3) := dk_180 0 124 (dk_at dksX1_rivers_1 19 rfl rfl)
theorem dX1_rivers_46 : decode cX1_rivers 46 = .ok (.invokevirtual 192, 3) := dk_182 0 192 (dk_at dksX1_rivers_2 0 rfl rfl)
theorem dX1_rivers_49 : decode cX1_rivers 49 = .ok (.aload_n 0, 1) := dk_42 (dk_at dksX1_rivers_2 3 rfl rfl)
theorem dX1_rivers_50 : decode cX1_rivers 50 = .ok (.aload_n 0, 1) := dk_42 (dk_at dksX1_rivers_2 4 rfl rfl)
theorem dX1_rivers_51 : decode cX1_rivers 51 = .ok (.getfield 21, 3) := dk_180 0 21 (dk_at dksX1_rivers_2 5 rfl rfl)
theorem dX1_rivers_54 : decode cX1_rivers 54 = .ok (.iload 4, 2) := dk_21 4 (dk_at dksX1_rivers_2 8 rfl rfl)
theorem dX1_rivers_56 : decode cX1_rivers 56 = .ok (.aaload, 1) := dk_50 (dk_at dksX1_rivers_2 10 rfl rfl)
theorem dX1_rivers_57 : decode cX1_rivers 57 = .ok (.iload_n 1, 1) := dk_27 (dk_at dksX1_rivers_2 11 rfl rfl)
theorem dX1_rivers_58 : decode cX1_rivers 58 = .ok (.iload_n 2, 1) := dk_28 (dk_at dksX1_rivers_2 12 rfl rfl)
theorem dX1_rivers_59 : decode cX1_rivers 59 = .ok (.invokevirtual 175, 3) := dk_182 0 175 (dk_at dksX1_rivers_2 13 rfl rfl)
theorem dX1_rivers_62 : decode cX1_rivers 62 = .ok (.i2l, 1) := dk_133 (dk_at dksX1_rivers_2 16 rfl rfl)
theorem dX1_rivers_63 : decode cX1_rivers 63 = .ok (.invokevirtual 196, 3) := dk_182 0 196 (dk_at dksX1_rivers_2 17 rfl rfl)
theorem dX1_rivers_66 : decode cX1_rivers 66 = .ok (.iinc 4 1, 3) := dk_132 4 1 (dk_at dksX1_rivers_2 20 rfl rfl)
theorem dX1_rivers_69 : decode cX1_rivers 69 = .ok (.goto (-62), 3) := dk_167 255 194 (dk_at dksX1_rivers_3 0 rfl rfl)
theorem dX1_rivers_72 : decode cX1_rivers 72 = .ok (.aload_n 0, 1) := dk_42 (dk_at dksX1_rivers_3 3 rfl rfl)
theorem dX1_rivers_73 : decode cX1_rivers 73 = .ok (.invokevirtual 200, 3) := dk_182 0 200 (dk_at dksX1_rivers_3 4 rfl rfl)
theorem dX1_rivers_76 : decode cX1_rivers 76 = .ok (.ireturn, 1) := dk_172 (dk_at dksX1_rivers_3 7 rfl rfl)
def dkwX1_change_0 : List UInt8 := [42, 43, 29, 182, 0, 161, 42, 43, 28, 182, 0, 161, 100, 172]
abbrev dktX1_change_0 : List UInt8 := dkwX1_change_0 ++ []
theorem dksX1_change_0 : cX1_change.data.toList.drop 0 = dktX1_change_0 := by decide +kernel
theorem dX1_change_0 : decode cX1_change 0 = .ok (.aload_n 0, 1) := dk_42 (dk_at dksX1_change_0 0 rfl rfl)
theorem dX1_change_1 : decode cX1_change 1 = .ok (.aload_n 1, 1) := dk_43 (dk_at dksX1_change_0 1 rfl rfl)
theorem dX1_change_2 : decode cX1_change 2 = .ok (.iload_n 3, 1) := dk_29 (dk_at dksX1_change_0 2 rfl rfl)
theorem dX1_change_3 : decode cX1_change 3 = .ok (.invokevirtual 161, 3) := dk_182 0 161 (dk_at dksX1_change_0 3 rfl rfl)
theorem dX1_change_6 : decode cX1_change 6 = .ok (.aload_n 0, 1) := dk_42 (dk_at dksX1_change_0 6 rfl rfl)
theorem dX1_change_7 : decode cX1_change 7 = .ok (.aload_n 1, 1) := dk_43 (dk_at dksX1_change_0 7 rfl rfl)
theorem dX1_change_8 : decode cX1_change 8 = .ok (.iload_n 2, 1) := dk_28 (dk_at dksX1_change_0 8 rfl rfl)
theorem dX1_change_9 : decode cX1_change 9 = .ok (.invokevirtual 161, 3) := dk_182 0 161 (dk_at dksX1_change_0 9 rfl rfl)
theorem dX1_change_12 : decode cX1_change 12 = .ok (.isub, 1) := dk_100 (dk_at dksX1_change_0 12 rfl rfl)
theorem dX1_change_13 : decode cX1_change 13 = .ok (.ireturn, 1) := dk_172 (dk_at dksX1_change_0 13 rfl rfl)
def dkwX1_deals_4 : List UInt8 := [167, 255, 217, 177]
abbrev dktX1_deals_4 : List UInt8 := dkwX1_deals_4 ++ []
def dkwX1_deals_3 : List UInt8 := [100, 33, 42, 180, 0, 73, 21, 9, 46, 133, 97, 21, 5, 21, 6, 22, 7, 182, 0, 246, 132, 9, 1]
abbrev dktX1_deals_3 : List UInt8 := dkwX1_deals_3 ++ dktX1_deals_4
def dkwX1_deals_2 : List UInt8 := [97, 181, 0, 243, 177, 27, 54, 9, 21, 9, 21, 6, 28, 100, 163, 0, 36, 42, 21, 9, 4, 96, 28, 4]
abbrev dktX1_deals_2 : List UInt8 := dkwX1_deals_2 ++ dktX1_deals_3
def dkwX1_deals_1 : List UInt8 := [33, 101, 21, 5, 133, 105, 101, 184, 0, 7, 42, 180, 0, 240, 148, 155, 0, 13, 42, 89, 180, 0, 243, 10]
abbrev dktX1_deals_1 : List UInt8 := dkwX1_deals_1 ++ dktX1_deals_2
def dkwX1_deals_0 : List UInt8 := [28, 154, 0, 52, 42, 89, 180, 0, 237, 4, 96, 181, 0, 237, 33, 21, 6, 21, 5, 100, 133, 105, 22, 7]
abbrev dktX1_deals_0 : List UInt8 := dkwX1_deals_0 ++ dktX1_deals_1
theorem dksX1_deals_0 : cX1_deals.data.toList.drop 0 = dktX1_deals_0 := by decide +kernel
theorem dksX1_deals_1 : cX1_deals.data.toList.drop 24 = dktX1_deals_1 := dk_seg dksX1_deals_0 24 rfl rfl
theorem dksX1_deals_2 : cX1_deals.data.toList.drop 48 = dktX1_deals_2 := dk_seg dksX1_deals_1 24 rfl rfl
theorem dksX1_deals_3 : cX1_deals.data.toList.drop 72 = dktX1_deals_3 := dk_seg dksX1_deals_2 24 rfl rfl
theorem dksX1_deals_4 : cX1_deals.data.toList.drop 95 = dktX1_deals_4 := dk_seg dksX1_deals_3 23 rfl rfl
theorem dX1_deals_0 : decode cX1_deals 0 = .ok (.iload_n 2, 1) := dk_28 (dk_at dksX1_deals_0 0 rfl rfl)
theorem dX1_deals_1 : decode cX1_deals 1 = .ok (.ifCond .ne 52, 3) := dk_154 0 52 (dk_at dksX1_deals_0 1 rfl rfl)
theorem dX1_deals_4 : decode cX1_deals 4 = .ok (.aload_n 0, 1) := dk_42 (dk_at dksX1_deals_0 4 rfl rfl)
theorem dX1_deals_5 : decode cX1_deals 5 = .ok (.dup, 1) := dk_89 (dk_at dksX1_deals_0 5 rfl rfl)
theorem dX1_deals_6 : decode cX1_deals 6 = .ok (.getfield 237, 3) := dk_180 0 237 (dk_at dksX1_deals_0 6 rfl rfl)
theorem dX1_deals_9 : decode cX1_deals 9 = .ok (.iconst 1, 1) := dk_4 (dk_at dksX1_deals_0 9 rfl rfl)
theorem dX1_deals_10 : decode cX1_deals 10 = .ok (.iadd, 1) := dk_96 (dk_at dksX1_deals_0 10 rfl rfl)
theorem dX1_deals_11 : decode cX1_deals 11 = .ok (.putfield 237, 3) := dk_181 0 237 (dk_at dksX1_deals_0 11 rfl rfl)
theorem dX1_deals_14 : decode cX1_deals 14 = .ok (.lload_n 3, 1) := dk_33 (dk_at dksX1_deals_0 14 rfl rfl)
theorem dX1_deals_15 : decode cX1_deals 15 = .ok (.iload 6, 2) := dk_21 6 (dk_at dksX1_deals_0 15 rfl rfl)
theorem dX1_deals_17 : decode cX1_deals 17 = .ok (.iload 5, 2) := dk_21 5 (dk_at dksX1_deals_0 17 rfl rfl)
theorem dX1_deals_19 : decode cX1_deals 19 = .ok (.isub, 1) := dk_100 (dk_at dksX1_deals_0 19 rfl rfl)
theorem dX1_deals_20 : decode cX1_deals 20 = .ok (.i2l, 1) := dk_133 (dk_at dksX1_deals_0 20 rfl rfl)
theorem dX1_deals_21 : decode cX1_deals 21 = .ok (.lmul, 1) := dk_105 (dk_at dksX1_deals_0 21 rfl rfl)
theorem dX1_deals_22 : decode cX1_deals 22 = .ok (.lload 7, 2) := dk_22 7 (dk_at dksX1_deals_0 22 rfl rfl)
theorem dX1_deals_24 : decode cX1_deals 24 = .ok (.lload_n 3, 1) := dk_33 (dk_at dksX1_deals_1 0 rfl rfl)
theorem dX1_deals_25 : decode cX1_deals 25 = .ok (.lsub, 1) := dk_101 (dk_at dksX1_deals_1 1 rfl rfl)
theorem dX1_deals_26 : decode cX1_deals 26 = .ok (.iload 5, 2) := dk_21 5 (dk_at dksX1_deals_1 2 rfl rfl)
theorem dX1_deals_28 : decode cX1_deals 28 = .ok (.i2l, 1) := dk_133 (dk_at dksX1_deals_1 4 rfl rfl)
theorem dX1_deals_29 : decode cX1_deals 29 = .ok (.lmul, 1) := dk_105 (dk_at dksX1_deals_1 5 rfl rfl)
theorem dX1_deals_30 : decode cX1_deals 30 = .ok (.lsub, 1) := dk_101 (dk_at dksX1_deals_1 6 rfl rfl)
theorem dX1_deals_31 : decode cX1_deals 31 = .ok (.invokestatic 7, 3) := dk_184 0 7 (dk_at dksX1_deals_1 7 rfl rfl)
theorem dX1_deals_34 : decode cX1_deals 34 = .ok (.aload_n 0, 1) := dk_42 (dk_at dksX1_deals_1 10 rfl rfl)
theorem dX1_deals_35 : decode cX1_deals 35 = .ok (.getfield 240, 3) := dk_180 0 240 (dk_at dksX1_deals_1 11 rfl rfl)
theorem dX1_deals_38 : decode cX1_deals 38 = .ok (.lcmp, 1) := dk_148 (dk_at dksX1_deals_1 14 rfl rfl)
theorem dX1_deals_39 : decode cX1_deals 39 = .ok (.ifCond .lt 13, 3) := dk_155 0 13 (dk_at dksX1_deals_1 15 rfl rfl)
theorem dX1_deals_42 : decode cX1_deals 42 = .ok (.aload_n 0, 1) := dk_42 (dk_at dksX1_deals_1 18 rfl rfl)
theorem dX1_deals_43 : decode cX1_deals 43 = .ok (.dup, 1) := dk_89 (dk_at dksX1_deals_1 19 rfl rfl)
theorem dX1_deals_44 : decode cX1_deals 44 = .ok (.getfield 243, 3) := dk_180 0 243 (dk_at dksX1_deals_1 20 rfl rfl)
theorem dX1_deals_47 : decode cX1_deals 47 = .ok (.lconst 1, 1) := dk_10 (dk_at dksX1_deals_1 23 rfl rfl)
theorem dX1_deals_48 : decode cX1_deals 48 = .ok (.ladd, 1) := dk_97 (dk_at dksX1_deals_2 0 rfl rfl)
theorem dX1_deals_49 : decode cX1_deals 49 = .ok (.putfield 243, 3) := dk_181 0 243 (dk_at dksX1_deals_2 1 rfl rfl)
theorem dX1_deals_52 : decode cX1_deals 52 = .ok (.return_, 1) := dk_177 (dk_at dksX1_deals_2 4 rfl rfl)
theorem dX1_deals_53 : decode cX1_deals 53 = .ok (.iload_n 1, 1) := dk_27 (dk_at dksX1_deals_2 5 rfl rfl)
theorem dX1_deals_54 : decode cX1_deals 54 = .ok (.istore 9, 2) := dk_54 9 (dk_at dksX1_deals_2 6 rfl rfl)
theorem dX1_deals_56 : decode cX1_deals 56 = .ok (.iload 9, 2) := dk_21 9 (dk_at dksX1_deals_2 8 rfl rfl)
theorem dX1_deals_58 : decode cX1_deals 58 = .ok (.iload 6, 2) := dk_21 6 (dk_at dksX1_deals_2 10 rfl rfl)
theorem dX1_deals_60 : decode cX1_deals 60 = .ok (.iload_n 2, 1) := dk_28 (dk_at dksX1_deals_2 12 rfl rfl)
theorem dX1_deals_61 : decode cX1_deals 61 = .ok (.isub, 1) := dk_100 (dk_at dksX1_deals_2 13 rfl rfl)
theorem dX1_deals_62 : decode cX1_deals 62 = .ok (.if_icmp .gt 36, 3) := dk_163 0 36 (dk_at dksX1_deals_2 14 rfl rfl)
theorem dX1_deals_65 : decode cX1_deals 65 = .ok (.aload_n 0, 1) := dk_42 (dk_at dksX1_deals_2 17 rfl rfl)
theorem dX1_deals_66 : decode cX1_deals 66 = .ok (.iload 9, 2) := dk_21 9 (dk_at dksX1_deals_2 18 rfl rfl)
theorem dX1_deals_68 : decode cX1_deals 68 = .ok (.iconst 1, 1) := dk_4 (dk_at dksX1_deals_2 20 rfl rfl)
theorem dX1_deals_69 : decode cX1_deals 69 = .ok (.iadd, 1) := dk_96 (dk_at dksX1_deals_2 21 rfl rfl)
theorem dX1_deals_70 : decode cX1_deals 70 = .ok (.iload_n 2, 1) := dk_28 (dk_at dksX1_deals_2 22 rfl rfl)
theorem dX1_deals_71 : decode cX1_deals 71 = .ok (.iconst 1, 1) := dk_4 (dk_at dksX1_deals_2 23 rfl rfl)
theorem dX1_deals_72 : decode cX1_deals 72 = .ok (.isub, 1) := dk_100 (dk_at dksX1_deals_3 0 rfl rfl)
theorem dX1_deals_73 : decode cX1_deals 73 = .ok (.lload_n 3, 1) := dk_33 (dk_at dksX1_deals_3 1 rfl rfl)
theorem dX1_deals_74 : decode cX1_deals 74 = .ok (.aload_n 0, 1) := dk_42 (dk_at dksX1_deals_3 2 rfl rfl)
theorem dX1_deals_75 : decode cX1_deals 75 = .ok (.getfield 73, 3) := dk_180 0 73 (dk_at dksX1_deals_3 3 rfl rfl)
theorem dX1_deals_78 : decode cX1_deals 78 = .ok (.iload 9, 2) := dk_21 9 (dk_at dksX1_deals_3 6 rfl rfl)
theorem dX1_deals_80 : decode cX1_deals 80 = .ok (.iaload, 1) := dk_46 (dk_at dksX1_deals_3 8 rfl rfl)
theorem dX1_deals_81 : decode cX1_deals 81 = .ok (.i2l, 1) := dk_133 (dk_at dksX1_deals_3 9 rfl rfl)
theorem dX1_deals_82 : decode cX1_deals 82 = .ok (.ladd, 1) := dk_97 (dk_at dksX1_deals_3 10 rfl rfl)
theorem dX1_deals_83 : decode cX1_deals 83 = .ok (.iload 5, 2) := dk_21 5 (dk_at dksX1_deals_3 11 rfl rfl)
theorem dX1_deals_85 : decode cX1_deals 85 = .ok (.iload 6, 2) := dk_21 6 (dk_at dksX1_deals_3 13 rfl rfl)
theorem dX1_deals_87 : decode cX1_deals 87 = .ok (.lload 7, 2) := dk_22 7 (dk_at dksX1_deals_3 15 rfl rfl)
theorem dX1_deals_89 : decode cX1_deals 89 = .ok (.invokevirtual 246, 3) := dk_182 0 246 (dk_at dksX1_deals_3 17 rfl rfl)
theorem dX1_deals_92 : decode cX1_deals 92 = .ok (.iinc 9 1, 3) := dk_132 9 1 (dk_at dksX1_deals_3 20 rfl rfl)
theorem dX1_deals_95 : decode cX1_deals 95 = .ok (.goto (-39), 3) := dk_167 255 217 (dk_at dksX1_deals_4 0 rfl rfl)
theorem dX1_deals_98 : decode cX1_deals 98 = .ok (.return_, 1) := dk_177 (dk_at dksX1_deals_4 3 rfl rfl)
def dkwX1_lowest_0 : List UInt8 := [30, 184, 0, 7, 32, 184, 0, 1, 55, 5, 21, 4, 154, 0, 7, 30, 167, 0, 4, 32, 22, 5, 109, 173]
abbrev dktX1_lowest_0 : List UInt8 := dkwX1_lowest_0 ++ []
theorem dksX1_lowest_0 : cX1_lowest.data.toList.drop 0 = dktX1_lowest_0 := by decide +kernel
theorem dX1_lowest_0 : decode cX1_lowest 0 = .ok (.lload_n 0, 1) := dk_30 (dk_at dksX1_lowest_0 0 rfl rfl)
theorem dX1_lowest_1 : decode cX1_lowest 1 = .ok (.invokestatic 7, 3) := dk_184 0 7 (dk_at dksX1_lowest_0 1 rfl rfl)
theorem dX1_lowest_4 : decode cX1_lowest 4 = .ok (.lload_n 2, 1) := dk_32 (dk_at dksX1_lowest_0 4 rfl rfl)
theorem dX1_lowest_5 : decode cX1_lowest 5 = .ok (.invokestatic 1, 3) := dk_184 0 1 (dk_at dksX1_lowest_0 5 rfl rfl)
theorem dX1_lowest_8 : decode cX1_lowest 8 = .ok (.lstore 5, 2) := dk_55 5 (dk_at dksX1_lowest_0 8 rfl rfl)
theorem dX1_lowest_10 : decode cX1_lowest 10 = .ok (.iload 4, 2) := dk_21 4 (dk_at dksX1_lowest_0 10 rfl rfl)
theorem dX1_lowest_12 : decode cX1_lowest 12 = .ok (.ifCond .ne 7, 3) := dk_154 0 7 (dk_at dksX1_lowest_0 12 rfl rfl)
theorem dX1_lowest_15 : decode cX1_lowest 15 = .ok (.lload_n 0, 1) := dk_30 (dk_at dksX1_lowest_0 15 rfl rfl)
theorem dX1_lowest_16 : decode cX1_lowest 16 = .ok (.goto 4, 3) := dk_167 0 4 (dk_at dksX1_lowest_0 16 rfl rfl)
theorem dX1_lowest_19 : decode cX1_lowest 19 = .ok (.lload_n 2, 1) := dk_32 (dk_at dksX1_lowest_0 19 rfl rfl)
theorem dX1_lowest_20 : decode cX1_lowest 20 = .ok (.lload 5, 2) := dk_22 5 (dk_at dksX1_lowest_0 20 rfl rfl)
theorem dX1_lowest_22 : decode cX1_lowest 22 = .ok (.ldiv, 1) := dk_109 (dk_at dksX1_lowest_0 22 rfl rfl)
theorem dX1_lowest_23 : decode cX1_lowest 23 = .ok (.lreturn, 1) := dk_173 (dk_at dksX1_lowest_0 23 rfl rfl)
def dkwX1_gcd_0 : List UInt8 := [32, 9, 148, 154, 0, 7, 30, 167, 0, 10, 32, 30, 32, 113, 184, 0, 1, 173]
abbrev dktX1_gcd_0 : List UInt8 := dkwX1_gcd_0 ++ []
theorem dksX1_gcd_0 : cX1_gcd.data.toList.drop 0 = dktX1_gcd_0 := by decide +kernel
theorem dX1_gcd_0 : decode cX1_gcd 0 = .ok (.lload_n 2, 1) := dk_32 (dk_at dksX1_gcd_0 0 rfl rfl)
theorem dX1_gcd_1 : decode cX1_gcd 1 = .ok (.lconst 0, 1) := dk_9 (dk_at dksX1_gcd_0 1 rfl rfl)
theorem dX1_gcd_2 : decode cX1_gcd 2 = .ok (.lcmp, 1) := dk_148 (dk_at dksX1_gcd_0 2 rfl rfl)
theorem dX1_gcd_3 : decode cX1_gcd 3 = .ok (.ifCond .ne 7, 3) := dk_154 0 7 (dk_at dksX1_gcd_0 3 rfl rfl)
theorem dX1_gcd_6 : decode cX1_gcd 6 = .ok (.lload_n 0, 1) := dk_30 (dk_at dksX1_gcd_0 6 rfl rfl)
theorem dX1_gcd_7 : decode cX1_gcd 7 = .ok (.goto 10, 3) := dk_167 0 10 (dk_at dksX1_gcd_0 7 rfl rfl)
theorem dX1_gcd_10 : decode cX1_gcd 10 = .ok (.lload_n 2, 1) := dk_32 (dk_at dksX1_gcd_0 10 rfl rfl)
theorem dX1_gcd_11 : decode cX1_gcd 11 = .ok (.lload_n 0, 1) := dk_30 (dk_at dksX1_gcd_0 11 rfl rfl)
theorem dX1_gcd_12 : decode cX1_gcd 12 = .ok (.lload_n 2, 1) := dk_32 (dk_at dksX1_gcd_0 12 rfl rfl)
theorem dX1_gcd_13 : decode cX1_gcd 13 = .ok (.lrem, 1) := dk_113 (dk_at dksX1_gcd_0 13 rfl rfl)
theorem dX1_gcd_14 : decode cX1_gcd 14 = .ok (.invokestatic 1, 3) := dk_184 0 1 (dk_at dksX1_gcd_0 14 rfl rfl)
theorem dX1_gcd_17 : decode cX1_gcd 17 = .ok (.lreturn, 1) := dk_173 (dk_at dksX1_gcd_0 17 rfl rfl)
def dkwX1_alike_5 : List UInt8 := [20, 0, 250, 167, 0, 13, 22, 4, 22, 6, 28, 4, 100, 184, 0, 218, 173]
abbrev dktX1_alike_5 : List UInt8 := dkwX1_alike_5 ++ []
def dkwX1_alike_4 : List UInt8 := [182, 0, 215, 55, 6, 132, 8, 1, 167, 255, 188, 28, 154, 0, 8, 29, 133, 167, 0, 23, 29, 154, 0, 9]
abbrev dktX1_alike_4 : List UInt8 := dkwX1_alike_4 ++ dktX1_alike_5
def dkwX1_alike_3 : List UInt8 := [42, 182, 0, 215, 105, 148, 157, 0, 6, 167, 0, 18, 42, 182, 0, 211, 184, 0, 7, 55, 4, 42]
abbrev dktX1_alike_3 : List UInt8 := dkwX1_alike_3 ++ dktX1_alike_4
def dkwX1_alike_2 : List UInt8 := [182, 0, 204, 154, 0, 6, 167, 0, 45, 132, 3, 1, 42, 182, 0, 211, 184, 0, 7, 22, 6, 105, 22, 4]
abbrev dktX1_alike_2 : List UInt8 := dkwX1_alike_2 ++ dktX1_alike_3
def dkwX1_alike_1 : List UInt8 := [62, 9, 55, 4, 10, 55, 6, 4, 54, 8, 21, 8, 27, 163, 0, 68, 42, 21, 8, 4, 100, 21, 8, 2]
abbrev dktX1_alike_1 : List UInt8 := dkwX1_alike_1 ++ dktX1_alike_2
def dkwX1_alike_0 : List UInt8 := [27, 4, 16, 11, 184, 0, 112, 153, 0, 12, 28, 3, 5, 184, 0, 112, 154, 0, 7, 20, 0, 250, 173, 3]
abbrev dktX1_alike_0 : List UInt8 := dkwX1_alike_0 ++ dktX1_alike_1
theorem dksX1_alike_0 : cX1_alike.data.toList.drop 0 = dktX1_alike_0 := by decide +kernel
theorem dksX1_alike_1 : cX1_alike.data.toList.drop 24 = dktX1_alike_1 := dk_seg dksX1_alike_0 24 rfl rfl
theorem dksX1_alike_2 : cX1_alike.data.toList.drop 48 = dktX1_alike_2 := dk_seg dksX1_alike_1 24 rfl rfl
theorem dksX1_alike_3 : cX1_alike.data.toList.drop 72 = dktX1_alike_3 := dk_seg dksX1_alike_2 24 rfl rfl
theorem dksX1_alike_4 : cX1_alike.data.toList.drop 94 = dktX1_alike_4 := dk_seg dksX1_alike_3 22 rfl rfl
theorem dksX1_alike_5 : cX1_alike.data.toList.drop 118 = dktX1_alike_5 := dk_seg dksX1_alike_4 24 rfl rfl
theorem dX1_alike_0 : decode cX1_alike 0 = .ok (.iload_n 1, 1) := dk_27 (dk_at dksX1_alike_0 0 rfl rfl)
theorem dX1_alike_1 : decode cX1_alike 1 = .ok (.iconst 1, 1) := dk_4 (dk_at dksX1_alike_0 1 rfl rfl)
theorem dX1_alike_2 : decode cX1_alike 2 = .ok (.bipush 11, 2) := dk_16 11 (dk_at dksX1_alike_0 2 rfl rfl)
theorem dX1_alike_4 : decode cX1_alike 4 = .ok (.invokestatic 112, 3) := dk_184 0 112 (dk_at dksX1_alike_0 4 rfl rfl)
theorem dX1_alike_7 : decode cX1_alike 7 = .ok (.ifCond .eq 12, 3) := dk_153 0 12 (dk_at dksX1_alike_0 7 rfl rfl)
theorem dX1_alike_10 : decode cX1_alike 10 = .ok (.iload_n 2, 1) := dk_28 (dk_at dksX1_alike_0 10 rfl rfl)
theorem dX1_alike_11 : decode cX1_alike 11 = .ok (.iconst 0, 1) := dk_3 (dk_at dksX1_alike_0 11 rfl rfl)
theorem dX1_alike_12 : decode cX1_alike 12 = .ok (.iconst 2, 1) := dk_5 (dk_at dksX1_alike_0 12 rfl rfl)
theorem dX1_alike_13 : decode cX1_alike 13 = .ok (.invokestatic 112, 3) := dk_184 0 112 (dk_at dksX1_alike_0 13 rfl rfl)
theorem dX1_alike_16 : decode cX1_alike 16 = .ok (.ifCond .ne 7, 3) := dk_154 0 7 (dk_at dksX1_alike_0 16 rfl rfl)
theorem dX1_alike_19 : decode cX1_alike 19 = .ok (.ldc2_w 250, 3) := dk_20 0 250 (dk_at dksX1_alike_0 19 rfl rfl)
theorem dX1_alike_22 : decode cX1_alike 22 = .ok (.lreturn, 1) := dk_173 (dk_at dksX1_alike_0 22 rfl rfl)
theorem dX1_alike_23 : decode cX1_alike 23 = .ok (.iconst 0, 1) := dk_3 (dk_at dksX1_alike_0 23 rfl rfl)
theorem dX1_alike_24 : decode cX1_alike 24 = .ok (.istore_n 3, 1) := dk_62 (dk_at dksX1_alike_1 0 rfl rfl)
theorem dX1_alike_25 : decode cX1_alike 25 = .ok (.lconst 0, 1) := dk_9 (dk_at dksX1_alike_1 1 rfl rfl)
theorem dX1_alike_26 : decode cX1_alike 26 = .ok (.lstore 4, 2) := dk_55 4 (dk_at dksX1_alike_1 2 rfl rfl)
theorem dX1_alike_28 : decode cX1_alike 28 = .ok (.lconst 1, 1) := dk_10 (dk_at dksX1_alike_1 4 rfl rfl)
theorem dX1_alike_29 : decode cX1_alike 29 = .ok (.lstore 6, 2) := dk_55 6 (dk_at dksX1_alike_1 5 rfl rfl)
theorem dX1_alike_31 : decode cX1_alike 31 = .ok (.iconst 1, 1) := dk_4 (dk_at dksX1_alike_1 7 rfl rfl)
theorem dX1_alike_32 : decode cX1_alike 32 = .ok (.istore 8, 2) := dk_54 8 (dk_at dksX1_alike_1 8 rfl rfl)
theorem dX1_alike_34 : decode cX1_alike 34 = .ok (.iload 8, 2) := dk_21 8 (dk_at dksX1_alike_1 10 rfl rfl)
theorem dX1_alike_36 : decode cX1_alike 36 = .ok (.iload_n 1, 1) := dk_27 (dk_at dksX1_alike_1 12 rfl rfl)
theorem dX1_alike_37 : decode cX1_alike 37 = .ok (.if_icmp .gt 68, 3) := dk_163 0 68 (dk_at dksX1_alike_1 13 rfl rfl)
theorem dX1_alike_40 : decode cX1_alike 40 = .ok (.aload_n 0, 1) := dk_42 (dk_at dksX1_alike_1 16 rfl rfl)
theorem dX1_alike_41 : decode cX1_alike 41 = .ok (.iload 8, 2) := dk_21 8 (dk_at dksX1_alike_1 17 rfl rfl)
theorem dX1_alike_43 : decode cX1_alike 43 = .ok (.iconst 1, 1) := dk_4 (dk_at dksX1_alike_1 19 rfl rfl)
theorem dX1_alike_44 : decode cX1_alike 44 = .ok (.isub, 1) := dk_100 (dk_at dksX1_alike_1 20 rfl rfl)
theorem dX1_alike_45 : decode cX1_alike 45 = .ok (.iload 8, 2) := dk_21 8 (dk_at dksX1_alike_1 21 rfl rfl)
theorem dX1_alike_47 : decode cX1_alike 47 = .ok (.iconst (-1), 1) := dk_2 (dk_at dksX1_alike_1 23 rfl rfl)
theorem dX1_alike_48 : decode cX1_alike 48 = .ok (.invokevirtual 204, 3) := dk_182 0 204 (dk_at dksX1_alike_2 0 rfl rfl)
theorem dX1_alike_51 : decode cX1_alike 51 = .ok (.ifCond .ne 6, 3) := dk_154 0 6 (dk_at dksX1_alike_2 3 rfl rfl)
theorem dX1_alike_54 : decode cX1_alike 54 = .ok (.goto 45, 3) := dk_167 0 45 (dk_at dksX1_alike_2 6 rfl rfl)
theorem dX1_alike_57 : decode cX1_alike 57 = .ok (.iinc 3 1, 3) := dk_132 3 1 (dk_at dksX1_alike_2 9 rfl rfl)
theorem dX1_alike_60 : decode cX1_alike 60 = .ok (.aload_n 0, 1) := dk_42 (dk_at dksX1_alike_2 12 rfl rfl)
theorem dX1_alike_61 : decode cX1_alike 61 = .ok (.invokevirtual 211, 3) := dk_182 0 211 (dk_at dksX1_alike_2 13 rfl rfl)
theorem dX1_alike_64 : decode cX1_alike 64 = .ok (.invokestatic 7, 3) := dk_184 0 7 (dk_at dksX1_alike_2 16 rfl rfl)
theorem dX1_alike_67 : decode cX1_alike 67 = .ok (.lload 6, 2) := dk_22 6 (dk_at dksX1_alike_2 19 rfl rfl)
theorem dX1_alike_69 : decode cX1_alike 69 = .ok (.lmul, 1) := dk_105 (dk_at dksX1_alike_2 21 rfl rfl)
theorem dX1_alike_70 : decode cX1_alike 70 = .ok (.lload 4, 2) := dk_22 4 (dk_at dksX1_alike_2 22 rfl rfl)
theorem dX1_alike_72 : decode cX1_alike 72 = .ok (.aload_n 0, 1) := dk_42 (dk_at dksX1_alike_3 0 rfl rfl)
theorem dX1_alike_73 : decode cX1_alike 73 = .ok (.invokevirtual 215, 3) := dk_182 0 215 (dk_at dksX1_alike_3 1 rfl rfl)
theorem dX1_alike_76 : decode cX1_alike 76 = .ok (.lmul, 1) := dk_105 (dk_at dksX1_alike_3 4 rfl rfl)
theorem dX1_alike_77 : decode cX1_alike 77 = .ok (.lcmp, 1) := dk_148 (dk_at dksX1_alike_3 5 rfl rfl)
theorem dX1_alike_78 : decode cX1_alike 78 = .ok (.ifCond .gt 6, 3) := dk_157 0 6 (dk_at dksX1_alike_3 6 rfl rfl)
theorem dX1_alike_81 : decode cX1_alike 81 = .ok (.goto 18, 3) := dk_167 0 18 (dk_at dksX1_alike_3 9 rfl rfl)
theorem dX1_alike_84 : decode cX1_alike 84 = .ok (.aload_n 0, 1) := dk_42 (dk_at dksX1_alike_3 12 rfl rfl)
theorem dX1_alike_85 : decode cX1_alike 85 = .ok (.invokevirtual 211, 3) := dk_182 0 211 (dk_at dksX1_alike_3 13 rfl rfl)
theorem dX1_alike_88 : decode cX1_alike 88 = .ok (.invokestatic 7, 3) := dk_184 0 7 (dk_at dksX1_alike_3 16 rfl rfl)
theorem dX1_alike_91 : decode cX1_alike 91 = .ok (.lstore 4, 2) := dk_55 4 (dk_at dksX1_alike_3 19 rfl rfl)
theorem dX1_alike_93 : decode cX1_alike 93 = .ok (.aload_n 0, 1) := dk_42 (dk_at dksX1_alike_3 21 rfl rfl)
theorem dX1_alike_94 : decode cX1_alike 94 = .ok (.invokevirtual 215, 3) := dk_182 0 215 (dk_at dksX1_alike_4 0 rfl rfl)
theorem dX1_alike_97 : decode cX1_alike 97 = .ok (.lstore 6, 2) := dk_55 6 (dk_at dksX1_alike_4 3 rfl rfl)
theorem dX1_alike_99 : decode cX1_alike 99 = .ok (.iinc 8 1, 3) := dk_132 8 1 (dk_at dksX1_alike_4 5 rfl rfl)
theorem dX1_alike_102 : decode cX1_alike 102 = .ok (.goto (-68), 3) := dk_167 255 188 (dk_at dksX1_alike_4 8 rfl rfl)
theorem dX1_alike_105 : decode cX1_alike 105 = .ok (.iload_n 2, 1) := dk_28 (dk_at dksX1_alike_4 11 rfl rfl)
theorem dX1_alike_106 : decode cX1_alike 106 = .ok (.ifCond .ne 8, 3) := dk_154 0 8 (dk_at dksX1_alike_4 12 rfl rfl)
theorem dX1_alike_109 : decode cX1_alike 109 = .ok (.iload_n 3, 1) := dk_29 (dk_at dksX1_alike_4 15 rfl rfl)
theorem dX1_alike_110 : decode cX1_alike 110 = .ok (.i2l, 1) := dk_133 (dk_at dksX1_alike_4 16 rfl rfl)
theorem dX1_alike_111 : decode cX1_alike 111 = .ok (.goto 23, 3) := dk_167 0 23 (dk_at dksX1_alike_4 17 rfl rfl)
theorem dX1_alike_114 : decode cX1_alike 114 = .ok (.iload_n 3, 1) := dk_29 (dk_at dksX1_alike_4 20 rfl rfl)
theorem dX1_alike_115 : decode cX1_alike 115 = .ok (.ifCond .ne 9, 3) := dk_154 0 9 (dk_at dksX1_alike_4 21 rfl rfl)
theorem dX1_alike_118 : decode cX1_alike 118 = .ok (.ldc2_w 250, 3) := dk_20 0 250 (dk_at dksX1_alike_5 0 rfl rfl)
theorem dX1_alike_121 : decode cX1_alike 121 = .ok (.goto 13, 3) := dk_167 0 13 (dk_at dksX1_alike_5 3 rfl rfl)
theorem dX1_alike_124 : decode cX1_alike 124 = .ok (.lload 4, 2) := dk_22 4 (dk_at dksX1_alike_5 6 rfl rfl)
theorem dX1_alike_126 : decode cX1_alike 126 = .ok (.lload 6, 2) := dk_22 6 (dk_at dksX1_alike_5 8 rfl rfl)
theorem dX1_alike_128 : decode cX1_alike 128 = .ok (.iload_n 2, 1) := dk_28 (dk_at dksX1_alike_5 10 rfl rfl)
theorem dX1_alike_129 : decode cX1_alike 129 = .ok (.iconst 1, 1) := dk_4 (dk_at dksX1_alike_5 11 rfl rfl)
theorem dX1_alike_130 : decode cX1_alike 130 = .ok (.isub, 1) := dk_100 (dk_at dksX1_alike_5 12 rfl rfl)
theorem dX1_alike_131 : decode cX1_alike 131 = .ok (.invokestatic 218, 3) := dk_184 0 218 (dk_at dksX1_alike_5 13 rfl rfl)
theorem dX1_alike_134 : decode cX1_alike 134 = .ok (.lreturn, 1) := dk_173 (dk_at dksX1_alike_5 16 rfl rfl)
def dkwX1_below_0 : List UInt8 := [42, 180, 0, 66, 180, 0, 182, 133, 42, 180, 0, 70, 180, 0, 182, 133, 105, 173]
abbrev dktX1_below_0 : List UInt8 := dkwX1_below_0 ++ []
theorem dksX1_below_0 : cX1_below.data.toList.drop 0 = dktX1_below_0 := by decide +kernel
theorem dX1_below_0 : decode cX1_below 0 = .ok (.aload_n 0, 1) := dk_42 (dk_at dksX1_below_0 0 rfl rfl)
theorem dX1_below_1 : decode cX1_below 1 = .ok (.getfield 66, 3) := dk_180 0 66 (dk_at dksX1_below_0 1 rfl rfl)
theorem dX1_below_4 : decode cX1_below 4 = .ok (.getfield 182, 3) := dk_180 0 182 (dk_at dksX1_below_0 4 rfl rfl)
theorem dX1_below_7 : decode cX1_below 7 = .ok (.i2l, 1) := dk_133 (dk_at dksX1_below_0 7 rfl rfl)
theorem dX1_below_8 : decode cX1_below 8 = .ok (.aload_n 0, 1) := dk_42 (dk_at dksX1_below_0 8 rfl rfl)
theorem dX1_below_9 : decode cX1_below 9 = .ok (.getfield 70, 3) := dk_180 0 70 (dk_at dksX1_below_0 9 rfl rfl)
theorem dX1_below_12 : decode cX1_below 12 = .ok (.getfield 182, 3) := dk_180 0 182 (dk_at dksX1_below_0 12 rfl rfl)
theorem dX1_below_15 : decode cX1_below 15 = .ok (.i2l, 1) := dk_133 (dk_at dksX1_below_0 15 rfl rfl)
theorem dX1_below_16 : decode cX1_below 16 = .ok (.lmul, 1) := dk_105 (dk_at dksX1_below_0 16 rfl rfl)
theorem dX1_below_17 : decode cX1_below 17 = .ok (.lreturn, 1) := dk_173 (dk_at dksX1_below_0 17 rfl rfl)
def dkwX1_feed_4 : List UInt8 := [96, 181, 0, 252, 21, 8, 145, 84, 132, 7, 1, 167, 255, 153, 42, 180, 0, 252, 172]
abbrev dktX1_feed_4 : List UInt8 := dkwX1_feed_4 ++ []
def dkwX1_feed_3 : List UInt8 := [163, 0, 32, 42, 180, 0, 252, 17, 3, 232, 162, 0, 22, 42, 180, 0, 33, 42, 89, 180, 0, 252, 90, 4]
abbrev dktX1_feed_3 : List UInt8 := dkwX1_feed_3 ++ dktX1_feed_4
def dkwX1_feed_2 : List UInt8 := [17, 0, 255, 126, 54, 8, 21, 8, 16, 10, 159, 0, 17, 21, 8, 16, 32, 161, 0, 39, 21, 8, 16, 126]
abbrev dktX1_feed_2 : List UInt8 := dkwX1_feed_2 ++ dktX1_feed_3
def dkwX1_feed_1 : List UInt8 := [16, 16, 162, 0, 7, 33, 167, 0, 5, 22, 5, 16, 56, 16, 8, 21, 7, 16, 8, 112, 104, 100, 123, 136]
abbrev dktX1_feed_1 : List UInt8 := dkwX1_feed_1 ++ dktX1_feed_2
def dkwX1_feed_0 : List UInt8 := [3, 54, 7, 21, 7, 16, 24, 162, 0, 102, 21, 7, 16, 8, 162, 0, 7, 31, 167, 0, 16, 21, 7]
abbrev dktX1_feed_0 : List UInt8 := dkwX1_feed_0 ++ dktX1_feed_1
theorem dksX1_feed_0 : cX1_feed.data.toList.drop 0 = dktX1_feed_0 := by decide +kernel
theorem dksX1_feed_1 : cX1_feed.data.toList.drop 23 = dktX1_feed_1 := dk_seg dksX1_feed_0 23 rfl rfl
theorem dksX1_feed_2 : cX1_feed.data.toList.drop 47 = dktX1_feed_2 := dk_seg dksX1_feed_1 24 rfl rfl
theorem dksX1_feed_3 : cX1_feed.data.toList.drop 71 = dktX1_feed_3 := dk_seg dksX1_feed_2 24 rfl rfl
theorem dksX1_feed_4 : cX1_feed.data.toList.drop 95 = dktX1_feed_4 := dk_seg dksX1_feed_3 24 rfl rfl
theorem dX1_feed_0 : decode cX1_feed 0 = .ok (.iconst 0, 1) := dk_3 (dk_at dksX1_feed_0 0 rfl rfl)
theorem dX1_feed_1 : decode cX1_feed 1 = .ok (.istore 7, 2) := dk_54 7 (dk_at dksX1_feed_0 1 rfl rfl)
theorem dX1_feed_3 : decode cX1_feed 3 = .ok (.iload 7, 2) := dk_21 7 (dk_at dksX1_feed_0 3 rfl rfl)
theorem dX1_feed_5 : decode cX1_feed 5 = .ok (.bipush 24, 2) := dk_16 24 (dk_at dksX1_feed_0 5 rfl rfl)
theorem dX1_feed_7 : decode cX1_feed 7 = .ok (.if_icmp .ge 102, 3) := dk_162 0 102 (dk_at dksX1_feed_0 7 rfl rfl)
theorem dX1_feed_10 : decode cX1_feed 10 = .ok (.iload 7, 2) := dk_21 7 (dk_at dksX1_feed_0 10 rfl rfl)
theorem dX1_feed_12 : decode cX1_feed 12 = .ok (.bipush 8, 2) := dk_16 8 (dk_at dksX1_feed_0 12 rfl rfl)
theorem dX1_feed_14 : decode cX1_feed 14 = .ok (.if_icmp .ge 7, 3) := dk_162 0 7 (dk_at dksX1_feed_0 14 rfl rfl)
theorem dX1_feed_17 : decode cX1_feed 17 = .ok (.lload_n 1, 1) := dk_31 (dk_at dksX1_feed_0 17 rfl rfl)
theorem dX1_feed_18 : decode cX1_feed 18 = .ok (.goto 16, 3) := dk_167 0 16 (dk_at dksX1_feed_0 18 rfl rfl)
theorem dX1_feed_21 : decode cX1_feed 21 = .ok (.iload 7, 2) := dk_21 7 (dk_at dksX1_feed_0 21 rfl rfl)
theorem dX1_feed_23 : decode cX1_feed 23 = .ok (.bipush 16, 2) := dk_16 16 (dk_at dksX1_feed_1 0 rfl rfl)
theorem dX1_feed_25 : decode cX1_feed 25 = .ok (.if_icmp .ge 7, 3) := dk_162 0 7 (dk_at dksX1_feed_1 2 rfl rfl)
theorem dX1_feed_28 : decode cX1_feed 28 = .ok (.lload_n 3, 1) := dk_33 (dk_at dksX1_feed_1 5 rfl rfl)
theorem dX1_feed_29 : decode cX1_feed 29 = .ok (.goto 5, 3) := dk_167 0 5 (dk_at dksX1_feed_1 6 rfl rfl)
theorem dX1_feed_32 : decode cX1_feed 32 = .ok (.lload 5, 2) := dk_22 5 (dk_at dksX1_feed_1 9 rfl rfl)
theorem dX1_feed_34 : decode cX1_feed 34 = .ok (.bipush 56, 2) := dk_16 56 (dk_at dksX1_feed_1 11 rfl rfl)
theorem dX1_feed_36 : decode cX1_feed 36 = .ok (.bipush 8, 2) := dk_16 8 (dk_at dksX1_feed_1 13 rfl rfl)
theorem dX1_feed_38 : decode cX1_feed 38 = .ok (.iload 7, 2) := dk_21 7 (dk_at dksX1_feed_1 15 rfl rfl)
theorem dX1_feed_40 : decode cX1_feed 40 = .ok (.bipush 8, 2) := dk_16 8 (dk_at dksX1_feed_1 17 rfl rfl)
theorem dX1_feed_42 : decode cX1_feed 42 = .ok (.irem, 1) := dk_112 (dk_at dksX1_feed_1 19 rfl rfl)
theorem dX1_feed_43 : decode cX1_feed 43 = .ok (.imul, 1) := dk_104 (dk_at dksX1_feed_1 20 rfl rfl)
theorem dX1_feed_44 : decode cX1_feed 44 = .ok (.isub, 1) := dk_100 (dk_at dksX1_feed_1 21 rfl rfl)
theorem dX1_feed_45 : decode cX1_feed 45 = .ok (.lshr, 1) := dk_123 (dk_at dksX1_feed_1 22 rfl rfl)
theorem dX1_feed_46 : decode cX1_feed 46 = .ok (.l2i, 1) := dk_136 (dk_at dksX1_feed_1 23 rfl rfl)
theorem dX1_feed_47 : decode cX1_feed 47 = .ok (.sipush 255, 3) := dk_17 0 255 (dk_at dksX1_feed_2 0 rfl rfl)
theorem dX1_feed_50 : decode cX1_feed 50 = .ok (.iand, 1) := dk_126 (dk_at dksX1_feed_2 3 rfl rfl)
theorem dX1_feed_51 : decode cX1_feed 51 = .ok (.istore 8, 2) := dk_54 8 (dk_at dksX1_feed_2 4 rfl rfl)
theorem dX1_feed_53 : decode cX1_feed 53 = .ok (.iload 8, 2) := dk_21 8 (dk_at dksX1_feed_2 6 rfl rfl)
theorem dX1_feed_55 : decode cX1_feed 55 = .ok (.bipush 10, 2) := dk_16 10 (dk_at dksX1_feed_2 8 rfl rfl)
theorem dX1_feed_57 : decode cX1_feed 57 = .ok (.if_icmp .eq 17, 3) := dk_159 0 17 (dk_at dksX1_feed_2 10 rfl rfl)
theorem dX1_feed_60 : decode cX1_feed 60 = .ok (.iload 8, 2) := dk_21 8 (dk_at dksX1_feed_2 13 rfl rfl)
theorem dX1_feed_62 : decode cX1_feed 62 = .ok (.bipush 32, 2) := dk_16 32 (dk_at dksX1_feed_2 15 rfl rfl)
theorem dX1_feed_64 : decode cX1_feed 64 = .ok (.if_icmp .lt 39, 3) := dk_161 0 39 (dk_at dksX1_feed_2 17 rfl rfl)
theorem dX1_feed_67 : decode cX1_feed 67 = .ok (.iload 8, 2) := dk_21 8 (dk_at dksX1_feed_2 20 rfl rfl)
theorem dX1_feed_69 : decode cX1_feed 69 = .ok (.bipush 126, 2) := dk_16 126 (dk_at dksX1_feed_2 22 rfl rfl)
theorem dX1_feed_71 : decode cX1_feed 71 = .ok (.if_icmp .gt 32, 3) := dk_163 0 32 (dk_at dksX1_feed_3 0 rfl rfl)
theorem dX1_feed_74 : decode cX1_feed 74 = .ok (.aload_n 0, 1) := dk_42 (dk_at dksX1_feed_3 3 rfl rfl)
theorem dX1_feed_75 : decode cX1_feed 75 = .ok (.getfield 252, 3) := dk_180 0 252 (dk_at dksX1_feed_3 4 rfl rfl)
theorem dX1_feed_78 : decode cX1_feed 78 = .ok (.sipush 1000, 3) := dk_17 3 232 (dk_at dksX1_feed_3 7 rfl rfl)
theorem dX1_feed_81 : decode cX1_feed 81 = .ok (.if_icmp .ge 22, 3) := dk_162 0 22 (dk_at dksX1_feed_3 10 rfl rfl)
theorem dX1_feed_84 : decode cX1_feed 84 = .ok (.aload_n 0, 1) := dk_42 (dk_at dksX1_feed_3 13 rfl rfl)
theorem dX1_feed_85 : decode cX1_feed 85 = .ok (.getfield 33, 3) := dk_180 0 33 (dk_at dksX1_feed_3 14 rfl rfl)
theorem dX1_feed_88 : decode cX1_feed 88 = .ok (.aload_n 0, 1) := dk_42 (dk_at dksX1_feed_3 17 rfl rfl)
theorem dX1_feed_89 : decode cX1_feed 89 = .ok (.dup, 1) := dk_89 (dk_at dksX1_feed_3 18 rfl rfl)
theorem dX1_feed_90 : decode cX1_feed 90 = .ok (.getfield 252, 3) := dk_180 0 252 (dk_at dksX1_feed_3 19 rfl rfl)
theorem dX1_feed_93 : decode cX1_feed 93 = .ok (.dup_x1, 1) := dk_90 (dk_at dksX1_feed_3 22 rfl rfl)
theorem dX1_feed_94 : decode cX1_feed 94 = .ok (.iconst 1, 1) := dk_4 (dk_at dksX1_feed_3 23 rfl rfl)
theorem dX1_feed_95 : decode cX1_feed 95 = .ok (.iadd, 1) := dk_96 (dk_at dksX1_feed_4 0 rfl rfl)
theorem dX1_feed_96 : decode cX1_feed 96 = .ok (.putfield 252, 3) := dk_181 0 252 (dk_at dksX1_feed_4 1 rfl rfl)
theorem dX1_feed_99 : decode cX1_feed 99 = .ok (.iload 8, 2) := dk_21 8 (dk_at dksX1_feed_4 4 rfl rfl)
theorem dX1_feed_101 : decode cX1_feed 101 = .ok (.i2b, 1) := dk_145 (dk_at dksX1_feed_4 6 rfl rfl)
theorem dX1_feed_102 : decode cX1_feed 102 = .ok (.bastore, 1) := dk_84 (dk_at dksX1_feed_4 7 rfl rfl)
theorem dX1_feed_103 : decode cX1_feed 103 = .ok (.iinc 7 1, 3) := dk_132 7 1 (dk_at dksX1_feed_4 8 rfl rfl)
theorem dX1_feed_106 : decode cX1_feed 106 = .ok (.goto (-103), 3) := dk_167 255 153 (dk_at dksX1_feed_4 11 rfl rfl)
theorem dX1_feed_109 : decode cX1_feed 109 = .ok (.aload_n 0, 1) := dk_42 (dk_at dksX1_feed_4 14 rfl rfl)
theorem dX1_feed_110 : decode cX1_feed 110 = .ok (.getfield 252, 3) := dk_180 0 252 (dk_at dksX1_feed_4 15 rfl rfl)
theorem dX1_feed_113 : decode cX1_feed 113 = .ok (.ireturn, 1) := dk_172 (dk_at dksX1_feed_4 18 rfl rfl)
def dkwX1_law_2 : List UInt8 := [45, 180, 1, 11, 172, 3, 172]
abbrev dktX1_law_2 : List UInt8 := dkwX1_law_2 ++ []
def dkwX1_law_1 : List UInt8 := [180, 0, 33, 28, 182, 1, 2, 42, 180, 0, 46, 27, 42, 180, 0, 40, 182, 1, 5, 83, 167, 0, 9, 78]
abbrev dktX1_law_1 : List UInt8 := dkwX1_law_1 ++ dktX1_law_2
def dkwX1_law_0 : List UInt8 := [42, 180, 0, 252, 61, 42, 3, 181, 0, 252, 27, 184, 0, 255, 154, 0, 5, 2, 172, 42, 180, 0, 40, 42]
abbrev dktX1_law_0 : List UInt8 := dkwX1_law_0 ++ dktX1_law_1
theorem dksX1_law_0 : cX1_law.data.toList.drop 0 = dktX1_law_0 := by decide +kernel
theorem dksX1_law_1 : cX1_law.data.toList.drop 24 = dktX1_law_1 := dk_seg dksX1_law_0 24 rfl rfl
theorem dksX1_law_2 : cX1_law.data.toList.drop 48 = dktX1_law_2 := dk_seg dksX1_law_1 24 rfl rfl
theorem dX1_law_0 : decode cX1_law 0 = .ok (.aload_n 0, 1) := dk_42 (dk_at dksX1_law_0 0 rfl rfl)
theorem dX1_law_1 : decode cX1_law 1 = .ok (.getfield 252, 3) := dk_180 0 252 (dk_at dksX1_law_0 1 rfl rfl)
theorem dX1_law_4 : decode cX1_law 4 = .ok (.istore_n 2, 1) := dk_61 (dk_at dksX1_law_0 4 rfl rfl)
theorem dX1_law_5 : decode cX1_law 5 = .ok (.aload_n 0, 1) := dk_42 (dk_at dksX1_law_0 5 rfl rfl)
theorem dX1_law_6 : decode cX1_law 6 = .ok (.iconst 0, 1) := dk_3 (dk_at dksX1_law_0 6 rfl rfl)
theorem dX1_law_7 : decode cX1_law 7 = .ok (.putfield 252, 3) := dk_181 0 252 (dk_at dksX1_law_0 7 rfl rfl)
theorem dX1_law_10 : decode cX1_law 10 = .ok (.iload_n 1, 1) := dk_27 (dk_at dksX1_law_0 10 rfl rfl)
theorem dX1_law_11 : decode cX1_law 11 = .ok (.invokestatic 255, 3) := dk_184 0 255 (dk_at dksX1_law_0 11 rfl rfl)
theorem dX1_law_14 : decode cX1_law 14 = .ok (.ifCond .ne 5, 3) := dk_154 0 5 (dk_at dksX1_law_0 14 rfl rfl)
theorem dX1_law_17 : decode cX1_law 17 = .ok (.iconst (-1), 1) := dk_2 (dk_at dksX1_law_0 17 rfl rfl)
theorem dX1_law_18 : decode cX1_law 18 = .ok (.ireturn, 1) := dk_172 (dk_at dksX1_law_0 18 rfl rfl)
theorem dX1_law_19 : decode cX1_law 19 = .ok (.aload_n 0, 1) := dk_42 (dk_at dksX1_law_0 19 rfl rfl)
theorem dX1_law_20 : decode cX1_law 20 = .ok (.getfield 40, 3) := dk_180 0 40 (dk_at dksX1_law_0 20 rfl rfl)
theorem dX1_law_23 : decode cX1_law 23 = .ok (.aload_n 0, 1) := dk_42 (dk_at dksX1_law_0 23 rfl rfl)
theorem dX1_law_24 : decode cX1_law 24 = .ok (.getfield 33, 3) := dk_180 0 33 (dk_at dksX1_law_1 0 rfl rfl)
theorem dX1_law_27 : decode cX1_law 27 = .ok (.iload_n 2, 1) := dk_28 (dk_at dksX1_law_1 3 rfl rfl)
theorem dX1_law_28 : decode cX1_law 28 = .ok (.invokevirtual 258, 3) := dk_182 1 2 (dk_at dksX1_law_1 4 rfl rfl)
theorem dX1_law_31 : decode cX1_law 31 = .ok (.aload_n 0, 1) := dk_42 (dk_at dksX1_law_1 7 rfl rfl)
theorem dX1_law_32 : decode cX1_law 32 = .ok (.getfield 46, 3) := dk_180 0 46 (dk_at dksX1_law_1 8 rfl rfl)
theorem dX1_law_35 : decode cX1_law 35 = .ok (.iload_n 1, 1) := dk_27 (dk_at dksX1_law_1 11 rfl rfl)
theorem dX1_law_36 : decode cX1_law 36 = .ok (.aload_n 0, 1) := dk_42 (dk_at dksX1_law_1 12 rfl rfl)
theorem dX1_law_37 : decode cX1_law 37 = .ok (.getfield 40, 3) := dk_180 0 40 (dk_at dksX1_law_1 13 rfl rfl)
theorem dX1_law_40 : decode cX1_law 40 = .ok (.invokevirtual 261, 3) := dk_182 1 5 (dk_at dksX1_law_1 16 rfl rfl)
theorem dX1_law_43 : decode cX1_law 43 = .ok (.aastore, 1) := dk_83 (dk_at dksX1_law_1 19 rfl rfl)
theorem dX1_law_44 : decode cX1_law 44 = .ok (.goto 9, 3) := dk_167 0 9 (dk_at dksX1_law_1 20 rfl rfl)
theorem dX1_law_47 : decode cX1_law 47 = .ok (.astore_n 3, 1) := dk_78 (dk_at dksX1_law_1 23 rfl rfl)
theorem dX1_law_48 : decode cX1_law 48 = .ok (.aload_n 3, 1) := dk_45 (dk_at dksX1_law_2 0 rfl rfl)
theorem dX1_law_49 : decode cX1_law 49 = .ok (.getfield 267, 3) := dk_180 1 11 (dk_at dksX1_law_2 1 rfl rfl)
theorem dX1_law_52 : decode cX1_law 52 = .ok (.ireturn, 1) := dk_172 (dk_at dksX1_law_2 4 rfl rfl)
theorem dX1_law_53 : decode cX1_law 53 = .ok (.iconst 0, 1) := dk_3 (dk_at dksX1_law_2 5 rfl rfl)
theorem dX1_law_54 : decode cX1_law 54 = .ok (.ireturn, 1) := dk_172 (dk_at dksX1_law_2 6 rfl rfl)
def dkwX1_isLaw_0 : List UInt8 := [26, 3, 6, 184, 0, 112, 172]
abbrev dktX1_isLaw_0 : List UInt8 := dkwX1_isLaw_0 ++ []
theorem dksX1_isLaw_0 : cX1_isLaw.data.toList.drop 0 = dktX1_isLaw_0 := by decide +kernel
theorem dX1_isLaw_0 : decode cX1_isLaw 0 = .ok (.iload_n 0, 1) := dk_26 (dk_at dksX1_isLaw_0 0 rfl rfl)
theorem dX1_isLaw_1 : decode cX1_isLaw 1 = .ok (.iconst 0, 1) := dk_3 (dk_at dksX1_isLaw_0 1 rfl rfl)
theorem dX1_isLaw_2 : decode cX1_isLaw 2 = .ok (.iconst 3, 1) := dk_6 (dk_at dksX1_isLaw_0 2 rfl rfl)
theorem dX1_isLaw_3 : decode cX1_isLaw 3 = .ok (.invokestatic 112, 3) := dk_184 0 112 (dk_at dksX1_isLaw_0 3 rfl rfl)
theorem dX1_isLaw_6 : decode cX1_isLaw 6 = .ok (.ireturn, 1) := dk_172 (dk_at dksX1_isLaw_0 6 rfl rfl)
def dkwX1_world_2 : List UInt8 := [42, 29, 21, 4, 182, 1, 50, 172]
abbrev dktX1_world_2 : List UInt8 := dkwX1_world_2 ++ []
def dkwX1_world_1 : List UInt8 := [153, 0, 11, 21, 4, 184, 0, 120, 154, 0, 5, 2, 172, 42, 42, 180, 0, 46, 27, 50, 28, 182, 1, 46]
abbrev dktX1_world_1 : List UInt8 := dkwX1_world_1 ++ dktX1_world_2
def dkwX1_world_0 : List UInt8 := [27, 184, 0, 255, 153, 0, 30, 28, 3, 17, 39, 15, 184, 0, 112, 153, 0, 19, 42, 29, 182, 0, 136]
abbrev dktX1_world_0 : List UInt8 := dkwX1_world_0 ++ dktX1_world_1
theorem dksX1_world_0 : cX1_world.data.toList.drop 0 = dktX1_world_0 := by decide +kernel
theorem dksX1_world_1 : cX1_world.data.toList.drop 23 = dktX1_world_1 := dk_seg dksX1_world_0 23 rfl rfl
theorem dksX1_world_2 : cX1_world.data.toList.drop 47 = dktX1_world_2 := dk_seg dksX1_world_1 24 rfl rfl
theorem dX1_world_0 : decode cX1_world 0 = .ok (.iload_n 1, 1) := dk_27 (dk_at dksX1_world_0 0 rfl rfl)
theorem dX1_world_1 : decode cX1_world 1 = .ok (.invokestatic 255, 3) := dk_184 0 255 (dk_at dksX1_world_0 1 rfl rfl)
theorem dX1_world_4 : decode cX1_world 4 = .ok (.ifCond .eq 30, 3) := dk_153 0 30 (dk_at dksX1_world_0 4 rfl rfl)
theorem dX1_world_7 : decode cX1_world 7 = .ok (.iload_n 2, 1) := dk_28 (dk_at dksX1_world_0 7 rfl rfl)
theorem dX1_world_8 : decode cX1_world 8 = .ok (.iconst 0, 1) := dk_3 (dk_at dksX1_world_0 8 rfl rfl)
theorem dX1_world_9 : decode cX1_world 9 = .ok (.sipush 9999, 3) := dk_17 39 15 (dk_at dksX1_world_0 9 rfl rfl)
theorem dX1_world_12 : decode cX1_world 12 = .ok (.invokestatic 112, 3) := dk_184 0 112 (dk_at dksX1_world_0 12 rfl rfl)
theorem dX1_world_15 : decode cX1_world 15 = .ok (.ifCond .eq 19, 3) := dk_153 0 19 (dk_at dksX1_world_0 15 rfl rfl)
theorem dX1_world_18 : decode cX1_world 18 = .ok (.aload_n 0, 1) := dk_42 (dk_at dksX1_world_0 18 rfl rfl)
theorem dX1_world_19 : decode cX1_world 19 = .ok (.iload_n 3, 1) := dk_29 (dk_at dksX1_world_0 19 rfl rfl)
theorem dX1_world_20 : decode cX1_world 20 = .ok (.invokevirtual 136, 3) := dk_182 0 136 (dk_at dksX1_world_0 20 rfl rfl)
theorem dX1_world_23 : decode cX1_world 23 = .ok (.ifCond .eq 11, 3) := dk_153 0 11 (dk_at dksX1_world_1 0 rfl rfl)
theorem dX1_world_26 : decode cX1_world 26 = .ok (.iload 4, 2) := dk_21 4 (dk_at dksX1_world_1 3 rfl rfl)
theorem dX1_world_28 : decode cX1_world 28 = .ok (.invokestatic 120, 3) := dk_184 0 120 (dk_at dksX1_world_1 5 rfl rfl)
theorem dX1_world_31 : decode cX1_world 31 = .ok (.ifCond .ne 5, 3) := dk_154 0 5 (dk_at dksX1_world_1 8 rfl rfl)
theorem dX1_world_34 : decode cX1_world 34 = .ok (.iconst (-1), 1) := dk_2 (dk_at dksX1_world_1 11 rfl rfl)
theorem dX1_world_35 : decode cX1_world 35 = .ok (.ireturn, 1) := dk_172 (dk_at dksX1_world_1 12 rfl rfl)
theorem dX1_world_36 : decode cX1_world 36 = .ok (.aload_n 0, 1) := dk_42 (dk_at dksX1_world_1 13 rfl rfl)
theorem dX1_world_37 : decode cX1_world 37 = .ok (.aload_n 0, 1) := dk_42 (dk_at dksX1_world_1 14 rfl rfl)
theorem dX1_world_38 : decode cX1_world 38 = .ok (.getfield 46, 3) := dk_180 0 46 (dk_at dksX1_world_1 15 rfl rfl)
theorem dX1_world_41 : decode cX1_world 41 = .ok (.iload_n 1, 1) := dk_27 (dk_at dksX1_world_1 18 rfl rfl)
theorem dX1_world_42 : decode cX1_world 42 = .ok (.aaload, 1) := dk_50 (dk_at dksX1_world_1 19 rfl rfl)
theorem dX1_world_43 : decode cX1_world 43 = .ok (.iload_n 2, 1) := dk_28 (dk_at dksX1_world_1 20 rfl rfl)
theorem dX1_world_44 : decode cX1_world 44 = .ok (.invokevirtual 302, 3) := dk_182 1 46 (dk_at dksX1_world_1 21 rfl rfl)
theorem dX1_world_47 : decode cX1_world 47 = .ok (.aload_n 0, 1) := dk_42 (dk_at dksX1_world_2 0 rfl rfl)
theorem dX1_world_48 : decode cX1_world 48 = .ok (.iload_n 3, 1) := dk_29 (dk_at dksX1_world_2 1 rfl rfl)
theorem dX1_world_49 : decode cX1_world 49 = .ok (.iload 4, 2) := dk_21 4 (dk_at dksX1_world_2 2 rfl rfl)
theorem dX1_world_51 : decode cX1_world 51 = .ok (.invokevirtual 306, 3) := dk_182 1 50 (dk_at dksX1_world_2 4 rfl rfl)
theorem dX1_world_54 : decode cX1_world 54 = .ok (.ireturn, 1) := dk_172 (dk_at dksX1_world_2 7 rfl rfl)
def dkwX1_runs_7 : List UInt8 := [112, 182, 1, 21, 132, 5, 1, 167, 255, 197, 132, 4, 1, 167, 255, 181, 177]
abbrev dktX1_runs_7 : List UInt8 := dkwX1_runs_7 ++ []
def dkwX1_runs_6 : List UInt8 := [105, 20, 1, 16, 97, 20, 1, 18, 113, 136, 62, 42, 43, 21, 5, 21, 4, 29, 19, 1, 20, 108, 16, 10]
abbrev dktX1_runs_6 : List UInt8 := dkwX1_runs_6 ++ dktX1_runs_7
def dkwX1_runs_5 : List UInt8 := [162, 0, 58, 42, 180, 0, 21, 21, 5, 50, 180, 0, 116, 154, 0, 6, 167, 0, 36, 29, 133, 20, 1, 14]
abbrev dktX1_runs_5 : List UInt8 := dkwX1_runs_5 ++ dktX1_runs_6
def dkwX1_runs_4 : List UInt8 := [132, 4, 1, 167, 255, 166, 4, 54, 4, 21, 4, 16, 12, 162, 0, 74, 3, 54, 5, 21, 5, 16, 24]
abbrev dktX1_runs_4 : List UInt8 := dkwX1_runs_4 ++ dktX1_runs_5
def dkwX1_runs_3 : List UInt8 := [182, 0, 158, 153, 0, 7, 3, 167, 0, 15, 42, 180, 0, 21, 21, 4, 50, 180, 0, 142, 3, 46, 79]
abbrev dktX1_runs_3 : List UInt8 := dkwX1_runs_3 ++ dktX1_runs_4
def dkwX1_runs_2 : List UInt8 := [180, 0, 139, 3, 46, 79, 42, 180, 0, 80, 21, 4, 50, 3, 42, 180, 0, 21, 21, 4, 50, 3]
abbrev dktX1_runs_2 : List UInt8 := dkwX1_runs_2 ++ dktX1_runs_3
def dkwX1_runs_1 : List UInt8 := [21, 4, 50, 180, 0, 139, 3, 46, 2, 160, 0, 7, 3, 167, 0, 15, 42, 180, 0, 21, 21, 4, 50]
abbrev dktX1_runs_1 : List UInt8 := dkwX1_runs_1 ++ dktX1_runs_2
def dkwX1_runs_0 : List UInt8 := [28, 62, 3, 54, 4, 21, 4, 16, 24, 162, 0, 89, 42, 180, 0, 77, 21, 4, 50, 3, 42, 180, 0, 21]
abbrev dktX1_runs_0 : List UInt8 := dkwX1_runs_0 ++ dktX1_runs_1
theorem dksX1_runs_0 : cX1_runs.data.toList.drop 0 = dktX1_runs_0 := by decide +kernel
theorem dksX1_runs_1 : cX1_runs.data.toList.drop 24 = dktX1_runs_1 := dk_seg dksX1_runs_0 24 rfl rfl
theorem dksX1_runs_2 : cX1_runs.data.toList.drop 47 = dktX1_runs_2 := dk_seg dksX1_runs_1 23 rfl rfl
theorem dksX1_runs_3 : cX1_runs.data.toList.drop 69 = dktX1_runs_3 := dk_seg dksX1_runs_2 22 rfl rfl
theorem dksX1_runs_4 : cX1_runs.data.toList.drop 92 = dktX1_runs_4 := dk_seg dksX1_runs_3 23 rfl rfl
theorem dksX1_runs_5 : cX1_runs.data.toList.drop 115 = dktX1_runs_5 := dk_seg dksX1_runs_4 23 rfl rfl
theorem dksX1_runs_6 : cX1_runs.data.toList.drop 139 = dktX1_runs_6 := dk_seg dksX1_runs_5 24 rfl rfl
theorem dksX1_runs_7 : cX1_runs.data.toList.drop 163 = dktX1_runs_7 := dk_seg dksX1_runs_6 24 rfl rfl
theorem dX1_runs_0 : decode cX1_runs 0 = .ok (.iload_n 2, 1) := dk_28 (dk_at dksX1_runs_0 0 rfl rfl)
theorem dX1_runs_1 : decode cX1_runs 1 = .ok (.istore_n 3, 1) := dk_62 (dk_at dksX1_runs_0 1 rfl rfl)
theorem dX1_runs_2 : decode cX1_runs 2 = .ok (.iconst 0, 1) := dk_3 (dk_at dksX1_runs_0 2 rfl rfl)
theorem dX1_runs_3 : decode cX1_runs 3 = .ok (.istore 4, 2) := dk_54 4 (dk_at dksX1_runs_0 3 rfl rfl)
theorem dX1_runs_5 : decode cX1_runs 5 = .ok (.iload 4, 2) := dk_21 4 (dk_at dksX1_runs_0 5 rfl rfl)
theorem dX1_runs_7 : decode cX1_runs 7 = .ok (.bipush 24, 2) := dk_16 24 (dk_at dksX1_runs_0 7 rfl rfl)
theorem dX1_runs_9 : decode cX1_runs 9 = .ok (.if_icmp .ge 89, 3) := dk_162 0 89 (dk_at dksX1_runs_0 9 rfl rfl)
theorem dX1_runs_12 : decode cX1_runs 12 = .ok (.aload_n 0, 1) := dk_42 (dk_at dksX1_runs_0 12 rfl rfl)
theorem dX1_runs_13 : decode cX1_runs 13 = .ok (.getfield 77, 3) := dk_180 0 77 (dk_at dksX1_runs_0 13 rfl rfl)
theorem dX1_runs_16 : decode cX1_runs 16 = .ok (.iload 4, 2) := dk_21 4 (dk_at dksX1_runs_0 16 rfl rfl)
theorem dX1_runs_18 : decode cX1_runs 18 = .ok (.aaload, 1) := dk_50 (dk_at dksX1_runs_0 18 rfl rfl)
theorem dX1_runs_19 : decode cX1_runs 19 = .ok (.iconst 0, 1) := dk_3 (dk_at dksX1_runs_0 19 rfl rfl)
theorem dX1_runs_20 : decode cX1_runs 20 = .ok (.aload_n 0, 1) := dk_42 (dk_at dksX1_runs_0 20 rfl rfl)
theorem dX1_runs_21 : decode cX1_runs 21 = .ok (.getfield 21, 3) := dk_180 0 21 (dk_at dksX1_runs_0 21 rfl rfl)
theorem dX1_runs_24 : decode cX1_runs 24 = .ok (.iload 4, 2) := dk_21 4 (dk_at dksX1_runs_1 0 rfl rfl)
theorem dX1_runs_26 : decode cX1_runs 26 = .ok (.aaload, 1) := dk_50 (dk_at dksX1_runs_1 2 rfl rfl)
theorem dX1_runs_27 : decode cX1_runs 27 = .ok (.getfield 139, 3) := dk_180 0 139 (dk_at dksX1_runs_1 3 rfl rfl)
theorem dX1_runs_30 : decode cX1_runs 30 = .ok (.iconst 0, 1) := dk_3 (dk_at dksX1_runs_1 6 rfl rfl)
theorem dX1_runs_31 : decode cX1_runs 31 = .ok (.iaload, 1) := dk_46 (dk_at dksX1_runs_1 7 rfl rfl)
theorem dX1_runs_32 : decode cX1_runs 32 = .ok (.iconst (-1), 1) := dk_2 (dk_at dksX1_runs_1 8 rfl rfl)
theorem dX1_runs_33 : decode cX1_runs 33 = .ok (.if_icmp .ne 7, 3) := dk_160 0 7 (dk_at dksX1_runs_1 9 rfl rfl)
theorem dX1_runs_36 : decode cX1_runs 36 = .ok (.iconst 0, 1) := dk_3 (dk_at dksX1_runs_1 12 rfl rfl)
theorem dX1_runs_37 : decode cX1_runs 37 = .ok (.goto 15, 3) := dk_167 0 15 (dk_at dksX1_runs_1 13 rfl rfl)
theorem dX1_runs_40 : decode cX1_runs 40 = .ok (.aload_n 0, 1) := dk_42 (dk_at dksX1_runs_1 16 rfl rfl)
theorem dX1_runs_41 : decode cX1_runs 41 = .ok (.getfield 21, 3) := dk_180 0 21 (dk_at dksX1_runs_1 17 rfl rfl)
theorem dX1_runs_44 : decode cX1_runs 44 = .ok (.iload 4, 2) := dk_21 4 (dk_at dksX1_runs_1 20 rfl rfl)
theorem dX1_runs_46 : decode cX1_runs 46 = .ok (.aaload, 1) := dk_50 (dk_at dksX1_runs_1 22 rfl rfl)
theorem dX1_runs_47 : decode cX1_runs 47 = .ok (.getfield 139, 3) := dk_180 0 139 (dk_at dksX1_runs_2 0 rfl rfl)
theorem dX1_runs_50 : decode cX1_runs 50 = .ok (.iconst 0, 1) := dk_3 (dk_at dksX1_runs_2 3 rfl rfl)
theorem dX1_runs_51 : decode cX1_runs 51 = .ok (.iaload, 1) := dk_46 (dk_at dksX1_runs_2 4 rfl rfl)
theorem dX1_runs_52 : decode cX1_runs 52 = .ok (.iastore, 1) := dk_79 (dk_at dksX1_runs_2 5 rfl rfl)
theorem dX1_runs_53 : decode cX1_runs 53 = .ok (.aload_n 0, 1) := dk_42 (dk_at dksX1_runs_2 6 rfl rfl)
theorem dX1_runs_54 : decode cX1_runs 54 = .ok (.getfield 80, 3) := dk_180 0 80 (dk_at dksX1_runs_2 7 rfl rfl)
theorem dX1_runs_57 : decode cX1_runs 57 = .ok (.iload 4, 2) := dk_21 4 (dk_at dksX1_runs_2 10 rfl rfl)
theorem dX1_runs_59 : decode cX1_runs 59 = .ok (.aaload, 1) := dk_50 (dk_at dksX1_runs_2 12 rfl rfl)
theorem dX1_runs_60 : decode cX1_runs 60 = .ok (.iconst 0, 1) := dk_3 (dk_at dksX1_runs_2 13 rfl rfl)
theorem dX1_runs_61 : decode cX1_runs 61 = .ok (.aload_n 0, 1) := dk_42 (dk_at dksX1_runs_2 14 rfl rfl)
theorem dX1_runs_62 : decode cX1_runs 62 = .ok (.getfield 21, 3) := dk_180 0 21 (dk_at dksX1_runs_2 15 rfl rfl)
theorem dX1_runs_65 : decode cX1_runs 65 = .ok (.iload 4, 2) := dk_21 4 (dk_at dksX1_runs_2 18 rfl rfl)
theorem dX1_runs_67 : decode cX1_runs 67 = .ok (.aaload, 1) := dk_50 (dk_at dksX1_runs_2 20 rfl rfl)
theorem dX1_runs_68 : decode cX1_runs 68 = .ok (.iconst 0, 1) := dk_3 (dk_at dksX1_runs_2 21 rfl rfl)
theorem dX1_runs_69 : decode cX1_runs 69 = .ok (.invokevirtual 158, 3) := dk_182 0 158 (dk_at dksX1_runs_3 0 rfl rfl)
theorem dX1_runs_72 : decode cX1_runs 72 = .ok (.ifCond .eq 7, 3) := dk_153 0 7 (dk_at dksX1_runs_3 3 rfl rfl)
theorem dX1_runs_75 : decode cX1_runs 75 = .ok (.iconst 0, 1) := dk_3 (dk_at dksX1_runs_3 6 rfl rfl)
theorem dX1_runs_76 : decode cX1_runs 76 = .ok (.goto 15, 3) := dk_167 0 15 (dk_at dksX1_runs_3 7 rfl rfl)
theorem dX1_runs_79 : decode cX1_runs 79 = .ok (.aload_n 0, 1) := dk_42 (dk_at dksX1_runs_3 10 rfl rfl)
theorem dX1_runs_80 : decode cX1_runs 80 = .ok (.getfield 21, 3) := dk_180 0 21 (dk_at dksX1_runs_3 11 rfl rfl)
theorem dX1_runs_83 : decode cX1_runs 83 = .ok (.iload 4, 2) := dk_21 4 (dk_at dksX1_runs_3 14 rfl rfl)
theorem dX1_runs_85 : decode cX1_runs 85 = .ok (.aaload, 1) := dk_50 (dk_at dksX1_runs_3 16 rfl rfl)
theorem dX1_runs_86 : decode cX1_runs 86 = .ok (.getfield 142, 3) := dk_180 0 142 (dk_at dksX1_runs_3 17 rfl rfl)
theorem dX1_runs_89 : decode cX1_runs 89 = .ok (.iconst 0, 1) := dk_3 (dk_at dksX1_runs_3 20 rfl rfl)
theorem dX1_runs_90 : decode cX1_runs 90 = .ok (.iaload, 1) := dk_46 (dk_at dksX1_runs_3 21 rfl rfl)
theorem dX1_runs_91 : decode cX1_runs 91 = .ok (.iastore, 1) := dk_79 (dk_at dksX1_runs_3 22 rfl rfl)
theorem dX1_runs_92 : decode cX1_runs 92 = .ok (.iinc 4 1, 3) := dk_132 4 1 (dk_at dksX1_runs_4 0 rfl rfl)
theorem dX1_runs_95 : decode cX1_runs 95 = .ok (.goto (-90), 3) := dk_167 255 166 (dk_at dksX1_runs_4 3 rfl rfl)
theorem dX1_runs_98 : decode cX1_runs 98 = .ok (.iconst 1, 1) := dk_4 (dk_at dksX1_runs_4 6 rfl rfl)
theorem dX1_runs_99 : decode cX1_runs 99 = .ok (.istore 4, 2) := dk_54 4 (dk_at dksX1_runs_4 7 rfl rfl)
theorem dX1_runs_101 : decode cX1_runs 101 = .ok (.iload 4, 2) := dk_21 4 (dk_at dksX1_runs_4 9 rfl rfl)
theorem dX1_runs_103 : decode cX1_runs 103 = .ok (.bipush 12, 2) := dk_16 12 (dk_at dksX1_runs_4 11 rfl rfl)
theorem dX1_runs_105 : decode cX1_runs 105 = .ok (.if_icmp .ge 74, 3) := dk_162 0 74 (dk_at dksX1_runs_4 13 rfl rfl)
theorem dX1_runs_108 : decode cX1_runs 108 = .ok (.iconst 0, 1) := dk_3 (dk_at dksX1_runs_4 16 rfl rfl)
theorem dX1_runs_109 : decode cX1_runs 109 = .ok (.istore 5, 2) := dk_54 5 (dk_at dksX1_runs_4 17 rfl rfl)
theorem dX1_runs_111 : decode cX1_runs 111 = .ok (.iload 5, 2) := dk_21 5 (dk_at dksX1_runs_4 19 rfl rfl)
theorem dX1_runs_113 : decode cX1_runs 113 = .ok (.bipush 24, 2) := dk_16 24 (dk_at dksX1_runs_4 21 rfl rfl)
theorem dX1_runs_115 : decode cX1_runs 115 = .ok (.if_icmp .ge 58, 3) := dk_162 0 58 (dk_at dksX1_runs_5 0 rfl rfl)
theorem dX1_runs_118 : decode cX1_runs 118 = .ok (.aload_n 0, 1) := dk_42 (dk_at dksX1_runs_5 3 rfl rfl)
theorem dX1_runs_119 : decode cX1_runs 119 = .ok (.getfield 21, 3) := dk_180 0 21 (dk_at dksX1_runs_5 4 rfl rfl)
theorem dX1_runs_122 : decode cX1_runs 122 = .ok (.iload 5, 2) := dk_21 5 (dk_at dksX1_runs_5 7 rfl rfl)
theorem dX1_runs_124 : decode cX1_runs 124 = .ok (.aaload, 1) := dk_50 (dk_at dksX1_runs_5 9 rfl rfl)
theorem dX1_runs_125 : decode cX1_runs 125 = .ok (.getfield 116, 3) := dk_180 0 116 (dk_at dksX1_runs_5 10 rfl rfl)
theorem dX1_runs_128 : decode cX1_runs 128 = .ok (.ifCond .ne 6, 3) := dk_154 0 6 (dk_at dksX1_runs_5 13 rfl rfl)
theorem dX1_runs_131 : decode cX1_runs 131 = .ok (.goto 36, 3) := dk_167 0 36 (dk_at dksX1_runs_5 16 rfl rfl)
theorem dX1_runs_134 : decode cX1_runs 134 = .ok (.iload_n 3, 1) := dk_29 (dk_at dksX1_runs_5 19 rfl rfl)
theorem dX1_runs_135 : decode cX1_runs 135 = .ok (.i2l, 1) := dk_133 (dk_at dksX1_runs_5 20 rfl rfl)
theorem dX1_runs_136 : decode cX1_runs 136 = .ok (.ldc2_w 270, 3) := dk_20 1 14 (dk_at dksX1_runs_5 21 rfl rfl)
theorem dX1_runs_139 : decode cX1_runs 139 = .ok (.lmul, 1) := dk_105 (dk_at dksX1_runs_6 0 rfl rfl)
theorem dX1_runs_140 : decode cX1_runs 140 = .ok (.ldc2_w 272, 3) := dk_20 1 16 (dk_at dksX1_runs_6 1 rfl rfl)
theorem dX1_runs_143 : decode cX1_runs 143 = .ok (.ladd, 1) := dk_97 (dk_at dksX1_runs_6 4 rfl rfl)
theorem dX1_runs_144 : decode cX1_runs 144 = .ok (.ldc2_w 274, 3) := dk_20 1 18 (dk_at dksX1_runs_6 5 rfl rfl)
theorem dX1_runs_147 : decode cX1_runs 147 = .ok (.lrem, 1) := dk_113 (dk_at dksX1_runs_6 8 rfl rfl)
theorem dX1_runs_148 : decode cX1_runs 148 = .ok (.l2i, 1) := dk_136 (dk_at dksX1_runs_6 9 rfl rfl)
theorem dX1_runs_149 : decode cX1_runs 149 = .ok (.istore_n 3, 1) := dk_62 (dk_at dksX1_runs_6 10 rfl rfl)
theorem dX1_runs_150 : decode cX1_runs 150 = .ok (.aload_n 0, 1) := dk_42 (dk_at dksX1_runs_6 11 rfl rfl)
theorem dX1_runs_151 : decode cX1_runs 151 = .ok (.aload_n 1, 1) := dk_43 (dk_at dksX1_runs_6 12 rfl rfl)
theorem dX1_runs_152 : decode cX1_runs 152 = .ok (.iload 5, 2) := dk_21 5 (dk_at dksX1_runs_6 13 rfl rfl)
theorem dX1_runs_154 : decode cX1_runs 154 = .ok (.iload 4, 2) := dk_21 4 (dk_at dksX1_runs_6 15 rfl rfl)
theorem dX1_runs_156 : decode cX1_runs 156 = .ok (.iload_n 3, 1) := dk_29 (dk_at dksX1_runs_6 17 rfl rfl)
theorem dX1_runs_157 : decode cX1_runs 157 = .ok (.ldc_w 276, 3) := dk_19 1 20 (dk_at dksX1_runs_6 18 rfl rfl)
theorem dX1_runs_160 : decode cX1_runs 160 = .ok (.idiv, 1) := dk_108 (dk_at dksX1_runs_6 21 rfl rfl)
theorem dX1_runs_161 : decode cX1_runs 161 = .ok (.bipush 10, 2) := dk_16 10 (dk_at dksX1_runs_6 22 rfl rfl)
theorem dX1_runs_163 : decode cX1_runs 163 = .ok (.irem, 1) := dk_112 (dk_at dksX1_runs_7 0 rfl rfl)
theorem dX1_runs_164 : decode cX1_runs 164 = .ok (.invokevirtual 277, 3) := dk_182 1 21 (dk_at dksX1_runs_7 1 rfl rfl)
theorem dX1_runs_167 : decode cX1_runs 167 = .ok (.iinc 5 1, 3) := dk_132 5 1 (dk_at dksX1_runs_7 4 rfl rfl)
theorem dX1_runs_170 : decode cX1_runs 170 = .ok (.goto (-59), 3) := dk_167 255 197 (dk_at dksX1_runs_7 7 rfl rfl)
theorem dX1_runs_173 : decode cX1_runs 173 = .ok (.iinc 4 1, 3) := dk_132 4 1 (dk_at dksX1_runs_7 10 rfl rfl)
theorem dX1_runs_176 : decode cX1_runs 176 = .ok (.goto (-75), 3) := dk_167 255 181 (dk_at dksX1_runs_7 13 rfl rfl)
theorem dX1_runs_179 : decode cX1_runs 179 = .ok (.return_, 1) := dk_177 (dk_at dksX1_runs_7 16 rfl rfl)
def dkwX1_goes_12 : List UInt8 := [167, 0, 19, 42, 43, 180, 1, 25, 4, 50, 42, 180, 0, 83, 4, 46, 182, 1, 33, 79, 177]
abbrev dktX1_goes_12 : List UInt8 := dkwX1_goes_12 ++ []
def dkwX1_goes_11 : List UInt8 := [180, 0, 83, 3, 46, 182, 1, 33, 79, 42, 180, 0, 80, 28, 50, 29, 21, 7, 153, 0, 7, 3]
abbrev dktX1_goes_11 : List UInt8 := dkwX1_goes_11 ++ dktX1_goes_12
def dkwX1_goes_10 : List UInt8 := [180, 0, 77, 28, 50, 29, 21, 7, 153, 0, 8, 16, 254, 167, 0, 19, 42, 43, 180, 1, 25, 3, 50, 42]
abbrev dktX1_goes_10 : List UInt8 := dkwX1_goes_10 ++ dktX1_goes_11
def dkwX1_goes_9 : List UInt8 := [154, 0, 7, 4, 167, 0, 17, 3, 167, 0, 13, 42, 43, 180, 1, 25, 5, 50, 182, 1, 29, 54, 7, 42]
abbrev dktX1_goes_9 : List UInt8 := dkwX1_goes_9 ++ dktX1_goes_10
def dkwX1_goes_8 : List UInt8 := [153, 0, 7, 4, 167, 0, 4, 3, 79, 21, 6, 153, 0, 24, 42, 43, 180, 1, 25, 6, 50, 182, 1, 29]
abbrev dktX1_goes_8 : List UInt8 := dkwX1_goes_8 ++ dktX1_goes_9
def dkwX1_goes_7 : List UInt8 := [180, 0, 124, 50, 29, 46, 79, 42, 180, 0, 83, 16, 8, 21, 4, 79, 42, 180, 0, 83, 16, 9, 21, 6]
abbrev dktX1_goes_7 : List UInt8 := dkwX1_goes_7 ++ dktX1_goes_8
def dkwX1_goes_6 : List UInt8 := [180, 0, 124, 79, 42, 180, 0, 83, 16, 6, 29, 79, 42, 180, 0, 83, 16, 7, 42, 180, 0, 30, 25, 5]
abbrev dktX1_goes_6 : List UInt8 := dkwX1_goes_6 ++ dktX1_goes_7
def dkwX1_goes_5 : List UInt8 := [180, 0, 83, 6, 46, 25, 5, 180, 0, 127, 100, 184, 0, 145, 79, 42, 180, 0, 83, 8, 25, 5]
abbrev dktX1_goes_5 : List UInt8 := dkwX1_goes_5 ++ dktX1_goes_6
def dkwX1_goes_4 : List UInt8 := [180, 0, 83, 6, 42, 180, 0, 27, 25, 5, 180, 0, 124, 50, 29, 46, 79, 42, 180, 0, 83, 7, 3, 42]
abbrev dktX1_goes_4 : List UInt8 := dkwX1_goes_4 ++ dktX1_goes_5
def dkwX1_goes_3 : List UInt8 := [180, 0, 80, 28, 50, 29, 4, 100, 46, 79, 42, 180, 0, 83, 5, 25, 5, 180, 0, 127, 79, 42]
abbrev dktX1_goes_3 : List UInt8 := dkwX1_goes_3 ++ dktX1_goes_4
def dkwX1_goes_2 : List UInt8 := [28, 50, 29, 4, 100, 46, 79, 42, 180, 0, 83, 4, 21, 6, 153, 0, 7, 3, 167, 0, 13, 42]
abbrev dktX1_goes_2 : List UInt8 := dkwX1_goes_2 ++ dktX1_goes_3
def dkwX1_goes_1 : List UInt8 := [167, 0, 4, 3, 54, 6, 42, 180, 0, 83, 3, 21, 6, 153, 0, 7, 3, 167, 0, 13, 42, 180, 0, 77]
abbrev dktX1_goes_1 : List UInt8 := dkwX1_goes_1 ++ dktX1_goes_2
def dkwX1_goes_0 : List UInt8 := [42, 180, 0, 21, 28, 50, 58, 5, 42, 180, 0, 77, 28, 50, 29, 4, 100, 46, 16, 254, 160, 0, 7, 4]
abbrev dktX1_goes_0 : List UInt8 := dkwX1_goes_0 ++ dktX1_goes_1
theorem dksX1_goes_0 : cX1_goes.data.toList.drop 0 = dktX1_goes_0 := by decide +kernel
theorem dksX1_goes_1 : cX1_goes.data.toList.drop 24 = dktX1_goes_1 := dk_seg dksX1_goes_0 24 rfl rfl
theorem dksX1_goes_2 : cX1_goes.data.toList.drop 48 = dktX1_goes_2 := dk_seg dksX1_goes_1 24 rfl rfl
theorem dksX1_goes_3 : cX1_goes.data.toList.drop 70 = dktX1_goes_3 := dk_seg dksX1_goes_2 22 rfl rfl
theorem dksX1_goes_4 : cX1_goes.data.toList.drop 92 = dktX1_goes_4 := dk_seg dksX1_goes_3 22 rfl rfl
theorem dksX1_goes_5 : cX1_goes.data.toList.drop 116 = dktX1_goes_5 := dk_seg dksX1_goes_4 24 rfl rfl
theorem dksX1_goes_6 : cX1_goes.data.toList.drop 138 = dktX1_goes_6 := dk_seg dksX1_goes_5 22 rfl rfl
theorem dksX1_goes_7 : cX1_goes.data.toList.drop 162 = dktX1_goes_7 := dk_seg dksX1_goes_6 24 rfl rfl
theorem dksX1_goes_8 : cX1_goes.data.toList.drop 186 = dktX1_goes_8 := dk_seg dksX1_goes_7 24 rfl rfl
theorem dksX1_goes_9 : cX1_goes.data.toList.drop 210 = dktX1_goes_9 := dk_seg dksX1_goes_8 24 rfl rfl
theorem dksX1_goes_10 : cX1_goes.data.toList.drop 234 = dktX1_goes_10 := dk_seg dksX1_goes_9 24 rfl rfl
theorem dksX1_goes_11 : cX1_goes.data.toList.drop 258 = dktX1_goes_11 := dk_seg dksX1_goes_10 24 rfl rfl
theorem dksX1_goes_12 : cX1_goes.data.toList.drop 280 = dktX1_goes_12 := dk_seg dksX1_goes_11 22 rfl rfl
theorem dX1_goes_0 : decode cX1_goes 0 = .ok (.aload_n 0, 1) := dk_42 (dk_at dksX1_goes_0 0 rfl rfl)
theorem dX1_goes_1 : decode cX1_goes 1 = .ok (.getfield 21, 3) := dk_180 0 21 (dk_at dksX1_goes_0 1 rfl rfl)
theorem dX1_goes_4 : decode cX1_goes 4 = .ok (.iload_n 2, 1) := dk_28 (dk_at dksX1_goes_0 4 rfl rfl)
theorem dX1_goes_5 : decode cX1_goes 5 = .ok (.aaload, 1) := dk_50 (dk_at dksX1_goes_0 5 rfl rfl)
theorem dX1_goes_6 : decode cX1_goes 6 = .ok (.astore 5, 2) := dk_58 5 (dk_at dksX1_goes_0 6 rfl rfl)
theorem dX1_goes_8 : decode cX1_goes 8 = .ok (.aload_n 0, 1) := dk_42 (dk_at dksX1_goes_0 8 rfl rfl)
theorem dX1_goes_9 : decode cX1_goes 9 = .ok (.getfield 77, 3) := dk_180 0 77 (dk_at dksX1_goes_0 9 rfl rfl)
theorem dX1_goes_12 : decode cX1_goes 12 = .ok (.iload_n 2, 1) := dk_28 (dk_at dksX1_goes_0 12 rfl rfl)
theorem dX1_goes_13 : decode cX1_goes 13 = .ok (.aaload, 1) := dk_50 (dk_at dksX1_goes_0 13 rfl rfl)
theorem dX1_goes_14 : decode cX1_goes 14 = .ok (.iload_n 3, 1) := dk_29 (dk_at dksX1_goes_0 14 rfl rfl)
theorem dX1_goes_15 : decode cX1_goes 15 = .ok (.iconst 1, 1) := dk_4 (dk_at dksX1_goes_0 15 rfl rfl)
theorem dX1_goes_16 : decode cX1_goes 16 = .ok (.isub, 1) := dk_100 (dk_at dksX1_goes_0 16 rfl rfl)
theorem dX1_goes_17 : decode cX1_goes 17 = .ok (.iaload, 1) := dk_46 (dk_at dksX1_goes_0 17 rfl rfl)
theorem dX1_goes_18 : decode cX1_goes 18 = .ok (.bipush (-2), 2) := dk_16 254 (dk_at dksX1_goes_0 18 rfl rfl)
theorem dX1_goes_20 : decode cX1_goes 20 = .ok (.if_icmp .ne 7, 3) := dk_160 0 7 (dk_at dksX1_goes_0 20 rfl rfl)
theorem dX1_goes_23 : decode cX1_goes 23 = .ok (.iconst 1, 1) := dk_4 (dk_at dksX1_goes_0 23 rfl rfl)
theorem dX1_goes_24 : decode cX1_goes 24 = .ok (.goto 4, 3) := dk_167 0 4 (dk_at dksX1_goes_1 0 rfl rfl)
theorem dX1_goes_27 : decode cX1_goes 27 = .ok (.iconst 0, 1) := dk_3 (dk_at dksX1_goes_1 3 rfl rfl)
theorem dX1_goes_28 : decode cX1_goes 28 = .ok (.istore 6, 2) := dk_54 6 (dk_at dksX1_goes_1 4 rfl rfl)
theorem dX1_goes_30 : decode cX1_goes 30 = .ok (.aload_n 0, 1) := dk_42 (dk_at dksX1_goes_1 6 rfl rfl)
theorem dX1_goes_31 : decode cX1_goes 31 = .ok (.getfield 83, 3) := dk_180 0 83 (dk_at dksX1_goes_1 7 rfl rfl)
theorem dX1_goes_34 : decode cX1_goes 34 = .ok (.iconst 0, 1) := dk_3 (dk_at dksX1_goes_1 10 rfl rfl)
theorem dX1_goes_35 : decode cX1_goes 35 = .ok (.iload 6, 2) := dk_21 6 (dk_at dksX1_goes_1 11 rfl rfl)
theorem dX1_goes_37 : decode cX1_goes 37 = .ok (.ifCond .eq 7, 3) := dk_153 0 7 (dk_at dksX1_goes_1 13 rfl rfl)
theorem dX1_goes_40 : decode cX1_goes 40 = .ok (.iconst 0, 1) := dk_3 (dk_at dksX1_goes_1 16 rfl rfl)
theorem dX1_goes_41 : decode cX1_goes 41 = .ok (.goto 13, 3) := dk_167 0 13 (dk_at dksX1_goes_1 17 rfl rfl)
theorem dX1_goes_44 : decode cX1_goes 44 = .ok (.aload_n 0, 1) := dk_42 (dk_at dksX1_goes_1 20 rfl rfl)
theorem dX1_goes_45 : decode cX1_goes 45 = .ok (.getfield 77, 3) := dk_180 0 77 (dk_at dksX1_goes_1 21 rfl rfl)
theorem dX1_goes_48 : decode cX1_goes 48 = .ok (.iload_n 2, 1) := dk_28 (dk_at dksX1_goes_2 0 rfl rfl)
theorem dX1_goes_49 : decode cX1_goes 49 = .ok (.aaload, 1) := dk_50 (dk_at dksX1_goes_2 1 rfl rfl)
theorem dX1_goes_50 : decode cX1_goes 50 = .ok (.iload_n 3, 1) := dk_29 (dk_at dksX1_goes_2 2 rfl rfl)
theorem dX1_goes_51 : decode cX1_goes 51 = .ok (.iconst 1, 1) := dk_4 (dk_at dksX1_goes_2 3 rfl rfl)
theorem dX1_goes_52 : decode cX1_goes 52 = .ok (.isub, 1) := dk_100 (dk_at dksX1_goes_2 4 rfl rfl)
theorem dX1_goes_53 : decode cX1_goes 53 = .ok (.iaload, 1) := dk_46 (dk_at dksX1_goes_2 5 rfl rfl)
theorem dX1_goes_54 : decode cX1_goes 54 = .ok (.iastore, 1) := dk_79 (dk_at dksX1_goes_2 6 rfl rfl)
theorem dX1_goes_55 : decode cX1_goes 55 = .ok (.aload_n 0, 1) := dk_42 (dk_at dksX1_goes_2 7 rfl rfl)
theorem dX1_goes_56 : decode cX1_goes 56 = .ok (.getfield 83, 3) := dk_180 0 83 (dk_at dksX1_goes_2 8 rfl rfl)
theorem dX1_goes_59 : decode cX1_goes 59 = .ok (.iconst 1, 1) := dk_4 (dk_at dksX1_goes_2 11 rfl rfl)
theorem dX1_goes_60 : decode cX1_goes 60 = .ok (.iload 6, 2) := dk_21 6 (dk_at dksX1_goes_2 12 rfl rfl)
theorem dX1_goes_62 : decode cX1_goes 62 = .ok (.ifCond .eq 7, 3) := dk_153 0 7 (dk_at dksX1_goes_2 14 rfl rfl)
theorem dX1_goes_65 : decode cX1_goes 65 = .ok (.iconst 0, 1) := dk_3 (dk_at dksX1_goes_2 17 rfl rfl)
theorem dX1_goes_66 : decode cX1_goes 66 = .ok (.goto 13, 3) := dk_167 0 13 (dk_at dksX1_goes_2 18 rfl rfl)
theorem dX1_goes_69 : decode cX1_goes 69 = .ok (.aload_n 0, 1) := dk_42 (dk_at dksX1_goes_2 21 rfl rfl)
theorem dX1_goes_70 : decode cX1_goes 70 = .ok (.getfield 80, 3) := dk_180 0 80 (dk_at dksX1_goes_3 0 rfl rfl)
theorem dX1_goes_73 : decode cX1_goes 73 = .ok (.iload_n 2, 1) := dk_28 (dk_at dksX1_goes_3 3 rfl rfl)
theorem dX1_goes_74 : decode cX1_goes 74 = .ok (.aaload, 1) := dk_50 (dk_at dksX1_goes_3 4 rfl rfl)
theorem dX1_goes_75 : decode cX1_goes 75 = .ok (.iload_n 3, 1) := dk_29 (dk_at dksX1_goes_3 5 rfl rfl)
theorem dX1_goes_76 : decode cX1_goes 76 = .ok (.iconst 1, 1) := dk_4 (dk_at dksX1_goes_3 6 rfl rfl)
theorem dX1_goes_77 : decode cX1_goes 77 = .ok (.isub, 1) := dk_100 (dk_at dksX1_goes_3 7 rfl rfl)
theorem dX1_goes_78 : decode cX1_goes 78 = .ok (.iaload, 1) := dk_46 (dk_at dksX1_goes_3 8 rfl rfl)
theorem dX1_goes_79 : decode cX1_goes 79 = .ok (.iastore, 1) := dk_79 (dk_at dksX1_goes_3 9 rfl rfl)
theorem dX1_goes_80 : decode cX1_goes 80 = .ok (.aload_n 0, 1) := dk_42 (dk_at dksX1_goes_3 10 rfl rfl)
theorem dX1_goes_81 : decode cX1_goes 81 = .ok (.getfield 83, 3) := dk_180 0 83 (dk_at dksX1_goes_3 11 rfl rfl)
theorem dX1_goes_84 : decode cX1_goes 84 = .ok (.iconst 2, 1) := dk_5 (dk_at dksX1_goes_3 14 rfl rfl)
theorem dX1_goes_85 : decode cX1_goes 85 = .ok (.aload 5, 2) := dk_25 5 (dk_at dksX1_goes_3 15 rfl rfl)
theorem dX1_goes_87 : decode cX1_goes 87 = .ok (.getfield 127, 3) := dk_180 0 127 (dk_at dksX1_goes_3 17 rfl rfl)
theorem dX1_goes_90 : decode cX1_goes 90 = .ok (.iastore, 1) := dk_79 (dk_at dksX1_goes_3 20 rfl rfl)
theorem dX1_goes_91 : decode cX1_goes 91 = .ok (.aload_n 0, 1) := dk_42 (dk_at dksX1_goes_3 21 rfl rfl)
theorem dX1_goes_92 : decode cX1_goes 92 = .ok (.getfield 83, 3) := dk_180 0 83 (dk_at dksX1_goes_4 0 rfl rfl)
theorem dX1_goes_95 : decode cX1_goes 95 = .ok (.iconst 3, 1) := dk_6 (dk_at dksX1_goes_4 3 rfl rfl)
theorem dX1_goes_96 : decode cX1_goes 96 = .ok (.aload_n 0, 1) := dk_42 (dk_at dksX1_goes_4 4 rfl rfl)
theorem dX1_goes_97 : decode cX1_goes 97 = .ok (.getfield 27, 3) := dk_180 0 27 (dk_at dksX1_goes_4 5 rfl rfl)
theorem dX1_goes_100 : decode cX1_goes 100 = .ok (.aload 5, 2) := dk_25 5 (dk_at dksX1_goes_4 8 rfl rfl)
theorem dX1_goes_102 : decode cX1_goes 102 = .ok (.getfield 124, 3) := dk_180 0 124 (dk_at dksX1_goes_4 10 rfl rfl)
theorem dX1_goes_105 : decode cX1_goes 105 = .ok (.aaload, 1) := dk_50 (dk_at dksX1_goes_4 13 rfl rfl)
theorem dX1_goes_106 : decode cX1_goes 106 = .ok (.iload_n 3, 1) := dk_29 (dk_at dksX1_goes_4 14 rfl rfl)
theorem dX1_goes_107 : decode cX1_goes 107 = .ok (.iaload, 1) := dk_46 (dk_at dksX1_goes_4 15 rfl rfl)
theorem dX1_goes_108 : decode cX1_goes 108 = .ok (.iastore, 1) := dk_79 (dk_at dksX1_goes_4 16 rfl rfl)
theorem dX1_goes_109 : decode cX1_goes 109 = .ok (.aload_n 0, 1) := dk_42 (dk_at dksX1_goes_4 17 rfl rfl)
theorem dX1_goes_110 : decode cX1_goes 110 = .ok (.getfield 83, 3) := dk_180 0 83 (dk_at dksX1_goes_4 18 rfl rfl)
theorem dX1_goes_113 : decode cX1_goes 113 = .ok (.iconst 4, 1) := dk_7 (dk_at dksX1_goes_4 21 rfl rfl)
theorem dX1_goes_114 : decode cX1_goes 114 = .ok (.iconst 0, 1) := dk_3 (dk_at dksX1_goes_4 22 rfl rfl)
theorem dX1_goes_115 : decode cX1_goes 115 = .ok (.aload_n 0, 1) := dk_42 (dk_at dksX1_goes_4 23 rfl rfl)
theorem dX1_goes_116 : decode cX1_goes 116 = .ok (.getfield 83, 3) := dk_180 0 83 (dk_at dksX1_goes_5 0 rfl rfl)
theorem dX1_goes_119 : decode cX1_goes 119 = .ok (.iconst 3, 1) := dk_6 (dk_at dksX1_goes_5 3 rfl rfl)
theorem dX1_goes_120 : decode cX1_goes 120 = .ok (.iaload, 1) := dk_46 (dk_at dksX1_goes_5 4 rfl rfl)
theorem dX1_goes_121 : decode cX1_goes 121 = .ok (.aload 5, 2) := dk_25 5 (dk_at dksX1_goes_5 5 rfl rfl)
theorem dX1_goes_123 : decode cX1_goes 123 = .ok (.getfield 127, 3) := dk_180 0 127 (dk_at dksX1_goes_5 7 rfl rfl)
theorem dX1_goes_126 : decode cX1_goes 126 = .ok (.isub, 1) := dk_100 (dk_at dksX1_goes_5 10 rfl rfl)
theorem dX1_goes_127 : decode cX1_goes 127 = .ok (.invokestatic 145, 3) := dk_184 0 145 (dk_at dksX1_goes_5 11 rfl rfl)
theorem dX1_goes_130 : decode cX1_goes 130 = .ok (.iastore, 1) := dk_79 (dk_at dksX1_goes_5 14 rfl rfl)
theorem dX1_goes_131 : decode cX1_goes 131 = .ok (.aload_n 0, 1) := dk_42 (dk_at dksX1_goes_5 15 rfl rfl)
theorem dX1_goes_132 : decode cX1_goes 132 = .ok (.getfield 83, 3) := dk_180 0 83 (dk_at dksX1_goes_5 16 rfl rfl)
theorem dX1_goes_135 : decode cX1_goes 135 = .ok (.iconst 5, 1) := dk_8 (dk_at dksX1_goes_5 19 rfl rfl)
theorem dX1_goes_136 : decode cX1_goes 136 = .ok (.aload 5, 2) := dk_25 5 (dk_at dksX1_goes_5 20 rfl rfl)
theorem dX1_goes_138 : decode cX1_goes 138 = .ok (.getfield 124, 3) := dk_180 0 124 (dk_at dksX1_goes_6 0 rfl rfl)
theorem dX1_goes_141 : decode cX1_goes 141 = .ok (.iastore, 1) := dk_79 (dk_at dksX1_goes_6 3 rfl rfl)
theorem dX1_goes_142 : decode cX1_goes 142 = .ok (.aload_n 0, 1) := dk_42 (dk_at dksX1_goes_6 4 rfl rfl)
theorem dX1_goes_143 : decode cX1_goes 143 = .ok (.getfield 83, 3) := dk_180 0 83 (dk_at dksX1_goes_6 5 rfl rfl)
theorem dX1_goes_146 : decode cX1_goes 146 = .ok (.bipush 6, 2) := dk_16 6 (dk_at dksX1_goes_6 8 rfl rfl)
theorem dX1_goes_148 : decode cX1_goes 148 = .ok (.iload_n 3, 1) := dk_29 (dk_at dksX1_goes_6 10 rfl rfl)
theorem dX1_goes_149 : decode cX1_goes 149 = .ok (.iastore, 1) := dk_79 (dk_at dksX1_goes_6 11 rfl rfl)
theorem dX1_goes_150 : decode cX1_goes 150 = .ok (.aload_n 0, 1) := dk_42 (dk_at dksX1_goes_6 12 rfl rfl)
theorem dX1_goes_151 : decode cX1_goes 151 = .ok (.getfield 83, 3) := dk_180 0 83 (dk_at dksX1_goes_6 13 rfl rfl)
theorem dX1_goes_154 : decode cX1_goes 154 = .ok (.bipush 7, 2) := dk_16 7 (dk_at dksX1_goes_6 16 rfl rfl)
theorem dX1_goes_156 : decode cX1_goes 156 = .ok (.aload_n 0, 1) := dk_42 (dk_at dksX1_goes_6 18 rfl rfl)
theorem dX1_goes_157 : decode cX1_goes 157 = .ok (.getfield 30, 3) := dk_180 0 30 (dk_at dksX1_goes_6 19 rfl rfl)
theorem dX1_goes_160 : decode cX1_goes 160 = .ok (.aload 5, 2) := dk_25 5 (dk_at dksX1_goes_6 22 rfl rfl)
theorem dX1_goes_162 : decode cX1_goes 162 = .ok (.getfield 124, 3) := dk_180 0 124 (dk_at dksX1_goes_7 0 rfl rfl)
theorem dX1_goes_165 : decode cX1_goes 165 = .ok (.aaload, 1) := dk_50 (dk_at dksX1_goes_7 3 rfl rfl)
theorem dX1_goes_166 : decode cX1_goes 166 = .ok (.iload_n 3, 1) := dk_29 (dk_at dksX1_goes_7 4 rfl rfl)
theorem dX1_goes_167 : decode cX1_goes 167 = .ok (.iaload, 1) := dk_46 (dk_at dksX1_goes_7 5 rfl rfl)
theorem dX1_goes_168 : decode cX1_goes 168 = .ok (.iastore, 1) := dk_79 (dk_at dksX1_goes_7 6 rfl rfl)
theorem dX1_goes_169 : decode cX1_goes 169 = .ok (.aload_n 0, 1) := dk_42 (dk_at dksX1_goes_7 7 rfl rfl)
theorem dX1_goes_170 : decode cX1_goes 170 = .ok (.getfield 83, 3) := dk_180 0 83 (dk_at dksX1_goes_7 8 rfl rfl)
theorem dX1_goes_173 : decode cX1_goes 173 = .ok (.bipush 8, 2) := dk_16 8 (dk_at dksX1_goes_7 11 rfl rfl)
theorem dX1_goes_175 : decode cX1_goes 175 = .ok (.iload 4, 2) := dk_21 4 (dk_at dksX1_goes_7 13 rfl rfl)
theorem dX1_goes_177 : decode cX1_goes 177 = .ok (.iastore, 1) := dk_79 (dk_at dksX1_goes_7 15 rfl rfl)
theorem dX1_goes_178 : decode cX1_goes 178 = .ok (.aload_n 0, 1) := dk_42 (dk_at dksX1_goes_7 16 rfl rfl)
theorem dX1_goes_179 : decode cX1_goes 179 = .ok (.getfield 83, 3) := dk_180 0 83 (dk_at dksX1_goes_7 17 rfl rfl)
theorem dX1_goes_182 : decode cX1_goes 182 = .ok (.bipush 9, 2) := dk_16 9 (dk_at dksX1_goes_7 20 rfl rfl)
theorem dX1_goes_184 : decode cX1_goes 184 = .ok (.iload 6, 2) := dk_21 6 (dk_at dksX1_goes_7 22 rfl rfl)
theorem dX1_goes_186 : decode cX1_goes 186 = .ok (.ifCond .eq 7, 3) := dk_153 0 7 (dk_at dksX1_goes_8 0 rfl rfl)
theorem dX1_goes_189 : decode cX1_goes 189 = .ok (.iconst 1, 1) := dk_4 (dk_at dksX1_goes_8 3 rfl rfl)
theorem dX1_goes_190 : decode cX1_goes 190 = .ok (.goto 4, 3) := dk_167 0 4 (dk_at dksX1_goes_8 4 rfl rfl)
theorem dX1_goes_193 : decode cX1_goes 193 = .ok (.iconst 0, 1) := dk_3 (dk_at dksX1_goes_8 7 rfl rfl)
theorem dX1_goes_194 : decode cX1_goes 194 = .ok (.iastore, 1) := dk_79 (dk_at dksX1_goes_8 8 rfl rfl)
theorem dX1_goes_195 : decode cX1_goes 195 = .ok (.iload 6, 2) := dk_21 6 (dk_at dksX1_goes_8 9 rfl rfl)
theorem dX1_goes_197 : decode cX1_goes 197 = .ok (.ifCond .eq 24, 3) := dk_153 0 24 (dk_at dksX1_goes_8 11 rfl rfl)
theorem dX1_goes_200 : decode cX1_goes 200 = .ok (.aload_n 0, 1) := dk_42 (dk_at dksX1_goes_8 14 rfl rfl)
theorem dX1_goes_201 : decode cX1_goes 201 = .ok (.aload_n 1, 1) := dk_43 (dk_at dksX1_goes_8 15 rfl rfl)
theorem dX1_goes_202 : decode cX1_goes 202 = .ok (.getfield 281, 3) := dk_180 1 25 (dk_at dksX1_goes_8 16 rfl rfl)
theorem dX1_goes_205 : decode cX1_goes 205 = .ok (.iconst 3, 1) := dk_6 (dk_at dksX1_goes_8 19 rfl rfl)
theorem dX1_goes_206 : decode cX1_goes 206 = .ok (.aaload, 1) := dk_50 (dk_at dksX1_goes_8 20 rfl rfl)
theorem dX1_goes_207 : decode cX1_goes 207 = .ok (.invokevirtual 285, 3) := dk_182 1 29 (dk_at dksX1_goes_8 21 rfl rfl)
theorem dX1_goes_210 : decode cX1_goes 210 = .ok (.ifCond .ne 7, 3) := dk_154 0 7 (dk_at dksX1_goes_9 0 rfl rfl)
theorem dX1_goes_213 : decode cX1_goes 213 = .ok (.iconst 1, 1) := dk_4 (dk_at dksX1_goes_9 3 rfl rfl)
theorem dX1_goes_214 : decode cX1_goes 214 = .ok (.goto 17, 3) := dk_167 0 17 (dk_at dksX1_goes_9 4 rfl rfl)
theorem dX1_goes_217 : decode cX1_goes 217 = .ok (.iconst 0, 1) := dk_3 (dk_at dksX1_goes_9 7 rfl rfl)
theorem dX1_goes_218 : decode cX1_goes 218 = .ok (.goto 13, 3) := dk_167 0 13 (dk_at dksX1_goes_9 8 rfl rfl)
theorem dX1_goes_221 : decode cX1_goes 221 = .ok (.aload_n 0, 1) := dk_42 (dk_at dksX1_goes_9 11 rfl rfl)
theorem dX1_goes_222 : decode cX1_goes 222 = .ok (.aload_n 1, 1) := dk_43 (dk_at dksX1_goes_9 12 rfl rfl)
theorem dX1_goes_223 : decode cX1_goes 223 = .ok (.getfield 281, 3) := dk_180 1 25 (dk_at dksX1_goes_9 13 rfl rfl)
theorem dX1_goes_226 : decode cX1_goes 226 = .ok (.iconst 2, 1) := dk_5 (dk_at dksX1_goes_9 16 rfl rfl)
theorem dX1_goes_227 : decode cX1_goes 227 = .ok (.aaload, 1) := dk_50 (dk_at dksX1_goes_9 17 rfl rfl)
theorem dX1_goes_228 : decode cX1_goes 228 = .ok (.invokevirtual 285, 3) := dk_182 1 29 (dk_at dksX1_goes_9 18 rfl rfl)
theorem dX1_goes_231 : decode cX1_goes 231 = .ok (.istore 7, 2) := dk_54 7 (dk_at dksX1_goes_9 21 rfl rfl)
theorem dX1_goes_233 : decode cX1_goes 233 = .ok (.aload_n 0, 1) := dk_42 (dk_at dksX1_goes_9 23 rfl rfl)
theorem dX1_goes_234 : decode cX1_goes 234 = .ok (.getfield 77, 3) := dk_180 0 77 (dk_at dksX1_goes_10 0 rfl rfl)
theorem dX1_goes_237 : decode cX1_goes 237 = .ok (.iload_n 2, 1) := dk_28 (dk_at dksX1_goes_10 3 rfl rfl)
theorem dX1_goes_238 : decode cX1_goes 238 = .ok (.aaload, 1) := dk_50 (dk_at dksX1_goes_10 4 rfl rfl)
theorem dX1_goes_239 : decode cX1_goes 239 = .ok (.iload_n 3, 1) := dk_29 (dk_at dksX1_goes_10 5 rfl rfl)
theorem dX1_goes_240 : decode cX1_goes 240 = .ok (.iload 7, 2) := dk_21 7 (dk_at dksX1_goes_10 6 rfl rfl)
theorem dX1_goes_242 : decode cX1_goes 242 = .ok (.ifCond .eq 8, 3) := dk_153 0 8 (dk_at dksX1_goes_10 8 rfl rfl)
theorem dX1_goes_245 : decode cX1_goes 245 = .ok (.bipush (-2), 2) := dk_16 254 (dk_at dksX1_goes_10 11 rfl rfl)
theorem dX1_goes_247 : decode cX1_goes 247 = .ok (.goto 19, 3) := dk_167 0 19 (dk_at dksX1_goes_10 13 rfl rfl)
theorem dX1_goes_250 : decode cX1_goes 250 = .ok (.aload_n 0, 1) := dk_42 (dk_at dksX1_goes_10 16 rfl rfl)
theorem dX1_goes_251 : decode cX1_goes 251 = .ok (.aload_n 1, 1) := dk_43 (dk_at dksX1_goes_10 17 rfl rfl)
theorem dX1_goes_252 : decode cX1_goes 252 = .ok (.getfield 281, 3) := dk_180 1 25 (dk_at dksX1_goes_10 18 rfl rfl)
theorem dX1_goes_255 : decode cX1_goes 255 = .ok (.iconst 0, 1) := dk_3 (dk_at dksX1_goes_10 21 rfl rfl)
theorem dX1_goes_256 : decode cX1_goes 256 = .ok (.aaload, 1) := dk_50 (dk_at dksX1_goes_10 22 rfl rfl)
theorem dX1_goes_257 : decode cX1_goes 257 = .ok (.aload_n 0, 1) := dk_42 (dk_at dksX1_goes_10 23 rfl rfl)
theorem dX1_goes_258 : decode cX1_goes 258 = .ok (.getfield 83, 3) := dk_180 0 83 (dk_at dksX1_goes_11 0 rfl rfl)
theorem dX1_goes_261 : decode cX1_goes 261 = .ok (.iconst 0, 1) := dk_3 (dk_at dksX1_goes_11 3 rfl rfl)
theorem dX1_goes_262 : decode cX1_goes 262 = .ok (.iaload, 1) := dk_46 (dk_at dksX1_goes_11 4 rfl rfl)
theorem dX1_goes_263 : decode cX1_goes 263 = .ok (.invokevirtual 289, 3) := dk_182 1 33 (dk_at dksX1_goes_11 5 rfl rfl)
theorem dX1_goes_266 : decode cX1_goes 266 = .ok (.iastore, 1) := dk_79 (dk_at dksX1_goes_11 8 rfl rfl)
theorem dX1_goes_267 : decode cX1_goes 267 = .ok (.aload_n 0, 1) := dk_42 (dk_at dksX1_goes_11 9 rfl rfl)
theorem dX1_goes_268 : decode cX1_goes 268 = .ok (.getfield 80, 3) := dk_180 0 80 (dk_at dksX1_goes_11 10 rfl rfl)
theorem dX1_goes_271 : decode cX1_goes 271 = .ok (.iload_n 2, 1) := dk_28 (dk_at dksX1_goes_11 13 rfl rfl)
theorem dX1_goes_272 : decode cX1_goes 272 = .ok (.aaload, 1) := dk_50 (dk_at dksX1_goes_11 14 rfl rfl)
theorem dX1_goes_273 : decode cX1_goes 273 = .ok (.iload_n 3, 1) := dk_29 (dk_at dksX1_goes_11 15 rfl rfl)
theorem dX1_goes_274 : decode cX1_goes 274 = .ok (.iload 7, 2) := dk_21 7 (dk_at dksX1_goes_11 16 rfl rfl)
theorem dX1_goes_276 : decode cX1_goes 276 = .ok (.ifCond .eq 7, 3) := dk_153 0 7 (dk_at dksX1_goes_11 18 rfl rfl)
theorem dX1_goes_279 : decode cX1_goes 279 = .ok (.iconst 0, 1) := dk_3 (dk_at dksX1_goes_11 21 rfl rfl)
theorem dX1_goes_280 : decode cX1_goes 280 = .ok (.goto 19, 3) := dk_167 0 19 (dk_at dksX1_goes_12 0 rfl rfl)
theorem dX1_goes_283 : decode cX1_goes 283 = .ok (.aload_n 0, 1) := dk_42 (dk_at dksX1_goes_12 3 rfl rfl)
theorem dX1_goes_284 : decode cX1_goes 284 = .ok (.aload_n 1, 1) := dk_43 (dk_at dksX1_goes_12 4 rfl rfl)
theorem dX1_goes_285 : decode cX1_goes 285 = .ok (.getfield 281, 3) := dk_180 1 25 (dk_at dksX1_goes_12 5 rfl rfl)
theorem dX1_goes_288 : decode cX1_goes 288 = .ok (.iconst 1, 1) := dk_4 (dk_at dksX1_goes_12 8 rfl rfl)
theorem dX1_goes_289 : decode cX1_goes 289 = .ok (.aaload, 1) := dk_50 (dk_at dksX1_goes_12 9 rfl rfl)
theorem dX1_goes_290 : decode cX1_goes 290 = .ok (.aload_n 0, 1) := dk_42 (dk_at dksX1_goes_12 10 rfl rfl)
theorem dX1_goes_291 : decode cX1_goes 291 = .ok (.getfield 83, 3) := dk_180 0 83 (dk_at dksX1_goes_12 11 rfl rfl)
theorem dX1_goes_294 : decode cX1_goes 294 = .ok (.iconst 1, 1) := dk_4 (dk_at dksX1_goes_12 14 rfl rfl)
theorem dX1_goes_295 : decode cX1_goes 295 = .ok (.iaload, 1) := dk_46 (dk_at dksX1_goes_12 15 rfl rfl)
theorem dX1_goes_296 : decode cX1_goes 296 = .ok (.invokevirtual 289, 3) := dk_182 1 33 (dk_at dksX1_goes_12 16 rfl rfl)
theorem dX1_goes_299 : decode cX1_goes 299 = .ok (.iastore, 1) := dk_79 (dk_at dksX1_goes_12 19 rfl rfl)
theorem dX1_goes_300 : decode cX1_goes 300 = .ok (.return_, 1) := dk_177 (dk_at dksX1_goes_12 20 rfl rfl)
def dkwX1_isSo_0 : List UInt8 := [43, 198, 0, 18, 43, 42, 180, 0, 83, 182, 1, 37, 153, 0, 7, 4, 167, 0, 4, 3, 172]
abbrev dktX1_isSo_0 : List UInt8 := dkwX1_isSo_0 ++ []
theorem dksX1_isSo_0 : cX1_isSo.data.toList.drop 0 = dktX1_isSo_0 := by decide +kernel
theorem dX1_isSo_0 : decode cX1_isSo 0 = .ok (.aload_n 1, 1) := dk_43 (dk_at dksX1_isSo_0 0 rfl rfl)
theorem dX1_isSo_1 : decode cX1_isSo 1 = .ok (.ifnull 18, 3) := dk_198 0 18 (dk_at dksX1_isSo_0 1 rfl rfl)
theorem dX1_isSo_4 : decode cX1_isSo 4 = .ok (.aload_n 1, 1) := dk_43 (dk_at dksX1_isSo_0 4 rfl rfl)
theorem dX1_isSo_5 : decode cX1_isSo 5 = .ok (.aload_n 0, 1) := dk_42 (dk_at dksX1_isSo_0 5 rfl rfl)
theorem dX1_isSo_6 : decode cX1_isSo 6 = .ok (.getfield 83, 3) := dk_180 0 83 (dk_at dksX1_isSo_0 6 rfl rfl)
theorem dX1_isSo_9 : decode cX1_isSo 9 = .ok (.invokevirtual 293, 3) := dk_182 1 37 (dk_at dksX1_isSo_0 9 rfl rfl)
theorem dX1_isSo_12 : decode cX1_isSo 12 = .ok (.ifCond .eq 7, 3) := dk_153 0 7 (dk_at dksX1_isSo_0 12 rfl rfl)
theorem dX1_isSo_15 : decode cX1_isSo 15 = .ok (.iconst 1, 1) := dk_4 (dk_at dksX1_isSo_0 15 rfl rfl)
theorem dX1_isSo_16 : decode cX1_isSo 16 = .ok (.goto 4, 3) := dk_167 0 4 (dk_at dksX1_isSo_0 16 rfl rfl)
theorem dX1_isSo_19 : decode cX1_isSo 19 = .ok (.iconst 0, 1) := dk_3 (dk_at dksX1_isSo_0 19 rfl rfl)
theorem dX1_isSo_20 : decode cX1_isSo 20 = .ok (.ireturn, 1) := dk_172 (dk_at dksX1_isSo_0 20 rfl rfl)
def dkwX1_hired_1 : List UInt8 := [184, 0, 145, 172]
abbrev dktX1_hired_1 : List UInt8 := dkwX1_hired_1 ++ []
def dkwX1_hired_0 : List UInt8 := [43, 199, 0, 7, 28, 167, 0, 20, 3, 16, 99, 43, 42, 180, 0, 83, 182, 1, 37, 184, 1, 43]
abbrev dktX1_hired_0 : List UInt8 := dkwX1_hired_0 ++ dktX1_hired_1
theorem dksX1_hired_0 : cX1_hired.data.toList.drop 0 = dktX1_hired_0 := by decide +kernel
theorem dksX1_hired_1 : cX1_hired.data.toList.drop 22 = dktX1_hired_1 := dk_seg dksX1_hired_0 22 rfl rfl
theorem dX1_hired_0 : decode cX1_hired 0 = .ok (.aload_n 1, 1) := dk_43 (dk_at dksX1_hired_0 0 rfl rfl)
theorem dX1_hired_1 : decode cX1_hired 1 = .ok (.ifnonnull 7, 3) := dk_199 0 7 (dk_at dksX1_hired_0 1 rfl rfl)
theorem dX1_hired_4 : decode cX1_hired 4 = .ok (.iload_n 2, 1) := dk_28 (dk_at dksX1_hired_0 4 rfl rfl)
theorem dX1_hired_5 : decode cX1_hired 5 = .ok (.goto 20, 3) := dk_167 0 20 (dk_at dksX1_hired_0 5 rfl rfl)
theorem dX1_hired_8 : decode cX1_hired 8 = .ok (.iconst 0, 1) := dk_3 (dk_at dksX1_hired_0 8 rfl rfl)
theorem dX1_hired_9 : decode cX1_hired 9 = .ok (.bipush 99, 2) := dk_16 99 (dk_at dksX1_hired_0 9 rfl rfl)
theorem dX1_hired_11 : decode cX1_hired 11 = .ok (.aload_n 1, 1) := dk_43 (dk_at dksX1_hired_0 11 rfl rfl)
theorem dX1_hired_12 : decode cX1_hired 12 = .ok (.aload_n 0, 1) := dk_42 (dk_at dksX1_hired_0 12 rfl rfl)
theorem dX1_hired_13 : decode cX1_hired 13 = .ok (.getfield 83, 3) := dk_180 0 83 (dk_at dksX1_hired_0 13 rfl rfl)
theorem dX1_hired_16 : decode cX1_hired 16 = .ok (.invokevirtual 293, 3) := dk_182 1 37 (dk_at dksX1_hired_0 16 rfl rfl)
theorem dX1_hired_19 : decode cX1_hired 19 = .ok (.invokestatic 299, 3) := dk_184 1 43 (dk_at dksX1_hired_0 19 rfl rfl)
theorem dX1_hired_22 : decode cX1_hired 22 = .ok (.invokestatic 145, 3) := dk_184 0 145 (dk_at dksX1_hired_1 0 rfl rfl)
theorem dX1_hired_25 : decode cX1_hired 25 = .ok (.ireturn, 1) := dk_172 (dk_at dksX1_hired_1 3 rfl rfl)
def dkwX1_worldHands_0 : List UInt8 := [42, 42, 180, 0, 77, 27, 50, 28, 46, 42, 180, 0, 80, 27, 50, 28, 46, 182, 0, 155, 172]
abbrev dktX1_worldHands_0 : List UInt8 := dkwX1_worldHands_0 ++ []
theorem dksX1_worldHands_0 : cX1_worldHands.data.toList.drop 0 = dktX1_worldHands_0 := by decide +kernel
theorem dX1_worldHands_0 : decode cX1_worldHands 0 = .ok (.aload_n 0, 1) := dk_42 (dk_at dksX1_worldHands_0 0 rfl rfl)
theorem dX1_worldHands_1 : decode cX1_worldHands 1 = .ok (.aload_n 0, 1) := dk_42 (dk_at dksX1_worldHands_0 1 rfl rfl)
theorem dX1_worldHands_2 : decode cX1_worldHands 2 = .ok (.getfield 77, 3) := dk_180 0 77 (dk_at dksX1_worldHands_0 2 rfl rfl)
theorem dX1_worldHands_5 : decode cX1_worldHands 5 = .ok (.iload_n 1, 1) := dk_27 (dk_at dksX1_worldHands_0 5 rfl rfl)
theorem dX1_worldHands_6 : decode cX1_worldHands 6 = .ok (.aaload, 1) := dk_50 (dk_at dksX1_worldHands_0 6 rfl rfl)
theorem dX1_worldHands_7 : decode cX1_worldHands 7 = .ok (.iload_n 2, 1) := dk_28 (dk_at dksX1_worldHands_0 7 rfl rfl)
theorem dX1_worldHands_8 : decode cX1_worldHands 8 = .ok (.iaload, 1) := dk_46 (dk_at dksX1_worldHands_0 8 rfl rfl)
theorem dX1_worldHands_9 : decode cX1_worldHands 9 = .ok (.aload_n 0, 1) := dk_42 (dk_at dksX1_worldHands_0 9 rfl rfl)
theorem dX1_worldHands_10 : decode cX1_worldHands 10 = .ok (.getfield 80, 3) := dk_180 0 80 (dk_at dksX1_worldHands_0 10 rfl rfl)
theorem dX1_worldHands_13 : decode cX1_worldHands 13 = .ok (.iload_n 1, 1) := dk_27 (dk_at dksX1_worldHands_0 13 rfl rfl)
theorem dX1_worldHands_14 : decode cX1_worldHands 14 = .ok (.aaload, 1) := dk_50 (dk_at dksX1_worldHands_0 14 rfl rfl)
theorem dX1_worldHands_15 : decode cX1_worldHands 15 = .ok (.iload_n 2, 1) := dk_28 (dk_at dksX1_worldHands_0 15 rfl rfl)
theorem dX1_worldHands_16 : decode cX1_worldHands 16 = .ok (.iaload, 1) := dk_46 (dk_at dksX1_worldHands_0 16 rfl rfl)
theorem dX1_worldHands_17 : decode cX1_worldHands 17 = .ok (.invokevirtual 155, 3) := dk_182 0 155 (dk_at dksX1_worldHands_0 17 rfl rfl)
theorem dX1_worldHands_20 : decode cX1_worldHands 20 = .ok (.ireturn, 1) := dk_172 (dk_at dksX1_worldHands_0 20 rfl rfl)
def dkwX1_fits_1 : List UInt8 := [167, 0, 6, 20, 0, 250, 173]
abbrev dktX1_fits_1 : List UInt8 := dkwX1_fits_1 ++ []
def dkwX1_fits_0 : List UInt8 := [27, 184, 0, 255, 153, 0, 22, 28, 4, 16, 20, 184, 0, 112, 153, 0, 12, 42, 27, 28, 182, 1, 56]
abbrev dktX1_fits_0 : List UInt8 := dkwX1_fits_0 ++ dktX1_fits_1
theorem dksX1_fits_0 : cX1_fits.data.toList.drop 0 = dktX1_fits_0 := by decide +kernel
theorem dksX1_fits_1 : cX1_fits.data.toList.drop 23 = dktX1_fits_1 := dk_seg dksX1_fits_0 23 rfl rfl
theorem dX1_fits_0 : decode cX1_fits 0 = .ok (.iload_n 1, 1) := dk_27 (dk_at dksX1_fits_0 0 rfl rfl)
theorem dX1_fits_1 : decode cX1_fits 1 = .ok (.invokestatic 255, 3) := dk_184 0 255 (dk_at dksX1_fits_0 1 rfl rfl)
theorem dX1_fits_4 : decode cX1_fits 4 = .ok (.ifCond .eq 22, 3) := dk_153 0 22 (dk_at dksX1_fits_0 4 rfl rfl)
theorem dX1_fits_7 : decode cX1_fits 7 = .ok (.iload_n 2, 1) := dk_28 (dk_at dksX1_fits_0 7 rfl rfl)
theorem dX1_fits_8 : decode cX1_fits 8 = .ok (.iconst 1, 1) := dk_4 (dk_at dksX1_fits_0 8 rfl rfl)
theorem dX1_fits_9 : decode cX1_fits 9 = .ok (.bipush 20, 2) := dk_16 20 (dk_at dksX1_fits_0 9 rfl rfl)
theorem dX1_fits_11 : decode cX1_fits 11 = .ok (.invokestatic 112, 3) := dk_184 0 112 (dk_at dksX1_fits_0 11 rfl rfl)
theorem dX1_fits_14 : decode cX1_fits 14 = .ok (.ifCond .eq 12, 3) := dk_153 0 12 (dk_at dksX1_fits_0 14 rfl rfl)
theorem dX1_fits_17 : decode cX1_fits 17 = .ok (.aload_n 0, 1) := dk_42 (dk_at dksX1_fits_0 17 rfl rfl)
theorem dX1_fits_18 : decode cX1_fits 18 = .ok (.iload_n 1, 1) := dk_27 (dk_at dksX1_fits_0 18 rfl rfl)
theorem dX1_fits_19 : decode cX1_fits 19 = .ok (.iload_n 2, 1) := dk_28 (dk_at dksX1_fits_0 19 rfl rfl)
theorem dX1_fits_20 : decode cX1_fits 20 = .ok (.invokevirtual 312, 3) := dk_182 1 56 (dk_at dksX1_fits_0 20 rfl rfl)
theorem dX1_fits_23 : decode cX1_fits 23 = .ok (.goto 6, 3) := dk_167 0 6 (dk_at dksX1_fits_1 0 rfl rfl)
theorem dX1_fits_26 : decode cX1_fits 26 = .ok (.ldc2_w 250, 3) := dk_20 0 250 (dk_at dksX1_fits_1 3 rfl rfl)
theorem dX1_fits_29 : decode cX1_fits 29 = .ok (.lreturn, 1) := dk_173 (dk_at dksX1_fits_1 6 rfl rfl)
def dkwX1_fitsOf_5 : List UInt8 := [33, 173]
abbrev dktX1_fitsOf_5 : List UInt8 := dkwX1_fitsOf_5 ++ []
def dkwX1_fitsOf_4 : List UInt8 := [184, 1, 53, 133, 97, 66, 132, 7, 1, 167, 255, 189, 132, 6, 1, 167, 255, 173, 132, 5, 1, 167, 255, 146]
abbrev dktX1_fitsOf_4 : List UInt8 := dkwX1_fitsOf_4 ++ dktX1_fitsOf_5
def dkwX1_fitsOf_3 : List UInt8 := [33, 42, 21, 6, 21, 7, 182, 1, 50, 42, 42, 180, 0, 21, 21, 6, 50, 21, 7, 182, 0, 161, 100]
abbrev dktX1_fitsOf_3 : List UInt8 := dkwX1_fitsOf_3 ++ dktX1_fitsOf_4
def dkwX1_fitsOf_2 : List UInt8 := [21, 6, 50, 180, 0, 116, 153, 0, 53, 42, 180, 0, 21, 21, 6, 50, 21, 7, 182, 0, 158, 154, 0, 32]
abbrev dktX1_fitsOf_2 : List UInt8 := dkwX1_fitsOf_2 ++ dktX1_fitsOf_3
def dkwX1_fitsOf_1 : List UInt8 := [54, 6, 21, 6, 16, 24, 162, 0, 82, 4, 54, 7, 21, 7, 16, 12, 162, 0, 66, 42, 180, 0, 21]
abbrev dktX1_fitsOf_1 : List UInt8 := dkwX1_fitsOf_1 ++ dktX1_fitsOf_2
def dkwX1_fitsOf_0 : List UInt8 := [9, 66, 3, 54, 5, 21, 5, 28, 162, 0, 110, 42, 42, 180, 0, 46, 27, 50, 21, 5, 182, 1, 46, 3]
abbrev dktX1_fitsOf_0 : List UInt8 := dkwX1_fitsOf_0 ++ dktX1_fitsOf_1
theorem dksX1_fitsOf_0 : cX1_fitsOf.data.toList.drop 0 = dktX1_fitsOf_0 := by decide +kernel
theorem dksX1_fitsOf_1 : cX1_fitsOf.data.toList.drop 24 = dktX1_fitsOf_1 := dk_seg dksX1_fitsOf_0 24 rfl rfl
theorem dksX1_fitsOf_2 : cX1_fitsOf.data.toList.drop 47 = dktX1_fitsOf_2 := dk_seg dksX1_fitsOf_1 23 rfl rfl
theorem dksX1_fitsOf_3 : cX1_fitsOf.data.toList.drop 71 = dktX1_fitsOf_3 := dk_seg dksX1_fitsOf_2 24 rfl rfl
theorem dksX1_fitsOf_4 : cX1_fitsOf.data.toList.drop 94 = dktX1_fitsOf_4 := dk_seg dksX1_fitsOf_3 23 rfl rfl
theorem dksX1_fitsOf_5 : cX1_fitsOf.data.toList.drop 118 = dktX1_fitsOf_5 := dk_seg dksX1_fitsOf_4 24 rfl rfl
theorem dX1_fitsOf_0 : decode cX1_fitsOf 0 = .ok (.lconst 0, 1) := dk_9 (dk_at dksX1_fitsOf_0 0 rfl rfl)
theorem dX1_fitsOf_1 : decode cX1_fitsOf 1 = .ok (.lstore_n 3, 1) := dk_66 (dk_at dksX1_fitsOf_0 1 rfl rfl)
theorem dX1_fitsOf_2 : decode cX1_fitsOf 2 = .ok (.iconst 0, 1) := dk_3 (dk_at dksX1_fitsOf_0 2 rfl rfl)
theorem dX1_fitsOf_3 : decode cX1_fitsOf 3 = .ok (.istore 5, 2) := dk_54 5 (dk_at dksX1_fitsOf_0 3 rfl rfl)
theorem dX1_fitsOf_5 : decode cX1_fitsOf 5 = .ok (.iload 5, 2) := dk_21 5 (dk_at dksX1_fitsOf_0 5 rfl rfl)
theorem dX1_fitsOf_7 : decode cX1_fitsOf 7 = .ok (.iload_n 2, 1) := dk_28 (dk_at dksX1_fitsOf_0 7 rfl rfl)
theorem dX1_fitsOf_8 : decode cX1_fitsOf 8 = .ok (.if_icmp .ge 110, 3) := dk_162 0 110 (dk_at dksX1_fitsOf_0 8 rfl rfl)
theorem dX1_fitsOf_11 : decode cX1_fitsOf 11 = .ok (.aload_n 0, 1) := dk_42 (dk_at dksX1_fitsOf_0 11 rfl rfl)
theorem dX1_fitsOf_12 : decode cX1_fitsOf 12 = .ok (.aload_n 0, 1) := dk_42 (dk_at dksX1_fitsOf_0 12 rfl rfl)
theorem dX1_fitsOf_13 : decode cX1_fitsOf 13 = .ok (.getfield 46, 3) := dk_180 0 46 (dk_at dksX1_fitsOf_0 13 rfl rfl)
theorem dX1_fitsOf_16 : decode cX1_fitsOf 16 = .ok (.iload_n 1, 1) := dk_27 (dk_at dksX1_fitsOf_0 16 rfl rfl)
theorem dX1_fitsOf_17 : decode cX1_fitsOf 17 = .ok (.aaload, 1) := dk_50 (dk_at dksX1_fitsOf_0 17 rfl rfl)
theorem dX1_fitsOf_18 : decode cX1_fitsOf 18 = .ok (.iload 5, 2) := dk_21 5 (dk_at dksX1_fitsOf_0 18 rfl rfl)
theorem dX1_fitsOf_20 : decode cX1_fitsOf 20 = .ok (.invokevirtual 302, 3) := dk_182 1 46 (dk_at dksX1_fitsOf_0 20 rfl rfl)
theorem dX1_fitsOf_23 : decode cX1_fitsOf 23 = .ok (.iconst 0, 1) := dk_3 (dk_at dksX1_fitsOf_0 23 rfl rfl)
theorem dX1_fitsOf_24 : decode cX1_fitsOf 24 = .ok (.istore 6, 2) := dk_54 6 (dk_at dksX1_fitsOf_1 0 rfl rfl)
theorem dX1_fitsOf_26 : decode cX1_fitsOf 26 = .ok (.iload 6, 2) := dk_21 6 (dk_at dksX1_fitsOf_1 2 rfl rfl)
theorem dX1_fitsOf_28 : decode cX1_fitsOf 28 = .ok (.bipush 24, 2) := dk_16 24 (dk_at dksX1_fitsOf_1 4 rfl rfl)
theorem dX1_fitsOf_30 : decode cX1_fitsOf 30 = .ok (.if_icmp .ge 82, 3) := dk_162 0 82 (dk_at dksX1_fitsOf_1 6 rfl rfl)
theorem dX1_fitsOf_33 : decode cX1_fitsOf 33 = .ok (.iconst 1, 1) := dk_4 (dk_at dksX1_fitsOf_1 9 rfl rfl)
theorem dX1_fitsOf_34 : decode cX1_fitsOf 34 = .ok (.istore 7, 2) := dk_54 7 (dk_at dksX1_fitsOf_1 10 rfl rfl)
theorem dX1_fitsOf_36 : decode cX1_fitsOf 36 = .ok (.iload 7, 2) := dk_21 7 (dk_at dksX1_fitsOf_1 12 rfl rfl)
theorem dX1_fitsOf_38 : decode cX1_fitsOf 38 = .ok (.bipush 12, 2) := dk_16 12 (dk_at dksX1_fitsOf_1 14 rfl rfl)
theorem dX1_fitsOf_40 : decode cX1_fitsOf 40 = .ok (.if_icmp .ge 66, 3) := dk_162 0 66 (dk_at dksX1_fitsOf_1 16 rfl rfl)
theorem dX1_fitsOf_43 : decode cX1_fitsOf 43 = .ok (.aload_n 0, 1) := dk_42 (dk_at dksX1_fitsOf_1 19 rfl rfl)
theorem dX1_fitsOf_44 : decode cX1_fitsOf 44 = .ok (.getfield 21, 3) := dk_180 0 21 (dk_at dksX1_fitsOf_1 20 rfl rfl)
theorem dX1_fitsOf_47 : decode cX1_fitsOf 47 = .ok (.iload 6, 2) := dk_21 6 (dk_at dksX1_fitsOf_2 0 rfl rfl)
theorem dX1_fitsOf_49 : decode cX1_fitsOf 49 = .ok (.aaload, 1) := dk_50 (dk_at dksX1_fitsOf_2 2 rfl rfl)
theorem dX1_fitsOf_50 : decode cX1_fitsOf 50 = .ok (.getfield 116, 3) := dk_180 0 116 (dk_at dksX1_fitsOf_2 3 rfl rfl)
theorem dX1_fitsOf_53 : decode cX1_fitsOf 53 = .ok (.ifCond .eq 53, 3) := dk_153 0 53 (dk_at dksX1_fitsOf_2 6 rfl rfl)
theorem dX1_fitsOf_56 : decode cX1_fitsOf 56 = .ok (.aload_n 0, 1) := dk_42 (dk_at dksX1_fitsOf_2 9 rfl rfl)
theorem dX1_fitsOf_57 : decode cX1_fitsOf 57 = .ok (.getfield 21, 3) := dk_180 0 21 (dk_at dksX1_fitsOf_2 10 rfl rfl)
theorem dX1_fitsOf_60 : decode cX1_fitsOf 60 = .ok (.iload 6, 2) := dk_21 6 (dk_at dksX1_fitsOf_2 13 rfl rfl)
theorem dX1_fitsOf_62 : decode cX1_fitsOf 62 = .ok (.aaload, 1) := dk_50 (dk_at dksX1_fitsOf_2 15 rfl rfl)
theorem dX1_fitsOf_63 : decode cX1_fitsOf 63 = .ok (.iload 7, 2) := dk_21 7 (dk_at dksX1_fitsOf_2 16 rfl rfl)
theorem dX1_fitsOf_65 : decode cX1_fitsOf 65 = .ok (.invokevirtual 158, 3) := dk_182 0 158 (dk_at dksX1_fitsOf_2 18 rfl rfl)
theorem dX1_fitsOf_68 : decode cX1_fitsOf 68 = .ok (.ifCond .ne 32, 3) := dk_154 0 32 (dk_at dksX1_fitsOf_2 21 rfl rfl)
theorem dX1_fitsOf_71 : decode cX1_fitsOf 71 = .ok (.lload_n 3, 1) := dk_33 (dk_at dksX1_fitsOf_3 0 rfl rfl)
theorem dX1_fitsOf_72 : decode cX1_fitsOf 72 = .ok (.aload_n 0, 1) := dk_42 (dk_at dksX1_fitsOf_3 1 rfl rfl)
theorem dX1_fitsOf_73 : decode cX1_fitsOf 73 = .ok (.iload 6, 2) := dk_21 6 (dk_at dksX1_fitsOf_3 2 rfl rfl)
theorem dX1_fitsOf_75 : decode cX1_fitsOf 75 = .ok (.iload 7, 2) := dk_21 7 (dk_at dksX1_fitsOf_3 4 rfl rfl)
theorem dX1_fitsOf_77 : decode cX1_fitsOf 77 = .ok (.invokevirtual 306, 3) := dk_182 1 50 (dk_at dksX1_fitsOf_3 6 rfl rfl)
theorem dX1_fitsOf_80 : decode cX1_fitsOf 80 = .ok (.aload_n 0, 1) := dk_42 (dk_at dksX1_fitsOf_3 9 rfl rfl)
theorem dX1_fitsOf_81 : decode cX1_fitsOf 81 = .ok (.aload_n 0, 1) := dk_42 (dk_at dksX1_fitsOf_3 10 rfl rfl)
theorem dX1_fitsOf_82 : decode cX1_fitsOf 82 = .ok (.getfield 21, 3) := dk_180 0 21 (dk_at dksX1_fitsOf_3 11 rfl rfl)
theorem dX1_fitsOf_85 : decode cX1_fitsOf 85 = .ok (.iload 6, 2) := dk_21 6 (dk_at dksX1_fitsOf_3 14 rfl rfl)
theorem dX1_fitsOf_87 : decode cX1_fitsOf 87 = .ok (.aaload, 1) := dk_50 (dk_at dksX1_fitsOf_3 16 rfl rfl)
theorem dX1_fitsOf_88 : decode cX1_fitsOf 88 = .ok (.iload 7, 2) := dk_21 7 (dk_at dksX1_fitsOf_3 17 rfl rfl)
theorem dX1_fitsOf_90 : decode cX1_fitsOf 90 = .ok (.invokevirtual 161, 3) := dk_182 0 161 (dk_at dksX1_fitsOf_3 19 rfl rfl)
theorem dX1_fitsOf_93 : decode cX1_fitsOf 93 = .ok (.isub, 1) := dk_100 (dk_at dksX1_fitsOf_3 22 rfl rfl)
theorem dX1_fitsOf_94 : decode cX1_fitsOf 94 = .ok (.invokestatic 309, 3) := dk_184 1 53 (dk_at dksX1_fitsOf_4 0 rfl rfl)
theorem dX1_fitsOf_97 : decode cX1_fitsOf 97 = .ok (.i2l, 1) := dk_133 (dk_at dksX1_fitsOf_4 3 rfl rfl)
theorem dX1_fitsOf_98 : decode cX1_fitsOf 98 = .ok (.ladd, 1) := dk_97 (dk_at dksX1_fitsOf_4 4 rfl rfl)
theorem dX1_fitsOf_99 : decode cX1_fitsOf 99 = .ok (.lstore_n 3, 1) := dk_66 (dk_at dksX1_fitsOf_4 5 rfl rfl)
theorem dX1_fitsOf_100 : decode cX1_fitsOf 100 = .ok (.iinc 7 1, 3) := dk_132 7 1 (dk_at dksX1_fitsOf_4 6 rfl rfl)
theorem dX1_fitsOf_103 : decode cX1_fitsOf 103 = .ok (.goto (-67), 3) := dk_167 255 189 (dk_at dksX1_fitsOf_4 9 rfl rfl)
theorem dX1_fitsOf_106 : decode cX1_fitsOf 106 = .ok (.iinc 6 1, 3) := dk_132 6 1 (dk_at dksX1_fitsOf_4 12 rfl rfl)
theorem dX1_fitsOf_109 : decode cX1_fitsOf 109 = .ok (.goto (-83), 3) := dk_167 255 173 (dk_at dksX1_fitsOf_4 15 rfl rfl)
theorem dX1_fitsOf_112 : decode cX1_fitsOf 112 = .ok (.iinc 5 1, 3) := dk_132 5 1 (dk_at dksX1_fitsOf_4 18 rfl rfl)
theorem dX1_fitsOf_115 : decode cX1_fitsOf 115 = .ok (.goto (-110), 3) := dk_167 255 146 (dk_at dksX1_fitsOf_4 21 rfl rfl)
theorem dX1_fitsOf_118 : decode cX1_fitsOf 118 = .ok (.lload_n 3, 1) := dk_33 (dk_at dksX1_fitsOf_5 0 rfl rfl)
theorem dX1_fitsOf_119 : decode cX1_fitsOf 119 = .ok (.lreturn, 1) := dk_173 (dk_at dksX1_fitsOf_5 1 rfl rfl)
def dkwX1_best_1 : List UInt8 := [182, 1, 56, 42, 28, 27, 182, 1, 56, 148, 156, 0, 5, 29, 61, 132, 3, 1, 167, 255, 230, 28, 172]
abbrev dktX1_best_1 : List UInt8 := dkwX1_best_1 ++ []
def dkwX1_best_0 : List UInt8 := [27, 4, 16, 20, 184, 0, 112, 154, 0, 5, 2, 172, 3, 61, 4, 62, 29, 7, 162, 0, 27, 42, 29, 27]
abbrev dktX1_best_0 : List UInt8 := dkwX1_best_0 ++ dktX1_best_1
theorem dksX1_best_0 : cX1_best.data.toList.drop 0 = dktX1_best_0 := by decide +kernel
theorem dksX1_best_1 : cX1_best.data.toList.drop 24 = dktX1_best_1 := dk_seg dksX1_best_0 24 rfl rfl
theorem dX1_best_0 : decode cX1_best 0 = .ok (.iload_n 1, 1) := dk_27 (dk_at dksX1_best_0 0 rfl rfl)
theorem dX1_best_1 : decode cX1_best 1 = .ok (.iconst 1, 1) := dk_4 (dk_at dksX1_best_0 1 rfl rfl)
theorem dX1_best_2 : decode cX1_best 2 = .ok (.bipush 20, 2) := dk_16 20 (dk_at dksX1_best_0 2 rfl rfl)
theorem dX1_best_4 : decode cX1_best 4 = .ok (.invokestatic 112, 3) := dk_184 0 112 (dk_at dksX1_best_0 4 rfl rfl)
theorem dX1_best_7 : decode cX1_best 7 = .ok (.ifCond .ne 5, 3) := dk_154 0 5 (dk_at dksX1_best_0 7 rfl rfl)
theorem dX1_best_10 : decode cX1_best 10 = .ok (.iconst (-1), 1) := dk_2 (dk_at dksX1_best_0 10 rfl rfl)
theorem dX1_best_11 : decode cX1_best 11 = .ok (.ireturn, 1) := dk_172 (dk_at dksX1_best_0 11 rfl rfl)
theorem dX1_best_12 : decode cX1_best 12 = .ok (.iconst 0, 1) := dk_3 (dk_at dksX1_best_0 12 rfl rfl)
theorem dX1_best_13 : decode cX1_best 13 = .ok (.istore_n 2, 1) := dk_61 (dk_at dksX1_best_0 13 rfl rfl)
theorem dX1_best_14 : decode cX1_best 14 = .ok (.iconst 1, 1) := dk_4 (dk_at dksX1_best_0 14 rfl rfl)
theorem dX1_best_15 : decode cX1_best 15 = .ok (.istore_n 3, 1) := dk_62 (dk_at dksX1_best_0 15 rfl rfl)
theorem dX1_best_16 : decode cX1_best 16 = .ok (.iload_n 3, 1) := dk_29 (dk_at dksX1_best_0 16 rfl rfl)
theorem dX1_best_17 : decode cX1_best 17 = .ok (.iconst 4, 1) := dk_7 (dk_at dksX1_best_0 17 rfl rfl)
theorem dX1_best_18 : decode cX1_best 18 = .ok (.if_icmp .ge 27, 3) := dk_162 0 27 (dk_at dksX1_best_0 18 rfl rfl)
theorem dX1_best_21 : decode cX1_best 21 = .ok (.aload_n 0, 1) := dk_42 (dk_at dksX1_best_0 21 rfl rfl)
theorem dX1_best_22 : decode cX1_best 22 = .ok (.iload_n 3, 1) := dk_29 (dk_at dksX1_best_0 22 rfl rfl)
theorem dX1_best_23 : decode cX1_best 23 = .ok (.iload_n 1, 1) := dk_27 (dk_at dksX1_best_0 23 rfl rfl)
theorem dX1_best_24 : decode cX1_best 24 = .ok (.invokevirtual 312, 3) := dk_182 1 56 (dk_at dksX1_best_1 0 rfl rfl)
theorem dX1_best_27 : decode cX1_best 27 = .ok (.aload_n 0, 1) := dk_42 (dk_at dksX1_best_1 3 rfl rfl)
theorem dX1_best_28 : decode cX1_best 28 = .ok (.iload_n 2, 1) := dk_28 (dk_at dksX1_best_1 4 rfl rfl)
theorem dX1_best_29 : decode cX1_best 29 = .ok (.iload_n 1, 1) := dk_27 (dk_at dksX1_best_1 5 rfl rfl)
theorem dX1_best_30 : decode cX1_best 30 = .ok (.invokevirtual 312, 3) := dk_182 1 56 (dk_at dksX1_best_1 6 rfl rfl)
theorem dX1_best_33 : decode cX1_best 33 = .ok (.lcmp, 1) := dk_148 (dk_at dksX1_best_1 9 rfl rfl)
theorem dX1_best_34 : decode cX1_best 34 = .ok (.ifCond .ge 5, 3) := dk_156 0 5 (dk_at dksX1_best_1 10 rfl rfl)
theorem dX1_best_37 : decode cX1_best 37 = .ok (.iload_n 3, 1) := dk_29 (dk_at dksX1_best_1 13 rfl rfl)
theorem dX1_best_38 : decode cX1_best 38 = .ok (.istore_n 2, 1) := dk_61 (dk_at dksX1_best_1 14 rfl rfl)
theorem dX1_best_39 : decode cX1_best 39 = .ok (.iinc 3 1, 3) := dk_132 3 1 (dk_at dksX1_best_1 15 rfl rfl)
theorem dX1_best_42 : decode cX1_best 42 = .ok (.goto (-26), 3) := dk_167 255 230 (dk_at dksX1_best_1 18 rfl rfl)
theorem dX1_best_45 : decode cX1_best 45 = .ok (.iload_n 2, 1) := dk_28 (dk_at dksX1_best_1 21 rfl rfl)
theorem dX1_best_46 : decode cX1_best 46 = .ok (.ireturn, 1) := dk_172 (dk_at dksX1_best_1 22 rfl rfl)
def dkwX1_rivers_2_7 : List UInt8 := [132, 7, 1, 167, 255, 149, 25, 6, 21, 5, 46, 172]
abbrev dktX1_rivers_2_7 : List UInt8 := dkwX1_rivers_2_7 ++ []
def dkwX1_rivers_2_6 : List UInt8 := [132, 8, 1, 167, 255, 196, 25, 6, 4, 42, 182, 0, 211, 184, 1, 60, 96, 92, 46, 4, 96, 79]
abbrev dktX1_rivers_2_6 : List UInt8 := dkwX1_rivers_2_6 ++ dktX1_rivers_2_7
def dkwX1_rivers_2_5 : List UInt8 := [182, 0, 192, 42, 21, 8, 21, 4, 182, 1, 50, 42, 21, 8, 29, 182, 1, 50, 100, 133, 182, 0, 196]
abbrev dktX1_rivers_2_5 : List UInt8 := dkwX1_rivers_2_5 ++ dktX1_rivers_2_6
def dkwX1_rivers_2_4 : List UInt8 := [21, 8, 50, 29, 21, 4, 182, 0, 172, 153, 0, 37, 42, 42, 180, 0, 21, 21, 8, 50, 180, 0, 124]
abbrev dktX1_rivers_2_4 : List UInt8 := dkwX1_rivers_2_4 ++ dktX1_rivers_2_5
def dkwX1_rivers_2_3 : List UInt8 := [21, 7, 182, 1, 46, 42, 182, 0, 189, 3, 54, 8, 21, 8, 16, 24, 162, 0, 59, 42, 180, 0, 21]
abbrev dktX1_rivers_2_3 : List UInt8 := dkwX1_rivers_2_3 ++ dktX1_rivers_2_4
def dkwX1_rivers_2_2 : List UInt8 := [2, 172, 6, 188, 10, 58, 6, 3, 54, 7, 21, 7, 28, 162, 0, 107, 42, 42, 180, 0, 46, 27, 50]
abbrev dktX1_rivers_2_2 : List UInt8 := dkwX1_rivers_2_2 ++ dktX1_rivers_2_3
def dkwX1_rivers_2_1 : List UInt8 := [153, 0, 24, 21, 5, 3, 5, 184, 0, 112, 153, 0, 14, 42, 29, 21, 4, 2, 182, 0, 204, 154, 0, 5]
abbrev dktX1_rivers_2_1 : List UInt8 := dkwX1_rivers_2_1 ++ dktX1_rivers_2_2
def dkwX1_rivers_2_0 : List UInt8 := [27, 184, 0, 255, 153, 0, 43, 28, 4, 16, 20, 184, 0, 112, 153, 0, 33, 29, 21, 4, 184, 0, 164]
abbrev dktX1_rivers_2_0 : List UInt8 := dkwX1_rivers_2_0 ++ dktX1_rivers_2_1
theorem dksX1_rivers_2_0 : cX1_rivers_2.data.toList.drop 0 = dktX1_rivers_2_0 := by decide +kernel
theorem dksX1_rivers_2_1 : cX1_rivers_2.data.toList.drop 23 = dktX1_rivers_2_1 := dk_seg dksX1_rivers_2_0 23 rfl rfl
theorem dksX1_rivers_2_2 : cX1_rivers_2.data.toList.drop 47 = dktX1_rivers_2_2 := dk_seg dksX1_rivers_2_1 24 rfl rfl
theorem dksX1_rivers_2_3 : cX1_rivers_2.data.toList.drop 70 = dktX1_rivers_2_3 := dk_seg dksX1_rivers_2_2 23 rfl rfl
theorem dksX1_rivers_2_4 : cX1_rivers_2.data.toList.drop 93 = dktX1_rivers_2_4 := dk_seg dksX1_rivers_2_3 23 rfl rfl
theorem dksX1_rivers_2_5 : cX1_rivers_2.data.toList.drop 116 = dktX1_rivers_2_5 := dk_seg dksX1_rivers_2_4 23 rfl rfl
theorem dksX1_rivers_2_6 : cX1_rivers_2.data.toList.drop 139 = dktX1_rivers_2_6 := dk_seg dksX1_rivers_2_5 23 rfl rfl
theorem dksX1_rivers_2_7 : cX1_rivers_2.data.toList.drop 161 = dktX1_rivers_2_7 := dk_seg dksX1_rivers_2_6 22 rfl rfl
theorem dX1_rivers_2_0 : decode cX1_rivers_2 0 = .ok (.iload_n 1, 1) := dk_27 (dk_at dksX1_rivers_2_0 0 rfl rfl)
theorem dX1_rivers_2_1 : decode cX1_rivers_2 1 = .ok (.invokestatic 255, 3) := dk_184 0 255 (dk_at dksX1_rivers_2_0 1 rfl rfl)
theorem dX1_rivers_2_4 : decode cX1_rivers_2 4 = .ok (.ifCond .eq 43, 3) := dk_153 0 43 (dk_at dksX1_rivers_2_0 4 rfl rfl)
theorem dX1_rivers_2_7 : decode cX1_rivers_2 7 = .ok (.iload_n 2, 1) := dk_28 (dk_at dksX1_rivers_2_0 7 rfl rfl)
theorem dX1_rivers_2_8 : decode cX1_rivers_2 8 = .ok (.iconst 1, 1) := dk_4 (dk_at dksX1_rivers_2_0 8 rfl rfl)
theorem dX1_rivers_2_9 : decode cX1_rivers_2 9 = .ok (.bipush 20, 2) := dk_16 20 (dk_at dksX1_rivers_2_0 9 rfl rfl)
theorem dX1_rivers_2_11 : decode cX1_rivers_2 11 = .ok (.invokestatic 112, 3) := dk_184 0 112 (dk_at dksX1_rivers_2_0 11 rfl rfl)
theorem dX1_rivers_2_14 : decode cX1_rivers_2 14 = .ok (.ifCond .eq 33, 3) := dk_153 0 33 (dk_at dksX1_rivers_2_0 14 rfl rfl)
theorem dX1_rivers_2_17 : decode cX1_rivers_2 17 = .ok (.iload_n 3, 1) := dk_29 (dk_at dksX1_rivers_2_0 17 rfl rfl)
theorem dX1_rivers_2_18 : decode cX1_rivers_2 18 = .ok (.iload 4, 2) := dk_21 4 (dk_at dksX1_rivers_2_0 18 rfl rfl)
theorem dX1_rivers_2_20 : decode cX1_rivers_2 20 = .ok (.invokestatic 164, 3) := dk_184 0 164 (dk_at dksX1_rivers_2_0 20 rfl rfl)
theorem dX1_rivers_2_23 : decode cX1_rivers_2 23 = .ok (.ifCond .eq 24, 3) := dk_153 0 24 (dk_at dksX1_rivers_2_1 0 rfl rfl)
theorem dX1_rivers_2_26 : decode cX1_rivers_2 26 = .ok (.iload 5, 2) := dk_21 5 (dk_at dksX1_rivers_2_1 3 rfl rfl)
theorem dX1_rivers_2_28 : decode cX1_rivers_2 28 = .ok (.iconst 0, 1) := dk_3 (dk_at dksX1_rivers_2_1 5 rfl rfl)
theorem dX1_rivers_2_29 : decode cX1_rivers_2 29 = .ok (.iconst 2, 1) := dk_5 (dk_at dksX1_rivers_2_1 6 rfl rfl)
theorem dX1_rivers_2_30 : decode cX1_rivers_2 30 = .ok (.invokestatic 112, 3) := dk_184 0 112 (dk_at dksX1_rivers_2_1 7 rfl rfl)
theorem dX1_rivers_2_33 : decode cX1_rivers_2 33 = .ok (.ifCond .eq 14, 3) := dk_153 0 14 (dk_at dksX1_rivers_2_1 10 rfl rfl)
theorem dX1_rivers_2_36 : decode cX1_rivers_2 36 = .ok (.aload_n 0, 1) := dk_42 (dk_at dksX1_rivers_2_1 13 rfl rfl)
theorem dX1_rivers_2_37 : decode cX1_rivers_2 37 = .ok (.iload_n 3, 1) := dk_29 (dk_at dksX1_rivers_2_1 14 rfl rfl)
theorem dX1_rivers_2_38 : decode cX1_rivers_2 38 = .ok (.iload 4, 2) := dk_21 4 (dk_at dksX1_rivers_2_1 15 rfl rfl)
theorem dX1_rivers_2_40 : decode cX1_rivers_2 40 = .ok (.iconst (-1), 1) := dk_2 (dk_at dksX1_rivers_2_1 17 rfl rfl)
theorem dX1_rivers_2_41 : decode cX1_rivers_2 41 = .ok (.invokevirtual 204, 3) := dk_182 0 204 (dk_at dksX1_rivers_2_1 18 rfl rfl)
theorem dX1_rivers_2_44 : decode cX1_rivers_2 44 = .ok (.ifCond .ne 5, 3) := dk_154 0 5 (dk_at dksX1_rivers_2_1 21 rfl rfl)
theorem dX1_rivers_2_47 : decode cX1_rivers_2 47 = .ok (.iconst (-1), 1) := dk_2 (dk_at dksX1_rivers_2_2 0 rfl rfl)
theorem dX1_rivers_2_48 : decode cX1_rivers_2 48 = .ok (.ireturn, 1) := dk_172 (dk_at dksX1_rivers_2_2 1 rfl rfl)
theorem dX1_rivers_2_49 : decode cX1_rivers_2 49 = .ok (.iconst 3, 1) := dk_6 (dk_at dksX1_rivers_2_2 2 rfl rfl)
theorem dX1_rivers_2_50 : decode cX1_rivers_2 50 = .ok (.newarray .int, 2) := dk_188_10 (dk_at dksX1_rivers_2_2 3 rfl rfl)
theorem dX1_rivers_2_52 : decode cX1_rivers_2 52 = .ok (.astore 6, 2) := dk_58 6 (dk_at dksX1_rivers_2_2 5 rfl rfl)
theorem dX1_rivers_2_54 : decode cX1_rivers_2 54 = .ok (.iconst 0, 1) := dk_3 (dk_at dksX1_rivers_2_2 7 rfl rfl)
theorem dX1_rivers_2_55 : decode cX1_rivers_2 55 = .ok (.istore 7, 2) := dk_54 7 (dk_at dksX1_rivers_2_2 8 rfl rfl)
theorem dX1_rivers_2_57 : decode cX1_rivers_2 57 = .ok (.iload 7, 2) := dk_21 7 (dk_at dksX1_rivers_2_2 10 rfl rfl)
theorem dX1_rivers_2_59 : decode cX1_rivers_2 59 = .ok (.iload_n 2, 1) := dk_28 (dk_at dksX1_rivers_2_2 12 rfl rfl)
theorem dX1_rivers_2_60 : decode cX1_rivers_2 60 = .ok (.if_icmp .ge 107, 3) := dk_162 0 107 (dk_at dksX1_rivers_2_2 13 rfl rfl)
theorem dX1_rivers_2_63 : decode cX1_rivers_2 63 = .ok (.aload_n 0, 1) := dk_42 (dk_at dksX1_rivers_2_2 16 rfl rfl)
theorem dX1_rivers_2_64 : decode cX1_rivers_2 64 = .ok (.aload_n 0, 1) := dk_42 (dk_at dksX1_rivers_2_2 17 rfl rfl)
theorem dX1_rivers_2_65 : decode cX1_rivers_2 65 = .ok (.getfield 46, 3) := dk_180 0 46 (dk_at dksX1_rivers_2_2 18 rfl rfl)
theorem dX1_rivers_2_68 : decode cX1_rivers_2 68 = .ok (.iload_n 1, 1) := dk_27 (dk_at dksX1_rivers_2_2 21 rfl rfl)
theorem dX1_rivers_2_69 : decode cX1_rivers_2 69 = .ok (.aaload, 1) := dk_50 (dk_at dksX1_rivers_2_2 22 rfl rfl)
theorem dX1_rivers_2_70 : decode cX1_rivers_2 70 = .ok (.iload 7, 2) := dk_21 7 (dk_at dksX1_rivers_2_3 0 rfl rfl)
theorem dX1_rivers_2_72 : decode cX1_rivers_2 72 = .ok (.invokevirtual 302, 3) := dk_182 1 46 (dk_at dksX1_rivers_2_3 2 rfl rfl)
theorem dX1_rivers_2_75 : decode cX1_rivers_2 75 = .ok (.aload_n 0, 1) := dk_42 (dk_at dksX1_rivers_2_3 5 rfl rfl)
theorem dX1_rivers_2_76 : decode cX1_rivers_2 76 = .ok (.invokevirtual 189, 3) := dk_182 0 189 (dk_at dksX1_rivers_2_3 6 rfl rfl)
theorem dX1_rivers_2_79 : decode cX1_rivers_2 79 = .ok (.iconst 0, 1) := dk_3 (dk_at dksX1_rivers_2_3 9 rfl rfl)
theorem dX1_rivers_2_80 : decode cX1_rivers_2 80 = .ok (.istore 8, 2) := dk_54 8 (dk_at dksX1_rivers_2_3 10 rfl rfl)
theorem dX1_rivers_2_82 : decode cX1_rivers_2 82 = .ok (.iload 8, 2) := dk_21 8 (dk_at dksX1_rivers_2_3 12 rfl rfl)
theorem dX1_rivers_2_84 : decode cX1_rivers_2 84 = .ok (.bipush 24, 2) := dk_16 24 (dk_at dksX1_rivers_2_3 14 rfl rfl)
theorem dX1_rivers_2_86 : decode cX1_rivers_2 86 = .ok (.if_icmp .ge 59, 3) := dk_162 0 59 (dk_at dksX1_rivers_2_3 16 rfl rfl)
theorem dX1_rivers_2_89 : decode cX1_rivers_2 89 = .ok (.aload_n 0, 1) := dk_42 (dk_at dksX1_rivers_2_3 19 rfl rfl)
theorem dX1_rivers_2_90 : decode cX1_rivers_2 90 = .ok (.getfield 21, 3) := dk_180 0 21 (dk_at dksX1_rivers_2_3 20 rfl rfl)
theorem dX1_rivers_2_93 : decode cX1_rivers_2 93 = .ok (.iload 8, 2) := dk_21 8 (dk_at dksX1_rivers_2_4 0 rfl rfl)
theorem dX1_rivers_2_95 : decode cX1_rivers_2 95 = .ok (.aaload, 1) := dk_50 (dk_at dksX1_rivers_2_4 2 rfl rfl)
theorem dX1_rivers_2_96 : decode cX1_rivers_2 96 = .ok (.iload_n 3, 1) := dk_29 (dk_at dksX1_rivers_2_4 3 rfl rfl)
theorem dX1_rivers_2_97 : decode cX1_rivers_2 97 = .ok (.iload 4, 2) := dk_21 4 (dk_at dksX1_rivers_2_4 4 rfl rfl)
theorem dX1_rivers_2_99 : decode cX1_rivers_2 99 = .ok (.invokevirtual 172, 3) := dk_182 0 172 (dk_at dksX1_rivers_2_4 6 rfl rfl)
theorem dX1_rivers_2_102 : decode cX1_rivers_2 102 = .ok (.ifCond .eq 37, 3) := dk_153 0 37 (dk_at dksX1_rivers_2_4 9 rfl rfl)
theorem dX1_rivers_2_105 : decode cX1_rivers_2 105 = .ok (.aload_n 0, 1) := dk_42 (dk_at dksX1_rivers_2_4 12 rfl rfl)
theorem dX1_rivers_2_106 : decode cX1_rivers_2 106 = .ok (.aload_n 0, 1) := dk_42 (dk_at dksX1_rivers_2_4 13 rfl rfl)
theorem dX1_rivers_2_107 : decode cX1_rivers_2 107 = .ok (.getfield 21, 3) := dk_180 0 21 (dk_at dksX1_rivers_2_4 14 rfl rfl)
theorem dX1_rivers_2_110 : decode cX1_rivers_2 110 = .ok (.iload 8, 2) := dk_21 8 (dk_at dksX1_rivers_2_4 17 rfl rfl)
theorem dX1_rivers_2_112 : decode cX1_rivers_2 112 = .ok (.aaload, 1) := dk_50 (dk_at dksX1_rivers_2_4 19 rfl rfl)
theorem dX1_rivers_2_113 : decode cX1_rivers_2 113 = .ok (.getfield 124, 3) := dk_180 0 124 (dk_at dksX1_rivers_2_4 20 rfl rfl)
theorem dX1_rivers_2_116 : decode cX1_rivers_2 116 = .ok (.invokevirtual 192, 3) := dk_182 0 192 (dk_at dksX1_rivers_2_5 0 rfl rfl)
theorem dX1_rivers_2_119 : decode cX1_rivers_2 119 = .ok (.aload_n 0, 1) := dk_42 (dk_at dksX1_rivers_2_5 3 rfl rfl)
theorem dX1_rivers_2_120 : decode cX1_rivers_2 120 = .ok (.iload 8, 2) := dk_21 8 (dk_at dksX1_rivers_2_5 4 rfl rfl)
theorem dX1_rivers_2_122 : decode cX1_rivers_2 122 = .ok (.iload 4, 2) := dk_21 4 (dk_at dksX1_rivers_2_5 6 rfl rfl)
theorem dX1_rivers_2_124 : decode cX1_rivers_2 124 = .ok (.invokevirtual 306, 3) := dk_182 1 50 (dk_at dksX1_rivers_2_5 8 rfl rfl)
theorem dX1_rivers_2_127 : decode cX1_rivers_2 127 = .ok (.aload_n 0, 1) := dk_42 (dk_at dksX1_rivers_2_5 11 rfl rfl)
theorem dX1_rivers_2_128 : decode cX1_rivers_2 128 = .ok (.iload 8, 2) := dk_21 8 (dk_at dksX1_rivers_2_5 12 rfl rfl)
theorem dX1_rivers_2_130 : decode cX1_rivers_2 130 = .ok (.iload_n 3, 1) := dk_29 (dk_at dksX1_rivers_2_5 14 rfl rfl)
theorem dX1_rivers_2_131 : decode cX1_rivers_2 131 = .ok (.invokevirtual 306, 3) := dk_182 1 50 (dk_at dksX1_rivers_2_5 15 rfl rfl)
theorem dX1_rivers_2_134 : decode cX1_rivers_2 134 = .ok (.isub, 1) := dk_100 (dk_at dksX1_rivers_2_5 18 rfl rfl)
theorem dX1_rivers_2_135 : decode cX1_rivers_2 135 = .ok (.i2l, 1) := dk_133 (dk_at dksX1_rivers_2_5 19 rfl rfl)
theorem dX1_rivers_2_136 : decode cX1_rivers_2 136 = .ok (.invokevirtual 196, 3) := dk_182 0 196 (dk_at dksX1_rivers_2_5 20 rfl rfl)
theorem dX1_rivers_2_139 : decode cX1_rivers_2 139 = .ok (.iinc 8 1, 3) := dk_132 8 1 (dk_at dksX1_rivers_2_6 0 rfl rfl)
theorem dX1_rivers_2_142 : decode cX1_rivers_2 142 = .ok (.goto (-60), 3) := dk_167 255 196 (dk_at dksX1_rivers_2_6 3 rfl rfl)
theorem dX1_rivers_2_145 : decode cX1_rivers_2 145 = .ok (.aload 6, 2) := dk_25 6 (dk_at dksX1_rivers_2_6 6 rfl rfl)
theorem dX1_rivers_2_147 : decode cX1_rivers_2 147 = .ok (.iconst 1, 1) := dk_4 (dk_at dksX1_rivers_2_6 8 rfl rfl)
theorem dX1_rivers_2_148 : decode cX1_rivers_2 148 = .ok (.aload_n 0, 1) := dk_42 (dk_at dksX1_rivers_2_6 9 rfl rfl)
theorem dX1_rivers_2_149 : decode cX1_rivers_2 149 = .ok (.invokevirtual 211, 3) := dk_182 0 211 (dk_at dksX1_rivers_2_6 10 rfl rfl)
theorem dX1_rivers_2_152 : decode cX1_rivers_2 152 = .ok (.invokestatic 316, 3) := dk_184 1 60 (dk_at dksX1_rivers_2_6 13 rfl rfl)
theorem dX1_rivers_2_155 : decode cX1_rivers_2 155 = .ok (.iadd, 1) := dk_96 (dk_at dksX1_rivers_2_6 16 rfl rfl)
theorem dX1_rivers_2_156 : decode cX1_rivers_2 156 = .ok (.dup2, 1) := dk_92 (dk_at dksX1_rivers_2_6 17 rfl rfl)
theorem dX1_rivers_2_157 : decode cX1_rivers_2 157 = .ok (.iaload, 1) := dk_46 (dk_at dksX1_rivers_2_6 18 rfl rfl)
theorem dX1_rivers_2_158 : decode cX1_rivers_2 158 = .ok (.iconst 1, 1) := dk_4 (dk_at dksX1_rivers_2_6 19 rfl rfl)
theorem dX1_rivers_2_159 : decode cX1_rivers_2 159 = .ok (.iadd, 1) := dk_96 (dk_at dksX1_rivers_2_6 20 rfl rfl)
theorem dX1_rivers_2_160 : decode cX1_rivers_2 160 = .ok (.iastore, 1) := dk_79 (dk_at dksX1_rivers_2_6 21 rfl rfl)
theorem dX1_rivers_2_161 : decode cX1_rivers_2 161 = .ok (.iinc 7 1, 3) := dk_132 7 1 (dk_at dksX1_rivers_2_7 0 rfl rfl)
theorem dX1_rivers_2_164 : decode cX1_rivers_2 164 = .ok (.goto (-107), 3) := dk_167 255 149 (dk_at dksX1_rivers_2_7 3 rfl rfl)
theorem dX1_rivers_2_167 : decode cX1_rivers_2 167 = .ok (.aload 6, 2) := dk_25 6 (dk_at dksX1_rivers_2_7 6 rfl rfl)
theorem dX1_rivers_2_169 : decode cX1_rivers_2 169 = .ok (.iload 5, 2) := dk_21 5 (dk_at dksX1_rivers_2_7 8 rfl rfl)
theorem dX1_rivers_2_171 : decode cX1_rivers_2 171 = .ok (.iaload, 1) := dk_46 (dk_at dksX1_rivers_2_7 10 rfl rfl)
theorem dX1_rivers_2_172 : decode cX1_rivers_2 172 = .ok (.ireturn, 1) := dk_172 (dk_at dksX1_rivers_2_7 11 rfl rfl)
def dkwX1_other_3 : List UInt8 := [90, 4, 96, 181, 1, 66, 172]
abbrev dktX1_other_3 : List UInt8 := dkwX1_other_3 ++ []
def dkwX1_other_2 : List UInt8 := [180, 0, 89, 42, 180, 1, 66, 28, 79, 42, 180, 0, 92, 42, 180, 1, 66, 29, 84, 42, 89, 180, 1, 66]
abbrev dktX1_other_2 : List UInt8 := dkwX1_other_2 ++ dktX1_other_3
def dkwX1_other_1 : List UInt8 := [42, 180, 1, 66, 16, 20, 160, 0, 5, 2, 172, 42, 180, 0, 86, 42, 180, 1, 66, 27, 79, 42]
abbrev dktX1_other_1 : List UInt8 := dkwX1_other_1 ++ dktX1_other_2
def dkwX1_other_0 : List UInt8 := [27, 17, 216, 241, 17, 39, 15, 184, 0, 112, 153, 0, 23, 28, 4, 17, 3, 231, 184, 0, 112, 153, 0, 12]
abbrev dktX1_other_0 : List UInt8 := dkwX1_other_0 ++ dktX1_other_1
theorem dksX1_other_0 : cX1_other.data.toList.drop 0 = dktX1_other_0 := by decide +kernel
theorem dksX1_other_1 : cX1_other.data.toList.drop 24 = dktX1_other_1 := dk_seg dksX1_other_0 24 rfl rfl
theorem dksX1_other_2 : cX1_other.data.toList.drop 46 = dktX1_other_2 := dk_seg dksX1_other_1 22 rfl rfl
theorem dksX1_other_3 : cX1_other.data.toList.drop 70 = dktX1_other_3 := dk_seg dksX1_other_2 24 rfl rfl
theorem dX1_other_0 : decode cX1_other 0 = .ok (.iload_n 1, 1) := dk_27 (dk_at dksX1_other_0 0 rfl rfl)
theorem dX1_other_1 : decode cX1_other 1 = .ok (.sipush (-9999), 3) := dk_17 216 241 (dk_at dksX1_other_0 1 rfl rfl)
theorem dX1_other_4 : decode cX1_other 4 = .ok (.sipush 9999, 3) := dk_17 39 15 (dk_at dksX1_other_0 4 rfl rfl)
theorem dX1_other_7 : decode cX1_other 7 = .ok (.invokestatic 112, 3) := dk_184 0 112 (dk_at dksX1_other_0 7 rfl rfl)
theorem dX1_other_10 : decode cX1_other 10 = .ok (.ifCond .eq 23, 3) := dk_153 0 23 (dk_at dksX1_other_0 10 rfl rfl)
theorem dX1_other_13 : decode cX1_other 13 = .ok (.iload_n 2, 1) := dk_28 (dk_at dksX1_other_0 13 rfl rfl)
theorem dX1_other_14 : decode cX1_other 14 = .ok (.iconst 1, 1) := dk_4 (dk_at dksX1_other_0 14 rfl rfl)
theorem dX1_other_15 : decode cX1_other 15 = .ok (.sipush 999, 3) := dk_17 3 231 (dk_at dksX1_other_0 15 rfl rfl)
theorem dX1_other_18 : decode cX1_other 18 = .ok (.invokestatic 112, 3) := dk_184 0 112 (dk_at dksX1_other_0 18 rfl rfl)
theorem dX1_other_21 : decode cX1_other 21 = .ok (.ifCond .eq 12, 3) := dk_153 0 12 (dk_at dksX1_other_0 21 rfl rfl)
theorem dX1_other_24 : decode cX1_other 24 = .ok (.aload_n 0, 1) := dk_42 (dk_at dksX1_other_1 0 rfl rfl)
theorem dX1_other_25 : decode cX1_other 25 = .ok (.getfield 322, 3) := dk_180 1 66 (dk_at dksX1_other_1 1 rfl rfl)
theorem dX1_other_28 : decode cX1_other 28 = .ok (.bipush 20, 2) := dk_16 20 (dk_at dksX1_other_1 4 rfl rfl)
theorem dX1_other_30 : decode cX1_other 30 = .ok (.if_icmp .ne 5, 3) := dk_160 0 5 (dk_at dksX1_other_1 6 rfl rfl)
theorem dX1_other_33 : decode cX1_other 33 = .ok (.iconst (-1), 1) := dk_2 (dk_at dksX1_other_1 9 rfl rfl)
theorem dX1_other_34 : decode cX1_other 34 = .ok (.ireturn, 1) := dk_172 (dk_at dksX1_other_1 10 rfl rfl)
theorem dX1_other_35 : decode cX1_other 35 = .ok (.aload_n 0, 1) := dk_42 (dk_at dksX1_other_1 11 rfl rfl)
theorem dX1_other_36 : decode cX1_other 36 = .ok (.getfield 86, 3) := dk_180 0 86 (dk_at dksX1_other_1 12 rfl rfl)
theorem dX1_other_39 : decode cX1_other 39 = .ok (.aload_n 0, 1) := dk_42 (dk_at dksX1_other_1 15 rfl rfl)
theorem dX1_other_40 : decode cX1_other 40 = .ok (.getfield 322, 3) := dk_180 1 66 (dk_at dksX1_other_1 16 rfl rfl)
theorem dX1_other_43 : decode cX1_other 43 = .ok (.iload_n 1, 1) := dk_27 (dk_at dksX1_other_1 19 rfl rfl)
theorem dX1_other_44 : decode cX1_other 44 = .ok (.iastore, 1) := dk_79 (dk_at dksX1_other_1 20 rfl rfl)
theorem dX1_other_45 : decode cX1_other 45 = .ok (.aload_n 0, 1) := dk_42 (dk_at dksX1_other_1 21 rfl rfl)
theorem dX1_other_46 : decode cX1_other 46 = .ok (.getfield 89, 3) := dk_180 0 89 (dk_at dksX1_other_2 0 rfl rfl)
theorem dX1_other_49 : decode cX1_other 49 = .ok (.aload_n 0, 1) := dk_42 (dk_at dksX1_other_2 3 rfl rfl)
theorem dX1_other_50 : decode cX1_other 50 = .ok (.getfield 322, 3) := dk_180 1 66 (dk_at dksX1_other_2 4 rfl rfl)
theorem dX1_other_53 : decode cX1_other 53 = .ok (.iload_n 2, 1) := dk_28 (dk_at dksX1_other_2 7 rfl rfl)
theorem dX1_other_54 : decode cX1_other 54 = .ok (.iastore, 1) := dk_79 (dk_at dksX1_other_2 8 rfl rfl)
theorem dX1_other_55 : decode cX1_other 55 = .ok (.aload_n 0, 1) := dk_42 (dk_at dksX1_other_2 9 rfl rfl)
theorem dX1_other_56 : decode cX1_other 56 = .ok (.getfield 92, 3) := dk_180 0 92 (dk_at dksX1_other_2 10 rfl rfl)
theorem dX1_other_59 : decode cX1_other 59 = .ok (.aload_n 0, 1) := dk_42 (dk_at dksX1_other_2 13 rfl rfl)
theorem dX1_other_60 : decode cX1_other 60 = .ok (.getfield 322, 3) := dk_180 1 66 (dk_at dksX1_other_2 14 rfl rfl)
theorem dX1_other_63 : decode cX1_other 63 = .ok (.iload_n 3, 1) := dk_29 (dk_at dksX1_other_2 17 rfl rfl)
theorem dX1_other_64 : decode cX1_other 64 = .ok (.bastore, 1) := dk_84 (dk_at dksX1_other_2 18 rfl rfl)
theorem dX1_other_65 : decode cX1_other 65 = .ok (.aload_n 0, 1) := dk_42 (dk_at dksX1_other_2 19 rfl rfl)
theorem dX1_other_66 : decode cX1_other 66 = .ok (.dup, 1) := dk_89 (dk_at dksX1_other_2 20 rfl rfl)
theorem dX1_other_67 : decode cX1_other 67 = .ok (.getfield 322, 3) := dk_180 1 66 (dk_at dksX1_other_2 21 rfl rfl)
theorem dX1_other_70 : decode cX1_other 70 = .ok (.dup_x1, 1) := dk_90 (dk_at dksX1_other_3 0 rfl rfl)
theorem dX1_other_71 : decode cX1_other 71 = .ok (.iconst 1, 1) := dk_4 (dk_at dksX1_other_3 1 rfl rfl)
theorem dX1_other_72 : decode cX1_other 72 = .ok (.iadd, 1) := dk_96 (dk_at dksX1_other_3 2 rfl rfl)
theorem dX1_other_73 : decode cX1_other 73 = .ok (.putfield 322, 3) := dk_181 1 66 (dk_at dksX1_other_3 3 rfl rfl)
theorem dX1_other_76 : decode cX1_other 76 = .ok (.ireturn, 1) := dk_172 (dk_at dksX1_other_3 6 rfl rfl)
def dkwX1_drawer_2 : List UInt8 := [167, 0, 4, 2, 172]
abbrev dktX1_drawer_2 : List UInt8 := dkwX1_drawer_2 ++ []
def dkwX1_drawer_1 : List UInt8 := [158, 0, 25, 42, 180, 0, 66, 180, 0, 185, 184, 0, 7, 27, 133, 97, 10, 101, 27, 133, 109, 136]
abbrev dktX1_drawer_1 : List UInt8 := dkwX1_drawer_1 ++ dktX1_drawer_2
def dkwX1_drawer_0 : List UInt8 := [42, 4, 182, 1, 69, 27, 4, 17, 3, 231, 184, 0, 112, 153, 0, 35, 42, 180, 0, 66, 180, 0, 182]
abbrev dktX1_drawer_0 : List UInt8 := dkwX1_drawer_0 ++ dktX1_drawer_1
theorem dksX1_drawer_0 : cX1_drawer.data.toList.drop 0 = dktX1_drawer_0 := by decide +kernel
theorem dksX1_drawer_1 : cX1_drawer.data.toList.drop 23 = dktX1_drawer_1 := dk_seg dksX1_drawer_0 23 rfl rfl
theorem dksX1_drawer_2 : cX1_drawer.data.toList.drop 45 = dktX1_drawer_2 := dk_seg dksX1_drawer_1 22 rfl rfl
theorem dX1_drawer_0 : decode cX1_drawer 0 = .ok (.aload_n 0, 1) := dk_42 (dk_at dksX1_drawer_0 0 rfl rfl)
theorem dX1_drawer_1 : decode cX1_drawer 1 = .ok (.iconst 1, 1) := dk_4 (dk_at dksX1_drawer_0 1 rfl rfl)
theorem dX1_drawer_2 : decode cX1_drawer 2 = .ok (.invokevirtual 325, 3) := dk_182 1 69 (dk_at dksX1_drawer_0 2 rfl rfl)
theorem dX1_drawer_5 : decode cX1_drawer 5 = .ok (.iload_n 1, 1) := dk_27 (dk_at dksX1_drawer_0 5 rfl rfl)
theorem dX1_drawer_6 : decode cX1_drawer 6 = .ok (.iconst 1, 1) := dk_4 (dk_at dksX1_drawer_0 6 rfl rfl)
theorem dX1_drawer_7 : decode cX1_drawer 7 = .ok (.sipush 999, 3) := dk_17 3 231 (dk_at dksX1_drawer_0 7 rfl rfl)
theorem dX1_drawer_10 : decode cX1_drawer 10 = .ok (.invokestatic 112, 3) := dk_184 0 112 (dk_at dksX1_drawer_0 10 rfl rfl)
theorem dX1_drawer_13 : decode cX1_drawer 13 = .ok (.ifCond .eq 35, 3) := dk_153 0 35 (dk_at dksX1_drawer_0 13 rfl rfl)
theorem dX1_drawer_16 : decode cX1_drawer 16 = .ok (.aload_n 0, 1) := dk_42 (dk_at dksX1_drawer_0 16 rfl rfl)
theorem dX1_drawer_17 : decode cX1_drawer 17 = .ok (.getfield 66, 3) := dk_180 0 66 (dk_at dksX1_drawer_0 17 rfl rfl)
theorem dX1_drawer_20 : decode cX1_drawer 20 = .ok (.getfield 182, 3) := dk_180 0 182 (dk_at dksX1_drawer_0 20 rfl rfl)
theorem dX1_drawer_23 : decode cX1_drawer 23 = .ok (.ifCond .le 25, 3) := dk_158 0 25 (dk_at dksX1_drawer_1 0 rfl rfl)
theorem dX1_drawer_26 : decode cX1_drawer 26 = .ok (.aload_n 0, 1) := dk_42 (dk_at dksX1_drawer_1 3 rfl rfl)
theorem dX1_drawer_27 : decode cX1_drawer 27 = .ok (.getfield 66, 3) := dk_180 0 66 (dk_at dksX1_drawer_1 4 rfl rfl)
theorem dX1_drawer_30 : decode cX1_drawer 30 = .ok (.getfield 185, 3) := dk_180 0 185 (dk_at dksX1_drawer_1 7 rfl rfl)
theorem dX1_drawer_33 : decode cX1_drawer 33 = .ok (.invokestatic 7, 3) := dk_184 0 7 (dk_at dksX1_drawer_1 10 rfl rfl)
theorem dX1_drawer_36 : decode cX1_drawer 36 = .ok (.iload_n 1, 1) := dk_27 (dk_at dksX1_drawer_1 13 rfl rfl)
theorem dX1_drawer_37 : decode cX1_drawer 37 = .ok (.i2l, 1) := dk_133 (dk_at dksX1_drawer_1 14 rfl rfl)
theorem dX1_drawer_38 : decode cX1_drawer 38 = .ok (.ladd, 1) := dk_97 (dk_at dksX1_drawer_1 15 rfl rfl)
theorem dX1_drawer_39 : decode cX1_drawer 39 = .ok (.lconst 1, 1) := dk_10 (dk_at dksX1_drawer_1 16 rfl rfl)
theorem dX1_drawer_40 : decode cX1_drawer 40 = .ok (.lsub, 1) := dk_101 (dk_at dksX1_drawer_1 17 rfl rfl)
theorem dX1_drawer_41 : decode cX1_drawer 41 = .ok (.iload_n 1, 1) := dk_27 (dk_at dksX1_drawer_1 18 rfl rfl)
theorem dX1_drawer_42 : decode cX1_drawer 42 = .ok (.i2l, 1) := dk_133 (dk_at dksX1_drawer_1 19 rfl rfl)
theorem dX1_drawer_43 : decode cX1_drawer 43 = .ok (.ldiv, 1) := dk_109 (dk_at dksX1_drawer_1 20 rfl rfl)
theorem dX1_drawer_44 : decode cX1_drawer 44 = .ok (.l2i, 1) := dk_136 (dk_at dksX1_drawer_1 21 rfl rfl)
theorem dX1_drawer_45 : decode cX1_drawer 45 = .ok (.goto 4, 3) := dk_167 0 4 (dk_at dksX1_drawer_2 0 rfl rfl)
theorem dX1_drawer_48 : decode cX1_drawer 48 = .ok (.iconst (-1), 1) := dk_2 (dk_at dksX1_drawer_2 3 rfl rfl)
theorem dX1_drawer_49 : decode cX1_drawer 49 = .ok (.ireturn, 1) := dk_172 (dk_at dksX1_drawer_2 4 rfl rfl)
def dkwX1_sums_3 : List UInt8 := [132, 2, 1, 167, 255, 192, 177]
abbrev dktX1_sums_3 : List UInt8 := dkwX1_sums_3 ++ []
def dkwX1_sums_2 : List UInt8 := [46, 133, 97, 181, 0, 185, 42, 180, 0, 66, 89, 180, 0, 182, 42, 180, 0, 89, 28, 46, 96, 181, 0, 182]
abbrev dktX1_sums_2 : List UInt8 := dkwX1_sums_2 ++ dktX1_sums_3
def dkwX1_sums_1 : List UInt8 := [180, 0, 92, 28, 51, 154, 0, 6, 167, 0, 40, 42, 180, 0, 66, 89, 180, 0, 185, 42, 180, 0, 86, 28]
abbrev dktX1_sums_1 : List UInt8 := dkwX1_sums_1 ++ dktX1_sums_2
def dkwX1_sums_0 : List UInt8 := [42, 180, 0, 66, 182, 0, 179, 3, 61, 28, 42, 180, 1, 66, 162, 0, 62, 27, 153, 0, 15, 42]
abbrev dktX1_sums_0 : List UInt8 := dkwX1_sums_0 ++ dktX1_sums_1
theorem dksX1_sums_0 : cX1_sums.data.toList.drop 0 = dktX1_sums_0 := by decide +kernel
theorem dksX1_sums_1 : cX1_sums.data.toList.drop 22 = dktX1_sums_1 := dk_seg dksX1_sums_0 22 rfl rfl
theorem dksX1_sums_2 : cX1_sums.data.toList.drop 46 = dktX1_sums_2 := dk_seg dksX1_sums_1 24 rfl rfl
theorem dksX1_sums_3 : cX1_sums.data.toList.drop 70 = dktX1_sums_3 := dk_seg dksX1_sums_2 24 rfl rfl
theorem dX1_sums_0 : decode cX1_sums 0 = .ok (.aload_n 0, 1) := dk_42 (dk_at dksX1_sums_0 0 rfl rfl)
theorem dX1_sums_1 : decode cX1_sums 1 = .ok (.getfield 66, 3) := dk_180 0 66 (dk_at dksX1_sums_0 1 rfl rfl)
theorem dX1_sums_4 : decode cX1_sums 4 = .ok (.invokevirtual 179, 3) := dk_182 0 179 (dk_at dksX1_sums_0 4 rfl rfl)
theorem dX1_sums_7 : decode cX1_sums 7 = .ok (.iconst 0, 1) := dk_3 (dk_at dksX1_sums_0 7 rfl rfl)
theorem dX1_sums_8 : decode cX1_sums 8 = .ok (.istore_n 2, 1) := dk_61 (dk_at dksX1_sums_0 8 rfl rfl)
theorem dX1_sums_9 : decode cX1_sums 9 = .ok (.iload_n 2, 1) := dk_28 (dk_at dksX1_sums_0 9 rfl rfl)
theorem dX1_sums_10 : decode cX1_sums 10 = .ok (.aload_n 0, 1) := dk_42 (dk_at dksX1_sums_0 10 rfl rfl)
theorem dX1_sums_11 : decode cX1_sums 11 = .ok (.getfield 322, 3) := dk_180 1 66 (dk_at dksX1_sums_0 11 rfl rfl)
theorem dX1_sums_14 : decode cX1_sums 14 = .ok (.if_icmp .ge 62, 3) := dk_162 0 62 (dk_at dksX1_sums_0 14 rfl rfl)
theorem dX1_sums_17 : decode cX1_sums 17 = .ok (.iload_n 1, 1) := dk_27 (dk_at dksX1_sums_0 17 rfl rfl)
theorem dX1_sums_18 : decode cX1_sums 18 = .ok (.ifCond .eq 15, 3) := dk_153 0 15 (dk_at dksX1_sums_0 18 rfl rfl)
theorem dX1_sums_21 : decode cX1_sums 21 = .ok (.aload_n 0, 1) := dk_42 (dk_at dksX1_sums_0 21 rfl rfl)
theorem dX1_sums_22 : decode cX1_sums 22 = .ok (.getfield 92, 3) := dk_180 0 92 (dk_at dksX1_sums_1 0 rfl rfl)
theorem dX1_sums_25 : decode cX1_sums 25 = .ok (.iload_n 2, 1) := dk_28 (dk_at dksX1_sums_1 3 rfl rfl)
theorem dX1_sums_26 : decode cX1_sums 26 = .ok (.baload, 1) := dk_51 (dk_at dksX1_sums_1 4 rfl rfl)
theorem dX1_sums_27 : decode cX1_sums 27 = .ok (.ifCond .ne 6, 3) := dk_154 0 6 (dk_at dksX1_sums_1 5 rfl rfl)
theorem dX1_sums_30 : decode cX1_sums 30 = .ok (.goto 40, 3) := dk_167 0 40 (dk_at dksX1_sums_1 8 rfl rfl)
theorem dX1_sums_33 : decode cX1_sums 33 = .ok (.aload_n 0, 1) := dk_42 (dk_at dksX1_sums_1 11 rfl rfl)
theorem dX1_sums_34 : decode cX1_sums 34 = .ok (.getfield 66, 3) := dk_180 0 66 (dk_at dksX1_sums_1 12 rfl rfl)
theorem dX1_sums_37 : decode cX1_sums 37 = .ok (.dup, 1) := dk_89 (dk_at dksX1_sums_1 15 rfl rfl)
theorem dX1_sums_38 : decode cX1_sums 38 = .ok (.getfield 185, 3) := dk_180 0 185 (dk_at dksX1_sums_1 16 rfl rfl)
theorem dX1_sums_41 : decode cX1_sums 41 = .ok (.aload_n 0, 1) := dk_42 (dk_at dksX1_sums_1 19 rfl rfl)
theorem dX1_sums_42 : decode cX1_sums 42 = .ok (.getfield 86, 3) := dk_180 0 86 (dk_at dksX1_sums_1 20 rfl rfl)
theorem dX1_sums_45 : decode cX1_sums 45 = .ok (.iload_n 2, 1) := dk_28 (dk_at dksX1_sums_1 23 rfl rfl)
theorem dX1_sums_46 : decode cX1_sums 46 = .ok (.iaload, 1) := dk_46 (dk_at dksX1_sums_2 0 rfl rfl)
theorem dX1_sums_47 : decode cX1_sums 47 = .ok (.i2l, 1) := dk_133 (dk_at dksX1_sums_2 1 rfl rfl)
theorem dX1_sums_48 : decode cX1_sums 48 = .ok (.ladd, 1) := dk_97 (dk_at dksX1_sums_2 2 rfl rfl)
theorem dX1_sums_49 : decode cX1_sums 49 = .ok (.putfield 185, 3) := dk_181 0 185 (dk_at dksX1_sums_2 3 rfl rfl)
theorem dX1_sums_52 : decode cX1_sums 52 = .ok (.aload_n 0, 1) := dk_42 (dk_at dksX1_sums_2 6 rfl rfl)
theorem dX1_sums_53 : decode cX1_sums 53 = .ok (.getfield 66, 3) := dk_180 0 66 (dk_at dksX1_sums_2 7 rfl rfl)
theorem dX1_sums_56 : decode cX1_sums 56 = .ok (.dup, 1) := dk_89 (dk_at dksX1_sums_2 10 rfl rfl)
theorem dX1_sums_57 : decode cX1_sums 57 = .ok (.getfield 182, 3) := dk_180 0 182 (dk_at dksX1_sums_2 11 rfl rfl)
theorem dX1_sums_60 : decode cX1_sums 60 = .ok (.aload_n 0, 1) := dk_42 (dk_at dksX1_sums_2 14 rfl rfl)
theorem dX1_sums_61 : decode cX1_sums 61 = .ok (.getfield 89, 3) := dk_180 0 89 (dk_at dksX1_sums_2 15 rfl rfl)
theorem dX1_sums_64 : decode cX1_sums 64 = .ok (.iload_n 2, 1) := dk_28 (dk_at dksX1_sums_2 18 rfl rfl)
theorem dX1_sums_65 : decode cX1_sums 65 = .ok (.iaload, 1) := dk_46 (dk_at dksX1_sums_2 19 rfl rfl)
theorem dX1_sums_66 : decode cX1_sums 66 = .ok (.iadd, 1) := dk_96 (dk_at dksX1_sums_2 20 rfl rfl)
theorem dX1_sums_67 : decode cX1_sums 67 = .ok (.putfield 182, 3) := dk_181 0 182 (dk_at dksX1_sums_2 21 rfl rfl)
theorem dX1_sums_70 : decode cX1_sums 70 = .ok (.iinc 2 1, 3) := dk_132 2 1 (dk_at dksX1_sums_3 0 rfl rfl)
theorem dX1_sums_73 : decode cX1_sums 73 = .ok (.goto (-64), 3) := dk_167 255 192 (dk_at dksX1_sums_3 3 rfl rfl)
theorem dX1_sums_76 : decode cX1_sums 76 = .ok (.return_, 1) := dk_177 (dk_at dksX1_sums_3 6 rfl rfl)
def dkwX1_writer_2 : List UInt8 := [167, 0, 9, 78, 45, 180, 1, 11, 172, 3, 172]
abbrev dktX1_writer_2 : List UInt8 := dkwX1_writer_2 ++ []
def dkwX1_writer_1 : List UInt8 := [180, 0, 40, 42, 180, 0, 33, 28, 182, 1, 2, 42, 180, 0, 52, 27, 42, 180, 0, 40, 182, 1, 72, 83]
abbrev dktX1_writer_1 : List UInt8 := dkwX1_writer_1 ++ dktX1_writer_2
def dkwX1_writer_0 : List UInt8 := [42, 180, 0, 252, 61, 42, 3, 181, 0, 252, 27, 3, 6, 184, 0, 112, 154, 0, 5, 2, 172, 42]
abbrev dktX1_writer_0 : List UInt8 := dkwX1_writer_0 ++ dktX1_writer_1
theorem dksX1_writer_0 : cX1_writer.data.toList.drop 0 = dktX1_writer_0 := by decide +kernel
theorem dksX1_writer_1 : cX1_writer.data.toList.drop 22 = dktX1_writer_1 := dk_seg dksX1_writer_0 22 rfl rfl
theorem dksX1_writer_2 : cX1_writer.data.toList.drop 46 = dktX1_writer_2 := dk_seg dksX1_writer_1 24 rfl rfl
theorem dX1_writer_0 : decode cX1_writer 0 = .ok (.aload_n 0, 1) := dk_42 (dk_at dksX1_writer_0 0 rfl rfl)
theorem dX1_writer_1 : decode cX1_writer 1 = .ok (.getfield 252, 3) := dk_180 0 252 (dk_at dksX1_writer_0 1 rfl rfl)
theorem dX1_writer_4 : decode cX1_writer 4 = .ok (.istore_n 2, 1) := dk_61 (dk_at dksX1_writer_0 4 rfl rfl)
theorem dX1_writer_5 : decode cX1_writer 5 = .ok (.aload_n 0, 1) := dk_42 (dk_at dksX1_writer_0 5 rfl rfl)
theorem dX1_writer_6 : decode cX1_writer 6 = .ok (.iconst 0, 1) := dk_3 (dk_at dksX1_writer_0 6 rfl rfl)
theorem dX1_writer_7 : decode cX1_writer 7 = .ok (.putfield 252, 3) := dk_181 0 252 (dk_at dksX1_writer_0 7 rfl rfl)
theorem dX1_writer_10 : decode cX1_writer 10 = .ok (.iload_n 1, 1) := dk_27 (dk_at dksX1_writer_0 10 rfl rfl)
theorem dX1_writer_11 : decode cX1_writer 11 = .ok (.iconst 0, 1) := dk_3 (dk_at dksX1_writer_0 11 rfl rfl)
theorem dX1_writer_12 : decode cX1_writer 12 = .ok (.iconst 3, 1) := dk_6 (dk_at dksX1_writer_0 12 rfl rfl)
theorem dX1_writer_13 : decode cX1_writer 13 = .ok (.invokestatic 112, 3) := dk_184 0 112 (dk_at dksX1_writer_0 13 rfl rfl)
theorem dX1_writer_16 : decode cX1_writer 16 = .ok (.ifCond .ne 5, 3) := dk_154 0 5 (dk_at dksX1_writer_0 16 rfl rfl)
theorem dX1_writer_19 : decode cX1_writer 19 = .ok (.iconst (-1), 1) := dk_2 (dk_at dksX1_writer_0 19 rfl rfl)
theorem dX1_writer_20 : decode cX1_writer 20 = .ok (.ireturn, 1) := dk_172 (dk_at dksX1_writer_0 20 rfl rfl)
theorem dX1_writer_21 : decode cX1_writer 21 = .ok (.aload_n 0, 1) := dk_42 (dk_at dksX1_writer_0 21 rfl rfl)
theorem dX1_writer_22 : decode cX1_writer 22 = .ok (.getfield 40, 3) := dk_180 0 40 (dk_at dksX1_writer_1 0 rfl rfl)
theorem dX1_writer_25 : decode cX1_writer 25 = .ok (.aload_n 0, 1) := dk_42 (dk_at dksX1_writer_1 3 rfl rfl)
theorem dX1_writer_26 : decode cX1_writer 26 = .ok (.getfield 33, 3) := dk_180 0 33 (dk_at dksX1_writer_1 4 rfl rfl)
theorem dX1_writer_29 : decode cX1_writer 29 = .ok (.iload_n 2, 1) := dk_28 (dk_at dksX1_writer_1 7 rfl rfl)
theorem dX1_writer_30 : decode cX1_writer 30 = .ok (.invokevirtual 258, 3) := dk_182 1 2 (dk_at dksX1_writer_1 8 rfl rfl)
theorem dX1_writer_33 : decode cX1_writer 33 = .ok (.aload_n 0, 1) := dk_42 (dk_at dksX1_writer_1 11 rfl rfl)
theorem dX1_writer_34 : decode cX1_writer 34 = .ok (.getfield 52, 3) := dk_180 0 52 (dk_at dksX1_writer_1 12 rfl rfl)
theorem dX1_writer_37 : decode cX1_writer 37 = .ok (.iload_n 1, 1) := dk_27 (dk_at dksX1_writer_1 15 rfl rfl)
theorem dX1_writer_38 : decode cX1_writer 38 = .ok (.aload_n 0, 1) := dk_42 (dk_at dksX1_writer_1 16 rfl rfl)
theorem dX1_writer_39 : decode cX1_writer 39 = .ok (.getfield 40, 3) := dk_180 0 40 (dk_at dksX1_writer_1 17 rfl rfl)
theorem dX1_writer_42 : decode cX1_writer 42 = .ok (.invokevirtual 328, 3) := dk_182 1 72 (dk_at dksX1_writer_1 20 rfl rfl)
theorem dX1_writer_45 : decode cX1_writer 45 = .ok (.aastore, 1) := dk_83 (dk_at dksX1_writer_1 23 rfl rfl)
theorem dX1_writer_46 : decode cX1_writer 46 = .ok (.goto 9, 3) := dk_167 0 9 (dk_at dksX1_writer_2 0 rfl rfl)
theorem dX1_writer_49 : decode cX1_writer 49 = .ok (.astore_n 3, 1) := dk_78 (dk_at dksX1_writer_2 3 rfl rfl)
theorem dX1_writer_50 : decode cX1_writer 50 = .ok (.aload_n 3, 1) := dk_45 (dk_at dksX1_writer_2 4 rfl rfl)
theorem dX1_writer_51 : decode cX1_writer 51 = .ok (.getfield 267, 3) := dk_180 1 11 (dk_at dksX1_writer_2 5 rfl rfl)
theorem dX1_writer_54 : decode cX1_writer 54 = .ok (.ireturn, 1) := dk_172 (dk_at dksX1_writer_2 8 rfl rfl)
theorem dX1_writer_55 : decode cX1_writer 55 = .ok (.iconst 0, 1) := dk_3 (dk_at dksX1_writer_2 9 rfl rfl)
theorem dX1_writer_56 : decode cX1_writer 56 = .ok (.ireturn, 1) := dk_172 (dk_at dksX1_writer_2 10 rfl rfl)
def dkwX1_takes_3 : List UInt8 := [181, 0, 60, 29, 153, 0, 7, 4, 167, 0, 4, 3, 172]
abbrev dktX1_takes_3 : List UInt8 := dkwX1_takes_3 ++ []
def dkwX1_takes_2 : List UInt8 := [180, 1, 89, 181, 0, 60, 42, 42, 180, 0, 52, 27, 50, 28, 182, 1, 90, 62, 42, 42, 180, 0, 56]
abbrev dktX1_takes_2 : List UInt8 := dkwX1_takes_2 ++ dktX1_takes_3
def dkwX1_takes_1 : List UInt8 := [27, 50, 180, 1, 89, 2, 160, 0, 10, 42, 180, 0, 56, 167, 0, 12, 42, 180, 0, 52, 27, 50]
abbrev dktX1_takes_1 : List UInt8 := dkwX1_takes_1 ++ dktX1_takes_2
def dkwX1_takes_0 : List UInt8 := [27, 3, 6, 184, 0, 112, 153, 0, 11, 42, 28, 182, 0, 136, 154, 0, 5, 2, 172, 42, 42, 180, 0, 52]
abbrev dktX1_takes_0 : List UInt8 := dkwX1_takes_0 ++ dktX1_takes_1
theorem dksX1_takes_0 : cX1_takes.data.toList.drop 0 = dktX1_takes_0 := by decide +kernel
theorem dksX1_takes_1 : cX1_takes.data.toList.drop 24 = dktX1_takes_1 := dk_seg dksX1_takes_0 24 rfl rfl
theorem dksX1_takes_2 : cX1_takes.data.toList.drop 46 = dktX1_takes_2 := dk_seg dksX1_takes_1 22 rfl rfl
theorem dksX1_takes_3 : cX1_takes.data.toList.drop 69 = dktX1_takes_3 := dk_seg dksX1_takes_2 23 rfl rfl
theorem dX1_takes_0 : decode cX1_takes 0 = .ok (.iload_n 1, 1) := dk_27 (dk_at dksX1_takes_0 0 rfl rfl)
theorem dX1_takes_1 : decode cX1_takes 1 = .ok (.iconst 0, 1) := dk_3 (dk_at dksX1_takes_0 1 rfl rfl)
theorem dX1_takes_2 : decode cX1_takes 2 = .ok (.iconst 3, 1) := dk_6 (dk_at dksX1_takes_0 2 rfl rfl)
theorem dX1_takes_3 : decode cX1_takes 3 = .ok (.invokestatic 112, 3) := dk_184 0 112 (dk_at dksX1_takes_0 3 rfl rfl)
theorem dX1_takes_6 : decode cX1_takes 6 = .ok (.ifCond .eq 11, 3) := dk_153 0 11 (dk_at dksX1_takes_0 6 rfl rfl)
theorem dX1_takes_9 : decode cX1_takes 9 = .ok (.aload_n 0, 1) := dk_42 (dk_at dksX1_takes_0 9 rfl rfl)
theorem dX1_takes_10 : decode cX1_takes 10 = .ok (.iload_n 2, 1) := dk_28 (dk_at dksX1_takes_0 10 rfl rfl)
theorem dX1_takes_11 : decode cX1_takes 11 = .ok (.invokevirtual 136, 3) := dk_182 0 136 (dk_at dksX1_takes_0 11 rfl rfl)
theorem dX1_takes_14 : decode cX1_takes 14 = .ok (.ifCond .ne 5, 3) := dk_154 0 5 (dk_at dksX1_takes_0 14 rfl rfl)
theorem dX1_takes_17 : decode cX1_takes 17 = .ok (.iconst (-1), 1) := dk_2 (dk_at dksX1_takes_0 17 rfl rfl)
theorem dX1_takes_18 : decode cX1_takes 18 = .ok (.ireturn, 1) := dk_172 (dk_at dksX1_takes_0 18 rfl rfl)
theorem dX1_takes_19 : decode cX1_takes 19 = .ok (.aload_n 0, 1) := dk_42 (dk_at dksX1_takes_0 19 rfl rfl)
theorem dX1_takes_20 : decode cX1_takes 20 = .ok (.aload_n 0, 1) := dk_42 (dk_at dksX1_takes_0 20 rfl rfl)
theorem dX1_takes_21 : decode cX1_takes 21 = .ok (.getfield 52, 3) := dk_180 0 52 (dk_at dksX1_takes_0 21 rfl rfl)
theorem dX1_takes_24 : decode cX1_takes 24 = .ok (.iload_n 1, 1) := dk_27 (dk_at dksX1_takes_1 0 rfl rfl)
theorem dX1_takes_25 : decode cX1_takes 25 = .ok (.aaload, 1) := dk_50 (dk_at dksX1_takes_1 1 rfl rfl)
theorem dX1_takes_26 : decode cX1_takes 26 = .ok (.getfield 345, 3) := dk_180 1 89 (dk_at dksX1_takes_1 2 rfl rfl)
theorem dX1_takes_29 : decode cX1_takes 29 = .ok (.iconst (-1), 1) := dk_2 (dk_at dksX1_takes_1 5 rfl rfl)
theorem dX1_takes_30 : decode cX1_takes 30 = .ok (.if_icmp .ne 10, 3) := dk_160 0 10 (dk_at dksX1_takes_1 6 rfl rfl)
theorem dX1_takes_33 : decode cX1_takes 33 = .ok (.aload_n 0, 1) := dk_42 (dk_at dksX1_takes_1 9 rfl rfl)
theorem dX1_takes_34 : decode cX1_takes 34 = .ok (.getfield 56, 3) := dk_180 0 56 (dk_at dksX1_takes_1 10 rfl rfl)
theorem dX1_takes_37 : decode cX1_takes 37 = .ok (.goto 12, 3) := dk_167 0 12 (dk_at dksX1_takes_1 13 rfl rfl)
theorem dX1_takes_40 : decode cX1_takes 40 = .ok (.aload_n 0, 1) := dk_42 (dk_at dksX1_takes_1 16 rfl rfl)
theorem dX1_takes_41 : decode cX1_takes 41 = .ok (.getfield 52, 3) := dk_180 0 52 (dk_at dksX1_takes_1 17 rfl rfl)
theorem dX1_takes_44 : decode cX1_takes 44 = .ok (.iload_n 1, 1) := dk_27 (dk_at dksX1_takes_1 20 rfl rfl)
theorem dX1_takes_45 : decode cX1_takes 45 = .ok (.aaload, 1) := dk_50 (dk_at dksX1_takes_1 21 rfl rfl)
theorem dX1_takes_46 : decode cX1_takes 46 = .ok (.getfield 345, 3) := dk_180 1 89 (dk_at dksX1_takes_2 0 rfl rfl)
theorem dX1_takes_49 : decode cX1_takes 49 = .ok (.putfield 60, 3) := dk_181 0 60 (dk_at dksX1_takes_2 3 rfl rfl)
theorem dX1_takes_52 : decode cX1_takes 52 = .ok (.aload_n 0, 1) := dk_42 (dk_at dksX1_takes_2 6 rfl rfl)
theorem dX1_takes_53 : decode cX1_takes 53 = .ok (.aload_n 0, 1) := dk_42 (dk_at dksX1_takes_2 7 rfl rfl)
theorem dX1_takes_54 : decode cX1_takes 54 = .ok (.getfield 52, 3) := dk_180 0 52 (dk_at dksX1_takes_2 8 rfl rfl)
theorem dX1_takes_57 : decode cX1_takes 57 = .ok (.iload_n 1, 1) := dk_27 (dk_at dksX1_takes_2 11 rfl rfl)
theorem dX1_takes_58 : decode cX1_takes 58 = .ok (.aaload, 1) := dk_50 (dk_at dksX1_takes_2 12 rfl rfl)
theorem dX1_takes_59 : decode cX1_takes 59 = .ok (.iload_n 2, 1) := dk_28 (dk_at dksX1_takes_2 13 rfl rfl)
theorem dX1_takes_60 : decode cX1_takes 60 = .ok (.invokevirtual 346, 3) := dk_182 1 90 (dk_at dksX1_takes_2 14 rfl rfl)
theorem dX1_takes_63 : decode cX1_takes 63 = .ok (.istore_n 3, 1) := dk_62 (dk_at dksX1_takes_2 17 rfl rfl)
theorem dX1_takes_64 : decode cX1_takes 64 = .ok (.aload_n 0, 1) := dk_42 (dk_at dksX1_takes_2 18 rfl rfl)
theorem dX1_takes_65 : decode cX1_takes 65 = .ok (.aload_n 0, 1) := dk_42 (dk_at dksX1_takes_2 19 rfl rfl)
theorem dX1_takes_66 : decode cX1_takes 66 = .ok (.getfield 56, 3) := dk_180 0 56 (dk_at dksX1_takes_2 20 rfl rfl)
theorem dX1_takes_69 : decode cX1_takes 69 = .ok (.putfield 60, 3) := dk_181 0 60 (dk_at dksX1_takes_3 0 rfl rfl)
theorem dX1_takes_72 : decode cX1_takes 72 = .ok (.iload_n 3, 1) := dk_29 (dk_at dksX1_takes_3 3 rfl rfl)
theorem dX1_takes_73 : decode cX1_takes 73 = .ok (.ifCond .eq 7, 3) := dk_153 0 7 (dk_at dksX1_takes_3 4 rfl rfl)
theorem dX1_takes_76 : decode cX1_takes 76 = .ok (.iconst 1, 1) := dk_4 (dk_at dksX1_takes_3 7 rfl rfl)
theorem dX1_takes_77 : decode cX1_takes 77 = .ok (.goto 4, 3) := dk_167 0 4 (dk_at dksX1_takes_3 8 rfl rfl)
theorem dX1_takes_80 : decode cX1_takes 80 = .ok (.iconst 0, 1) := dk_3 (dk_at dksX1_takes_3 11 rfl rfl)
theorem dX1_takes_81 : decode cX1_takes 81 = .ok (.ireturn, 1) := dk_172 (dk_at dksX1_takes_3 12 rfl rfl)
def dkwX1_isTaken_6 : List UInt8 := [28, 79, 43, 180, 1, 76, 42, 180, 0, 83, 182, 1, 37, 153, 0, 7, 4, 167, 0, 4, 3, 172]
abbrev dktX1_isTaken_6 : List UInt8 := dkwX1_isTaken_6 ++ []
def dkwX1_isTaken_5 : List UInt8 := [3, 79, 42, 180, 0, 83, 16, 7, 42, 45, 43, 180, 1, 86, 182, 0, 161, 79, 42, 180, 0, 83, 16, 8]
abbrev dktX1_isTaken_5 : List UInt8 := dkwX1_isTaken_5 ++ dktX1_isTaken_6
def dkwX1_isTaken_4 : List UInt8 := [180, 0, 127, 42, 180, 0, 27, 45, 180, 0, 124, 50, 43, 180, 1, 83, 46, 162, 0, 7, 4, 167, 0, 4]
abbrev dktX1_isTaken_4 : List UInt8 := dkwX1_isTaken_4 ++ dktX1_isTaken_5
def dkwX1_isTaken_3 : List UInt8 := [2, 182, 1, 80, 79, 42, 180, 0, 83, 8, 45, 16, 254, 182, 1, 80, 79, 42, 180, 0, 83, 16, 6, 45]
abbrev dktX1_isTaken_3 : List UInt8 := dkwX1_isTaken_3 ++ dktX1_isTaken_4
def dkwX1_isTaken_2 : List UInt8 := [42, 180, 0, 83, 6, 45, 180, 0, 133, 153, 0, 7, 4, 167, 0, 4, 3, 79, 42, 180, 0, 83, 7, 45]
abbrev dktX1_isTaken_2 : List UInt8 := dkwX1_isTaken_2 ++ dktX1_isTaken_3
def dkwX1_isTaken_1 : List UInt8 := [180, 0, 124, 79, 42, 180, 0, 83, 4, 45, 180, 0, 127, 79, 42, 180, 0, 83, 5, 45, 180, 0, 130, 79]
abbrev dktX1_isTaken_1 : List UInt8 := dkwX1_isTaken_1 ++ dktX1_isTaken_2
def dkwX1_isTaken_0 : List UInt8 := [43, 180, 1, 76, 199, 0, 5, 4, 172, 42, 180, 0, 21, 28, 50, 78, 42, 180, 0, 83, 3, 45]
abbrev dktX1_isTaken_0 : List UInt8 := dkwX1_isTaken_0 ++ dktX1_isTaken_1
theorem dksX1_isTaken_0 : cX1_isTaken.data.toList.drop 0 = dktX1_isTaken_0 := by decide +kernel
theorem dksX1_isTaken_1 : cX1_isTaken.data.toList.drop 22 = dktX1_isTaken_1 := dk_seg dksX1_isTaken_0 22 rfl rfl
theorem dksX1_isTaken_2 : cX1_isTaken.data.toList.drop 46 = dktX1_isTaken_2 := dk_seg dksX1_isTaken_1 24 rfl rfl
theorem dksX1_isTaken_3 : cX1_isTaken.data.toList.drop 70 = dktX1_isTaken_3 := dk_seg dksX1_isTaken_2 24 rfl rfl
theorem dksX1_isTaken_4 : cX1_isTaken.data.toList.drop 94 = dktX1_isTaken_4 := dk_seg dksX1_isTaken_3 24 rfl rfl
theorem dksX1_isTaken_5 : cX1_isTaken.data.toList.drop 118 = dktX1_isTaken_5 := dk_seg dksX1_isTaken_4 24 rfl rfl
theorem dksX1_isTaken_6 : cX1_isTaken.data.toList.drop 142 = dktX1_isTaken_6 := dk_seg dksX1_isTaken_5 24 rfl rfl
theorem dX1_isTaken_0 : decode cX1_isTaken 0 = .ok (.aload_n 1, 1) := dk_43 (dk_at dksX1_isTaken_0 0 rfl rfl)
theorem dX1_isTaken_1 : decode cX1_isTaken 1 = .ok (.getfield 332, 3) := dk_180 1 76 (dk_at dksX1_isTaken_0 1 rfl rfl)
theorem dX1_isTaken_4 : decode cX1_isTaken 4 = .ok (.ifnonnull 5, 3) := dk_199 0 5 (dk_at dksX1_isTaken_0 4 rfl rfl)
theorem dX1_isTaken_7 : decode cX1_isTaken 7 = .ok (.iconst 1, 1) := dk_4 (dk_at dksX1_isTaken_0 7 rfl rfl)
theorem dX1_isTaken_8 : decode cX1_isTaken 8 = .ok (.ireturn, 1) := dk_172 (dk_at dksX1_isTaken_0 8 rfl rfl)
theorem dX1_isTaken_9 : decode cX1_isTaken 9 = .ok (.aload_n 0, 1) := dk_42 (dk_at dksX1_isTaken_0 9 rfl rfl)
theorem dX1_isTaken_10 : decode cX1_isTaken 10 = .ok (.getfield 21, 3) := dk_180 0 21 (dk_at dksX1_isTaken_0 10 rfl rfl)
theorem dX1_isTaken_13 : decode cX1_isTaken 13 = .ok (.iload_n 2, 1) := dk_28 (dk_at dksX1_isTaken_0 13 rfl rfl)
theorem dX1_isTaken_14 : decode cX1_isTaken 14 = .ok (.aaload, 1) := dk_50 (dk_at dksX1_isTaken_0 14 rfl rfl)
theorem dX1_isTaken_15 : decode cX1_isTaken 15 = .ok (.astore_n 3, 1) := dk_78 (dk_at dksX1_isTaken_0 15 rfl rfl)
theorem dX1_isTaken_16 : decode cX1_isTaken 16 = .ok (.aload_n 0, 1) := dk_42 (dk_at dksX1_isTaken_0 16 rfl rfl)
theorem dX1_isTaken_17 : decode cX1_isTaken 17 = .ok (.getfield 83, 3) := dk_180 0 83 (dk_at dksX1_isTaken_0 17 rfl rfl)
theorem dX1_isTaken_20 : decode cX1_isTaken 20 = .ok (.iconst 0, 1) := dk_3 (dk_at dksX1_isTaken_0 20 rfl rfl)
theorem dX1_isTaken_21 : decode cX1_isTaken 21 = .ok (.aload_n 3, 1) := dk_45 (dk_at dksX1_isTaken_0 21 rfl rfl)
theorem dX1_isTaken_22 : decode cX1_isTaken 22 = .ok (.getfield 124, 3) := dk_180 0 124 (dk_at dksX1_isTaken_1 0 rfl rfl)
theorem dX1_isTaken_25 : decode cX1_isTaken 25 = .ok (.iastore, 1) := dk_79 (dk_at dksX1_isTaken_1 3 rfl rfl)
theorem dX1_isTaken_26 : decode cX1_isTaken 26 = .ok (.aload_n 0, 1) := dk_42 (dk_at dksX1_isTaken_1 4 rfl rfl)
theorem dX1_isTaken_27 : decode cX1_isTaken 27 = .ok (.getfield 83, 3) := dk_180 0 83 (dk_at dksX1_isTaken_1 5 rfl rfl)
theorem dX1_isTaken_30 : decode cX1_isTaken 30 = .ok (.iconst 1, 1) := dk_4 (dk_at dksX1_isTaken_1 8 rfl rfl)
theorem dX1_isTaken_31 : decode cX1_isTaken 31 = .ok (.aload_n 3, 1) := dk_45 (dk_at dksX1_isTaken_1 9 rfl rfl)
theorem dX1_isTaken_32 : decode cX1_isTaken 32 = .ok (.getfield 127, 3) := dk_180 0 127 (dk_at dksX1_isTaken_1 10 rfl rfl)
theorem dX1_isTaken_35 : decode cX1_isTaken 35 = .ok (.iastore, 1) := dk_79 (dk_at dksX1_isTaken_1 13 rfl rfl)
theorem dX1_isTaken_36 : decode cX1_isTaken 36 = .ok (.aload_n 0, 1) := dk_42 (dk_at dksX1_isTaken_1 14 rfl rfl)
theorem dX1_isTaken_37 : decode cX1_isTaken 37 = .ok (.getfield 83, 3) := dk_180 0 83 (dk_at dksX1_isTaken_1 15 rfl rfl)
theorem dX1_isTaken_40 : decode cX1_isTaken 40 = .ok (.iconst 2, 1) := dk_5 (dk_at dksX1_isTaken_1 18 rfl rfl)
theorem dX1_isTaken_41 : decode cX1_isTaken 41 = .ok (.aload_n 3, 1) := dk_45 (dk_at dksX1_isTaken_1 19 rfl rfl)
theorem dX1_isTaken_42 : decode cX1_isTaken 42 = .ok (.getfield 130, 3) := dk_180 0 130 (dk_at dksX1_isTaken_1 20 rfl rfl)
theorem dX1_isTaken_45 : decode cX1_isTaken 45 = .ok (.iastore, 1) := dk_79 (dk_at dksX1_isTaken_1 23 rfl rfl)
theorem dX1_isTaken_46 : decode cX1_isTaken 46 = .ok (.aload_n 0, 1) := dk_42 (dk_at dksX1_isTaken_2 0 rfl rfl)
theorem dX1_isTaken_47 : decode cX1_isTaken 47 = .ok (.getfield 83, 3) := dk_180 0 83 (dk_at dksX1_isTaken_2 1 rfl rfl)
theorem dX1_isTaken_50 : decode cX1_isTaken 50 = .ok (.iconst 3, 1) := dk_6 (dk_at dksX1_isTaken_2 4 rfl rfl)
theorem dX1_isTaken_51 : decode cX1_isTaken 51 = .ok (.aload_n 3, 1) := dk_45 (dk_at dksX1_isTaken_2 5 rfl rfl)
theorem dX1_isTaken_52 : decode cX1_isTaken 52 = .ok (.getfield 133, 3) := dk_180 0 133 (dk_at dksX1_isTaken_2 6 rfl rfl)
theorem dX1_isTaken_55 : decode cX1_isTaken 55 = .ok (.ifCond .eq 7, 3) := dk_153 0 7 (dk_at dksX1_isTaken_2 9 rfl rfl)
theorem dX1_isTaken_58 : decode cX1_isTaken 58 = .ok (.iconst 1, 1) := dk_4 (dk_at dksX1_isTaken_2 12 rfl rfl)
theorem dX1_isTaken_59 : decode cX1_isTaken 59 = .ok (.goto 4, 3) := dk_167 0 4 (dk_at dksX1_isTaken_2 13 rfl rfl)
theorem dX1_isTaken_62 : decode cX1_isTaken 62 = .ok (.iconst 0, 1) := dk_3 (dk_at dksX1_isTaken_2 16 rfl rfl)
theorem dX1_isTaken_63 : decode cX1_isTaken 63 = .ok (.iastore, 1) := dk_79 (dk_at dksX1_isTaken_2 17 rfl rfl)
theorem dX1_isTaken_64 : decode cX1_isTaken 64 = .ok (.aload_n 0, 1) := dk_42 (dk_at dksX1_isTaken_2 18 rfl rfl)
theorem dX1_isTaken_65 : decode cX1_isTaken 65 = .ok (.getfield 83, 3) := dk_180 0 83 (dk_at dksX1_isTaken_2 19 rfl rfl)
theorem dX1_isTaken_68 : decode cX1_isTaken 68 = .ok (.iconst 4, 1) := dk_7 (dk_at dksX1_isTaken_2 22 rfl rfl)
theorem dX1_isTaken_69 : decode cX1_isTaken 69 = .ok (.aload_n 3, 1) := dk_45 (dk_at dksX1_isTaken_2 23 rfl rfl)
theorem dX1_isTaken_70 : decode cX1_isTaken 70 = .ok (.iconst (-1), 1) := dk_2 (dk_at dksX1_isTaken_3 0 rfl rfl)
theorem dX1_isTaken_71 : decode cX1_isTaken 71 = .ok (.invokevirtual 336, 3) := dk_182 1 80 (dk_at dksX1_isTaken_3 1 rfl rfl)
theorem dX1_isTaken_74 : decode cX1_isTaken 74 = .ok (.iastore, 1) := dk_79 (dk_at dksX1_isTaken_3 4 rfl rfl)
theorem dX1_isTaken_75 : decode cX1_isTaken 75 = .ok (.aload_n 0, 1) := dk_42 (dk_at dksX1_isTaken_3 5 rfl rfl)
theorem dX1_isTaken_76 : decode cX1_isTaken 76 = .ok (.getfield 83, 3) := dk_180 0 83 (dk_at dksX1_isTaken_3 6 rfl rfl)
theorem dX1_isTaken_79 : decode cX1_isTaken 79 = .ok (.iconst 5, 1) := dk_8 (dk_at dksX1_isTaken_3 9 rfl rfl)
theorem dX1_isTaken_80 : decode cX1_isTaken 80 = .ok (.aload_n 3, 1) := dk_45 (dk_at dksX1_isTaken_3 10 rfl rfl)
theorem dX1_isTaken_81 : decode cX1_isTaken 81 = .ok (.bipush (-2), 2) := dk_16 254 (dk_at dksX1_isTaken_3 11 rfl rfl)
theorem dX1_isTaken_83 : decode cX1_isTaken 83 = .ok (.invokevirtual 336, 3) := dk_182 1 80 (dk_at dksX1_isTaken_3 13 rfl rfl)
theorem dX1_isTaken_86 : decode cX1_isTaken 86 = .ok (.iastore, 1) := dk_79 (dk_at dksX1_isTaken_3 16 rfl rfl)
theorem dX1_isTaken_87 : decode cX1_isTaken 87 = .ok (.aload_n 0, 1) := dk_42 (dk_at dksX1_isTaken_3 17 rfl rfl)
theorem dX1_isTaken_88 : decode cX1_isTaken 88 = .ok (.getfield 83, 3) := dk_180 0 83 (dk_at dksX1_isTaken_3 18 rfl rfl)
theorem dX1_isTaken_91 : decode cX1_isTaken 91 = .ok (.bipush 6, 2) := dk_16 6 (dk_at dksX1_isTaken_3 21 rfl rfl)
theorem dX1_isTaken_93 : decode cX1_isTaken 93 = .ok (.aload_n 3, 1) := dk_45 (dk_at dksX1_isTaken_3 23 rfl rfl)
theorem dX1_isTaken_94 : decode cX1_isTaken 94 = .ok (.getfield 127, 3) := dk_180 0 127 (dk_at dksX1_isTaken_4 0 rfl rfl)
theorem dX1_isTaken_97 : decode cX1_isTaken 97 = .ok (.aload_n 0, 1) := dk_42 (dk_at dksX1_isTaken_4 3 rfl rfl)
theorem dX1_isTaken_98 : decode cX1_isTaken 98 = .ok (.getfield 27, 3) := dk_180 0 27 (dk_at dksX1_isTaken_4 4 rfl rfl)
theorem dX1_isTaken_101 : decode cX1_isTaken 101 = .ok (.aload_n 3, 1) := dk_45 (dk_at dksX1_isTaken_4 7 rfl rfl)
theorem dX1_isTaken_102 : decode cX1_isTaken 102 = .ok (.getfield 124, 3) := dk_180 0 124 (dk_at dksX1_isTaken_4 8 rfl rfl)
theorem dX1_isTaken_105 : decode cX1_isTaken 105 = .ok (.aaload, 1) := dk_50 (dk_at dksX1_isTaken_4 11 rfl rfl)
theorem dX1_isTaken_106 : decode cX1_isTaken 106 = .ok (.aload_n 1, 1) := dk_43 (dk_at dksX1_isTaken_4 12 rfl rfl)
theorem dX1_isTaken_107 : decode cX1_isTaken 107 = .ok (.getfield 339, 3) := dk_180 1 83 (dk_at dksX1_isTaken_4 13 rfl rfl)
theorem dX1_isTaken_110 : decode cX1_isTaken 110 = .ok (.iaload, 1) := dk_46 (dk_at dksX1_isTaken_4 16 rfl rfl)
theorem dX1_isTaken_111 : decode cX1_isTaken 111 = .ok (.if_icmp .ge 7, 3) := dk_162 0 7 (dk_at dksX1_isTaken_4 17 rfl rfl)
theorem dX1_isTaken_114 : decode cX1_isTaken 114 = .ok (.iconst 1, 1) := dk_4 (dk_at dksX1_isTaken_4 20 rfl rfl)
theorem dX1_isTaken_115 : decode cX1_isTaken 115 = .ok (.goto 4, 3) := dk_167 0 4 (dk_at dksX1_isTaken_4 21 rfl rfl)
theorem dX1_isTaken_118 : decode cX1_isTaken 118 = .ok (.iconst 0, 1) := dk_3 (dk_at dksX1_isTaken_5 0 rfl rfl)
theorem dX1_isTaken_119 : decode cX1_isTaken 119 = .ok (.iastore, 1) := dk_79 (dk_at dksX1_isTaken_5 1 rfl rfl)
theorem dX1_isTaken_120 : decode cX1_isTaken 120 = .ok (.aload_n 0, 1) := dk_42 (dk_at dksX1_isTaken_5 2 rfl rfl)
theorem dX1_isTaken_121 : decode cX1_isTaken 121 = .ok (.getfield 83, 3) := dk_180 0 83 (dk_at dksX1_isTaken_5 3 rfl rfl)
theorem dX1_isTaken_124 : decode cX1_isTaken 124 = .ok (.bipush 7, 2) := dk_16 7 (dk_at dksX1_isTaken_5 6 rfl rfl)
theorem dX1_isTaken_126 : decode cX1_isTaken 126 = .ok (.aload_n 0, 1) := dk_42 (dk_at dksX1_isTaken_5 8 rfl rfl)
theorem dX1_isTaken_127 : decode cX1_isTaken 127 = .ok (.aload_n 3, 1) := dk_45 (dk_at dksX1_isTaken_5 9 rfl rfl)
theorem dX1_isTaken_128 : decode cX1_isTaken 128 = .ok (.aload_n 1, 1) := dk_43 (dk_at dksX1_isTaken_5 10 rfl rfl)
theorem dX1_isTaken_129 : decode cX1_isTaken 129 = .ok (.getfield 342, 3) := dk_180 1 86 (dk_at dksX1_isTaken_5 11 rfl rfl)
theorem dX1_isTaken_132 : decode cX1_isTaken 132 = .ok (.invokevirtual 161, 3) := dk_182 0 161 (dk_at dksX1_isTaken_5 14 rfl rfl)
theorem dX1_isTaken_135 : decode cX1_isTaken 135 = .ok (.iastore, 1) := dk_79 (dk_at dksX1_isTaken_5 17 rfl rfl)
theorem dX1_isTaken_136 : decode cX1_isTaken 136 = .ok (.aload_n 0, 1) := dk_42 (dk_at dksX1_isTaken_5 18 rfl rfl)
theorem dX1_isTaken_137 : decode cX1_isTaken 137 = .ok (.getfield 83, 3) := dk_180 0 83 (dk_at dksX1_isTaken_5 19 rfl rfl)
theorem dX1_isTaken_140 : decode cX1_isTaken 140 = .ok (.bipush 8, 2) := dk_16 8 (dk_at dksX1_isTaken_5 22 rfl rfl)
theorem dX1_isTaken_142 : decode cX1_isTaken 142 = .ok (.iload_n 2, 1) := dk_28 (dk_at dksX1_isTaken_6 0 rfl rfl)
theorem dX1_isTaken_143 : decode cX1_isTaken 143 = .ok (.iastore, 1) := dk_79 (dk_at dksX1_isTaken_6 1 rfl rfl)
theorem dX1_isTaken_144 : decode cX1_isTaken 144 = .ok (.aload_n 1, 1) := dk_43 (dk_at dksX1_isTaken_6 2 rfl rfl)
theorem dX1_isTaken_145 : decode cX1_isTaken 145 = .ok (.getfield 332, 3) := dk_180 1 76 (dk_at dksX1_isTaken_6 3 rfl rfl)
theorem dX1_isTaken_148 : decode cX1_isTaken 148 = .ok (.aload_n 0, 1) := dk_42 (dk_at dksX1_isTaken_6 6 rfl rfl)
theorem dX1_isTaken_149 : decode cX1_isTaken 149 = .ok (.getfield 83, 3) := dk_180 0 83 (dk_at dksX1_isTaken_6 7 rfl rfl)
theorem dX1_isTaken_152 : decode cX1_isTaken 152 = .ok (.invokevirtual 293, 3) := dk_182 1 37 (dk_at dksX1_isTaken_6 10 rfl rfl)
theorem dX1_isTaken_155 : decode cX1_isTaken 155 = .ok (.ifCond .eq 7, 3) := dk_153 0 7 (dk_at dksX1_isTaken_6 13 rfl rfl)
theorem dX1_isTaken_158 : decode cX1_isTaken 158 = .ok (.iconst 1, 1) := dk_4 (dk_at dksX1_isTaken_6 16 rfl rfl)
theorem dX1_isTaken_159 : decode cX1_isTaken 159 = .ok (.goto 4, 3) := dk_167 0 4 (dk_at dksX1_isTaken_6 17 rfl rfl)
theorem dX1_isTaken_162 : decode cX1_isTaken 162 = .ok (.iconst 0, 1) := dk_3 (dk_at dksX1_isTaken_6 20 rfl rfl)
theorem dX1_isTaken_163 : decode cX1_isTaken 163 = .ok (.ireturn, 1) := dk_172 (dk_at dksX1_isTaken_6 21 rfl rfl)
def dkwX1_book_2 : List UInt8 := [180, 1, 98, 28, 29, 79, 42, 180, 0, 21, 27, 50, 180, 1, 101, 28, 21, 4, 79, 4, 172]
abbrev dktX1_book_2 : List UInt8 := dkwX1_book_2 ++ []
def dkwX1_book_1 : List UInt8 := [153, 0, 15, 21, 4, 3, 19, 1, 97, 184, 0, 112, 154, 0, 5, 3, 172, 42, 180, 0, 21, 27, 50]
abbrev dktX1_book_1 : List UInt8 := dkwX1_book_1 ++ dktX1_book_2
def dkwX1_book_0 : List UInt8 := [42, 27, 182, 0, 136, 153, 0, 33, 28, 184, 0, 120, 153, 0, 26, 29, 3, 17, 3, 231, 184, 0, 112]
abbrev dktX1_book_0 : List UInt8 := dkwX1_book_0 ++ dktX1_book_1
theorem dksX1_book_0 : cX1_book.data.toList.drop 0 = dktX1_book_0 := by decide +kernel
theorem dksX1_book_1 : cX1_book.data.toList.drop 23 = dktX1_book_1 := dk_seg dksX1_book_0 23 rfl rfl
theorem dksX1_book_2 : cX1_book.data.toList.drop 46 = dktX1_book_2 := dk_seg dksX1_book_1 23 rfl rfl
theorem dX1_book_0 : decode cX1_book 0 = .ok (.aload_n 0, 1) := dk_42 (dk_at dksX1_book_0 0 rfl rfl)
theorem dX1_book_1 : decode cX1_book 1 = .ok (.iload_n 1, 1) := dk_27 (dk_at dksX1_book_0 1 rfl rfl)
theorem dX1_book_2 : decode cX1_book 2 = .ok (.invokevirtual 136, 3) := dk_182 0 136 (dk_at dksX1_book_0 2 rfl rfl)
theorem dX1_book_5 : decode cX1_book 5 = .ok (.ifCond .eq 33, 3) := dk_153 0 33 (dk_at dksX1_book_0 5 rfl rfl)
theorem dX1_book_8 : decode cX1_book 8 = .ok (.iload_n 2, 1) := dk_28 (dk_at dksX1_book_0 8 rfl rfl)
theorem dX1_book_9 : decode cX1_book 9 = .ok (.invokestatic 120, 3) := dk_184 0 120 (dk_at dksX1_book_0 9 rfl rfl)
theorem dX1_book_12 : decode cX1_book 12 = .ok (.ifCond .eq 26, 3) := dk_153 0 26 (dk_at dksX1_book_0 12 rfl rfl)
theorem dX1_book_15 : decode cX1_book 15 = .ok (.iload_n 3, 1) := dk_29 (dk_at dksX1_book_0 15 rfl rfl)
theorem dX1_book_16 : decode cX1_book 16 = .ok (.iconst 0, 1) := dk_3 (dk_at dksX1_book_0 16 rfl rfl)
theorem dX1_book_17 : decode cX1_book 17 = .ok (.sipush 999, 3) := dk_17 3 231 (dk_at dksX1_book_0 17 rfl rfl)
theorem dX1_book_20 : decode cX1_book 20 = .ok (.invokestatic 112, 3) := dk_184 0 112 (dk_at dksX1_book_0 20 rfl rfl)
theorem dX1_book_23 : decode cX1_book 23 = .ok (.ifCond .eq 15, 3) := dk_153 0 15 (dk_at dksX1_book_1 0 rfl rfl)
theorem dX1_book_26 : decode cX1_book 26 = .ok (.iload 4, 2) := dk_21 4 (dk_at dksX1_book_1 3 rfl rfl)
theorem dX1_book_28 : decode cX1_book 28 = .ok (.iconst 0, 1) := dk_3 (dk_at dksX1_book_1 5 rfl rfl)
theorem dX1_book_29 : decode cX1_book 29 = .ok (.ldc_w 353, 3) := dk_19 1 97 (dk_at dksX1_book_1 6 rfl rfl)
theorem dX1_book_32 : decode cX1_book 32 = .ok (.invokestatic 112, 3) := dk_184 0 112 (dk_at dksX1_book_1 9 rfl rfl)
theorem dX1_book_35 : decode cX1_book 35 = .ok (.ifCond .ne 5, 3) := dk_154 0 5 (dk_at dksX1_book_1 12 rfl rfl)
theorem dX1_book_38 : decode cX1_book 38 = .ok (.iconst 0, 1) := dk_3 (dk_at dksX1_book_1 15 rfl rfl)
theorem dX1_book_39 : decode cX1_book 39 = .ok (.ireturn, 1) := dk_172 (dk_at dksX1_book_1 16 rfl rfl)
theorem dX1_book_40 : decode cX1_book 40 = .ok (.aload_n 0, 1) := dk_42 (dk_at dksX1_book_1 17 rfl rfl)
theorem dX1_book_41 : decode cX1_book 41 = .ok (.getfield 21, 3) := dk_180 0 21 (dk_at dksX1_book_1 18 rfl rfl)
theorem dX1_book_44 : decode cX1_book 44 = .ok (.iload_n 1, 1) := dk_27 (dk_at dksX1_book_1 21 rfl rfl)
theorem dX1_book_45 : decode cX1_book 45 = .ok (.aaload, 1) := dk_50 (dk_at dksX1_book_1 22 rfl rfl)
theorem dX1_book_46 : decode cX1_book 46 = .ok (.getfield 354, 3) := dk_180 1 98 (dk_at dksX1_book_2 0 rfl rfl)
theorem dX1_book_49 : decode cX1_book 49 = .ok (.iload_n 2, 1) := dk_28 (dk_at dksX1_book_2 3 rfl rfl)
theorem dX1_book_50 : decode cX1_book 50 = .ok (.iload_n 3, 1) := dk_29 (dk_at dksX1_book_2 4 rfl rfl)
theorem dX1_book_51 : decode cX1_book 51 = .ok (.iastore, 1) := dk_79 (dk_at dksX1_book_2 5 rfl rfl)
theorem dX1_book_52 : decode cX1_book 52 = .ok (.aload_n 0, 1) := dk_42 (dk_at dksX1_book_2 6 rfl rfl)
theorem dX1_book_53 : decode cX1_book 53 = .ok (.getfield 21, 3) := dk_180 0 21 (dk_at dksX1_book_2 7 rfl rfl)
theorem dX1_book_56 : decode cX1_book 56 = .ok (.iload_n 1, 1) := dk_27 (dk_at dksX1_book_2 10 rfl rfl)
theorem dX1_book_57 : decode cX1_book 57 = .ok (.aaload, 1) := dk_50 (dk_at dksX1_book_2 11 rfl rfl)
theorem dX1_book_58 : decode cX1_book 58 = .ok (.getfield 357, 3) := dk_180 1 101 (dk_at dksX1_book_2 12 rfl rfl)
theorem dX1_book_61 : decode cX1_book 61 = .ok (.iload_n 2, 1) := dk_28 (dk_at dksX1_book_2 15 rfl rfl)
theorem dX1_book_62 : decode cX1_book 62 = .ok (.iload 4, 2) := dk_21 4 (dk_at dksX1_book_2 16 rfl rfl)
theorem dX1_book_64 : decode cX1_book 64 = .ok (.iastore, 1) := dk_79 (dk_at dksX1_book_2 18 rfl rfl)
theorem dX1_book_65 : decode cX1_book 65 = .ok (.iconst 1, 1) := dk_4 (dk_at dksX1_book_2 19 rfl rfl)
theorem dX1_book_66 : decode cX1_book 66 = .ok (.ireturn, 1) := dk_172 (dk_at dksX1_book_2 20 rfl rfl)
def dkwX1_lots_2 : List UInt8 := [173, 42, 29, 182, 1, 135, 42, 180, 0, 243, 42, 180, 0, 237, 133, 21, 4, 184, 0, 218, 173]
abbrev dktX1_lots_2 : List UInt8 := dkwX1_lots_2 ++ []
def dkwX1_lots_1 : List UInt8 := [182, 1, 132, 153, 0, 18, 29, 42, 180, 1, 116, 42, 180, 1, 119, 184, 1, 43, 164, 0, 7, 20, 0, 250]
abbrev dktX1_lots_1 : List UInt8 := dkwX1_lots_1 ++ dktX1_lots_2
def dkwX1_lots_0 : List UInt8 := [29, 4, 16, 9, 184, 0, 112, 153, 0, 37, 21, 4, 3, 4, 184, 0, 112, 153, 0, 27, 42, 27, 28]
abbrev dktX1_lots_0 : List UInt8 := dkwX1_lots_0 ++ dktX1_lots_1
theorem dksX1_lots_0 : cX1_lots.data.toList.drop 0 = dktX1_lots_0 := by decide +kernel
theorem dksX1_lots_1 : cX1_lots.data.toList.drop 23 = dktX1_lots_1 := dk_seg dksX1_lots_0 23 rfl rfl
theorem dksX1_lots_2 : cX1_lots.data.toList.drop 47 = dktX1_lots_2 := dk_seg dksX1_lots_1 24 rfl rfl
theorem dX1_lots_0 : decode cX1_lots 0 = .ok (.iload_n 3, 1) := dk_29 (dk_at dksX1_lots_0 0 rfl rfl)
theorem dX1_lots_1 : decode cX1_lots 1 = .ok (.iconst 1, 1) := dk_4 (dk_at dksX1_lots_0 1 rfl rfl)
theorem dX1_lots_2 : decode cX1_lots 2 = .ok (.bipush 9, 2) := dk_16 9 (dk_at dksX1_lots_0 2 rfl rfl)
theorem dX1_lots_4 : decode cX1_lots 4 = .ok (.invokestatic 112, 3) := dk_184 0 112 (dk_at dksX1_lots_0 4 rfl rfl)
theorem dX1_lots_7 : decode cX1_lots 7 = .ok (.ifCond .eq 37, 3) := dk_153 0 37 (dk_at dksX1_lots_0 7 rfl rfl)
theorem dX1_lots_10 : decode cX1_lots 10 = .ok (.iload 4, 2) := dk_21 4 (dk_at dksX1_lots_0 10 rfl rfl)
theorem dX1_lots_12 : decode cX1_lots 12 = .ok (.iconst 0, 1) := dk_3 (dk_at dksX1_lots_0 12 rfl rfl)
theorem dX1_lots_13 : decode cX1_lots 13 = .ok (.iconst 1, 1) := dk_4 (dk_at dksX1_lots_0 13 rfl rfl)
theorem dX1_lots_14 : decode cX1_lots 14 = .ok (.invokestatic 112, 3) := dk_184 0 112 (dk_at dksX1_lots_0 14 rfl rfl)
theorem dX1_lots_17 : decode cX1_lots 17 = .ok (.ifCond .eq 27, 3) := dk_153 0 27 (dk_at dksX1_lots_0 17 rfl rfl)
theorem dX1_lots_20 : decode cX1_lots 20 = .ok (.aload_n 0, 1) := dk_42 (dk_at dksX1_lots_0 20 rfl rfl)
theorem dX1_lots_21 : decode cX1_lots 21 = .ok (.iload_n 1, 1) := dk_27 (dk_at dksX1_lots_0 21 rfl rfl)
theorem dX1_lots_22 : decode cX1_lots 22 = .ok (.iload_n 2, 1) := dk_28 (dk_at dksX1_lots_0 22 rfl rfl)
theorem dX1_lots_23 : decode cX1_lots 23 = .ok (.invokevirtual 388, 3) := dk_182 1 132 (dk_at dksX1_lots_1 0 rfl rfl)
theorem dX1_lots_26 : decode cX1_lots 26 = .ok (.ifCond .eq 18, 3) := dk_153 0 18 (dk_at dksX1_lots_1 3 rfl rfl)
theorem dX1_lots_29 : decode cX1_lots 29 = .ok (.iload_n 3, 1) := dk_29 (dk_at dksX1_lots_1 6 rfl rfl)
theorem dX1_lots_30 : decode cX1_lots 30 = .ok (.aload_n 0, 1) := dk_42 (dk_at dksX1_lots_1 7 rfl rfl)
theorem dX1_lots_31 : decode cX1_lots 31 = .ok (.getfield 372, 3) := dk_180 1 116 (dk_at dksX1_lots_1 8 rfl rfl)
theorem dX1_lots_34 : decode cX1_lots 34 = .ok (.aload_n 0, 1) := dk_42 (dk_at dksX1_lots_1 11 rfl rfl)
theorem dX1_lots_35 : decode cX1_lots 35 = .ok (.getfield 375, 3) := dk_180 1 119 (dk_at dksX1_lots_1 12 rfl rfl)
theorem dX1_lots_38 : decode cX1_lots 38 = .ok (.invokestatic 299, 3) := dk_184 1 43 (dk_at dksX1_lots_1 15 rfl rfl)
theorem dX1_lots_41 : decode cX1_lots 41 = .ok (.if_icmp .le 7, 3) := dk_164 0 7 (dk_at dksX1_lots_1 18 rfl rfl)
theorem dX1_lots_44 : decode cX1_lots 44 = .ok (.ldc2_w 250, 3) := dk_20 0 250 (dk_at dksX1_lots_1 21 rfl rfl)
theorem dX1_lots_47 : decode cX1_lots 47 = .ok (.lreturn, 1) := dk_173 (dk_at dksX1_lots_2 0 rfl rfl)
theorem dX1_lots_48 : decode cX1_lots 48 = .ok (.aload_n 0, 1) := dk_42 (dk_at dksX1_lots_2 1 rfl rfl)
theorem dX1_lots_49 : decode cX1_lots 49 = .ok (.iload_n 3, 1) := dk_29 (dk_at dksX1_lots_2 2 rfl rfl)
theorem dX1_lots_50 : decode cX1_lots 50 = .ok (.invokevirtual 391, 3) := dk_182 1 135 (dk_at dksX1_lots_2 3 rfl rfl)
theorem dX1_lots_53 : decode cX1_lots 53 = .ok (.aload_n 0, 1) := dk_42 (dk_at dksX1_lots_2 6 rfl rfl)
theorem dX1_lots_54 : decode cX1_lots 54 = .ok (.getfield 243, 3) := dk_180 0 243 (dk_at dksX1_lots_2 7 rfl rfl)
theorem dX1_lots_57 : decode cX1_lots 57 = .ok (.aload_n 0, 1) := dk_42 (dk_at dksX1_lots_2 10 rfl rfl)
theorem dX1_lots_58 : decode cX1_lots 58 = .ok (.getfield 237, 3) := dk_180 0 237 (dk_at dksX1_lots_2 11 rfl rfl)
theorem dX1_lots_61 : decode cX1_lots 61 = .ok (.i2l, 1) := dk_133 (dk_at dksX1_lots_2 14 rfl rfl)
theorem dX1_lots_62 : decode cX1_lots 62 = .ok (.iload 4, 2) := dk_21 4 (dk_at dksX1_lots_2 15 rfl rfl)
theorem dX1_lots_64 : decode cX1_lots 64 = .ok (.invokestatic 218, 3) := dk_184 0 218 (dk_at dksX1_lots_2 17 rfl rfl)
theorem dX1_lots_67 : decode cX1_lots 67 = .ok (.lreturn, 1) := dk_173 (dk_at dksX1_lots_2 20 rfl rfl)
def dkwX1_lays_5 : List UInt8 := [132, 3, 1, 167, 255, 233, 4, 172]
abbrev dktX1_lays_5 : List UInt8 := dkwX1_lays_5 ++ []
def dkwX1_lays_4 : List UInt8 := [3, 62, 29, 42, 180, 1, 119, 162, 0, 21, 42, 180, 0, 99, 29, 42, 180, 0, 73, 29, 46, 79]
abbrev dktX1_lays_4 : List UInt8 := dkwX1_lays_4 ++ dktX1_lays_5
def dkwX1_lays_3 : List UInt8 := [42, 180, 0, 73, 29, 46, 79, 132, 3, 1, 167, 255, 233, 42, 42, 4, 27, 28, 182, 0, 233, 181, 1, 119]
abbrev dktX1_lays_3 : List UInt8 := dkwX1_lays_3 ++ dktX1_lays_4
def dkwX1_lays_2 : List UInt8 := [3, 27, 28, 182, 0, 233, 181, 1, 116, 3, 62, 29, 42, 180, 1, 116, 162, 0, 21, 42, 180, 0, 96, 29]
abbrev dktX1_lays_2 : List UInt8 := dkwX1_lays_2 ++ dktX1_lays_3
def dkwX1_lays_1 : List UInt8 := [180, 0, 182, 16, 9, 163, 0, 15, 42, 180, 0, 70, 180, 0, 182, 16, 9, 164, 0, 5, 3, 172, 42, 42]
abbrev dktX1_lays_1 : List UInt8 := dkwX1_lays_1 ++ dktX1_lays_2
def dkwX1_lays_0 : List UInt8 := [27, 28, 184, 0, 164, 153, 0, 37, 42, 27, 28, 2, 182, 0, 204, 153, 0, 27, 42, 180, 0, 66]
abbrev dktX1_lays_0 : List UInt8 := dkwX1_lays_0 ++ dktX1_lays_1
theorem dksX1_lays_0 : cX1_lays.data.toList.drop 0 = dktX1_lays_0 := by decide +kernel
theorem dksX1_lays_1 : cX1_lays.data.toList.drop 22 = dktX1_lays_1 := dk_seg dksX1_lays_0 22 rfl rfl
theorem dksX1_lays_2 : cX1_lays.data.toList.drop 46 = dktX1_lays_2 := dk_seg dksX1_lays_1 24 rfl rfl
theorem dksX1_lays_3 : cX1_lays.data.toList.drop 70 = dktX1_lays_3 := dk_seg dksX1_lays_2 24 rfl rfl
theorem dksX1_lays_4 : cX1_lays.data.toList.drop 94 = dktX1_lays_4 := dk_seg dksX1_lays_3 24 rfl rfl
theorem dksX1_lays_5 : cX1_lays.data.toList.drop 116 = dktX1_lays_5 := dk_seg dksX1_lays_4 22 rfl rfl
theorem dX1_lays_0 : decode cX1_lays 0 = .ok (.iload_n 1, 1) := dk_27 (dk_at dksX1_lays_0 0 rfl rfl)
theorem dX1_lays_1 : decode cX1_lays 1 = .ok (.iload_n 2, 1) := dk_28 (dk_at dksX1_lays_0 1 rfl rfl)
theorem dX1_lays_2 : decode cX1_lays 2 = .ok (.invokestatic 164, 3) := dk_184 0 164 (dk_at dksX1_lays_0 2 rfl rfl)
theorem dX1_lays_5 : decode cX1_lays 5 = .ok (.ifCond .eq 37, 3) := dk_153 0 37 (dk_at dksX1_lays_0 5 rfl rfl)
theorem dX1_lays_8 : decode cX1_lays 8 = .ok (.aload_n 0, 1) := dk_42 (dk_at dksX1_lays_0 8 rfl rfl)
theorem dX1_lays_9 : decode cX1_lays 9 = .ok (.iload_n 1, 1) := dk_27 (dk_at dksX1_lays_0 9 rfl rfl)
theorem dX1_lays_10 : decode cX1_lays 10 = .ok (.iload_n 2, 1) := dk_28 (dk_at dksX1_lays_0 10 rfl rfl)
theorem dX1_lays_11 : decode cX1_lays 11 = .ok (.iconst (-1), 1) := dk_2 (dk_at dksX1_lays_0 11 rfl rfl)
theorem dX1_lays_12 : decode cX1_lays 12 = .ok (.invokevirtual 204, 3) := dk_182 0 204 (dk_at dksX1_lays_0 12 rfl rfl)
theorem dX1_lays_15 : decode cX1_lays 15 = .ok (.ifCond .eq 27, 3) := dk_153 0 27 (dk_at dksX1_lays_0 15 rfl rfl)
theorem dX1_lays_18 : decode cX1_lays 18 = .ok (.aload_n 0, 1) := dk_42 (dk_at dksX1_lays_0 18 rfl rfl)
theorem dX1_lays_19 : decode cX1_lays 19 = .ok (.getfield 66, 3) := dk_180 0 66 (dk_at dksX1_lays_0 19 rfl rfl)
theorem dX1_lays_22 : decode cX1_lays 22 = .ok (.getfield 182, 3) := dk_180 0 182 (dk_at dksX1_lays_1 0 rfl rfl)
theorem dX1_lays_25 : decode cX1_lays 25 = .ok (.bipush 9, 2) := dk_16 9 (dk_at dksX1_lays_1 3 rfl rfl)
theorem dX1_lays_27 : decode cX1_lays 27 = .ok (.if_icmp .gt 15, 3) := dk_163 0 15 (dk_at dksX1_lays_1 5 rfl rfl)
theorem dX1_lays_30 : decode cX1_lays 30 = .ok (.aload_n 0, 1) := dk_42 (dk_at dksX1_lays_1 8 rfl rfl)
theorem dX1_lays_31 : decode cX1_lays 31 = .ok (.getfield 70, 3) := dk_180 0 70 (dk_at dksX1_lays_1 9 rfl rfl)
theorem dX1_lays_34 : decode cX1_lays 34 = .ok (.getfield 182, 3) := dk_180 0 182 (dk_at dksX1_lays_1 12 rfl rfl)
theorem dX1_lays_37 : decode cX1_lays 37 = .ok (.bipush 9, 2) := dk_16 9 (dk_at dksX1_lays_1 15 rfl rfl)
theorem dX1_lays_39 : decode cX1_lays 39 = .ok (.if_icmp .le 5, 3) := dk_164 0 5 (dk_at dksX1_lays_1 17 rfl rfl)
theorem dX1_lays_42 : decode cX1_lays 42 = .ok (.iconst 0, 1) := dk_3 (dk_at dksX1_lays_1 20 rfl rfl)
theorem dX1_lays_43 : decode cX1_lays 43 = .ok (.ireturn, 1) := dk_172 (dk_at dksX1_lays_1 21 rfl rfl)
theorem dX1_lays_44 : decode cX1_lays 44 = .ok (.aload_n 0, 1) := dk_42 (dk_at dksX1_lays_1 22 rfl rfl)
theorem dX1_lays_45 : decode cX1_lays 45 = .ok (.aload_n 0, 1) := dk_42 (dk_at dksX1_lays_1 23 rfl rfl)
theorem dX1_lays_46 : decode cX1_lays 46 = .ok (.iconst 0, 1) := dk_3 (dk_at dksX1_lays_2 0 rfl rfl)
theorem dX1_lays_47 : decode cX1_lays 47 = .ok (.iload_n 1, 1) := dk_27 (dk_at dksX1_lays_2 1 rfl rfl)
theorem dX1_lays_48 : decode cX1_lays 48 = .ok (.iload_n 2, 1) := dk_28 (dk_at dksX1_lays_2 2 rfl rfl)
theorem dX1_lays_49 : decode cX1_lays 49 = .ok (.invokevirtual 233, 3) := dk_182 0 233 (dk_at dksX1_lays_2 3 rfl rfl)
theorem dX1_lays_52 : decode cX1_lays 52 = .ok (.putfield 372, 3) := dk_181 1 116 (dk_at dksX1_lays_2 6 rfl rfl)
theorem dX1_lays_55 : decode cX1_lays 55 = .ok (.iconst 0, 1) := dk_3 (dk_at dksX1_lays_2 9 rfl rfl)
theorem dX1_lays_56 : decode cX1_lays 56 = .ok (.istore_n 3, 1) := dk_62 (dk_at dksX1_lays_2 10 rfl rfl)
theorem dX1_lays_57 : decode cX1_lays 57 = .ok (.iload_n 3, 1) := dk_29 (dk_at dksX1_lays_2 11 rfl rfl)
theorem dX1_lays_58 : decode cX1_lays 58 = .ok (.aload_n 0, 1) := dk_42 (dk_at dksX1_lays_2 12 rfl rfl)
theorem dX1_lays_59 : decode cX1_lays 59 = .ok (.getfield 372, 3) := dk_180 1 116 (dk_at dksX1_lays_2 13 rfl rfl)
theorem dX1_lays_62 : decode cX1_lays 62 = .ok (.if_icmp .ge 21, 3) := dk_162 0 21 (dk_at dksX1_lays_2 16 rfl rfl)
theorem dX1_lays_65 : decode cX1_lays 65 = .ok (.aload_n 0, 1) := dk_42 (dk_at dksX1_lays_2 19 rfl rfl)
theorem dX1_lays_66 : decode cX1_lays 66 = .ok (.getfield 96, 3) := dk_180 0 96 (dk_at dksX1_lays_2 20 rfl rfl)
theorem dX1_lays_69 : decode cX1_lays 69 = .ok (.iload_n 3, 1) := dk_29 (dk_at dksX1_lays_2 23 rfl rfl)
theorem dX1_lays_70 : decode cX1_lays 70 = .ok (.aload_n 0, 1) := dk_42 (dk_at dksX1_lays_3 0 rfl rfl)
theorem dX1_lays_71 : decode cX1_lays 71 = .ok (.getfield 73, 3) := dk_180 0 73 (dk_at dksX1_lays_3 1 rfl rfl)
theorem dX1_lays_74 : decode cX1_lays 74 = .ok (.iload_n 3, 1) := dk_29 (dk_at dksX1_lays_3 4 rfl rfl)
theorem dX1_lays_75 : decode cX1_lays 75 = .ok (.iaload, 1) := dk_46 (dk_at dksX1_lays_3 5 rfl rfl)
theorem dX1_lays_76 : decode cX1_lays 76 = .ok (.iastore, 1) := dk_79 (dk_at dksX1_lays_3 6 rfl rfl)
theorem dX1_lays_77 : decode cX1_lays 77 = .ok (.iinc 3 1, 3) := dk_132 3 1 (dk_at dksX1_lays_3 7 rfl rfl)
theorem dX1_lays_80 : decode cX1_lays 80 = .ok (.goto (-23), 3) := dk_167 255 233 (dk_at dksX1_lays_3 10 rfl rfl)
theorem dX1_lays_83 : decode cX1_lays 83 = .ok (.aload_n 0, 1) := dk_42 (dk_at dksX1_lays_3 13 rfl rfl)
theorem dX1_lays_84 : decode cX1_lays 84 = .ok (.aload_n 0, 1) := dk_42 (dk_at dksX1_lays_3 14 rfl rfl)
theorem dX1_lays_85 : decode cX1_lays 85 = .ok (.iconst 1, 1) := dk_4 (dk_at dksX1_lays_3 15 rfl rfl)
theorem dX1_lays_86 : decode cX1_lays 86 = .ok (.iload_n 1, 1) := dk_27 (dk_at dksX1_lays_3 16 rfl rfl)
theorem dX1_lays_87 : decode cX1_lays 87 = .ok (.iload_n 2, 1) := dk_28 (dk_at dksX1_lays_3 17 rfl rfl)
theorem dX1_lays_88 : decode cX1_lays 88 = .ok (.invokevirtual 233, 3) := dk_182 0 233 (dk_at dksX1_lays_3 18 rfl rfl)
theorem dX1_lays_91 : decode cX1_lays 91 = .ok (.putfield 375, 3) := dk_181 1 119 (dk_at dksX1_lays_3 21 rfl rfl)
theorem dX1_lays_94 : decode cX1_lays 94 = .ok (.iconst 0, 1) := dk_3 (dk_at dksX1_lays_4 0 rfl rfl)
theorem dX1_lays_95 : decode cX1_lays 95 = .ok (.istore_n 3, 1) := dk_62 (dk_at dksX1_lays_4 1 rfl rfl)
theorem dX1_lays_96 : decode cX1_lays 96 = .ok (.iload_n 3, 1) := dk_29 (dk_at dksX1_lays_4 2 rfl rfl)
theorem dX1_lays_97 : decode cX1_lays 97 = .ok (.aload_n 0, 1) := dk_42 (dk_at dksX1_lays_4 3 rfl rfl)
theorem dX1_lays_98 : decode cX1_lays 98 = .ok (.getfield 375, 3) := dk_180 1 119 (dk_at dksX1_lays_4 4 rfl rfl)
theorem dX1_lays_101 : decode cX1_lays 101 = .ok (.if_icmp .ge 21, 3) := dk_162 0 21 (dk_at dksX1_lays_4 7 rfl rfl)
theorem dX1_lays_104 : decode cX1_lays 104 = .ok (.aload_n 0, 1) := dk_42 (dk_at dksX1_lays_4 10 rfl rfl)
theorem dX1_lays_105 : decode cX1_lays 105 = .ok (.getfield 99, 3) := dk_180 0 99 (dk_at dksX1_lays_4 11 rfl rfl)
theorem dX1_lays_108 : decode cX1_lays 108 = .ok (.iload_n 3, 1) := dk_29 (dk_at dksX1_lays_4 14 rfl rfl)
theorem dX1_lays_109 : decode cX1_lays 109 = .ok (.aload_n 0, 1) := dk_42 (dk_at dksX1_lays_4 15 rfl rfl)
theorem dX1_lays_110 : decode cX1_lays 110 = .ok (.getfield 73, 3) := dk_180 0 73 (dk_at dksX1_lays_4 16 rfl rfl)
theorem dX1_lays_113 : decode cX1_lays 113 = .ok (.iload_n 3, 1) := dk_29 (dk_at dksX1_lays_4 19 rfl rfl)
theorem dX1_lays_114 : decode cX1_lays 114 = .ok (.iaload, 1) := dk_46 (dk_at dksX1_lays_4 20 rfl rfl)
theorem dX1_lays_115 : decode cX1_lays 115 = .ok (.iastore, 1) := dk_79 (dk_at dksX1_lays_4 21 rfl rfl)
theorem dX1_lays_116 : decode cX1_lays 116 = .ok (.iinc 3 1, 3) := dk_132 3 1 (dk_at dksX1_lays_5 0 rfl rfl)
theorem dX1_lays_119 : decode cX1_lays 119 = .ok (.goto (-23), 3) := dk_167 255 233 (dk_at dksX1_lays_5 3 rfl rfl)
theorem dX1_lays_122 : decode cX1_lays 122 = .ok (.iconst 1, 1) := dk_4 (dk_at dksX1_lays_5 6 rfl rfl)
theorem dX1_lays_123 : decode cX1_lays 123 = .ok (.ireturn, 1) := dk_172 (dk_at dksX1_lays_5 7 rfl rfl)
def dkwX1_sorts_5 : List UInt8 := [132, 5, 1, 167, 255, 142, 21, 4, 172]
abbrev dktX1_sorts_5 : List UInt8 := dkwX1_sorts_5 ++ []
def dkwX1_sorts_4 : List UInt8 := [180, 0, 73, 21, 7, 4, 100, 46, 79, 132, 7, 255, 167, 255, 218, 42, 180, 0, 73, 21, 7, 21, 6, 79]
abbrev dktX1_sorts_4 : List UInt8 := dkwX1_sorts_4 ++ dktX1_sorts_5
def dkwX1_sorts_3 : List UInt8 := [158, 0, 39, 42, 180, 0, 73, 21, 7, 4, 100, 46, 21, 6, 164, 0, 25, 42, 180, 0, 73, 21, 7, 42]
abbrev dktX1_sorts_3 : List UInt8 := dkwX1_sorts_3 ++ dktX1_sorts_4
def dkwX1_sorts_2 : List UInt8 := [42, 180, 0, 21, 21, 5, 50, 28, 29, 182, 0, 175, 54, 6, 21, 4, 132, 4, 1, 54, 7, 21, 7]
abbrev dktX1_sorts_2 : List UInt8 := dkwX1_sorts_2 ++ dktX1_sorts_3
def dkwX1_sorts_1 : List UInt8 := [182, 0, 172, 153, 0, 92, 42, 180, 0, 21, 21, 5, 50, 180, 0, 124, 27, 159, 0, 6, 167, 0, 75, 42]
abbrev dktX1_sorts_1 : List UInt8 := dkwX1_sorts_1 ++ dktX1_sorts_2
def dkwX1_sorts_0 : List UInt8 := [3, 54, 4, 3, 54, 5, 21, 5, 16, 24, 162, 0, 113, 42, 180, 0, 21, 21, 5, 50, 28, 29]
abbrev dktX1_sorts_0 : List UInt8 := dkwX1_sorts_0 ++ dktX1_sorts_1
theorem dksX1_sorts_0 : cX1_sorts.data.toList.drop 0 = dktX1_sorts_0 := by decide +kernel
theorem dksX1_sorts_1 : cX1_sorts.data.toList.drop 22 = dktX1_sorts_1 := dk_seg dksX1_sorts_0 22 rfl rfl
theorem dksX1_sorts_2 : cX1_sorts.data.toList.drop 46 = dktX1_sorts_2 := dk_seg dksX1_sorts_1 24 rfl rfl
theorem dksX1_sorts_3 : cX1_sorts.data.toList.drop 69 = dktX1_sorts_3 := dk_seg dksX1_sorts_2 23 rfl rfl
theorem dksX1_sorts_4 : cX1_sorts.data.toList.drop 93 = dktX1_sorts_4 := dk_seg dksX1_sorts_3 24 rfl rfl
theorem dksX1_sorts_5 : cX1_sorts.data.toList.drop 117 = dktX1_sorts_5 := dk_seg dksX1_sorts_4 24 rfl rfl
theorem dX1_sorts_0 : decode cX1_sorts 0 = .ok (.iconst 0, 1) := dk_3 (dk_at dksX1_sorts_0 0 rfl rfl)
theorem dX1_sorts_1 : decode cX1_sorts 1 = .ok (.istore 4, 2) := dk_54 4 (dk_at dksX1_sorts_0 1 rfl rfl)
theorem dX1_sorts_3 : decode cX1_sorts 3 = .ok (.iconst 0, 1) := dk_3 (dk_at dksX1_sorts_0 3 rfl rfl)
theorem dX1_sorts_4 : decode cX1_sorts 4 = .ok (.istore 5, 2) := dk_54 5 (dk_at dksX1_sorts_0 4 rfl rfl)
theorem dX1_sorts_6 : decode cX1_sorts 6 = .ok (.iload 5, 2) := dk_21 5 (dk_at dksX1_sorts_0 6 rfl rfl)
theorem dX1_sorts_8 : decode cX1_sorts 8 = .ok (.bipush 24, 2) := dk_16 24 (dk_at dksX1_sorts_0 8 rfl rfl)
theorem dX1_sorts_10 : decode cX1_sorts 10 = .ok (.if_icmp .ge 113, 3) := dk_162 0 113 (dk_at dksX1_sorts_0 10 rfl rfl)
theorem dX1_sorts_13 : decode cX1_sorts 13 = .ok (.aload_n 0, 1) := dk_42 (dk_at dksX1_sorts_0 13 rfl rfl)
theorem dX1_sorts_14 : decode cX1_sorts 14 = .ok (.getfield 21, 3) := dk_180 0 21 (dk_at dksX1_sorts_0 14 rfl rfl)
theorem dX1_sorts_17 : decode cX1_sorts 17 = .ok (.iload 5, 2) := dk_21 5 (dk_at dksX1_sorts_0 17 rfl rfl)
theorem dX1_sorts_19 : decode cX1_sorts 19 = .ok (.aaload, 1) := dk_50 (dk_at dksX1_sorts_0 19 rfl rfl)
theorem dX1_sorts_20 : decode cX1_sorts 20 = .ok (.iload_n 2, 1) := dk_28 (dk_at dksX1_sorts_0 20 rfl rfl)
theorem dX1_sorts_21 : decode cX1_sorts 21 = .ok (.iload_n 3, 1) := dk_29 (dk_at dksX1_sorts_0 21 rfl rfl)
theorem dX1_sorts_22 : decode cX1_sorts 22 = .ok (.invokevirtual 172, 3) := dk_182 0 172 (dk_at dksX1_sorts_1 0 rfl rfl)
theorem dX1_sorts_25 : decode cX1_sorts 25 = .ok (.ifCond .eq 92, 3) := dk_153 0 92 (dk_at dksX1_sorts_1 3 rfl rfl)
theorem dX1_sorts_28 : decode cX1_sorts 28 = .ok (.aload_n 0, 1) := dk_42 (dk_at dksX1_sorts_1 6 rfl rfl)
theorem dX1_sorts_29 : decode cX1_sorts 29 = .ok (.getfield 21, 3) := dk_180 0 21 (dk_at dksX1_sorts_1 7 rfl rfl)
theorem dX1_sorts_32 : decode cX1_sorts 32 = .ok (.iload 5, 2) := dk_21 5 (dk_at dksX1_sorts_1 10 rfl rfl)
theorem dX1_sorts_34 : decode cX1_sorts 34 = .ok (.aaload, 1) := dk_50 (dk_at dksX1_sorts_1 12 rfl rfl)
theorem dX1_sorts_35 : decode cX1_sorts 35 = .ok (.getfield 124, 3) := dk_180 0 124 (dk_at dksX1_sorts_1 13 rfl rfl)
theorem dX1_sorts_38 : decode cX1_sorts 38 = .ok (.iload_n 1, 1) := dk_27 (dk_at dksX1_sorts_1 16 rfl rfl)
theorem dX1_sorts_39 : decode cX1_sorts 39 = .ok (.if_icmp .eq 6, 3) := dk_159 0 6 (dk_at dksX1_sorts_1 17 rfl rfl)
theorem dX1_sorts_42 : decode cX1_sorts 42 = .ok (.goto 75, 3) := dk_167 0 75 (dk_at dksX1_sorts_1 20 rfl rfl)
theorem dX1_sorts_45 : decode cX1_sorts 45 = .ok (.aload_n 0, 1) := dk_42 (dk_at dksX1_sorts_1 23 rfl rfl)
theorem dX1_sorts_46 : decode cX1_sorts 46 = .ok (.aload_n 0, 1) := dk_42 (dk_at dksX1_sorts_2 0 rfl rfl)
theorem dX1_sorts_47 : decode cX1_sorts 47 = .ok (.getfield 21, 3) := dk_180 0 21 (dk_at dksX1_sorts_2 1 rfl rfl)
theorem dX1_sorts_50 : decode cX1_sorts 50 = .ok (.iload 5, 2) := dk_21 5 (dk_at dksX1_sorts_2 4 rfl rfl)
theorem dX1_sorts_52 : decode cX1_sorts 52 = .ok (.aaload, 1) := dk_50 (dk_at dksX1_sorts_2 6 rfl rfl)
theorem dX1_sorts_53 : decode cX1_sorts 53 = .ok (.iload_n 2, 1) := dk_28 (dk_at dksX1_sorts_2 7 rfl rfl)
theorem dX1_sorts_54 : decode cX1_sorts 54 = .ok (.iload_n 3, 1) := dk_29 (dk_at dksX1_sorts_2 8 rfl rfl)
theorem dX1_sorts_55 : decode cX1_sorts 55 = .ok (.invokevirtual 175, 3) := dk_182 0 175 (dk_at dksX1_sorts_2 9 rfl rfl)
theorem dX1_sorts_58 : decode cX1_sorts 58 = .ok (.istore 6, 2) := dk_54 6 (dk_at dksX1_sorts_2 12 rfl rfl)
theorem dX1_sorts_60 : decode cX1_sorts 60 = .ok (.iload 4, 2) := dk_21 4 (dk_at dksX1_sorts_2 14 rfl rfl)
theorem dX1_sorts_62 : decode cX1_sorts 62 = .ok (.iinc 4 1, 3) := dk_132 4 1 (dk_at dksX1_sorts_2 16 rfl rfl)
theorem dX1_sorts_65 : decode cX1_sorts 65 = .ok (.istore 7, 2) := dk_54 7 (dk_at dksX1_sorts_2 19 rfl rfl)
theorem dX1_sorts_67 : decode cX1_sorts 67 = .ok (.iload 7, 2) := dk_21 7 (dk_at dksX1_sorts_2 21 rfl rfl)
theorem dX1_sorts_69 : decode cX1_sorts 69 = .ok (.ifCond .le 39, 3) := dk_158 0 39 (dk_at dksX1_sorts_3 0 rfl rfl)
theorem dX1_sorts_72 : decode cX1_sorts 72 = .ok (.aload_n 0, 1) := dk_42 (dk_at dksX1_sorts_3 3 rfl rfl)
theorem dX1_sorts_73 : decode cX1_sorts 73 = .ok (.getfield 73, 3) := dk_180 0 73 (dk_at dksX1_sorts_3 4 rfl rfl)
theorem dX1_sorts_76 : decode cX1_sorts 76 = .ok (.iload 7, 2) := dk_21 7 (dk_at dksX1_sorts_3 7 rfl rfl)
theorem dX1_sorts_78 : decode cX1_sorts 78 = .ok (.iconst 1, 1) := dk_4 (dk_at dksX1_sorts_3 9 rfl rfl)
theorem dX1_sorts_79 : decode cX1_sorts 79 = .ok (.isub, 1) := dk_100 (dk_at dksX1_sorts_3 10 rfl rfl)
theorem dX1_sorts_80 : decode cX1_sorts 80 = .ok (.iaload, 1) := dk_46 (dk_at dksX1_sorts_3 11 rfl rfl)
theorem dX1_sorts_81 : decode cX1_sorts 81 = .ok (.iload 6, 2) := dk_21 6 (dk_at dksX1_sorts_3 12 rfl rfl)
theorem dX1_sorts_83 : decode cX1_sorts 83 = .ok (.if_icmp .le 25, 3) := dk_164 0 25 (dk_at dksX1_sorts_3 14 rfl rfl)
theorem dX1_sorts_86 : decode cX1_sorts 86 = .ok (.aload_n 0, 1) := dk_42 (dk_at dksX1_sorts_3 17 rfl rfl)
theorem dX1_sorts_87 : decode cX1_sorts 87 = .ok (.getfield 73, 3) := dk_180 0 73 (dk_at dksX1_sorts_3 18 rfl rfl)
theorem dX1_sorts_90 : decode cX1_sorts 90 = .ok (.iload 7, 2) := dk_21 7 (dk_at dksX1_sorts_3 21 rfl rfl)
theorem dX1_sorts_92 : decode cX1_sorts 92 = .ok (.aload_n 0, 1) := dk_42 (dk_at dksX1_sorts_3 23 rfl rfl)
theorem dX1_sorts_93 : decode cX1_sorts 93 = .ok (.getfield 73, 3) := dk_180 0 73 (dk_at dksX1_sorts_4 0 rfl rfl)
theorem dX1_sorts_96 : decode cX1_sorts 96 = .ok (.iload 7, 2) := dk_21 7 (dk_at dksX1_sorts_4 3 rfl rfl)
theorem dX1_sorts_98 : decode cX1_sorts 98 = .ok (.iconst 1, 1) := dk_4 (dk_at dksX1_sorts_4 5 rfl rfl)
theorem dX1_sorts_99 : decode cX1_sorts 99 = .ok (.isub, 1) := dk_100 (dk_at dksX1_sorts_4 6 rfl rfl)
theorem dX1_sorts_100 : decode cX1_sorts 100 = .ok (.iaload, 1) := dk_46 (dk_at dksX1_sorts_4 7 rfl rfl)
theorem dX1_sorts_101 : decode cX1_sorts 101 = .ok (.iastore, 1) := dk_79 (dk_at dksX1_sorts_4 8 rfl rfl)
theorem dX1_sorts_102 : decode cX1_sorts 102 = .ok (.iinc 7 (-1), 3) := dk_132 7 255 (dk_at dksX1_sorts_4 9 rfl rfl)
theorem dX1_sorts_105 : decode cX1_sorts 105 = .ok (.goto (-38), 3) := dk_167 255 218 (dk_at dksX1_sorts_4 12 rfl rfl)
theorem dX1_sorts_108 : decode cX1_sorts 108 = .ok (.aload_n 0, 1) := dk_42 (dk_at dksX1_sorts_4 15 rfl rfl)
theorem dX1_sorts_109 : decode cX1_sorts 109 = .ok (.getfield 73, 3) := dk_180 0 73 (dk_at dksX1_sorts_4 16 rfl rfl)
theorem dX1_sorts_112 : decode cX1_sorts 112 = .ok (.iload 7, 2) := dk_21 7 (dk_at dksX1_sorts_4 19 rfl rfl)
theorem dX1_sorts_114 : decode cX1_sorts 114 = .ok (.iload 6, 2) := dk_21 6 (dk_at dksX1_sorts_4 21 rfl rfl)
theorem dX1_sorts_116 : decode cX1_sorts 116 = .ok (.iastore, 1) := dk_79 (dk_at dksX1_sorts_4 23 rfl rfl)
theorem dX1_sorts_117 : decode cX1_sorts 117 = .ok (.iinc 5 1, 3) := dk_132 5 1 (dk_at dksX1_sorts_5 0 rfl rfl)
theorem dX1_sorts_120 : decode cX1_sorts 120 = .ok (.goto (-114), 3) := dk_167 255 142 (dk_at dksX1_sorts_5 3 rfl rfl)
theorem dX1_sorts_123 : decode cX1_sorts 123 = .ok (.iload 4, 2) := dk_21 4 (dk_at dksX1_sorts_5 6 rfl rfl)
theorem dX1_sorts_125 : decode cX1_sorts 125 = .ok (.ireturn, 1) := dk_172 (dk_at dksX1_sorts_5 8 rfl rfl)
def dkwX1_draws_5 : List UInt8 := [132, 3, 1, 167, 255, 158, 177]
abbrev dktX1_draws_5 : List UInt8 := dkwX1_draws_5 ++ []
def dkwX1_draws_4 : List UInt8 := [184, 1, 130, 28, 160, 0, 13, 42, 89, 180, 0, 243, 10, 97, 181, 0, 243, 132, 4, 1, 167, 255, 177]
abbrev dktX1_draws_4 : List UInt8 := dkwX1_draws_4 ++ dktX1_draws_5
def dkwX1_draws_3 : List UInt8 := [4, 96, 181, 0, 237, 42, 180, 0, 96, 29, 184, 1, 127, 42, 180, 0, 99, 21, 4, 184, 1, 127, 100]
abbrev dktX1_draws_3 : List UInt8 := dkwX1_draws_3 ++ dktX1_draws_4
def dkwX1_draws_2 : List UInt8 := [184, 1, 122, 27, 160, 0, 66, 21, 4, 184, 1, 122, 27, 159, 0, 6, 167, 0, 48, 42, 89, 180, 0, 237]
abbrev dktX1_draws_2 : List UInt8 := dkwX1_draws_2 ++ dktX1_draws_3
def dkwX1_draws_1 : List UInt8 := [180, 1, 116, 120, 162, 0, 94, 3, 54, 4, 21, 4, 4, 42, 180, 1, 119, 120, 162, 0, 74, 29]
abbrev dktX1_draws_1 : List UInt8 := dkwX1_draws_1 ++ dktX1_draws_2
def dkwX1_draws_0 : List UInt8 := [42, 182, 0, 211, 184, 1, 60, 61, 42, 9, 181, 0, 243, 42, 3, 181, 0, 237, 3, 62, 29, 4, 42]
abbrev dktX1_draws_0 : List UInt8 := dkwX1_draws_0 ++ dktX1_draws_1
theorem dksX1_draws_0 : cX1_draws.data.toList.drop 0 = dktX1_draws_0 := by decide +kernel
theorem dksX1_draws_1 : cX1_draws.data.toList.drop 23 = dktX1_draws_1 := dk_seg dksX1_draws_0 23 rfl rfl
theorem dksX1_draws_2 : cX1_draws.data.toList.drop 45 = dktX1_draws_2 := dk_seg dksX1_draws_1 22 rfl rfl
theorem dksX1_draws_3 : cX1_draws.data.toList.drop 69 = dktX1_draws_3 := dk_seg dksX1_draws_2 24 rfl rfl
theorem dksX1_draws_4 : cX1_draws.data.toList.drop 92 = dktX1_draws_4 := dk_seg dksX1_draws_3 23 rfl rfl
theorem dksX1_draws_5 : cX1_draws.data.toList.drop 115 = dktX1_draws_5 := dk_seg dksX1_draws_4 23 rfl rfl
theorem dX1_draws_0 : decode cX1_draws 0 = .ok (.aload_n 0, 1) := dk_42 (dk_at dksX1_draws_0 0 rfl rfl)
theorem dX1_draws_1 : decode cX1_draws 1 = .ok (.invokevirtual 211, 3) := dk_182 0 211 (dk_at dksX1_draws_0 1 rfl rfl)
theorem dX1_draws_4 : decode cX1_draws 4 = .ok (.invokestatic 316, 3) := dk_184 1 60 (dk_at dksX1_draws_0 4 rfl rfl)
theorem dX1_draws_7 : decode cX1_draws 7 = .ok (.istore_n 2, 1) := dk_61 (dk_at dksX1_draws_0 7 rfl rfl)
theorem dX1_draws_8 : decode cX1_draws 8 = .ok (.aload_n 0, 1) := dk_42 (dk_at dksX1_draws_0 8 rfl rfl)
theorem dX1_draws_9 : decode cX1_draws 9 = .ok (.lconst 0, 1) := dk_9 (dk_at dksX1_draws_0 9 rfl rfl)
theorem dX1_draws_10 : decode cX1_draws 10 = .ok (.putfield 243, 3) := dk_181 0 243 (dk_at dksX1_draws_0 10 rfl rfl)
theorem dX1_draws_13 : decode cX1_draws 13 = .ok (.aload_n 0, 1) := dk_42 (dk_at dksX1_draws_0 13 rfl rfl)
theorem dX1_draws_14 : decode cX1_draws 14 = .ok (.iconst 0, 1) := dk_3 (dk_at dksX1_draws_0 14 rfl rfl)
theorem dX1_draws_15 : decode cX1_draws 15 = .ok (.putfield 237, 3) := dk_181 0 237 (dk_at dksX1_draws_0 15 rfl rfl)
theorem dX1_draws_18 : decode cX1_draws 18 = .ok (.iconst 0, 1) := dk_3 (dk_at dksX1_draws_0 18 rfl rfl)
theorem dX1_draws_19 : decode cX1_draws 19 = .ok (.istore_n 3, 1) := dk_62 (dk_at dksX1_draws_0 19 rfl rfl)
theorem dX1_draws_20 : decode cX1_draws 20 = .ok (.iload_n 3, 1) := dk_29 (dk_at dksX1_draws_0 20 rfl rfl)
theorem dX1_draws_21 : decode cX1_draws 21 = .ok (.iconst 1, 1) := dk_4 (dk_at dksX1_draws_0 21 rfl rfl)
theorem dX1_draws_22 : decode cX1_draws 22 = .ok (.aload_n 0, 1) := dk_42 (dk_at dksX1_draws_0 22 rfl rfl)
theorem dX1_draws_23 : decode cX1_draws 23 = .ok (.getfield 372, 3) := dk_180 1 116 (dk_at dksX1_draws_1 0 rfl rfl)
theorem dX1_draws_26 : decode cX1_draws 26 = .ok (.ishl, 1) := dk_120 (dk_at dksX1_draws_1 3 rfl rfl)
theorem dX1_draws_27 : decode cX1_draws 27 = .ok (.if_icmp .ge 94, 3) := dk_162 0 94 (dk_at dksX1_draws_1 4 rfl rfl)
theorem dX1_draws_30 : decode cX1_draws 30 = .ok (.iconst 0, 1) := dk_3 (dk_at dksX1_draws_1 7 rfl rfl)
theorem dX1_draws_31 : decode cX1_draws 31 = .ok (.istore 4, 2) := dk_54 4 (dk_at dksX1_draws_1 8 rfl rfl)
theorem dX1_draws_33 : decode cX1_draws 33 = .ok (.iload 4, 2) := dk_21 4 (dk_at dksX1_draws_1 10 rfl rfl)
theorem dX1_draws_35 : decode cX1_draws 35 = .ok (.iconst 1, 1) := dk_4 (dk_at dksX1_draws_1 12 rfl rfl)
theorem dX1_draws_36 : decode cX1_draws 36 = .ok (.aload_n 0, 1) := dk_42 (dk_at dksX1_draws_1 13 rfl rfl)
theorem dX1_draws_37 : decode cX1_draws 37 = .ok (.getfield 375, 3) := dk_180 1 119 (dk_at dksX1_draws_1 14 rfl rfl)
theorem dX1_draws_40 : decode cX1_draws 40 = .ok (.ishl, 1) := dk_120 (dk_at dksX1_draws_1 17 rfl rfl)
theorem dX1_draws_41 : decode cX1_draws 41 = .ok (.if_icmp .ge 74, 3) := dk_162 0 74 (dk_at dksX1_draws_1 18 rfl rfl)
theorem dX1_draws_44 : decode cX1_draws 44 = .ok (.iload_n 3, 1) := dk_29 (dk_at dksX1_draws_1 21 rfl rfl)
theorem dX1_draws_45 : decode cX1_draws 45 = .ok (.invokestatic 378, 3) := dk_184 1 122 (dk_at dksX1_draws_2 0 rfl rfl)
theorem dX1_draws_48 : decode cX1_draws 48 = .ok (.iload_n 1, 1) := dk_27 (dk_at dksX1_draws_2 3 rfl rfl)
theorem dX1_draws_49 : decode cX1_draws 49 = .ok (.if_icmp .ne 66, 3) := dk_160 0 66 (dk_at dksX1_draws_2 4 rfl rfl)
theorem dX1_draws_52 : decode cX1_draws 52 = .ok (.iload 4, 2) := dk_21 4 (dk_at dksX1_draws_2 7 rfl rfl)
theorem dX1_draws_54 : decode cX1_draws 54 = .ok (.invokestatic 378, 3) := dk_184 1 122 (dk_at dksX1_draws_2 9 rfl rfl)
theorem dX1_draws_57 : decode cX1_draws 57 = .ok (.iload_n 1, 1) := dk_27 (dk_at dksX1_draws_2 12 rfl rfl)
theorem dX1_draws_58 : decode cX1_draws 58 = .ok (.if_icmp .eq 6, 3) := dk_159 0 6 (dk_at dksX1_draws_2 13 rfl rfl)
theorem dX1_draws_61 : decode cX1_draws 61 = .ok (.goto 48, 3) := dk_167 0 48 (dk_at dksX1_draws_2 16 rfl rfl)
theorem dX1_draws_64 : decode cX1_draws 64 = .ok (.aload_n 0, 1) := dk_42 (dk_at dksX1_draws_2 19 rfl rfl)
theorem dX1_draws_65 : decode cX1_draws 65 = .ok (.dup, 1) := dk_89 (dk_at dksX1_draws_2 20 rfl rfl)
theorem dX1_draws_66 : decode cX1_draws 66 = .ok (.getfield 237, 3) := dk_180 0 237 (dk_at dksX1_draws_2 21 rfl rfl)
theorem dX1_draws_69 : decode cX1_draws 69 = .ok (.iconst 1, 1) := dk_4 (dk_at dksX1_draws_3 0 rfl rfl)
theorem dX1_draws_70 : decode cX1_draws 70 = .ok (.iadd, 1) := dk_96 (dk_at dksX1_draws_3 1 rfl rfl)
theorem dX1_draws_71 : decode cX1_draws 71 = .ok (.putfield 237, 3) := dk_181 0 237 (dk_at dksX1_draws_3 2 rfl rfl)
theorem dX1_draws_74 : decode cX1_draws 74 = .ok (.aload_n 0, 1) := dk_42 (dk_at dksX1_draws_3 5 rfl rfl)
theorem dX1_draws_75 : decode cX1_draws 75 = .ok (.getfield 96, 3) := dk_180 0 96 (dk_at dksX1_draws_3 6 rfl rfl)
theorem dX1_draws_78 : decode cX1_draws 78 = .ok (.iload_n 3, 1) := dk_29 (dk_at dksX1_draws_3 9 rfl rfl)
theorem dX1_draws_79 : decode cX1_draws 79 = .ok (.invokestatic 383, 3) := dk_184 1 127 (dk_at dksX1_draws_3 10 rfl rfl)
theorem dX1_draws_82 : decode cX1_draws 82 = .ok (.aload_n 0, 1) := dk_42 (dk_at dksX1_draws_3 13 rfl rfl)
theorem dX1_draws_83 : decode cX1_draws 83 = .ok (.getfield 99, 3) := dk_180 0 99 (dk_at dksX1_draws_3 14 rfl rfl)
theorem dX1_draws_86 : decode cX1_draws 86 = .ok (.iload 4, 2) := dk_21 4 (dk_at dksX1_draws_3 17 rfl rfl)
theorem dX1_draws_88 : decode cX1_draws 88 = .ok (.invokestatic 383, 3) := dk_184 1 127 (dk_at dksX1_draws_3 19 rfl rfl)
theorem dX1_draws_91 : decode cX1_draws 91 = .ok (.isub, 1) := dk_100 (dk_at dksX1_draws_3 22 rfl rfl)
theorem dX1_draws_92 : decode cX1_draws 92 = .ok (.invokestatic 386, 3) := dk_184 1 130 (dk_at dksX1_draws_4 0 rfl rfl)
theorem dX1_draws_95 : decode cX1_draws 95 = .ok (.iload_n 2, 1) := dk_28 (dk_at dksX1_draws_4 3 rfl rfl)
theorem dX1_draws_96 : decode cX1_draws 96 = .ok (.if_icmp .ne 13, 3) := dk_160 0 13 (dk_at dksX1_draws_4 4 rfl rfl)
theorem dX1_draws_99 : decode cX1_draws 99 = .ok (.aload_n 0, 1) := dk_42 (dk_at dksX1_draws_4 7 rfl rfl)
theorem dX1_draws_100 : decode cX1_draws 100 = .ok (.dup, 1) := dk_89 (dk_at dksX1_draws_4 8 rfl rfl)
theorem dX1_draws_101 : decode cX1_draws 101 = .ok (.getfield 243, 3) := dk_180 0 243 (dk_at dksX1_draws_4 9 rfl rfl)
theorem dX1_draws_104 : decode cX1_draws 104 = .ok (.lconst 1, 1) := dk_10 (dk_at dksX1_draws_4 12 rfl rfl)
theorem dX1_draws_105 : decode cX1_draws 105 = .ok (.ladd, 1) := dk_97 (dk_at dksX1_draws_4 13 rfl rfl)
theorem dX1_draws_106 : decode cX1_draws 106 = .ok (.putfield 243, 3) := dk_181 0 243 (dk_at dksX1_draws_4 14 rfl rfl)
theorem dX1_draws_109 : decode cX1_draws 109 = .ok (.iinc 4 1, 3) := dk_132 4 1 (dk_at dksX1_draws_4 17 rfl rfl)
theorem dX1_draws_112 : decode cX1_draws 112 = .ok (.goto (-79), 3) := dk_167 255 177 (dk_at dksX1_draws_4 20 rfl rfl)
theorem dX1_draws_115 : decode cX1_draws 115 = .ok (.iinc 3 1, 3) := dk_132 3 1 (dk_at dksX1_draws_5 0 rfl rfl)
theorem dX1_draws_118 : decode cX1_draws 118 = .ok (.goto (-98), 3) := dk_167 255 158 (dk_at dksX1_draws_5 3 rfl rfl)
theorem dX1_draws_121 : decode cX1_draws 121 = .ok (.return_, 1) := dk_177 (dk_at dksX1_draws_5 6 rfl rfl)
def dkwX1_sum_1 : List UInt8 := [61, 132, 3, 1, 167, 255, 232, 28, 172]
abbrev dktX1_sum_1 : List UInt8 := dkwX1_sum_1 ++ []
def dkwX1_sum_0 : List UInt8 := [3, 61, 3, 62, 27, 29, 122, 153, 0, 24, 27, 29, 122, 4, 126, 4, 160, 0, 9, 28, 42, 29, 46, 96]
abbrev dktX1_sum_0 : List UInt8 := dkwX1_sum_0 ++ dktX1_sum_1
theorem dksX1_sum_0 : cX1_sum.data.toList.drop 0 = dktX1_sum_0 := by decide +kernel
theorem dksX1_sum_1 : cX1_sum.data.toList.drop 24 = dktX1_sum_1 := dk_seg dksX1_sum_0 24 rfl rfl
theorem dX1_sum_0 : decode cX1_sum 0 = .ok (.iconst 0, 1) := dk_3 (dk_at dksX1_sum_0 0 rfl rfl)
theorem dX1_sum_1 : decode cX1_sum 1 = .ok (.istore_n 2, 1) := dk_61 (dk_at dksX1_sum_0 1 rfl rfl)
theorem dX1_sum_2 : decode cX1_sum 2 = .ok (.iconst 0, 1) := dk_3 (dk_at dksX1_sum_0 2 rfl rfl)
theorem dX1_sum_3 : decode cX1_sum 3 = .ok (.istore_n 3, 1) := dk_62 (dk_at dksX1_sum_0 3 rfl rfl)
theorem dX1_sum_4 : decode cX1_sum 4 = .ok (.iload_n 1, 1) := dk_27 (dk_at dksX1_sum_0 4 rfl rfl)
theorem dX1_sum_5 : decode cX1_sum 5 = .ok (.iload_n 3, 1) := dk_29 (dk_at dksX1_sum_0 5 rfl rfl)
theorem dX1_sum_6 : decode cX1_sum 6 = .ok (.ishr, 1) := dk_122 (dk_at dksX1_sum_0 6 rfl rfl)
theorem dX1_sum_7 : decode cX1_sum 7 = .ok (.ifCond .eq 24, 3) := dk_153 0 24 (dk_at dksX1_sum_0 7 rfl rfl)
theorem dX1_sum_10 : decode cX1_sum 10 = .ok (.iload_n 1, 1) := dk_27 (dk_at dksX1_sum_0 10 rfl rfl)
theorem dX1_sum_11 : decode cX1_sum 11 = .ok (.iload_n 3, 1) := dk_29 (dk_at dksX1_sum_0 11 rfl rfl)
theorem dX1_sum_12 : decode cX1_sum 12 = .ok (.ishr, 1) := dk_122 (dk_at dksX1_sum_0 12 rfl rfl)
theorem dX1_sum_13 : decode cX1_sum 13 = .ok (.iconst 1, 1) := dk_4 (dk_at dksX1_sum_0 13 rfl rfl)
theorem dX1_sum_14 : decode cX1_sum 14 = .ok (.iand, 1) := dk_126 (dk_at dksX1_sum_0 14 rfl rfl)
theorem dX1_sum_15 : decode cX1_sum 15 = .ok (.iconst 1, 1) := dk_4 (dk_at dksX1_sum_0 15 rfl rfl)
theorem dX1_sum_16 : decode cX1_sum 16 = .ok (.if_icmp .ne 9, 3) := dk_160 0 9 (dk_at dksX1_sum_0 16 rfl rfl)
theorem dX1_sum_19 : decode cX1_sum 19 = .ok (.iload_n 2, 1) := dk_28 (dk_at dksX1_sum_0 19 rfl rfl)
theorem dX1_sum_20 : decode cX1_sum 20 = .ok (.aload_n 0, 1) := dk_42 (dk_at dksX1_sum_0 20 rfl rfl)
theorem dX1_sum_21 : decode cX1_sum 21 = .ok (.iload_n 3, 1) := dk_29 (dk_at dksX1_sum_0 21 rfl rfl)
theorem dX1_sum_22 : decode cX1_sum 22 = .ok (.iaload, 1) := dk_46 (dk_at dksX1_sum_0 22 rfl rfl)
theorem dX1_sum_23 : decode cX1_sum 23 = .ok (.iadd, 1) := dk_96 (dk_at dksX1_sum_0 23 rfl rfl)
theorem dX1_sum_24 : decode cX1_sum 24 = .ok (.istore_n 2, 1) := dk_61 (dk_at dksX1_sum_1 0 rfl rfl)
theorem dX1_sum_25 : decode cX1_sum 25 = .ok (.iinc 3 1, 3) := dk_132 3 1 (dk_at dksX1_sum_1 1 rfl rfl)
theorem dX1_sum_28 : decode cX1_sum 28 = .ok (.goto (-24), 3) := dk_167 255 232 (dk_at dksX1_sum_1 4 rfl rfl)
theorem dX1_sum_31 : decode cX1_sum 31 = .ok (.iload_n 2, 1) := dk_28 (dk_at dksX1_sum_1 7 rfl rfl)
theorem dX1_sum_32 : decode cX1_sum 32 = .ok (.ireturn, 1) := dk_172 (dk_at dksX1_sum_1 8 rfl rfl)
def dkwX1_needed_3 : List UInt8 := [132, 4, 1, 167, 255, 208, 2, 172]
abbrev dktX1_needed_3 : List UInt8 := dkwX1_needed_3 ++ []
def dkwX1_needed_2 : List UInt8 := [20, 1, 139, 42, 180, 0, 243, 105, 29, 133, 42, 180, 0, 237, 133, 105, 148, 155, 0, 6, 21, 4, 172]
abbrev dktX1_needed_2 : List UInt8 := dkwX1_needed_2 ++ dktX1_needed_3
def dkwX1_needed_1 : List UInt8 := [21, 4, 42, 180, 1, 116, 42, 180, 1, 119, 184, 1, 43, 163, 0, 38, 42, 21, 4, 182, 1, 135]
abbrev dktX1_needed_1 : List UInt8 := dkwX1_needed_1 ++ dktX1_needed_2
def dkwX1_needed_0 : List UInt8 := [29, 4, 16, 100, 184, 0, 112, 153, 0, 12, 42, 27, 28, 182, 1, 132, 154, 0, 5, 2, 172, 4, 54, 4]
abbrev dktX1_needed_0 : List UInt8 := dkwX1_needed_0 ++ dktX1_needed_1
theorem dksX1_needed_0 : cX1_needed.data.toList.drop 0 = dktX1_needed_0 := by decide +kernel
theorem dksX1_needed_1 : cX1_needed.data.toList.drop 24 = dktX1_needed_1 := dk_seg dksX1_needed_0 24 rfl rfl
theorem dksX1_needed_2 : cX1_needed.data.toList.drop 46 = dktX1_needed_2 := dk_seg dksX1_needed_1 22 rfl rfl
theorem dksX1_needed_3 : cX1_needed.data.toList.drop 69 = dktX1_needed_3 := dk_seg dksX1_needed_2 23 rfl rfl
theorem dX1_needed_0 : decode cX1_needed 0 = .ok (.iload_n 3, 1) := dk_29 (dk_at dksX1_needed_0 0 rfl rfl)
theorem dX1_needed_1 : decode cX1_needed 1 = .ok (.iconst 1, 1) := dk_4 (dk_at dksX1_needed_0 1 rfl rfl)
theorem dX1_needed_2 : decode cX1_needed 2 = .ok (.bipush 100, 2) := dk_16 100 (dk_at dksX1_needed_0 2 rfl rfl)
theorem dX1_needed_4 : decode cX1_needed 4 = .ok (.invokestatic 112, 3) := dk_184 0 112 (dk_at dksX1_needed_0 4 rfl rfl)
theorem dX1_needed_7 : decode cX1_needed 7 = .ok (.ifCond .eq 12, 3) := dk_153 0 12 (dk_at dksX1_needed_0 7 rfl rfl)
theorem dX1_needed_10 : decode cX1_needed 10 = .ok (.aload_n 0, 1) := dk_42 (dk_at dksX1_needed_0 10 rfl rfl)
theorem dX1_needed_11 : decode cX1_needed 11 = .ok (.iload_n 1, 1) := dk_27 (dk_at dksX1_needed_0 11 rfl rfl)
theorem dX1_needed_12 : decode cX1_needed 12 = .ok (.iload_n 2, 1) := dk_28 (dk_at dksX1_needed_0 12 rfl rfl)
theorem dX1_needed_13 : decode cX1_needed 13 = .ok (.invokevirtual 388, 3) := dk_182 1 132 (dk_at dksX1_needed_0 13 rfl rfl)
theorem dX1_needed_16 : decode cX1_needed 16 = .ok (.ifCond .ne 5, 3) := dk_154 0 5 (dk_at dksX1_needed_0 16 rfl rfl)
theorem dX1_needed_19 : decode cX1_needed 19 = .ok (.iconst (-1), 1) := dk_2 (dk_at dksX1_needed_0 19 rfl rfl)
theorem dX1_needed_20 : decode cX1_needed 20 = .ok (.ireturn, 1) := dk_172 (dk_at dksX1_needed_0 20 rfl rfl)
theorem dX1_needed_21 : decode cX1_needed 21 = .ok (.iconst 1, 1) := dk_4 (dk_at dksX1_needed_0 21 rfl rfl)
theorem dX1_needed_22 : decode cX1_needed 22 = .ok (.istore 4, 2) := dk_54 4 (dk_at dksX1_needed_0 22 rfl rfl)
theorem dX1_needed_24 : decode cX1_needed 24 = .ok (.iload 4, 2) := dk_21 4 (dk_at dksX1_needed_1 0 rfl rfl)
theorem dX1_needed_26 : decode cX1_needed 26 = .ok (.aload_n 0, 1) := dk_42 (dk_at dksX1_needed_1 2 rfl rfl)
theorem dX1_needed_27 : decode cX1_needed 27 = .ok (.getfield 372, 3) := dk_180 1 116 (dk_at dksX1_needed_1 3 rfl rfl)
theorem dX1_needed_30 : decode cX1_needed 30 = .ok (.aload_n 0, 1) := dk_42 (dk_at dksX1_needed_1 6 rfl rfl)
theorem dX1_needed_31 : decode cX1_needed 31 = .ok (.getfield 375, 3) := dk_180 1 119 (dk_at dksX1_needed_1 7 rfl rfl)
theorem dX1_needed_34 : decode cX1_needed 34 = .ok (.invokestatic 299, 3) := dk_184 1 43 (dk_at dksX1_needed_1 10 rfl rfl)
theorem dX1_needed_37 : decode cX1_needed 37 = .ok (.if_icmp .gt 38, 3) := dk_163 0 38 (dk_at dksX1_needed_1 13 rfl rfl)
theorem dX1_needed_40 : decode cX1_needed 40 = .ok (.aload_n 0, 1) := dk_42 (dk_at dksX1_needed_1 16 rfl rfl)
theorem dX1_needed_41 : decode cX1_needed 41 = .ok (.iload 4, 2) := dk_21 4 (dk_at dksX1_needed_1 17 rfl rfl)
theorem dX1_needed_43 : decode cX1_needed 43 = .ok (.invokevirtual 391, 3) := dk_182 1 135 (dk_at dksX1_needed_1 19 rfl rfl)
theorem dX1_needed_46 : decode cX1_needed 46 = .ok (.ldc2_w 395, 3) := dk_20 1 139 (dk_at dksX1_needed_2 0 rfl rfl)
theorem dX1_needed_49 : decode cX1_needed 49 = .ok (.aload_n 0, 1) := dk_42 (dk_at dksX1_needed_2 3 rfl rfl)
theorem dX1_needed_50 : decode cX1_needed 50 = .ok (.getfield 243, 3) := dk_180 0 243 (dk_at dksX1_needed_2 4 rfl rfl)
theorem dX1_needed_53 : decode cX1_needed 53 = .ok (.lmul, 1) := dk_105 (dk_at dksX1_needed_2 7 rfl rfl)
theorem dX1_needed_54 : decode cX1_needed 54 = .ok (.iload_n 3, 1) := dk_29 (dk_at dksX1_needed_2 8 rfl rfl)
theorem dX1_needed_55 : decode cX1_needed 55 = .ok (.i2l, 1) := dk_133 (dk_at dksX1_needed_2 9 rfl rfl)
theorem dX1_needed_56 : decode cX1_needed 56 = .ok (.aload_n 0, 1) := dk_42 (dk_at dksX1_needed_2 10 rfl rfl)
theorem dX1_needed_57 : decode cX1_needed 57 = .ok (.getfield 237, 3) := dk_180 0 237 (dk_at dksX1_needed_2 11 rfl rfl)
theorem dX1_needed_60 : decode cX1_needed 60 = .ok (.i2l, 1) := dk_133 (dk_at dksX1_needed_2 14 rfl rfl)
theorem dX1_needed_61 : decode cX1_needed 61 = .ok (.lmul, 1) := dk_105 (dk_at dksX1_needed_2 15 rfl rfl)
theorem dX1_needed_62 : decode cX1_needed 62 = .ok (.lcmp, 1) := dk_148 (dk_at dksX1_needed_2 16 rfl rfl)
theorem dX1_needed_63 : decode cX1_needed 63 = .ok (.ifCond .lt 6, 3) := dk_155 0 6 (dk_at dksX1_needed_2 17 rfl rfl)
theorem dX1_needed_66 : decode cX1_needed 66 = .ok (.iload 4, 2) := dk_21 4 (dk_at dksX1_needed_2 20 rfl rfl)
theorem dX1_needed_68 : decode cX1_needed 68 = .ok (.ireturn, 1) := dk_172 (dk_at dksX1_needed_2 22 rfl rfl)
theorem dX1_needed_69 : decode cX1_needed 69 = .ok (.iinc 4 1, 3) := dk_132 4 1 (dk_at dksX1_needed_3 0 rfl rfl)
theorem dX1_needed_72 : decode cX1_needed 72 = .ok (.goto (-48), 3) := dk_167 255 208 (dk_at dksX1_needed_3 3 rfl rfl)
theorem dX1_needed_75 : decode cX1_needed 75 = .ok (.iconst (-1), 1) := dk_2 (dk_at dksX1_needed_3 6 rfl rfl)
theorem dX1_needed_76 : decode cX1_needed 76 = .ok (.ireturn, 1) := dk_172 (dk_at dksX1_needed_3 7 rfl rfl)
def dkwX1_slips_6 : List UInt8 := [4, 160, 0, 8, 21, 4, 167, 0, 5, 21, 5, 172]
abbrev dktX1_slips_6 : List UInt8 := dkwX1_slips_6 ++ []
def dkwX1_slips_5 : List UInt8 := [21, 5, 21, 8, 184, 0, 145, 54, 5, 132, 6, 1, 167, 255, 156, 28, 154, 0, 7, 29, 167, 0, 15, 28]
abbrev dktX1_slips_5 : List UInt8 := dkwX1_slips_5 ++ dktX1_slips_6
def dkwX1_slips_4 : List UInt8 := [42, 25, 7, 27, 182, 0, 161, 100, 184, 1, 53, 54, 8, 132, 3, 1, 21, 8, 158, 0, 6, 132, 4, 1]
abbrev dktX1_slips_4 : List UInt8 := dkwX1_slips_4 ++ dktX1_slips_5
def dkwX1_slips_3 : List UInt8 := [156, 0, 6, 167, 0, 54, 42, 25, 7, 180, 0, 149, 27, 46, 25, 7, 180, 0, 152, 27, 46, 182, 0, 155]
abbrev dktX1_slips_3 : List UInt8 := dkwX1_slips_3 ++ dktX1_slips_4
def dkwX1_slips_2 : List UInt8 := [180, 0, 116, 153, 0, 76, 25, 7, 27, 182, 0, 158, 154, 0, 67, 25, 7, 180, 0, 149, 27, 46]
abbrev dktX1_slips_2 : List UInt8 := dkwX1_slips_2 ++ dktX1_slips_3
def dkwX1_slips_1 : List UInt8 := [54, 5, 3, 54, 6, 21, 6, 16, 24, 162, 0, 99, 42, 180, 0, 21, 21, 6, 50, 58, 7, 25, 7]
abbrev dktX1_slips_1 : List UInt8 := dkwX1_slips_1 ++ dktX1_slips_2
def dkwX1_slips_0 : List UInt8 := [27, 184, 0, 120, 153, 0, 12, 28, 3, 5, 184, 0, 112, 154, 0, 5, 2, 172, 3, 62, 3, 54, 4, 3]
abbrev dktX1_slips_0 : List UInt8 := dkwX1_slips_0 ++ dktX1_slips_1
theorem dksX1_slips_0 : cX1_slips.data.toList.drop 0 = dktX1_slips_0 := by decide +kernel
theorem dksX1_slips_1 : cX1_slips.data.toList.drop 24 = dktX1_slips_1 := dk_seg dksX1_slips_0 24 rfl rfl
theorem dksX1_slips_2 : cX1_slips.data.toList.drop 47 = dktX1_slips_2 := dk_seg dksX1_slips_1 23 rfl rfl
theorem dksX1_slips_3 : cX1_slips.data.toList.drop 69 = dktX1_slips_3 := dk_seg dksX1_slips_2 22 rfl rfl
theorem dksX1_slips_4 : cX1_slips.data.toList.drop 93 = dktX1_slips_4 := dk_seg dksX1_slips_3 24 rfl rfl
theorem dksX1_slips_5 : cX1_slips.data.toList.drop 117 = dktX1_slips_5 := dk_seg dksX1_slips_4 24 rfl rfl
theorem dksX1_slips_6 : cX1_slips.data.toList.drop 141 = dktX1_slips_6 := dk_seg dksX1_slips_5 24 rfl rfl
theorem dX1_slips_0 : decode cX1_slips 0 = .ok (.iload_n 1, 1) := dk_27 (dk_at dksX1_slips_0 0 rfl rfl)
theorem dX1_slips_1 : decode cX1_slips 1 = .ok (.invokestatic 120, 3) := dk_184 0 120 (dk_at dksX1_slips_0 1 rfl rfl)
theorem dX1_slips_4 : decode cX1_slips 4 = .ok (.ifCond .eq 12, 3) := dk_153 0 12 (dk_at dksX1_slips_0 4 rfl rfl)
theorem dX1_slips_7 : decode cX1_slips 7 = .ok (.iload_n 2, 1) := dk_28 (dk_at dksX1_slips_0 7 rfl rfl)
theorem dX1_slips_8 : decode cX1_slips 8 = .ok (.iconst 0, 1) := dk_3 (dk_at dksX1_slips_0 8 rfl rfl)
theorem dX1_slips_9 : decode cX1_slips 9 = .ok (.iconst 2, 1) := dk_5 (dk_at dksX1_slips_0 9 rfl rfl)
theorem dX1_slips_10 : decode cX1_slips 10 = .ok (.invokestatic 112, 3) := dk_184 0 112 (dk_at dksX1_slips_0 10 rfl rfl)
theorem dX1_slips_13 : decode cX1_slips 13 = .ok (.ifCond .ne 5, 3) := dk_154 0 5 (dk_at dksX1_slips_0 13 rfl rfl)
theorem dX1_slips_16 : decode cX1_slips 16 = .ok (.iconst (-1), 1) := dk_2 (dk_at dksX1_slips_0 16 rfl rfl)
theorem dX1_slips_17 : decode cX1_slips 17 = .ok (.ireturn, 1) := dk_172 (dk_at dksX1_slips_0 17 rfl rfl)
theorem dX1_slips_18 : decode cX1_slips 18 = .ok (.iconst 0, 1) := dk_3 (dk_at dksX1_slips_0 18 rfl rfl)
theorem dX1_slips_19 : decode cX1_slips 19 = .ok (.istore_n 3, 1) := dk_62 (dk_at dksX1_slips_0 19 rfl rfl)
theorem dX1_slips_20 : decode cX1_slips 20 = .ok (.iconst 0, 1) := dk_3 (dk_at dksX1_slips_0 20 rfl rfl)
theorem dX1_slips_21 : decode cX1_slips 21 = .ok (.istore 4, 2) := dk_54 4 (dk_at dksX1_slips_0 21 rfl rfl)
theorem dX1_slips_23 : decode cX1_slips 23 = .ok (.iconst 0, 1) := dk_3 (dk_at dksX1_slips_0 23 rfl rfl)
theorem dX1_slips_24 : decode cX1_slips 24 = .ok (.istore 5, 2) := dk_54 5 (dk_at dksX1_slips_1 0 rfl rfl)
theorem dX1_slips_26 : decode cX1_slips 26 = .ok (.iconst 0, 1) := dk_3 (dk_at dksX1_slips_1 2 rfl rfl)
theorem dX1_slips_27 : decode cX1_slips 27 = .ok (.istore 6, 2) := dk_54 6 (dk_at dksX1_slips_1 3 rfl rfl)
theorem dX1_slips_29 : decode cX1_slips 29 = .ok (.iload 6, 2) := dk_21 6 (dk_at dksX1_slips_1 5 rfl rfl)
theorem dX1_slips_31 : decode cX1_slips 31 = .ok (.bipush 24, 2) := dk_16 24 (dk_at dksX1_slips_1 7 rfl rfl)
theorem dX1_slips_33 : decode cX1_slips 33 = .ok (.if_icmp .ge 99, 3) := dk_162 0 99 (dk_at dksX1_slips_1 9 rfl rfl)
theorem dX1_slips_36 : decode cX1_slips 36 = .ok (.aload_n 0, 1) := dk_42 (dk_at dksX1_slips_1 12 rfl rfl)
theorem dX1_slips_37 : decode cX1_slips 37 = .ok (.getfield 21, 3) := dk_180 0 21 (dk_at dksX1_slips_1 13 rfl rfl)
theorem dX1_slips_40 : decode cX1_slips 40 = .ok (.iload 6, 2) := dk_21 6 (dk_at dksX1_slips_1 16 rfl rfl)
theorem dX1_slips_42 : decode cX1_slips 42 = .ok (.aaload, 1) := dk_50 (dk_at dksX1_slips_1 18 rfl rfl)
theorem dX1_slips_43 : decode cX1_slips 43 = .ok (.astore 7, 2) := dk_58 7 (dk_at dksX1_slips_1 19 rfl rfl)
theorem dX1_slips_45 : decode cX1_slips 45 = .ok (.aload 7, 2) := dk_25 7 (dk_at dksX1_slips_1 21 rfl rfl)
theorem dX1_slips_47 : decode cX1_slips 47 = .ok (.getfield 116, 3) := dk_180 0 116 (dk_at dksX1_slips_2 0 rfl rfl)
theorem dX1_slips_50 : decode cX1_slips 50 = .ok (.ifCond .eq 76, 3) := dk_153 0 76 (dk_at dksX1_slips_2 3 rfl rfl)
theorem dX1_slips_53 : decode cX1_slips 53 = .ok (.aload 7, 2) := dk_25 7 (dk_at dksX1_slips_2 6 rfl rfl)
theorem dX1_slips_55 : decode cX1_slips 55 = .ok (.iload_n 1, 1) := dk_27 (dk_at dksX1_slips_2 8 rfl rfl)
theorem dX1_slips_56 : decode cX1_slips 56 = .ok (.invokevirtual 158, 3) := dk_182 0 158 (dk_at dksX1_slips_2 9 rfl rfl)
theorem dX1_slips_59 : decode cX1_slips 59 = .ok (.ifCond .ne 67, 3) := dk_154 0 67 (dk_at dksX1_slips_2 12 rfl rfl)
theorem dX1_slips_62 : decode cX1_slips 62 = .ok (.aload 7, 2) := dk_25 7 (dk_at dksX1_slips_2 15 rfl rfl)
theorem dX1_slips_64 : decode cX1_slips 64 = .ok (.getfield 149, 3) := dk_180 0 149 (dk_at dksX1_slips_2 17 rfl rfl)
theorem dX1_slips_67 : decode cX1_slips 67 = .ok (.iload_n 1, 1) := dk_27 (dk_at dksX1_slips_2 20 rfl rfl)
theorem dX1_slips_68 : decode cX1_slips 68 = .ok (.iaload, 1) := dk_46 (dk_at dksX1_slips_2 21 rfl rfl)
theorem dX1_slips_69 : decode cX1_slips 69 = .ok (.ifCond .ge 6, 3) := dk_156 0 6 (dk_at dksX1_slips_3 0 rfl rfl)
theorem dX1_slips_72 : decode cX1_slips 72 = .ok (.goto 54, 3) := dk_167 0 54 (dk_at dksX1_slips_3 3 rfl rfl)
theorem dX1_slips_75 : decode cX1_slips 75 = .ok (.aload_n 0, 1) := dk_42 (dk_at dksX1_slips_3 6 rfl rfl)
theorem dX1_slips_76 : decode cX1_slips 76 = .ok (.aload 7, 2) := dk_25 7 (dk_at dksX1_slips_3 7 rfl rfl)
theorem dX1_slips_78 : decode cX1_slips 78 = .ok (.getfield 149, 3) := dk_180 0 149 (dk_at dksX1_slips_3 9 rfl rfl)
theorem dX1_slips_81 : decode cX1_slips 81 = .ok (.iload_n 1, 1) := dk_27 (dk_at dksX1_slips_3 12 rfl rfl)
theorem dX1_slips_82 : decode cX1_slips 82 = .ok (.iaload, 1) := dk_46 (dk_at dksX1_slips_3 13 rfl rfl)
theorem dX1_slips_83 : decode cX1_slips 83 = .ok (.aload 7, 2) := dk_25 7 (dk_at dksX1_slips_3 14 rfl rfl)
theorem dX1_slips_85 : decode cX1_slips 85 = .ok (.getfield 152, 3) := dk_180 0 152 (dk_at dksX1_slips_3 16 rfl rfl)
theorem dX1_slips_88 : decode cX1_slips 88 = .ok (.iload_n 1, 1) := dk_27 (dk_at dksX1_slips_3 19 rfl rfl)
theorem dX1_slips_89 : decode cX1_slips 89 = .ok (.iaload, 1) := dk_46 (dk_at dksX1_slips_3 20 rfl rfl)
theorem dX1_slips_90 : decode cX1_slips 90 = .ok (.invokevirtual 155, 3) := dk_182 0 155 (dk_at dksX1_slips_3 21 rfl rfl)
theorem dX1_slips_93 : decode cX1_slips 93 = .ok (.aload_n 0, 1) := dk_42 (dk_at dksX1_slips_4 0 rfl rfl)
theorem dX1_slips_94 : decode cX1_slips 94 = .ok (.aload 7, 2) := dk_25 7 (dk_at dksX1_slips_4 1 rfl rfl)
theorem dX1_slips_96 : decode cX1_slips 96 = .ok (.iload_n 1, 1) := dk_27 (dk_at dksX1_slips_4 3 rfl rfl)
theorem dX1_slips_97 : decode cX1_slips 97 = .ok (.invokevirtual 161, 3) := dk_182 0 161 (dk_at dksX1_slips_4 4 rfl rfl)
theorem dX1_slips_100 : decode cX1_slips 100 = .ok (.isub, 1) := dk_100 (dk_at dksX1_slips_4 7 rfl rfl)
theorem dX1_slips_101 : decode cX1_slips 101 = .ok (.invokestatic 309, 3) := dk_184 1 53 (dk_at dksX1_slips_4 8 rfl rfl)
theorem dX1_slips_104 : decode cX1_slips 104 = .ok (.istore 8, 2) := dk_54 8 (dk_at dksX1_slips_4 11 rfl rfl)
theorem dX1_slips_106 : decode cX1_slips 106 = .ok (.iinc 3 1, 3) := dk_132 3 1 (dk_at dksX1_slips_4 13 rfl rfl)
theorem dX1_slips_109 : decode cX1_slips 109 = .ok (.iload 8, 2) := dk_21 8 (dk_at dksX1_slips_4 16 rfl rfl)
theorem dX1_slips_111 : decode cX1_slips 111 = .ok (.ifCond .le 6, 3) := dk_158 0 6 (dk_at dksX1_slips_4 18 rfl rfl)
theorem dX1_slips_114 : decode cX1_slips 114 = .ok (.iinc 4 1, 3) := dk_132 4 1 (dk_at dksX1_slips_4 21 rfl rfl)
theorem dX1_slips_117 : decode cX1_slips 117 = .ok (.iload 5, 2) := dk_21 5 (dk_at dksX1_slips_5 0 rfl rfl)
theorem dX1_slips_119 : decode cX1_slips 119 = .ok (.iload 8, 2) := dk_21 8 (dk_at dksX1_slips_5 2 rfl rfl)
theorem dX1_slips_121 : decode cX1_slips 121 = .ok (.invokestatic 145, 3) := dk_184 0 145 (dk_at dksX1_slips_5 4 rfl rfl)
theorem dX1_slips_124 : decode cX1_slips 124 = .ok (.istore 5, 2) := dk_54 5 (dk_at dksX1_slips_5 7 rfl rfl)
theorem dX1_slips_126 : decode cX1_slips 126 = .ok (.iinc 6 1, 3) := dk_132 6 1 (dk_at dksX1_slips_5 9 rfl rfl)
theorem dX1_slips_129 : decode cX1_slips 129 = .ok (.goto (-100), 3) := dk_167 255 156 (dk_at dksX1_slips_5 12 rfl rfl)
theorem dX1_slips_132 : decode cX1_slips 132 = .ok (.iload_n 2, 1) := dk_28 (dk_at dksX1_slips_5 15 rfl rfl)
theorem dX1_slips_133 : decode cX1_slips 133 = .ok (.ifCond .ne 7, 3) := dk_154 0 7 (dk_at dksX1_slips_5 16 rfl rfl)
theorem dX1_slips_136 : decode cX1_slips 136 = .ok (.iload_n 3, 1) := dk_29 (dk_at dksX1_slips_5 19 rfl rfl)
theorem dX1_slips_137 : decode cX1_slips 137 = .ok (.goto 15, 3) := dk_167 0 15 (dk_at dksX1_slips_5 20 rfl rfl)
theorem dX1_slips_140 : decode cX1_slips 140 = .ok (.iload_n 2, 1) := dk_28 (dk_at dksX1_slips_5 23 rfl rfl)
theorem dX1_slips_141 : decode cX1_slips 141 = .ok (.iconst 1, 1) := dk_4 (dk_at dksX1_slips_6 0 rfl rfl)
theorem dX1_slips_142 : decode cX1_slips 142 = .ok (.if_icmp .ne 8, 3) := dk_160 0 8 (dk_at dksX1_slips_6 1 rfl rfl)
theorem dX1_slips_145 : decode cX1_slips 145 = .ok (.iload 4, 2) := dk_21 4 (dk_at dksX1_slips_6 4 rfl rfl)
theorem dX1_slips_147 : decode cX1_slips 147 = .ok (.goto 5, 3) := dk_167 0 5 (dk_at dksX1_slips_6 6 rfl rfl)
theorem dX1_slips_150 : decode cX1_slips 150 = .ok (.iload 5, 2) := dk_21 5 (dk_at dksX1_slips_6 9 rfl rfl)
theorem dX1_slips_152 : decode cX1_slips 152 = .ok (.ireturn, 1) := dk_172 (dk_at dksX1_slips_6 11 rfl rfl)
def dkwX1_where_2 : List UInt8 := [3, 4, 184, 0, 112, 154, 0, 7, 2, 167, 0, 12, 27, 154, 0, 7, 28, 167, 0, 4, 29, 172]
abbrev dktX1_where_2 : List UInt8 := dkwX1_where_2 ++ []
def dkwX1_where_1 : List UInt8 := [167, 0, 13, 21, 4, 61, 42, 21, 4, 182, 1, 141, 62, 132, 4, 1, 167, 255, 223, 28, 155, 0, 12, 27]
abbrev dktX1_where_1 : List UInt8 := dkwX1_where_1 ++ dktX1_where_2
def dkwX1_where_0 : List UInt8 := [2, 61, 3, 62, 4, 54, 4, 21, 4, 16, 12, 162, 0, 32, 42, 21, 4, 182, 1, 141, 29, 163, 0, 6]
abbrev dktX1_where_0 : List UInt8 := dkwX1_where_0 ++ dktX1_where_1
theorem dksX1_where_0 : cX1_where.data.toList.drop 0 = dktX1_where_0 := by decide +kernel
theorem dksX1_where_1 : cX1_where.data.toList.drop 24 = dktX1_where_1 := dk_seg dksX1_where_0 24 rfl rfl
theorem dksX1_where_2 : cX1_where.data.toList.drop 48 = dktX1_where_2 := dk_seg dksX1_where_1 24 rfl rfl
theorem dX1_where_0 : decode cX1_where 0 = .ok (.iconst (-1), 1) := dk_2 (dk_at dksX1_where_0 0 rfl rfl)
theorem dX1_where_1 : decode cX1_where 1 = .ok (.istore_n 2, 1) := dk_61 (dk_at dksX1_where_0 1 rfl rfl)
theorem dX1_where_2 : decode cX1_where 2 = .ok (.iconst 0, 1) := dk_3 (dk_at dksX1_where_0 2 rfl rfl)
theorem dX1_where_3 : decode cX1_where 3 = .ok (.istore_n 3, 1) := dk_62 (dk_at dksX1_where_0 3 rfl rfl)
theorem dX1_where_4 : decode cX1_where 4 = .ok (.iconst 1, 1) := dk_4 (dk_at dksX1_where_0 4 rfl rfl)
theorem dX1_where_5 : decode cX1_where 5 = .ok (.istore 4, 2) := dk_54 4 (dk_at dksX1_where_0 5 rfl rfl)
theorem dX1_where_7 : decode cX1_where 7 = .ok (.iload 4, 2) := dk_21 4 (dk_at dksX1_where_0 7 rfl rfl)
theorem dX1_where_9 : decode cX1_where 9 = .ok (.bipush 12, 2) := dk_16 12 (dk_at dksX1_where_0 9 rfl rfl)
theorem dX1_where_11 : decode cX1_where 11 = .ok (.if_icmp .ge 32, 3) := dk_162 0 32 (dk_at dksX1_where_0 11 rfl rfl)
theorem dX1_where_14 : decode cX1_where 14 = .ok (.aload_n 0, 1) := dk_42 (dk_at dksX1_where_0 14 rfl rfl)
theorem dX1_where_15 : decode cX1_where 15 = .ok (.iload 4, 2) := dk_21 4 (dk_at dksX1_where_0 15 rfl rfl)
theorem dX1_where_17 : decode cX1_where 17 = .ok (.invokevirtual 397, 3) := dk_182 1 141 (dk_at dksX1_where_0 17 rfl rfl)
theorem dX1_where_20 : decode cX1_where 20 = .ok (.iload_n 3, 1) := dk_29 (dk_at dksX1_where_0 20 rfl rfl)
theorem dX1_where_21 : decode cX1_where 21 = .ok (.if_icmp .gt 6, 3) := dk_163 0 6 (dk_at dksX1_where_0 21 rfl rfl)
theorem dX1_where_24 : decode cX1_where 24 = .ok (.goto 13, 3) := dk_167 0 13 (dk_at dksX1_where_1 0 rfl rfl)
theorem dX1_where_27 : decode cX1_where 27 = .ok (.iload 4, 2) := dk_21 4 (dk_at dksX1_where_1 3 rfl rfl)
theorem dX1_where_29 : decode cX1_where 29 = .ok (.istore_n 2, 1) := dk_61 (dk_at dksX1_where_1 5 rfl rfl)
theorem dX1_where_30 : decode cX1_where 30 = .ok (.aload_n 0, 1) := dk_42 (dk_at dksX1_where_1 6 rfl rfl)
theorem dX1_where_31 : decode cX1_where 31 = .ok (.iload 4, 2) := dk_21 4 (dk_at dksX1_where_1 7 rfl rfl)
theorem dX1_where_33 : decode cX1_where 33 = .ok (.invokevirtual 397, 3) := dk_182 1 141 (dk_at dksX1_where_1 9 rfl rfl)
theorem dX1_where_36 : decode cX1_where 36 = .ok (.istore_n 3, 1) := dk_62 (dk_at dksX1_where_1 12 rfl rfl)
theorem dX1_where_37 : decode cX1_where 37 = .ok (.iinc 4 1, 3) := dk_132 4 1 (dk_at dksX1_where_1 13 rfl rfl)
theorem dX1_where_40 : decode cX1_where 40 = .ok (.goto (-33), 3) := dk_167 255 223 (dk_at dksX1_where_1 16 rfl rfl)
theorem dX1_where_43 : decode cX1_where 43 = .ok (.iload_n 2, 1) := dk_28 (dk_at dksX1_where_1 19 rfl rfl)
theorem dX1_where_44 : decode cX1_where 44 = .ok (.ifCond .lt 12, 3) := dk_155 0 12 (dk_at dksX1_where_1 20 rfl rfl)
theorem dX1_where_47 : decode cX1_where 47 = .ok (.iload_n 1, 1) := dk_27 (dk_at dksX1_where_1 23 rfl rfl)
theorem dX1_where_48 : decode cX1_where 48 = .ok (.iconst 0, 1) := dk_3 (dk_at dksX1_where_2 0 rfl rfl)
theorem dX1_where_49 : decode cX1_where 49 = .ok (.iconst 1, 1) := dk_4 (dk_at dksX1_where_2 1 rfl rfl)
theorem dX1_where_50 : decode cX1_where 50 = .ok (.invokestatic 112, 3) := dk_184 0 112 (dk_at dksX1_where_2 2 rfl rfl)
theorem dX1_where_53 : decode cX1_where 53 = .ok (.ifCond .ne 7, 3) := dk_154 0 7 (dk_at dksX1_where_2 5 rfl rfl)
theorem dX1_where_56 : decode cX1_where 56 = .ok (.iconst (-1), 1) := dk_2 (dk_at dksX1_where_2 8 rfl rfl)
theorem dX1_where_57 : decode cX1_where 57 = .ok (.goto 12, 3) := dk_167 0 12 (dk_at dksX1_where_2 9 rfl rfl)
theorem dX1_where_60 : decode cX1_where 60 = .ok (.iload_n 1, 1) := dk_27 (dk_at dksX1_where_2 12 rfl rfl)
theorem dX1_where_61 : decode cX1_where 61 = .ok (.ifCond .ne 7, 3) := dk_154 0 7 (dk_at dksX1_where_2 13 rfl rfl)
theorem dX1_where_64 : decode cX1_where 64 = .ok (.iload_n 2, 1) := dk_28 (dk_at dksX1_where_2 16 rfl rfl)
theorem dX1_where_65 : decode cX1_where 65 = .ok (.goto 4, 3) := dk_167 0 4 (dk_at dksX1_where_2 17 rfl rfl)
theorem dX1_where_68 : decode cX1_where 68 = .ok (.iload_n 3, 1) := dk_29 (dk_at dksX1_where_2 20 rfl rfl)
theorem dX1_where_69 : decode cX1_where 69 = .ok (.ireturn, 1) := dk_172 (dk_at dksX1_where_2 21 rfl rfl)
def dkwX1_weight_6 : List UInt8 := [21, 6, 104, 172]
abbrev dktX1_weight_6 : List UInt8 := dkwX1_weight_6 ++ []
def dkwX1_weight_5 : List UInt8 := [42, 180, 0, 27, 21, 4, 50, 27, 46, 162, 0, 6, 132, 5, 1, 132, 7, 1, 167, 255, 186, 21, 5]
abbrev dktX1_weight_5 : List UInt8 := dkwX1_weight_5 ++ dktX1_weight_6
def dkwX1_weight_4 : List UInt8 := [167, 0, 39, 25, 8, 180, 0, 124, 21, 4, 159, 0, 9, 132, 6, 1, 167, 0, 23, 25, 8, 180, 0, 127]
abbrev dktX1_weight_4 : List UInt8 := dkwX1_weight_4 ++ dktX1_weight_5
def dkwX1_weight_3 : List UInt8 := [162, 0, 69, 42, 180, 0, 21, 21, 7, 50, 58, 8, 25, 8, 27, 4, 100, 27, 182, 0, 172, 154, 0, 6]
abbrev dktX1_weight_3 : List UInt8 := dkwX1_weight_3 ++ dktX1_weight_4
def dkwX1_weight_2 : List UInt8 := [29, 164, 0, 7, 3, 167, 0, 4, 4, 54, 4, 3, 54, 5, 3, 54, 6, 3, 54, 7, 21, 7, 16, 24]
abbrev dktX1_weight_2 : List UInt8 := dkwX1_weight_2 ++ dktX1_weight_3
def dkwX1_weight_1 : List UInt8 := [4, 50, 27, 46, 42, 180, 0, 27, 4, 50, 27, 4, 100, 46, 100, 62, 28, 29, 160, 0, 5, 3, 172, 28]
abbrev dktX1_weight_1 : List UInt8 := dkwX1_weight_1 ++ dktX1_weight_2
def dkwX1_weight_0 : List UInt8 := [42, 180, 0, 27, 3, 50, 27, 46, 42, 180, 0, 27, 3, 50, 27, 4, 100, 46, 100, 61, 42, 180, 0, 27]
abbrev dktX1_weight_0 : List UInt8 := dkwX1_weight_0 ++ dktX1_weight_1
theorem dksX1_weight_0 : cX1_weight.data.toList.drop 0 = dktX1_weight_0 := by decide +kernel
theorem dksX1_weight_1 : cX1_weight.data.toList.drop 24 = dktX1_weight_1 := dk_seg dksX1_weight_0 24 rfl rfl
theorem dksX1_weight_2 : cX1_weight.data.toList.drop 48 = dktX1_weight_2 := dk_seg dksX1_weight_1 24 rfl rfl
theorem dksX1_weight_3 : cX1_weight.data.toList.drop 72 = dktX1_weight_3 := dk_seg dksX1_weight_2 24 rfl rfl
theorem dksX1_weight_4 : cX1_weight.data.toList.drop 96 = dktX1_weight_4 := dk_seg dksX1_weight_3 24 rfl rfl
theorem dksX1_weight_5 : cX1_weight.data.toList.drop 120 = dktX1_weight_5 := dk_seg dksX1_weight_4 24 rfl rfl
theorem dksX1_weight_6 : cX1_weight.data.toList.drop 143 = dktX1_weight_6 := dk_seg dksX1_weight_5 23 rfl rfl
theorem dX1_weight_0 : decode cX1_weight 0 = .ok (.aload_n 0, 1) := dk_42 (dk_at dksX1_weight_0 0 rfl rfl)
theorem dX1_weight_1 : decode cX1_weight 1 = .ok (.getfield 27, 3) := dk_180 0 27 (dk_at dksX1_weight_0 1 rfl rfl)
theorem dX1_weight_4 : decode cX1_weight 4 = .ok (.iconst 0, 1) := dk_3 (dk_at dksX1_weight_0 4 rfl rfl)
theorem dX1_weight_5 : decode cX1_weight 5 = .ok (.aaload, 1) := dk_50 (dk_at dksX1_weight_0 5 rfl rfl)
theorem dX1_weight_6 : decode cX1_weight 6 = .ok (.iload_n 1, 1) := dk_27 (dk_at dksX1_weight_0 6 rfl rfl)
theorem dX1_weight_7 : decode cX1_weight 7 = .ok (.iaload, 1) := dk_46 (dk_at dksX1_weight_0 7 rfl rfl)
theorem dX1_weight_8 : decode cX1_weight 8 = .ok (.aload_n 0, 1) := dk_42 (dk_at dksX1_weight_0 8 rfl rfl)
theorem dX1_weight_9 : decode cX1_weight 9 = .ok (.getfield 27, 3) := dk_180 0 27 (dk_at dksX1_weight_0 9 rfl rfl)
theorem dX1_weight_12 : decode cX1_weight 12 = .ok (.iconst 0, 1) := dk_3 (dk_at dksX1_weight_0 12 rfl rfl)
theorem dX1_weight_13 : decode cX1_weight 13 = .ok (.aaload, 1) := dk_50 (dk_at dksX1_weight_0 13 rfl rfl)
theorem dX1_weight_14 : decode cX1_weight 14 = .ok (.iload_n 1, 1) := dk_27 (dk_at dksX1_weight_0 14 rfl rfl)
theorem dX1_weight_15 : decode cX1_weight 15 = .ok (.iconst 1, 1) := dk_4 (dk_at dksX1_weight_0 15 rfl rfl)
theorem dX1_weight_16 : decode cX1_weight 16 = .ok (.isub, 1) := dk_100 (dk_at dksX1_weight_0 16 rfl rfl)
theorem dX1_weight_17 : decode cX1_weight 17 = .ok (.iaload, 1) := dk_46 (dk_at dksX1_weight_0 17 rfl rfl)
theorem dX1_weight_18 : decode cX1_weight 18 = .ok (.isub, 1) := dk_100 (dk_at dksX1_weight_0 18 rfl rfl)
theorem dX1_weight_19 : decode cX1_weight 19 = .ok (.istore_n 2, 1) := dk_61 (dk_at dksX1_weight_0 19 rfl rfl)
theorem dX1_weight_20 : decode cX1_weight 20 = .ok (.aload_n 0, 1) := dk_42 (dk_at dksX1_weight_0 20 rfl rfl)
theorem dX1_weight_21 : decode cX1_weight 21 = .ok (.getfield 27, 3) := dk_180 0 27 (dk_at dksX1_weight_0 21 rfl rfl)
theorem dX1_weight_24 : decode cX1_weight 24 = .ok (.iconst 1, 1) := dk_4 (dk_at dksX1_weight_1 0 rfl rfl)
theorem dX1_weight_25 : decode cX1_weight 25 = .ok (.aaload, 1) := dk_50 (dk_at dksX1_weight_1 1 rfl rfl)
theorem dX1_weight_26 : decode cX1_weight 26 = .ok (.iload_n 1, 1) := dk_27 (dk_at dksX1_weight_1 2 rfl rfl)
theorem dX1_weight_27 : decode cX1_weight 27 = .ok (.iaload, 1) := dk_46 (dk_at dksX1_weight_1 3 rfl rfl)
theorem dX1_weight_28 : decode cX1_weight 28 = .ok (.aload_n 0, 1) := dk_42 (dk_at dksX1_weight_1 4 rfl rfl)
theorem dX1_weight_29 : decode cX1_weight 29 = .ok (.getfield 27, 3) := dk_180 0 27 (dk_at dksX1_weight_1 5 rfl rfl)
theorem dX1_weight_32 : decode cX1_weight 32 = .ok (.iconst 1, 1) := dk_4 (dk_at dksX1_weight_1 8 rfl rfl)
theorem dX1_weight_33 : decode cX1_weight 33 = .ok (.aaload, 1) := dk_50 (dk_at dksX1_weight_1 9 rfl rfl)
theorem dX1_weight_34 : decode cX1_weight 34 = .ok (.iload_n 1, 1) := dk_27 (dk_at dksX1_weight_1 10 rfl rfl)
theorem dX1_weight_35 : decode cX1_weight 35 = .ok (.iconst 1, 1) := dk_4 (dk_at dksX1_weight_1 11 rfl rfl)
theorem dX1_weight_36 : decode cX1_weight 36 = .ok (.isub, 1) := dk_100 (dk_at dksX1_weight_1 12 rfl rfl)
theorem dX1_weight_37 : decode cX1_weight 37 = .ok (.iaload, 1) := dk_46 (dk_at dksX1_weight_1 13 rfl rfl)
theorem dX1_weight_38 : decode cX1_weight 38 = .ok (.isub, 1) := dk_100 (dk_at dksX1_weight_1 14 rfl rfl)
theorem dX1_weight_39 : decode cX1_weight 39 = .ok (.istore_n 3, 1) := dk_62 (dk_at dksX1_weight_1 15 rfl rfl)
theorem dX1_weight_40 : decode cX1_weight 40 = .ok (.iload_n 2, 1) := dk_28 (dk_at dksX1_weight_1 16 rfl rfl)
theorem dX1_weight_41 : decode cX1_weight 41 = .ok (.iload_n 3, 1) := dk_29 (dk_at dksX1_weight_1 17 rfl rfl)
theorem dX1_weight_42 : decode cX1_weight 42 = .ok (.if_icmp .ne 5, 3) := dk_160 0 5 (dk_at dksX1_weight_1 18 rfl rfl)
theorem dX1_weight_45 : decode cX1_weight 45 = .ok (.iconst 0, 1) := dk_3 (dk_at dksX1_weight_1 21 rfl rfl)
theorem dX1_weight_46 : decode cX1_weight 46 = .ok (.ireturn, 1) := dk_172 (dk_at dksX1_weight_1 22 rfl rfl)
theorem dX1_weight_47 : decode cX1_weight 47 = .ok (.iload_n 2, 1) := dk_28 (dk_at dksX1_weight_1 23 rfl rfl)
theorem dX1_weight_48 : decode cX1_weight 48 = .ok (.iload_n 3, 1) := dk_29 (dk_at dksX1_weight_2 0 rfl rfl)
theorem dX1_weight_49 : decode cX1_weight 49 = .ok (.if_icmp .le 7, 3) := dk_164 0 7 (dk_at dksX1_weight_2 1 rfl rfl)
theorem dX1_weight_52 : decode cX1_weight 52 = .ok (.iconst 0, 1) := dk_3 (dk_at dksX1_weight_2 4 rfl rfl)
theorem dX1_weight_53 : decode cX1_weight 53 = .ok (.goto 4, 3) := dk_167 0 4 (dk_at dksX1_weight_2 5 rfl rfl)
theorem dX1_weight_56 : decode cX1_weight 56 = .ok (.iconst 1, 1) := dk_4 (dk_at dksX1_weight_2 8 rfl rfl)
theorem dX1_weight_57 : decode cX1_weight 57 = .ok (.istore 4, 2) := dk_54 4 (dk_at dksX1_weight_2 9 rfl rfl)
theorem dX1_weight_59 : decode cX1_weight 59 = .ok (.iconst 0, 1) := dk_3 (dk_at dksX1_weight_2 11 rfl rfl)
theorem dX1_weight_60 : decode cX1_weight 60 = .ok (.istore 5, 2) := dk_54 5 (dk_at dksX1_weight_2 12 rfl rfl)
theorem dX1_weight_62 : decode cX1_weight 62 = .ok (.iconst 0, 1) := dk_3 (dk_at dksX1_weight_2 14 rfl rfl)
theorem dX1_weight_63 : decode cX1_weight 63 = .ok (.istore 6, 2) := dk_54 6 (dk_at dksX1_weight_2 15 rfl rfl)
theorem dX1_weight_65 : decode cX1_weight 65 = .ok (.iconst 0, 1) := dk_3 (dk_at dksX1_weight_2 17 rfl rfl)
theorem dX1_weight_66 : decode cX1_weight 66 = .ok (.istore 7, 2) := dk_54 7 (dk_at dksX1_weight_2 18 rfl rfl)
theorem dX1_weight_68 : decode cX1_weight 68 = .ok (.iload 7, 2) := dk_21 7 (dk_at dksX1_weight_2 20 rfl rfl)
theorem dX1_weight_70 : decode cX1_weight 70 = .ok (.bipush 24, 2) := dk_16 24 (dk_at dksX1_weight_2 22 rfl rfl)
theorem dX1_weight_72 : decode cX1_weight 72 = .ok (.if_icmp .ge 69, 3) := dk_162 0 69 (dk_at dksX1_weight_3 0 rfl rfl)
theorem dX1_weight_75 : decode cX1_weight 75 = .ok (.aload_n 0, 1) := dk_42 (dk_at dksX1_weight_3 3 rfl rfl)
theorem dX1_weight_76 : decode cX1_weight 76 = .ok (.getfield 21, 3) := dk_180 0 21 (dk_at dksX1_weight_3 4 rfl rfl)
theorem dX1_weight_79 : decode cX1_weight 79 = .ok (.iload 7, 2) := dk_21 7 (dk_at dksX1_weight_3 7 rfl rfl)
theorem dX1_weight_81 : decode cX1_weight 81 = .ok (.aaload, 1) := dk_50 (dk_at dksX1_weight_3 9 rfl rfl)
theorem dX1_weight_82 : decode cX1_weight 82 = .ok (.astore 8, 2) := dk_58 8 (dk_at dksX1_weight_3 10 rfl rfl)
theorem dX1_weight_84 : decode cX1_weight 84 = .ok (.aload 8, 2) := dk_25 8 (dk_at dksX1_weight_3 12 rfl rfl)
theorem dX1_weight_86 : decode cX1_weight 86 = .ok (.iload_n 1, 1) := dk_27 (dk_at dksX1_weight_3 14 rfl rfl)
theorem dX1_weight_87 : decode cX1_weight 87 = .ok (.iconst 1, 1) := dk_4 (dk_at dksX1_weight_3 15 rfl rfl)
theorem dX1_weight_88 : decode cX1_weight 88 = .ok (.isub, 1) := dk_100 (dk_at dksX1_weight_3 16 rfl rfl)
theorem dX1_weight_89 : decode cX1_weight 89 = .ok (.iload_n 1, 1) := dk_27 (dk_at dksX1_weight_3 17 rfl rfl)
theorem dX1_weight_90 : decode cX1_weight 90 = .ok (.invokevirtual 172, 3) := dk_182 0 172 (dk_at dksX1_weight_3 18 rfl rfl)
theorem dX1_weight_93 : decode cX1_weight 93 = .ok (.ifCond .ne 6, 3) := dk_154 0 6 (dk_at dksX1_weight_3 21 rfl rfl)
theorem dX1_weight_96 : decode cX1_weight 96 = .ok (.goto 39, 3) := dk_167 0 39 (dk_at dksX1_weight_4 0 rfl rfl)
theorem dX1_weight_99 : decode cX1_weight 99 = .ok (.aload 8, 2) := dk_25 8 (dk_at dksX1_weight_4 3 rfl rfl)
theorem dX1_weight_101 : decode cX1_weight 101 = .ok (.getfield 124, 3) := dk_180 0 124 (dk_at dksX1_weight_4 5 rfl rfl)
theorem dX1_weight_104 : decode cX1_weight 104 = .ok (.iload 4, 2) := dk_21 4 (dk_at dksX1_weight_4 8 rfl rfl)
theorem dX1_weight_106 : decode cX1_weight 106 = .ok (.if_icmp .eq 9, 3) := dk_159 0 9 (dk_at dksX1_weight_4 10 rfl rfl)
theorem dX1_weight_109 : decode cX1_weight 109 = .ok (.iinc 6 1, 3) := dk_132 6 1 (dk_at dksX1_weight_4 13 rfl rfl)
theorem dX1_weight_112 : decode cX1_weight 112 = .ok (.goto 23, 3) := dk_167 0 23 (dk_at dksX1_weight_4 16 rfl rfl)
theorem dX1_weight_115 : decode cX1_weight 115 = .ok (.aload 8, 2) := dk_25 8 (dk_at dksX1_weight_4 19 rfl rfl)
theorem dX1_weight_117 : decode cX1_weight 117 = .ok (.getfield 127, 3) := dk_180 0 127 (dk_at dksX1_weight_4 21 rfl rfl)
theorem dX1_weight_120 : decode cX1_weight 120 = .ok (.aload_n 0, 1) := dk_42 (dk_at dksX1_weight_5 0 rfl rfl)
theorem dX1_weight_121 : decode cX1_weight 121 = .ok (.getfield 27, 3) := dk_180 0 27 (dk_at dksX1_weight_5 1 rfl rfl)
theorem dX1_weight_124 : decode cX1_weight 124 = .ok (.iload 4, 2) := dk_21 4 (dk_at dksX1_weight_5 4 rfl rfl)
theorem dX1_weight_126 : decode cX1_weight 126 = .ok (.aaload, 1) := dk_50 (dk_at dksX1_weight_5 6 rfl rfl)
theorem dX1_weight_127 : decode cX1_weight 127 = .ok (.iload_n 1, 1) := dk_27 (dk_at dksX1_weight_5 7 rfl rfl)
theorem dX1_weight_128 : decode cX1_weight 128 = .ok (.iaload, 1) := dk_46 (dk_at dksX1_weight_5 8 rfl rfl)
theorem dX1_weight_129 : decode cX1_weight 129 = .ok (.if_icmp .ge 6, 3) := dk_162 0 6 (dk_at dksX1_weight_5 9 rfl rfl)
theorem dX1_weight_132 : decode cX1_weight 132 = .ok (.iinc 5 1, 3) := dk_132 5 1 (dk_at dksX1_weight_5 12 rfl rfl)
theorem dX1_weight_135 : decode cX1_weight 135 = .ok (.iinc 7 1, 3) := dk_132 7 1 (dk_at dksX1_weight_5 15 rfl rfl)
theorem dX1_weight_138 : decode cX1_weight 138 = .ok (.goto (-70), 3) := dk_167 255 186 (dk_at dksX1_weight_5 18 rfl rfl)
theorem dX1_weight_141 : decode cX1_weight 141 = .ok (.iload 5, 2) := dk_21 5 (dk_at dksX1_weight_5 21 rfl rfl)
theorem dX1_weight_143 : decode cX1_weight 143 = .ok (.iload 6, 2) := dk_21 6 (dk_at dksX1_weight_6 0 rfl rfl)
theorem dX1_weight_145 : decode cX1_weight 145 = .ok (.imul, 1) := dk_104 (dk_at dksX1_weight_6 2 rfl rfl)
theorem dX1_weight_146 : decode cX1_weight 146 = .ok (.ireturn, 1) := dk_172 (dk_at dksX1_weight_6 3 rfl rfl)
def dkwX1_mark_7 : List UInt8 := [180, 0, 152, 45, 21, 6, 16, 36, 96, 28, 184, 1, 144, 132, 4, 1, 167, 255, 171, 4, 172]
abbrev dktX1_mark_7 : List UInt8 := dkwX1_mark_7 ++ []
def dkwX1_mark_6 : List UInt8 := [96, 28, 184, 1, 144, 25, 5, 180, 0, 149, 45, 21, 6, 16, 24, 96, 28, 184, 1, 144, 25, 5]
abbrev dktX1_mark_6 : List UInt8 := dkwX1_mark_6 ++ dktX1_mark_7
def dkwX1_mark_5 : List UInt8 := [54, 6, 25, 5, 180, 0, 139, 45, 21, 6, 28, 184, 1, 144, 25, 5, 180, 0, 142, 45, 21, 6, 16, 12]
abbrev dktX1_mark_5 : List UInt8 := dkwX1_mark_5 ++ dktX1_mark_6
def dkwX1_mark_4 : List UInt8 := [21, 4, 16, 24, 162, 0, 84, 42, 180, 0, 21, 21, 4, 50, 58, 5, 4, 16, 48, 21, 4, 104, 96]
abbrev dktX1_mark_4 : List UInt8 := dkwX1_mark_4 ++ dktX1_mark_5
def dkwX1_mark_3 : List UInt8 := [153, 0, 13, 42, 45, 3, 46, 181, 1, 66, 167, 0, 10, 45, 3, 42, 180, 1, 66, 79, 3, 54, 4]
abbrev dktX1_mark_3 : List UInt8 := dkwX1_mark_3 ++ dktX1_mark_4
def dkwX1_mark_2 : List UInt8 := [199, 0, 14, 42, 180, 0, 103, 27, 17, 4, 129, 188, 10, 83, 42, 180, 0, 103, 27, 50, 78, 28]
abbrev dktX1_mark_2 : List UInt8 := dkwX1_mark_2 ++ dktX1_mark_3
def dkwX1_mark_1 : List UInt8 := [180, 0, 103, 27, 50, 3, 46, 42, 180, 1, 66, 164, 0, 5, 3, 172, 42, 180, 0, 103, 27, 50]
abbrev dktX1_mark_1 : List UInt8 := dkwX1_mark_1 ++ dktX1_mark_2
def dkwX1_mark_0 : List UInt8 := [27, 3, 6, 184, 0, 112, 153, 0, 31, 28, 153, 0, 29, 42, 180, 0, 103, 27, 50, 198, 0, 18, 42]
abbrev dktX1_mark_0 : List UInt8 := dkwX1_mark_0 ++ dktX1_mark_1
theorem dksX1_mark_0 : cX1_mark.data.toList.drop 0 = dktX1_mark_0 := by decide +kernel
theorem dksX1_mark_1 : cX1_mark.data.toList.drop 23 = dktX1_mark_1 := dk_seg dksX1_mark_0 23 rfl rfl
theorem dksX1_mark_2 : cX1_mark.data.toList.drop 45 = dktX1_mark_2 := dk_seg dksX1_mark_1 22 rfl rfl
theorem dksX1_mark_3 : cX1_mark.data.toList.drop 67 = dktX1_mark_3 := dk_seg dksX1_mark_2 22 rfl rfl
theorem dksX1_mark_4 : cX1_mark.data.toList.drop 90 = dktX1_mark_4 := dk_seg dksX1_mark_3 23 rfl rfl
theorem dksX1_mark_5 : cX1_mark.data.toList.drop 113 = dktX1_mark_5 := dk_seg dksX1_mark_4 23 rfl rfl
theorem dksX1_mark_6 : cX1_mark.data.toList.drop 137 = dktX1_mark_6 := dk_seg dksX1_mark_5 24 rfl rfl
theorem dksX1_mark_7 : cX1_mark.data.toList.drop 159 = dktX1_mark_7 := dk_seg dksX1_mark_6 22 rfl rfl
theorem dX1_mark_0 : decode cX1_mark 0 = .ok (.iload_n 1, 1) := dk_27 (dk_at dksX1_mark_0 0 rfl rfl)
theorem dX1_mark_1 : decode cX1_mark 1 = .ok (.iconst 0, 1) := dk_3 (dk_at dksX1_mark_0 1 rfl rfl)
theorem dX1_mark_2 : decode cX1_mark 2 = .ok (.iconst 3, 1) := dk_6 (dk_at dksX1_mark_0 2 rfl rfl)
theorem dX1_mark_3 : decode cX1_mark 3 = .ok (.invokestatic 112, 3) := dk_184 0 112 (dk_at dksX1_mark_0 3 rfl rfl)
theorem dX1_mark_6 : decode cX1_mark 6 = .ok (.ifCond .eq 31, 3) := dk_153 0 31 (dk_at dksX1_mark_0 6 rfl rfl)
theorem dX1_mark_9 : decode cX1_mark 9 = .ok (.iload_n 2, 1) := dk_28 (dk_at dksX1_mark_0 9 rfl rfl)
theorem dX1_mark_10 : decode cX1_mark 10 = .ok (.ifCond .eq 29, 3) := dk_153 0 29 (dk_at dksX1_mark_0 10 rfl rfl)
theorem dX1_mark_13 : decode cX1_mark 13 = .ok (.aload_n 0, 1) := dk_42 (dk_at dksX1_mark_0 13 rfl rfl)
theorem dX1_mark_14 : decode cX1_mark 14 = .ok (.getfield 103, 3) := dk_180 0 103 (dk_at dksX1_mark_0 14 rfl rfl)
theorem dX1_mark_17 : decode cX1_mark 17 = .ok (.iload_n 1, 1) := dk_27 (dk_at dksX1_mark_0 17 rfl rfl)
theorem dX1_mark_18 : decode cX1_mark 18 = .ok (.aaload, 1) := dk_50 (dk_at dksX1_mark_0 18 rfl rfl)
theorem dX1_mark_19 : decode cX1_mark 19 = .ok (.ifnull 18, 3) := dk_198 0 18 (dk_at dksX1_mark_0 19 rfl rfl)
theorem dX1_mark_22 : decode cX1_mark 22 = .ok (.aload_n 0, 1) := dk_42 (dk_at dksX1_mark_0 22 rfl rfl)
theorem dX1_mark_23 : decode cX1_mark 23 = .ok (.getfield 103, 3) := dk_180 0 103 (dk_at dksX1_mark_1 0 rfl rfl)
theorem dX1_mark_26 : decode cX1_mark 26 = .ok (.iload_n 1, 1) := dk_27 (dk_at dksX1_mark_1 3 rfl rfl)
theorem dX1_mark_27 : decode cX1_mark 27 = .ok (.aaload, 1) := dk_50 (dk_at dksX1_mark_1 4 rfl rfl)
theorem dX1_mark_28 : decode cX1_mark 28 = .ok (.iconst 0, 1) := dk_3 (dk_at dksX1_mark_1 5 rfl rfl)
theorem dX1_mark_29 : decode cX1_mark 29 = .ok (.iaload, 1) := dk_46 (dk_at dksX1_mark_1 6 rfl rfl)
theorem dX1_mark_30 : decode cX1_mark 30 = .ok (.aload_n 0, 1) := dk_42 (dk_at dksX1_mark_1 7 rfl rfl)
theorem dX1_mark_31 : decode cX1_mark 31 = .ok (.getfield 322, 3) := dk_180 1 66 (dk_at dksX1_mark_1 8 rfl rfl)
theorem dX1_mark_34 : decode cX1_mark 34 = .ok (.if_icmp .le 5, 3) := dk_164 0 5 (dk_at dksX1_mark_1 11 rfl rfl)
theorem dX1_mark_37 : decode cX1_mark 37 = .ok (.iconst 0, 1) := dk_3 (dk_at dksX1_mark_1 14 rfl rfl)
theorem dX1_mark_38 : decode cX1_mark 38 = .ok (.ireturn, 1) := dk_172 (dk_at dksX1_mark_1 15 rfl rfl)
theorem dX1_mark_39 : decode cX1_mark 39 = .ok (.aload_n 0, 1) := dk_42 (dk_at dksX1_mark_1 16 rfl rfl)
theorem dX1_mark_40 : decode cX1_mark 40 = .ok (.getfield 103, 3) := dk_180 0 103 (dk_at dksX1_mark_1 17 rfl rfl)
theorem dX1_mark_43 : decode cX1_mark 43 = .ok (.iload_n 1, 1) := dk_27 (dk_at dksX1_mark_1 20 rfl rfl)
theorem dX1_mark_44 : decode cX1_mark 44 = .ok (.aaload, 1) := dk_50 (dk_at dksX1_mark_1 21 rfl rfl)
theorem dX1_mark_45 : decode cX1_mark 45 = .ok (.ifnonnull 14, 3) := dk_199 0 14 (dk_at dksX1_mark_2 0 rfl rfl)
theorem dX1_mark_48 : decode cX1_mark 48 = .ok (.aload_n 0, 1) := dk_42 (dk_at dksX1_mark_2 3 rfl rfl)
theorem dX1_mark_49 : decode cX1_mark 49 = .ok (.getfield 103, 3) := dk_180 0 103 (dk_at dksX1_mark_2 4 rfl rfl)
theorem dX1_mark_52 : decode cX1_mark 52 = .ok (.iload_n 1, 1) := dk_27 (dk_at dksX1_mark_2 7 rfl rfl)
theorem dX1_mark_53 : decode cX1_mark 53 = .ok (.sipush 1153, 3) := dk_17 4 129 (dk_at dksX1_mark_2 8 rfl rfl)
theorem dX1_mark_56 : decode cX1_mark 56 = .ok (.newarray .int, 2) := dk_188_10 (dk_at dksX1_mark_2 11 rfl rfl)
theorem dX1_mark_58 : decode cX1_mark 58 = .ok (.aastore, 1) := dk_83 (dk_at dksX1_mark_2 13 rfl rfl)
theorem dX1_mark_59 : decode cX1_mark 59 = .ok (.aload_n 0, 1) := dk_42 (dk_at dksX1_mark_2 14 rfl rfl)
theorem dX1_mark_60 : decode cX1_mark 60 = .ok (.getfield 103, 3) := dk_180 0 103 (dk_at dksX1_mark_2 15 rfl rfl)
theorem dX1_mark_63 : decode cX1_mark 63 = .ok (.iload_n 1, 1) := dk_27 (dk_at dksX1_mark_2 18 rfl rfl)
theorem dX1_mark_64 : decode cX1_mark 64 = .ok (.aaload, 1) := dk_50 (dk_at dksX1_mark_2 19 rfl rfl)
theorem dX1_mark_65 : decode cX1_mark 65 = .ok (.astore_n 3, 1) := dk_78 (dk_at dksX1_mark_2 20 rfl rfl)
theorem dX1_mark_66 : decode cX1_mark 66 = .ok (.iload_n 2, 1) := dk_28 (dk_at dksX1_mark_2 21 rfl rfl)
theorem dX1_mark_67 : decode cX1_mark 67 = .ok (.ifCond .eq 13, 3) := dk_153 0 13 (dk_at dksX1_mark_3 0 rfl rfl)
theorem dX1_mark_70 : decode cX1_mark 70 = .ok (.aload_n 0, 1) := dk_42 (dk_at dksX1_mark_3 3 rfl rfl)
theorem dX1_mark_71 : decode cX1_mark 71 = .ok (.aload_n 3, 1) := dk_45 (dk_at dksX1_mark_3 4 rfl rfl)
theorem dX1_mark_72 : decode cX1_mark 72 = .ok (.iconst 0, 1) := dk_3 (dk_at dksX1_mark_3 5 rfl rfl)
theorem dX1_mark_73 : decode cX1_mark 73 = .ok (.iaload, 1) := dk_46 (dk_at dksX1_mark_3 6 rfl rfl)
theorem dX1_mark_74 : decode cX1_mark 74 = .ok (.putfield 322, 3) := dk_181 1 66 (dk_at dksX1_mark_3 7 rfl rfl)
theorem dX1_mark_77 : decode cX1_mark 77 = .ok (.goto 10, 3) := dk_167 0 10 (dk_at dksX1_mark_3 10 rfl rfl)
theorem dX1_mark_80 : decode cX1_mark 80 = .ok (.aload_n 3, 1) := dk_45 (dk_at dksX1_mark_3 13 rfl rfl)
theorem dX1_mark_81 : decode cX1_mark 81 = .ok (.iconst 0, 1) := dk_3 (dk_at dksX1_mark_3 14 rfl rfl)
theorem dX1_mark_82 : decode cX1_mark 82 = .ok (.aload_n 0, 1) := dk_42 (dk_at dksX1_mark_3 15 rfl rfl)
theorem dX1_mark_83 : decode cX1_mark 83 = .ok (.getfield 322, 3) := dk_180 1 66 (dk_at dksX1_mark_3 16 rfl rfl)
theorem dX1_mark_86 : decode cX1_mark 86 = .ok (.iastore, 1) := dk_79 (dk_at dksX1_mark_3 19 rfl rfl)
theorem dX1_mark_87 : decode cX1_mark 87 = .ok (.iconst 0, 1) := dk_3 (dk_at dksX1_mark_3 20 rfl rfl)
theorem dX1_mark_88 : decode cX1_mark 88 = .ok (.istore 4, 2) := dk_54 4 (dk_at dksX1_mark_3 21 rfl rfl)
theorem dX1_mark_90 : decode cX1_mark 90 = .ok (.iload 4, 2) := dk_21 4 (dk_at dksX1_mark_4 0 rfl rfl)
theorem dX1_mark_92 : decode cX1_mark 92 = .ok (.bipush 24, 2) := dk_16 24 (dk_at dksX1_mark_4 2 rfl rfl)
theorem dX1_mark_94 : decode cX1_mark 94 = .ok (.if_icmp .ge 84, 3) := dk_162 0 84 (dk_at dksX1_mark_4 4 rfl rfl)
theorem dX1_mark_97 : decode cX1_mark 97 = .ok (.aload_n 0, 1) := dk_42 (dk_at dksX1_mark_4 7 rfl rfl)
theorem dX1_mark_98 : decode cX1_mark 98 = .ok (.getfield 21, 3) := dk_180 0 21 (dk_at dksX1_mark_4 8 rfl rfl)
theorem dX1_mark_101 : decode cX1_mark 101 = .ok (.iload 4, 2) := dk_21 4 (dk_at dksX1_mark_4 11 rfl rfl)
theorem dX1_mark_103 : decode cX1_mark 103 = .ok (.aaload, 1) := dk_50 (dk_at dksX1_mark_4 13 rfl rfl)
theorem dX1_mark_104 : decode cX1_mark 104 = .ok (.astore 5, 2) := dk_58 5 (dk_at dksX1_mark_4 14 rfl rfl)
theorem dX1_mark_106 : decode cX1_mark 106 = .ok (.iconst 1, 1) := dk_4 (dk_at dksX1_mark_4 16 rfl rfl)
theorem dX1_mark_107 : decode cX1_mark 107 = .ok (.bipush 48, 2) := dk_16 48 (dk_at dksX1_mark_4 17 rfl rfl)
theorem dX1_mark_109 : decode cX1_mark 109 = .ok (.iload 4, 2) := dk_21 4 (dk_at dksX1_mark_4 19 rfl rfl)
theorem dX1_mark_111 : decode cX1_mark 111 = .ok (.imul, 1) := dk_104 (dk_at dksX1_mark_4 21 rfl rfl)
theorem dX1_mark_112 : decode cX1_mark 112 = .ok (.iadd, 1) := dk_96 (dk_at dksX1_mark_4 22 rfl rfl)
theorem dX1_mark_113 : decode cX1_mark 113 = .ok (.istore 6, 2) := dk_54 6 (dk_at dksX1_mark_5 0 rfl rfl)
theorem dX1_mark_115 : decode cX1_mark 115 = .ok (.aload 5, 2) := dk_25 5 (dk_at dksX1_mark_5 2 rfl rfl)
theorem dX1_mark_117 : decode cX1_mark 117 = .ok (.getfield 139, 3) := dk_180 0 139 (dk_at dksX1_mark_5 4 rfl rfl)
theorem dX1_mark_120 : decode cX1_mark 120 = .ok (.aload_n 3, 1) := dk_45 (dk_at dksX1_mark_5 7 rfl rfl)
theorem dX1_mark_121 : decode cX1_mark 121 = .ok (.iload 6, 2) := dk_21 6 (dk_at dksX1_mark_5 8 rfl rfl)
theorem dX1_mark_123 : decode cX1_mark 123 = .ok (.iload_n 2, 1) := dk_28 (dk_at dksX1_mark_5 10 rfl rfl)
theorem dX1_mark_124 : decode cX1_mark 124 = .ok (.invokestatic 400, 3) := dk_184 1 144 (dk_at dksX1_mark_5 11 rfl rfl)
theorem dX1_mark_127 : decode cX1_mark 127 = .ok (.aload 5, 2) := dk_25 5 (dk_at dksX1_mark_5 14 rfl rfl)
theorem dX1_mark_129 : decode cX1_mark 129 = .ok (.getfield 142, 3) := dk_180 0 142 (dk_at dksX1_mark_5 16 rfl rfl)
theorem dX1_mark_132 : decode cX1_mark 132 = .ok (.aload_n 3, 1) := dk_45 (dk_at dksX1_mark_5 19 rfl rfl)
theorem dX1_mark_133 : decode cX1_mark 133 = .ok (.iload 6, 2) := dk_21 6 (dk_at dksX1_mark_5 20 rfl rfl)
theorem dX1_mark_135 : decode cX1_mark 135 = .ok (.bipush 12, 2) := dk_16 12 (dk_at dksX1_mark_5 22 rfl rfl)
theorem dX1_mark_137 : decode cX1_mark 137 = .ok (.iadd, 1) := dk_96 (dk_at dksX1_mark_6 0 rfl rfl)
theorem dX1_mark_138 : decode cX1_mark 138 = .ok (.iload_n 2, 1) := dk_28 (dk_at dksX1_mark_6 1 rfl rfl)
theorem dX1_mark_139 : decode cX1_mark 139 = .ok (.invokestatic 400, 3) := dk_184 1 144 (dk_at dksX1_mark_6 2 rfl rfl)
theorem dX1_mark_142 : decode cX1_mark 142 = .ok (.aload 5, 2) := dk_25 5 (dk_at dksX1_mark_6 5 rfl rfl)
theorem dX1_mark_144 : decode cX1_mark 144 = .ok (.getfield 149, 3) := dk_180 0 149 (dk_at dksX1_mark_6 7 rfl rfl)
theorem dX1_mark_147 : decode cX1_mark 147 = .ok (.aload_n 3, 1) := dk_45 (dk_at dksX1_mark_6 10 rfl rfl)
theorem dX1_mark_148 : decode cX1_mark 148 = .ok (.iload 6, 2) := dk_21 6 (dk_at dksX1_mark_6 11 rfl rfl)
theorem dX1_mark_150 : decode cX1_mark 150 = .ok (.bipush 24, 2) := dk_16 24 (dk_at dksX1_mark_6 13 rfl rfl)
theorem dX1_mark_152 : decode cX1_mark 152 = .ok (.iadd, 1) := dk_96 (dk_at dksX1_mark_6 15 rfl rfl)
theorem dX1_mark_153 : decode cX1_mark 153 = .ok (.iload_n 2, 1) := dk_28 (dk_at dksX1_mark_6 16 rfl rfl)
theorem dX1_mark_154 : decode cX1_mark 154 = .ok (.invokestatic 400, 3) := dk_184 1 144 (dk_at dksX1_mark_6 17 rfl rfl)
theorem dX1_mark_157 : decode cX1_mark 157 = .ok (.aload 5, 2) := dk_25 5 (dk_at dksX1_mark_6 20 rfl rfl)
theorem dX1_mark_159 : decode cX1_mark 159 = .ok (.getfield 152, 3) := dk_180 0 152 (dk_at dksX1_mark_7 0 rfl rfl)
theorem dX1_mark_162 : decode cX1_mark 162 = .ok (.aload_n 3, 1) := dk_45 (dk_at dksX1_mark_7 3 rfl rfl)
theorem dX1_mark_163 : decode cX1_mark 163 = .ok (.iload 6, 2) := dk_21 6 (dk_at dksX1_mark_7 4 rfl rfl)
theorem dX1_mark_165 : decode cX1_mark 165 = .ok (.bipush 36, 2) := dk_16 36 (dk_at dksX1_mark_7 6 rfl rfl)
theorem dX1_mark_167 : decode cX1_mark 167 = .ok (.iadd, 1) := dk_96 (dk_at dksX1_mark_7 8 rfl rfl)
theorem dX1_mark_168 : decode cX1_mark 168 = .ok (.iload_n 2, 1) := dk_28 (dk_at dksX1_mark_7 9 rfl rfl)
theorem dX1_mark_169 : decode cX1_mark 169 = .ok (.invokestatic 400, 3) := dk_184 1 144 (dk_at dksX1_mark_7 10 rfl rfl)
theorem dX1_mark_172 : decode cX1_mark 172 = .ok (.iinc 4 1, 3) := dk_132 4 1 (dk_at dksX1_mark_7 13 rfl rfl)
theorem dX1_mark_175 : decode cX1_mark 175 = .ok (.goto (-85), 3) := dk_167 255 171 (dk_at dksX1_mark_7 16 rfl rfl)
theorem dX1_mark_178 : decode cX1_mark 178 = .ok (.iconst 1, 1) := dk_4 (dk_at dksX1_mark_7 19 rfl rfl)
theorem dX1_mark_179 : decode cX1_mark 179 = .ok (.ireturn, 1) := dk_172 (dk_at dksX1_mark_7 20 rfl rfl)
def dkwX1_moves_1 : List UInt8 := [167, 0, 13, 43, 28, 21, 4, 96, 42, 21, 4, 46, 79, 132, 4, 1, 167, 255, 219, 177]
abbrev dktX1_moves_1 : List UInt8 := dkwX1_moves_1 ++ []
def dkwX1_moves_0 : List UInt8 := [3, 54, 4, 21, 4, 16, 12, 162, 0, 36, 29, 153, 0, 16, 42, 21, 4, 43, 28, 21, 4, 96, 46, 79]
abbrev dktX1_moves_0 : List UInt8 := dkwX1_moves_0 ++ dktX1_moves_1
theorem dksX1_moves_0 : cX1_moves.data.toList.drop 0 = dktX1_moves_0 := by decide +kernel
theorem dksX1_moves_1 : cX1_moves.data.toList.drop 24 = dktX1_moves_1 := dk_seg dksX1_moves_0 24 rfl rfl
theorem dX1_moves_0 : decode cX1_moves 0 = .ok (.iconst 0, 1) := dk_3 (dk_at dksX1_moves_0 0 rfl rfl)
theorem dX1_moves_1 : decode cX1_moves 1 = .ok (.istore 4, 2) := dk_54 4 (dk_at dksX1_moves_0 1 rfl rfl)
theorem dX1_moves_3 : decode cX1_moves 3 = .ok (.iload 4, 2) := dk_21 4 (dk_at dksX1_moves_0 3 rfl rfl)
theorem dX1_moves_5 : decode cX1_moves 5 = .ok (.bipush 12, 2) := dk_16 12 (dk_at dksX1_moves_0 5 rfl rfl)
theorem dX1_moves_7 : decode cX1_moves 7 = .ok (.if_icmp .ge 36, 3) := dk_162 0 36 (dk_at dksX1_moves_0 7 rfl rfl)
theorem dX1_moves_10 : decode cX1_moves 10 = .ok (.iload_n 3, 1) := dk_29 (dk_at dksX1_moves_0 10 rfl rfl)
theorem dX1_moves_11 : decode cX1_moves 11 = .ok (.ifCond .eq 16, 3) := dk_153 0 16 (dk_at dksX1_moves_0 11 rfl rfl)
theorem dX1_moves_14 : decode cX1_moves 14 = .ok (.aload_n 0, 1) := dk_42 (dk_at dksX1_moves_0 14 rfl rfl)
theorem dX1_moves_15 : decode cX1_moves 15 = .ok (.iload 4, 2) := dk_21 4 (dk_at dksX1_moves_0 15 rfl rfl)
theorem dX1_moves_17 : decode cX1_moves 17 = .ok (.aload_n 1, 1) := dk_43 (dk_at dksX1_moves_0 17 rfl rfl)
theorem dX1_moves_18 : decode cX1_moves 18 = .ok (.iload_n 2, 1) := dk_28 (dk_at dksX1_moves_0 18 rfl rfl)
theorem dX1_moves_19 : decode cX1_moves 19 = .ok (.iload 4, 2) := dk_21 4 (dk_at dksX1_moves_0 19 rfl rfl)
theorem dX1_moves_21 : decode cX1_moves 21 = .ok (.iadd, 1) := dk_96 (dk_at dksX1_moves_0 21 rfl rfl)
theorem dX1_moves_22 : decode cX1_moves 22 = .ok (.iaload, 1) := dk_46 (dk_at dksX1_moves_0 22 rfl rfl)
theorem dX1_moves_23 : decode cX1_moves 23 = .ok (.iastore, 1) := dk_79 (dk_at dksX1_moves_0 23 rfl rfl)
theorem dX1_moves_24 : decode cX1_moves 24 = .ok (.goto 13, 3) := dk_167 0 13 (dk_at dksX1_moves_1 0 rfl rfl)
theorem dX1_moves_27 : decode cX1_moves 27 = .ok (.aload_n 1, 1) := dk_43 (dk_at dksX1_moves_1 3 rfl rfl)
theorem dX1_moves_28 : decode cX1_moves 28 = .ok (.iload_n 2, 1) := dk_28 (dk_at dksX1_moves_1 4 rfl rfl)
theorem dX1_moves_29 : decode cX1_moves 29 = .ok (.iload 4, 2) := dk_21 4 (dk_at dksX1_moves_1 5 rfl rfl)
theorem dX1_moves_31 : decode cX1_moves 31 = .ok (.iadd, 1) := dk_96 (dk_at dksX1_moves_1 7 rfl rfl)
theorem dX1_moves_32 : decode cX1_moves 32 = .ok (.aload_n 0, 1) := dk_42 (dk_at dksX1_moves_1 8 rfl rfl)
theorem dX1_moves_33 : decode cX1_moves 33 = .ok (.iload 4, 2) := dk_21 4 (dk_at dksX1_moves_1 9 rfl rfl)
theorem dX1_moves_35 : decode cX1_moves 35 = .ok (.iaload, 1) := dk_46 (dk_at dksX1_moves_1 11 rfl rfl)
theorem dX1_moves_36 : decode cX1_moves 36 = .ok (.iastore, 1) := dk_79 (dk_at dksX1_moves_1 12 rfl rfl)
theorem dX1_moves_37 : decode cX1_moves 37 = .ok (.iinc 4 1, 3) := dk_132 4 1 (dk_at dksX1_moves_1 13 rfl rfl)
theorem dX1_moves_40 : decode cX1_moves 40 = .ok (.goto (-37), 3) := dk_167 255 219 (dk_at dksX1_moves_1 16 rfl rfl)
theorem dX1_moves_43 : decode cX1_moves 43 = .ok (.return_, 1) := dk_177 (dk_at dksX1_moves_1 19 rfl rfl)
def dkwX1_count_8 : List UInt8 := [132, 2, 1, 132, 3, 1, 167, 255, 233, 28, 172, 42, 180, 0, 56, 172, 42, 180, 0, 252, 172, 2, 172]
abbrev dktX1_count_8 : List UInt8 := dkwX1_count_8 ++ []
def dkwX1_count_7 : List UInt8 := [42, 180, 1, 66, 172, 3, 62, 29, 42, 180, 1, 66, 162, 0, 21, 42, 180, 0, 92, 29, 51, 153, 0, 6]
abbrev dktX1_count_7 : List UInt8 := dkwX1_count_7 ++ dktX1_count_8
def dkwX1_count_6 : List UInt8 := [21, 4, 46, 2, 159, 0, 6, 132, 2, 1, 132, 4, 1, 167, 255, 207, 132, 3, 1, 167, 255, 192, 28, 172]
abbrev dktX1_count_6 : List UInt8 := dkwX1_count_6 ++ dktX1_count_7
def dkwX1_count_5 : List UInt8 := [180, 0, 21, 29, 50, 180, 0, 139, 21, 4, 46, 167, 0, 15, 42, 180, 0, 21, 29, 50, 180, 0, 149]
abbrev dktX1_count_5 : List UInt8 := dkwX1_count_5 ++ dktX1_count_6
def dkwX1_count_4 : List UInt8 := [62, 29, 16, 24, 162, 0, 64, 3, 54, 4, 21, 4, 16, 12, 162, 0, 48, 27, 4, 160, 0, 18, 42]
abbrev dktX1_count_4 : List UInt8 := dkwX1_count_4 ++ dktX1_count_5
def dkwX1_count_3 : List UInt8 := [42, 180, 0, 21, 29, 50, 180, 0, 133, 153, 0, 6, 132, 2, 1, 132, 3, 1, 167, 255, 216, 28, 172, 3]
abbrev dktX1_count_3 : List UInt8 := dkwX1_count_3 ++ dktX1_count_4
def dkwX1_count_2 : List UInt8 := [3, 62, 29, 16, 24, 162, 0, 40, 42, 180, 0, 21, 29, 50, 180, 0, 116, 153, 0, 22, 27, 153, 0, 15]
abbrev dktX1_count_2 : List UInt8 := dkwX1_count_2 ++ dktX1_count_3
def dkwX1_count_1 : List UInt8 := [170, 0, 0, 0, 208, 0, 0, 0, 0, 0, 0, 0, 7, 0, 0, 0, 45, 0, 0, 0, 92, 0, 0, 0, 92, 0, 0, 0, 163, 0, 0, 0, 168, 0, 0, 0, 198, 0, 0, 0, 203, 0, 0, 0, 45]
abbrev dktX1_count_1 : List UInt8 := dkwX1_count_1 ++ dktX1_count_2
def dkwX1_count_0 : List UInt8 := [3, 61, 27]
abbrev dktX1_count_0 : List UInt8 := dkwX1_count_0 ++ dktX1_count_1
theorem dksX1_count_0 : cX1_count.data.toList.drop 0 = dktX1_count_0 := by decide +kernel
theorem dksX1_count_1 : cX1_count.data.toList.drop 3 = dktX1_count_1 := dk_seg dksX1_count_0 3 rfl rfl
theorem dksX1_count_2 : cX1_count.data.toList.drop 48 = dktX1_count_2 := dk_seg dksX1_count_1 45 rfl rfl
theorem dksX1_count_3 : cX1_count.data.toList.drop 72 = dktX1_count_3 := dk_seg dksX1_count_2 24 rfl rfl
theorem dksX1_count_4 : cX1_count.data.toList.drop 96 = dktX1_count_4 := dk_seg dksX1_count_3 24 rfl rfl
theorem dksX1_count_5 : cX1_count.data.toList.drop 119 = dktX1_count_5 := dk_seg dksX1_count_4 23 rfl rfl
theorem dksX1_count_6 : cX1_count.data.toList.drop 142 = dktX1_count_6 := dk_seg dksX1_count_5 23 rfl rfl
theorem dksX1_count_7 : cX1_count.data.toList.drop 166 = dktX1_count_7 := dk_seg dksX1_count_6 24 rfl rfl
theorem dksX1_count_8 : cX1_count.data.toList.drop 190 = dktX1_count_8 := dk_seg dksX1_count_7 24 rfl rfl
theorem dX1_count_0 : decode cX1_count 0 = .ok (.iconst 0, 1) := dk_3 (dk_at dksX1_count_0 0 rfl rfl)
theorem dX1_count_1 : decode cX1_count 1 = .ok (.istore_n 2, 1) := dk_61 (dk_at dksX1_count_0 1 rfl rfl)
theorem dX1_count_2 : decode cX1_count 2 = .ok (.iload_n 1, 1) := dk_27 (dk_at dksX1_count_0 2 rfl rfl)
theorem dX1_count_3 : decode cX1_count 3 = .ok (.tableswitch 208 0 7 #[45, 92, 92, 163, 168, 198, 203, 45], 45) := by decide +kernel
theorem dX1_count_48 : decode cX1_count 48 = .ok (.iconst 0, 1) := dk_3 (dk_at dksX1_count_2 0 rfl rfl)
theorem dX1_count_49 : decode cX1_count 49 = .ok (.istore_n 3, 1) := dk_62 (dk_at dksX1_count_2 1 rfl rfl)
theorem dX1_count_50 : decode cX1_count 50 = .ok (.iload_n 3, 1) := dk_29 (dk_at dksX1_count_2 2 rfl rfl)
theorem dX1_count_51 : decode cX1_count 51 = .ok (.bipush 24, 2) := dk_16 24 (dk_at dksX1_count_2 3 rfl rfl)
theorem dX1_count_53 : decode cX1_count 53 = .ok (.if_icmp .ge 40, 3) := dk_162 0 40 (dk_at dksX1_count_2 5 rfl rfl)
theorem dX1_count_56 : decode cX1_count 56 = .ok (.aload_n 0, 1) := dk_42 (dk_at dksX1_count_2 8 rfl rfl)
theorem dX1_count_57 : decode cX1_count 57 = .ok (.getfield 21, 3) := dk_180 0 21 (dk_at dksX1_count_2 9 rfl rfl)
theorem dX1_count_60 : decode cX1_count 60 = .ok (.iload_n 3, 1) := dk_29 (dk_at dksX1_count_2 12 rfl rfl)
theorem dX1_count_61 : decode cX1_count 61 = .ok (.aaload, 1) := dk_50 (dk_at dksX1_count_2 13 rfl rfl)
theorem dX1_count_62 : decode cX1_count 62 = .ok (.getfield 116, 3) := dk_180 0 116 (dk_at dksX1_count_2 14 rfl rfl)
theorem dX1_count_65 : decode cX1_count 65 = .ok (.ifCond .eq 22, 3) := dk_153 0 22 (dk_at dksX1_count_2 17 rfl rfl)
theorem dX1_count_68 : decode cX1_count 68 = .ok (.iload_n 1, 1) := dk_27 (dk_at dksX1_count_2 20 rfl rfl)
theorem dX1_count_69 : decode cX1_count 69 = .ok (.ifCond .eq 15, 3) := dk_153 0 15 (dk_at dksX1_count_2 21 rfl rfl)
theorem dX1_count_72 : decode cX1_count 72 = .ok (.aload_n 0, 1) := dk_42 (dk_at dksX1_count_3 0 rfl rfl)
theorem dX1_count_73 : decode cX1_count 73 = .ok (.getfield 21, 3) := dk_180 0 21 (dk_at dksX1_count_3 1 rfl rfl)
theorem dX1_count_76 : decode cX1_count 76 = .ok (.iload_n 3, 1) := dk_29 (dk_at dksX1_count_3 4 rfl rfl)
theorem dX1_count_77 : decode cX1_count 77 = .ok (.aaload, 1) := dk_50 (dk_at dksX1_count_3 5 rfl rfl)
theorem dX1_count_78 : decode cX1_count 78 = .ok (.getfield 133, 3) := dk_180 0 133 (dk_at dksX1_count_3 6 rfl rfl)
theorem dX1_count_81 : decode cX1_count 81 = .ok (.ifCond .eq 6, 3) := dk_153 0 6 (dk_at dksX1_count_3 9 rfl rfl)
theorem dX1_count_84 : decode cX1_count 84 = .ok (.iinc 2 1, 3) := dk_132 2 1 (dk_at dksX1_count_3 12 rfl rfl)
theorem dX1_count_87 : decode cX1_count 87 = .ok (.iinc 3 1, 3) := dk_132 3 1 (dk_at dksX1_count_3 15 rfl rfl)
theorem dX1_count_90 : decode cX1_count 90 = .ok (.goto (-40), 3) := dk_167 255 216 (dk_at dksX1_count_3 18 rfl rfl)
theorem dX1_count_93 : decode cX1_count 93 = .ok (.iload_n 2, 1) := dk_28 (dk_at dksX1_count_3 21 rfl rfl)
theorem dX1_count_94 : decode cX1_count 94 = .ok (.ireturn, 1) := dk_172 (dk_at dksX1_count_3 22 rfl rfl)
theorem dX1_count_95 : decode cX1_count 95 = .ok (.iconst 0, 1) := dk_3 (dk_at dksX1_count_3 23 rfl rfl)
theorem dX1_count_96 : decode cX1_count 96 = .ok (.istore_n 3, 1) := dk_62 (dk_at dksX1_count_4 0 rfl rfl)
theorem dX1_count_97 : decode cX1_count 97 = .ok (.iload_n 3, 1) := dk_29 (dk_at dksX1_count_4 1 rfl rfl)
theorem dX1_count_98 : decode cX1_count 98 = .ok (.bipush 24, 2) := dk_16 24 (dk_at dksX1_count_4 2 rfl rfl)
theorem dX1_count_100 : decode cX1_count 100 = .ok (.if_icmp .ge 64, 3) := dk_162 0 64 (dk_at dksX1_count_4 4 rfl rfl)
theorem dX1_count_103 : decode cX1_count 103 = .ok (.iconst 0, 1) := dk_3 (dk_at dksX1_count_4 7 rfl rfl)
theorem dX1_count_104 : decode cX1_count 104 = .ok (.istore 4, 2) := dk_54 4 (dk_at dksX1_count_4 8 rfl rfl)
theorem dX1_count_106 : decode cX1_count 106 = .ok (.iload 4, 2) := dk_21 4 (dk_at dksX1_count_4 10 rfl rfl)
theorem dX1_count_108 : decode cX1_count 108 = .ok (.bipush 12, 2) := dk_16 12 (dk_at dksX1_count_4 12 rfl rfl)
theorem dX1_count_110 : decode cX1_count 110 = .ok (.if_icmp .ge 48, 3) := dk_162 0 48 (dk_at dksX1_count_4 14 rfl rfl)
theorem dX1_count_113 : decode cX1_count 113 = .ok (.iload_n 1, 1) := dk_27 (dk_at dksX1_count_4 17 rfl rfl)
theorem dX1_count_114 : decode cX1_count 114 = .ok (.iconst 1, 1) := dk_4 (dk_at dksX1_count_4 18 rfl rfl)
theorem dX1_count_115 : decode cX1_count 115 = .ok (.if_icmp .ne 18, 3) := dk_160 0 18 (dk_at dksX1_count_4 19 rfl rfl)
theorem dX1_count_118 : decode cX1_count 118 = .ok (.aload_n 0, 1) := dk_42 (dk_at dksX1_count_4 22 rfl rfl)
theorem dX1_count_119 : decode cX1_count 119 = .ok (.getfield 21, 3) := dk_180 0 21 (dk_at dksX1_count_5 0 rfl rfl)
theorem dX1_count_122 : decode cX1_count 122 = .ok (.iload_n 3, 1) := dk_29 (dk_at dksX1_count_5 3 rfl rfl)
theorem dX1_count_123 : decode cX1_count 123 = .ok (.aaload, 1) := dk_50 (dk_at dksX1_count_5 4 rfl rfl)
theorem dX1_count_124 : decode cX1_count 124 = .ok (.getfield 139, 3) := dk_180 0 139 (dk_at dksX1_count_5 5 rfl rfl)
theorem dX1_count_127 : decode cX1_count 127 = .ok (.iload 4, 2) := dk_21 4 (dk_at dksX1_count_5 8 rfl rfl)
theorem dX1_count_129 : decode cX1_count 129 = .ok (.iaload, 1) := dk_46 (dk_at dksX1_count_5 10 rfl rfl)
theorem dX1_count_130 : decode cX1_count 130 = .ok (.goto 15, 3) := dk_167 0 15 (dk_at dksX1_count_5 11 rfl rfl)
theorem dX1_count_133 : decode cX1_count 133 = .ok (.aload_n 0, 1) := dk_42 (dk_at dksX1_count_5 14 rfl rfl)
theorem dX1_count_134 : decode cX1_count 134 = .ok (.getfield 21, 3) := dk_180 0 21 (dk_at dksX1_count_5 15 rfl rfl)
theorem dX1_count_137 : decode cX1_count 137 = .ok (.iload_n 3, 1) := dk_29 (dk_at dksX1_count_5 18 rfl rfl)
theorem dX1_count_138 : decode cX1_count 138 = .ok (.aaload, 1) := dk_50 (dk_at dksX1_count_5 19 rfl rfl)
theorem dX1_count_139 : decode cX1_count 139 = .ok (.getfield 149, 3) := dk_180 0 149 (dk_at dksX1_count_5 20 rfl rfl)
theorem dX1_count_142 : decode cX1_count 142 = .ok (.iload 4, 2) := dk_21 4 (dk_at dksX1_count_6 0 rfl rfl)
theorem dX1_count_144 : decode cX1_count 144 = .ok (.iaload, 1) := dk_46 (dk_at dksX1_count_6 2 rfl rfl)
theorem dX1_count_145 : decode cX1_count 145 = .ok (.iconst (-1), 1) := dk_2 (dk_at dksX1_count_6 3 rfl rfl)
theorem dX1_count_146 : decode cX1_count 146 = .ok (.if_icmp .eq 6, 3) := dk_159 0 6 (dk_at dksX1_count_6 4 rfl rfl)
theorem dX1_count_149 : decode cX1_count 149 = .ok (.iinc 2 1, 3) := dk_132 2 1 (dk_at dksX1_count_6 7 rfl rfl)
theorem dX1_count_152 : decode cX1_count 152 = .ok (.iinc 4 1, 3) := dk_132 4 1 (dk_at dksX1_count_6 10 rfl rfl)
theorem dX1_count_155 : decode cX1_count 155 = .ok (.goto (-49), 3) := dk_167 255 207 (dk_at dksX1_count_6 13 rfl rfl)
theorem dX1_count_158 : decode cX1_count 158 = .ok (.iinc 3 1, 3) := dk_132 3 1 (dk_at dksX1_count_6 16 rfl rfl)
theorem dX1_count_161 : decode cX1_count 161 = .ok (.goto (-64), 3) := dk_167 255 192 (dk_at dksX1_count_6 19 rfl rfl)
theorem dX1_count_164 : decode cX1_count 164 = .ok (.iload_n 2, 1) := dk_28 (dk_at dksX1_count_6 22 rfl rfl)
theorem dX1_count_165 : decode cX1_count 165 = .ok (.ireturn, 1) := dk_172 (dk_at dksX1_count_6 23 rfl rfl)
theorem dX1_count_166 : decode cX1_count 166 = .ok (.aload_n 0, 1) := dk_42 (dk_at dksX1_count_7 0 rfl rfl)
theorem dX1_count_167 : decode cX1_count 167 = .ok (.getfield 322, 3) := dk_180 1 66 (dk_at dksX1_count_7 1 rfl rfl)
theorem dX1_count_170 : decode cX1_count 170 = .ok (.ireturn, 1) := dk_172 (dk_at dksX1_count_7 4 rfl rfl)
theorem dX1_count_171 : decode cX1_count 171 = .ok (.iconst 0, 1) := dk_3 (dk_at dksX1_count_7 5 rfl rfl)
theorem dX1_count_172 : decode cX1_count 172 = .ok (.istore_n 3, 1) := dk_62 (dk_at dksX1_count_7 6 rfl rfl)
theorem dX1_count_173 : decode cX1_count 173 = .ok (.iload_n 3, 1) := dk_29 (dk_at dksX1_count_7 7 rfl rfl)
theorem dX1_count_174 : decode cX1_count 174 = .ok (.aload_n 0, 1) := dk_42 (dk_at dksX1_count_7 8 rfl rfl)
theorem dX1_count_175 : decode cX1_count 175 = .ok (.getfield 322, 3) := dk_180 1 66 (dk_at dksX1_count_7 9 rfl rfl)
theorem dX1_count_178 : decode cX1_count 178 = .ok (.if_icmp .ge 21, 3) := dk_162 0 21 (dk_at dksX1_count_7 12 rfl rfl)
theorem dX1_count_181 : decode cX1_count 181 = .ok (.aload_n 0, 1) := dk_42 (dk_at dksX1_count_7 15 rfl rfl)
theorem dX1_count_182 : decode cX1_count 182 = .ok (.getfield 92, 3) := dk_180 0 92 (dk_at dksX1_count_7 16 rfl rfl)
theorem dX1_count_185 : decode cX1_count 185 = .ok (.iload_n 3, 1) := dk_29 (dk_at dksX1_count_7 19 rfl rfl)
theorem dX1_count_186 : decode cX1_count 186 = .ok (.baload, 1) := dk_51 (dk_at dksX1_count_7 20 rfl rfl)
theorem dX1_count_187 : decode cX1_count 187 = .ok (.ifCond .eq 6, 3) := dk_153 0 6 (dk_at dksX1_count_7 21 rfl rfl)
theorem dX1_count_190 : decode cX1_count 190 = .ok (.iinc 2 1, 3) := dk_132 2 1 (dk_at dksX1_count_8 0 rfl rfl)
theorem dX1_count_193 : decode cX1_count 193 = .ok (.iinc 3 1, 3) := dk_132 3 1 (dk_at dksX1_count_8 3 rfl rfl)
theorem dX1_count_196 : decode cX1_count 196 = .ok (.goto (-23), 3) := dk_167 255 233 (dk_at dksX1_count_8 6 rfl rfl)
theorem dX1_count_199 : decode cX1_count 199 = .ok (.iload_n 2, 1) := dk_28 (dk_at dksX1_count_8 9 rfl rfl)
theorem dX1_count_200 : decode cX1_count 200 = .ok (.ireturn, 1) := dk_172 (dk_at dksX1_count_8 10 rfl rfl)
theorem dX1_count_201 : decode cX1_count 201 = .ok (.aload_n 0, 1) := dk_42 (dk_at dksX1_count_8 11 rfl rfl)
theorem dX1_count_202 : decode cX1_count 202 = .ok (.getfield 56, 3) := dk_180 0 56 (dk_at dksX1_count_8 12 rfl rfl)
theorem dX1_count_205 : decode cX1_count 205 = .ok (.ireturn, 1) := dk_172 (dk_at dksX1_count_8 15 rfl rfl)
theorem dX1_count_206 : decode cX1_count 206 = .ok (.aload_n 0, 1) := dk_42 (dk_at dksX1_count_8 16 rfl rfl)
theorem dX1_count_207 : decode cX1_count 207 = .ok (.getfield 252, 3) := dk_180 0 252 (dk_at dksX1_count_8 17 rfl rfl)
theorem dX1_count_210 : decode cX1_count 210 = .ok (.ireturn, 1) := dk_172 (dk_at dksX1_count_8 20 rfl rfl)
theorem dX1_count_211 : decode cX1_count 211 = .ok (.iconst (-1), 1) := dk_2 (dk_at dksX1_count_8 21 rfl rfl)
theorem dX1_count_212 : decode cX1_count 212 = .ok (.ireturn, 1) := dk_172 (dk_at dksX1_count_8 22 rfl rfl)
def dkwX1_bank_8 : List UInt8 := [132, 6, 1, 167, 255, 109, 25, 5, 21, 4, 46, 172]
abbrev dktX1_bank_8 : List UInt8 := dkwX1_bank_8 ++ []
def dkwX1_bank_7 : List UInt8 := [25, 5, 6, 92, 46, 4, 96, 79, 25, 5, 7, 92, 46, 42, 25, 7, 28, 29, 182, 0, 175, 96, 79]
abbrev dktX1_bank_7 : List UInt8 := dkwX1_bank_7 ++ dktX1_bank_8
def dkwX1_bank_6 : List UInt8 := [25, 7, 180, 0, 139, 28, 46, 16, 254, 160, 0, 23, 25, 7, 180, 0, 139, 29, 46, 16, 254, 159, 0, 11]
abbrev dktX1_bank_6 : List UInt8 := dkwX1_bank_6 ++ dktX1_bank_7
def dkwX1_bank_5 : List UInt8 := [160, 0, 23, 25, 7, 180, 0, 139, 28, 46, 16, 254, 159, 0, 11, 25, 5, 5, 92, 46, 4, 96, 79]
abbrev dktX1_bank_5 : List UInt8 := dkwX1_bank_5 ++ dktX1_bank_6
def dkwX1_bank_4 : List UInt8 := [46, 4, 96, 79, 167, 0, 90, 25, 5, 3, 92, 46, 4, 96, 79, 25, 7, 180, 0, 139, 29, 46, 16, 254]
abbrev dktX1_bank_4 : List UInt8 := dkwX1_bank_4 ++ dktX1_bank_5
def dkwX1_bank_3 : List UInt8 := [180, 0, 124, 27, 159, 0, 6, 167, 0, 111, 25, 7, 28, 29, 182, 0, 172, 154, 0, 14, 25, 5, 4, 92]
abbrev dktX1_bank_3 : List UInt8 := dkwX1_bank_3 ++ dktX1_bank_4
def dkwX1_bank_2 : List UInt8 := [162, 0, 146, 42, 180, 0, 21, 21, 6, 50, 58, 7, 25, 7, 180, 0, 116, 153, 0, 123, 25, 7]
abbrev dktX1_bank_2 : List UInt8 := dkwX1_bank_2 ++ dktX1_bank_3
def dkwX1_bank_1 : List UInt8 := [153, 0, 7, 4, 167, 0, 4, 3, 184, 0, 168, 8, 188, 10, 58, 5, 3, 54, 6, 21, 6, 16, 24]
abbrev dktX1_bank_1 : List UInt8 := dkwX1_bank_1 ++ dktX1_bank_2
def dkwX1_bank_0 : List UInt8 := [27, 3, 4, 184, 0, 112, 153, 0, 25, 28, 29, 184, 0, 164, 153, 0, 17, 21, 4, 3, 7, 184, 0, 112]
abbrev dktX1_bank_0 : List UInt8 := dkwX1_bank_0 ++ dktX1_bank_1
theorem dksX1_bank_0 : cX1_bank.data.toList.drop 0 = dktX1_bank_0 := by decide +kernel
theorem dksX1_bank_1 : cX1_bank.data.toList.drop 24 = dktX1_bank_1 := dk_seg dksX1_bank_0 24 rfl rfl
theorem dksX1_bank_2 : cX1_bank.data.toList.drop 47 = dktX1_bank_2 := dk_seg dksX1_bank_1 23 rfl rfl
theorem dksX1_bank_3 : cX1_bank.data.toList.drop 69 = dktX1_bank_3 := dk_seg dksX1_bank_2 22 rfl rfl
theorem dksX1_bank_4 : cX1_bank.data.toList.drop 93 = dktX1_bank_4 := dk_seg dksX1_bank_3 24 rfl rfl
theorem dksX1_bank_5 : cX1_bank.data.toList.drop 117 = dktX1_bank_5 := dk_seg dksX1_bank_4 24 rfl rfl
theorem dksX1_bank_6 : cX1_bank.data.toList.drop 140 = dktX1_bank_6 := dk_seg dksX1_bank_5 23 rfl rfl
theorem dksX1_bank_7 : cX1_bank.data.toList.drop 164 = dktX1_bank_7 := dk_seg dksX1_bank_6 24 rfl rfl
theorem dksX1_bank_8 : cX1_bank.data.toList.drop 187 = dktX1_bank_8 := dk_seg dksX1_bank_7 23 rfl rfl
theorem dX1_bank_0 : decode cX1_bank 0 = .ok (.iload_n 1, 1) := dk_27 (dk_at dksX1_bank_0 0 rfl rfl)
theorem dX1_bank_1 : decode cX1_bank 1 = .ok (.iconst 0, 1) := dk_3 (dk_at dksX1_bank_0 1 rfl rfl)
theorem dX1_bank_2 : decode cX1_bank 2 = .ok (.iconst 1, 1) := dk_4 (dk_at dksX1_bank_0 2 rfl rfl)
theorem dX1_bank_3 : decode cX1_bank 3 = .ok (.invokestatic 112, 3) := dk_184 0 112 (dk_at dksX1_bank_0 3 rfl rfl)
theorem dX1_bank_6 : decode cX1_bank 6 = .ok (.ifCond .eq 25, 3) := dk_153 0 25 (dk_at dksX1_bank_0 6 rfl rfl)
theorem dX1_bank_9 : decode cX1_bank 9 = .ok (.iload_n 2, 1) := dk_28 (dk_at dksX1_bank_0 9 rfl rfl)
theorem dX1_bank_10 : decode cX1_bank 10 = .ok (.iload_n 3, 1) := dk_29 (dk_at dksX1_bank_0 10 rfl rfl)
theorem dX1_bank_11 : decode cX1_bank 11 = .ok (.invokestatic 164, 3) := dk_184 0 164 (dk_at dksX1_bank_0 11 rfl rfl)
theorem dX1_bank_14 : decode cX1_bank 14 = .ok (.ifCond .eq 17, 3) := dk_153 0 17 (dk_at dksX1_bank_0 14 rfl rfl)
theorem dX1_bank_17 : decode cX1_bank 17 = .ok (.iload 4, 2) := dk_21 4 (dk_at dksX1_bank_0 17 rfl rfl)
theorem dX1_bank_19 : decode cX1_bank 19 = .ok (.iconst 0, 1) := dk_3 (dk_at dksX1_bank_0 19 rfl rfl)
theorem dX1_bank_20 : decode cX1_bank 20 = .ok (.iconst 4, 1) := dk_7 (dk_at dksX1_bank_0 20 rfl rfl)
theorem dX1_bank_21 : decode cX1_bank 21 = .ok (.invokestatic 112, 3) := dk_184 0 112 (dk_at dksX1_bank_0 21 rfl rfl)
theorem dX1_bank_24 : decode cX1_bank 24 = .ok (.ifCond .eq 7, 3) := dk_153 0 7 (dk_at dksX1_bank_1 0 rfl rfl)
theorem dX1_bank_27 : decode cX1_bank 27 = .ok (.iconst 1, 1) := dk_4 (dk_at dksX1_bank_1 3 rfl rfl)
theorem dX1_bank_28 : decode cX1_bank 28 = .ok (.goto 4, 3) := dk_167 0 4 (dk_at dksX1_bank_1 4 rfl rfl)
theorem dX1_bank_31 : decode cX1_bank 31 = .ok (.iconst 0, 1) := dk_3 (dk_at dksX1_bank_1 7 rfl rfl)
theorem dX1_bank_32 : decode cX1_bank 32 = .ok (.invokestatic 168, 3) := dk_184 0 168 (dk_at dksX1_bank_1 8 rfl rfl)
theorem dX1_bank_35 : decode cX1_bank 35 = .ok (.iconst 5, 1) := dk_8 (dk_at dksX1_bank_1 11 rfl rfl)
theorem dX1_bank_36 : decode cX1_bank 36 = .ok (.newarray .int, 2) := dk_188_10 (dk_at dksX1_bank_1 12 rfl rfl)
theorem dX1_bank_38 : decode cX1_bank 38 = .ok (.astore 5, 2) := dk_58 5 (dk_at dksX1_bank_1 14 rfl rfl)
theorem dX1_bank_40 : decode cX1_bank 40 = .ok (.iconst 0, 1) := dk_3 (dk_at dksX1_bank_1 16 rfl rfl)
theorem dX1_bank_41 : decode cX1_bank 41 = .ok (.istore 6, 2) := dk_54 6 (dk_at dksX1_bank_1 17 rfl rfl)
theorem dX1_bank_43 : decode cX1_bank 43 = .ok (.iload 6, 2) := dk_21 6 (dk_at dksX1_bank_1 19 rfl rfl)
theorem dX1_bank_45 : decode cX1_bank 45 = .ok (.bipush 24, 2) := dk_16 24 (dk_at dksX1_bank_1 21 rfl rfl)
theorem dX1_bank_47 : decode cX1_bank 47 = .ok (.if_icmp .ge 146, 3) := dk_162 0 146 (dk_at dksX1_bank_2 0 rfl rfl)
theorem dX1_bank_50 : decode cX1_bank 50 = .ok (.aload_n 0, 1) := dk_42 (dk_at dksX1_bank_2 3 rfl rfl)
theorem dX1_bank_51 : decode cX1_bank 51 = .ok (.getfield 21, 3) := dk_180 0 21 (dk_at dksX1_bank_2 4 rfl rfl)
theorem dX1_bank_54 : decode cX1_bank 54 = .ok (.iload 6, 2) := dk_21 6 (dk_at dksX1_bank_2 7 rfl rfl)
theorem dX1_bank_56 : decode cX1_bank 56 = .ok (.aaload, 1) := dk_50 (dk_at dksX1_bank_2 9 rfl rfl)
theorem dX1_bank_57 : decode cX1_bank 57 = .ok (.astore 7, 2) := dk_58 7 (dk_at dksX1_bank_2 10 rfl rfl)
theorem dX1_bank_59 : decode cX1_bank 59 = .ok (.aload 7, 2) := dk_25 7 (dk_at dksX1_bank_2 12 rfl rfl)
theorem dX1_bank_61 : decode cX1_bank 61 = .ok (.getfield 116, 3) := dk_180 0 116 (dk_at dksX1_bank_2 14 rfl rfl)
theorem dX1_bank_64 : decode cX1_bank 64 = .ok (.ifCond .eq 123, 3) := dk_153 0 123 (dk_at dksX1_bank_2 17 rfl rfl)
theorem dX1_bank_67 : decode cX1_bank 67 = .ok (.aload 7, 2) := dk_25 7 (dk_at dksX1_bank_2 20 rfl rfl)
theorem dX1_bank_69 : decode cX1_bank 69 = .ok (.getfield 124, 3) := dk_180 0 124 (dk_at dksX1_bank_3 0 rfl rfl)
theorem dX1_bank_72 : decode cX1_bank 72 = .ok (.iload_n 1, 1) := dk_27 (dk_at dksX1_bank_3 3 rfl rfl)
theorem dX1_bank_73 : decode cX1_bank 73 = .ok (.if_icmp .eq 6, 3) := dk_159 0 6 (dk_at dksX1_bank_3 4 rfl rfl)
theorem dX1_bank_76 : decode cX1_bank 76 = .ok (.goto 111, 3) := dk_167 0 111 (dk_at dksX1_bank_3 7 rfl rfl)
theorem dX1_bank_79 : decode cX1_bank 79 = .ok (.aload 7, 2) := dk_25 7 (dk_at dksX1_bank_3 10 rfl rfl)
theorem dX1_bank_81 : decode cX1_bank 81 = .ok (.iload_n 2, 1) := dk_28 (dk_at dksX1_bank_3 12 rfl rfl)
theorem dX1_bank_82 : decode cX1_bank 82 = .ok (.iload_n 3, 1) := dk_29 (dk_at dksX1_bank_3 13 rfl rfl)
theorem dX1_bank_83 : decode cX1_bank 83 = .ok (.invokevirtual 172, 3) := dk_182 0 172 (dk_at dksX1_bank_3 14 rfl rfl)
theorem dX1_bank_86 : decode cX1_bank 86 = .ok (.ifCond .ne 14, 3) := dk_154 0 14 (dk_at dksX1_bank_3 17 rfl rfl)
theorem dX1_bank_89 : decode cX1_bank 89 = .ok (.aload 5, 2) := dk_25 5 (dk_at dksX1_bank_3 20 rfl rfl)
theorem dX1_bank_91 : decode cX1_bank 91 = .ok (.iconst 1, 1) := dk_4 (dk_at dksX1_bank_3 22 rfl rfl)
theorem dX1_bank_92 : decode cX1_bank 92 = .ok (.dup2, 1) := dk_92 (dk_at dksX1_bank_3 23 rfl rfl)
theorem dX1_bank_93 : decode cX1_bank 93 = .ok (.iaload, 1) := dk_46 (dk_at dksX1_bank_4 0 rfl rfl)
theorem dX1_bank_94 : decode cX1_bank 94 = .ok (.iconst 1, 1) := dk_4 (dk_at dksX1_bank_4 1 rfl rfl)
theorem dX1_bank_95 : decode cX1_bank 95 = .ok (.iadd, 1) := dk_96 (dk_at dksX1_bank_4 2 rfl rfl)
theorem dX1_bank_96 : decode cX1_bank 96 = .ok (.iastore, 1) := dk_79 (dk_at dksX1_bank_4 3 rfl rfl)
theorem dX1_bank_97 : decode cX1_bank 97 = .ok (.goto 90, 3) := dk_167 0 90 (dk_at dksX1_bank_4 4 rfl rfl)
theorem dX1_bank_100 : decode cX1_bank 100 = .ok (.aload 5, 2) := dk_25 5 (dk_at dksX1_bank_4 7 rfl rfl)
theorem dX1_bank_102 : decode cX1_bank 102 = .ok (.iconst 0, 1) := dk_3 (dk_at dksX1_bank_4 9 rfl rfl)
theorem dX1_bank_103 : decode cX1_bank 103 = .ok (.dup2, 1) := dk_92 (dk_at dksX1_bank_4 10 rfl rfl)
theorem dX1_bank_104 : decode cX1_bank 104 = .ok (.iaload, 1) := dk_46 (dk_at dksX1_bank_4 11 rfl rfl)
theorem dX1_bank_105 : decode cX1_bank 105 = .ok (.iconst 1, 1) := dk_4 (dk_at dksX1_bank_4 12 rfl rfl)
theorem dX1_bank_106 : decode cX1_bank 106 = .ok (.iadd, 1) := dk_96 (dk_at dksX1_bank_4 13 rfl rfl)
theorem dX1_bank_107 : decode cX1_bank 107 = .ok (.iastore, 1) := dk_79 (dk_at dksX1_bank_4 14 rfl rfl)
theorem dX1_bank_108 : decode cX1_bank 108 = .ok (.aload 7, 2) := dk_25 7 (dk_at dksX1_bank_4 15 rfl rfl)
theorem dX1_bank_110 : decode cX1_bank 110 = .ok (.getfield 139, 3) := dk_180 0 139 (dk_at dksX1_bank_4 17 rfl rfl)
theorem dX1_bank_113 : decode cX1_bank 113 = .ok (.iload_n 3, 1) := dk_29 (dk_at dksX1_bank_4 20 rfl rfl)
theorem dX1_bank_114 : decode cX1_bank 114 = .ok (.iaload, 1) := dk_46 (dk_at dksX1_bank_4 21 rfl rfl)
theorem dX1_bank_115 : decode cX1_bank 115 = .ok (.bipush (-2), 2) := dk_16 254 (dk_at dksX1_bank_4 22 rfl rfl)
theorem dX1_bank_117 : decode cX1_bank 117 = .ok (.if_icmp .ne 23, 3) := dk_160 0 23 (dk_at dksX1_bank_5 0 rfl rfl)
theorem dX1_bank_120 : decode cX1_bank 120 = .ok (.aload 7, 2) := dk_25 7 (dk_at dksX1_bank_5 3 rfl rfl)
theorem dX1_bank_122 : decode cX1_bank 122 = .ok (.getfield 139, 3) := dk_180 0 139 (dk_at dksX1_bank_5 5 rfl rfl)
theorem dX1_bank_125 : decode cX1_bank 125 = .ok (.iload_n 2, 1) := dk_28 (dk_at dksX1_bank_5 8 rfl rfl)
theorem dX1_bank_126 : decode cX1_bank 126 = .ok (.iaload, 1) := dk_46 (dk_at dksX1_bank_5 9 rfl rfl)
theorem dX1_bank_127 : decode cX1_bank 127 = .ok (.bipush (-2), 2) := dk_16 254 (dk_at dksX1_bank_5 10 rfl rfl)
theorem dX1_bank_129 : decode cX1_bank 129 = .ok (.if_icmp .eq 11, 3) := dk_159 0 11 (dk_at dksX1_bank_5 12 rfl rfl)
theorem dX1_bank_132 : decode cX1_bank 132 = .ok (.aload 5, 2) := dk_25 5 (dk_at dksX1_bank_5 15 rfl rfl)
theorem dX1_bank_134 : decode cX1_bank 134 = .ok (.iconst 2, 1) := dk_5 (dk_at dksX1_bank_5 17 rfl rfl)
theorem dX1_bank_135 : decode cX1_bank 135 = .ok (.dup2, 1) := dk_92 (dk_at dksX1_bank_5 18 rfl rfl)
theorem dX1_bank_136 : decode cX1_bank 136 = .ok (.iaload, 1) := dk_46 (dk_at dksX1_bank_5 19 rfl rfl)
theorem dX1_bank_137 : decode cX1_bank 137 = .ok (.iconst 1, 1) := dk_4 (dk_at dksX1_bank_5 20 rfl rfl)
theorem dX1_bank_138 : decode cX1_bank 138 = .ok (.iadd, 1) := dk_96 (dk_at dksX1_bank_5 21 rfl rfl)
theorem dX1_bank_139 : decode cX1_bank 139 = .ok (.iastore, 1) := dk_79 (dk_at dksX1_bank_5 22 rfl rfl)
theorem dX1_bank_140 : decode cX1_bank 140 = .ok (.aload 7, 2) := dk_25 7 (dk_at dksX1_bank_6 0 rfl rfl)
theorem dX1_bank_142 : decode cX1_bank 142 = .ok (.getfield 139, 3) := dk_180 0 139 (dk_at dksX1_bank_6 2 rfl rfl)
theorem dX1_bank_145 : decode cX1_bank 145 = .ok (.iload_n 2, 1) := dk_28 (dk_at dksX1_bank_6 5 rfl rfl)
theorem dX1_bank_146 : decode cX1_bank 146 = .ok (.iaload, 1) := dk_46 (dk_at dksX1_bank_6 6 rfl rfl)
theorem dX1_bank_147 : decode cX1_bank 147 = .ok (.bipush (-2), 2) := dk_16 254 (dk_at dksX1_bank_6 7 rfl rfl)
theorem dX1_bank_149 : decode cX1_bank 149 = .ok (.if_icmp .ne 23, 3) := dk_160 0 23 (dk_at dksX1_bank_6 9 rfl rfl)
theorem dX1_bank_152 : decode cX1_bank 152 = .ok (.aload 7, 2) := dk_25 7 (dk_at dksX1_bank_6 12 rfl rfl)
theorem dX1_bank_154 : decode cX1_bank 154 = .ok (.getfield 139, 3) := dk_180 0 139 (dk_at dksX1_bank_6 14 rfl rfl)
theorem dX1_bank_157 : decode cX1_bank 157 = .ok (.iload_n 3, 1) := dk_29 (dk_at dksX1_bank_6 17 rfl rfl)
theorem dX1_bank_158 : decode cX1_bank 158 = .ok (.iaload, 1) := dk_46 (dk_at dksX1_bank_6 18 rfl rfl)
theorem dX1_bank_159 : decode cX1_bank 159 = .ok (.bipush (-2), 2) := dk_16 254 (dk_at dksX1_bank_6 19 rfl rfl)
theorem dX1_bank_161 : decode cX1_bank 161 = .ok (.if_icmp .eq 11, 3) := dk_159 0 11 (dk_at dksX1_bank_6 21 rfl rfl)
theorem dX1_bank_164 : decode cX1_bank 164 = .ok (.aload 5, 2) := dk_25 5 (dk_at dksX1_bank_7 0 rfl rfl)
theorem dX1_bank_166 : decode cX1_bank 166 = .ok (.iconst 3, 1) := dk_6 (dk_at dksX1_bank_7 2 rfl rfl)
theorem dX1_bank_167 : decode cX1_bank 167 = .ok (.dup2, 1) := dk_92 (dk_at dksX1_bank_7 3 rfl rfl)
theorem dX1_bank_168 : decode cX1_bank 168 = .ok (.iaload, 1) := dk_46 (dk_at dksX1_bank_7 4 rfl rfl)
theorem dX1_bank_169 : decode cX1_bank 169 = .ok (.iconst 1, 1) := dk_4 (dk_at dksX1_bank_7 5 rfl rfl)
theorem dX1_bank_170 : decode cX1_bank 170 = .ok (.iadd, 1) := dk_96 (dk_at dksX1_bank_7 6 rfl rfl)
theorem dX1_bank_171 : decode cX1_bank 171 = .ok (.iastore, 1) := dk_79 (dk_at dksX1_bank_7 7 rfl rfl)
theorem dX1_bank_172 : decode cX1_bank 172 = .ok (.aload 5, 2) := dk_25 5 (dk_at dksX1_bank_7 8 rfl rfl)
theorem dX1_bank_174 : decode cX1_bank 174 = .ok (.iconst 4, 1) := dk_7 (dk_at dksX1_bank_7 10 rfl rfl)
theorem dX1_bank_175 : decode cX1_bank 175 = .ok (.dup2, 1) := dk_92 (dk_at dksX1_bank_7 11 rfl rfl)
theorem dX1_bank_176 : decode cX1_bank 176 = .ok (.iaload, 1) := dk_46 (dk_at dksX1_bank_7 12 rfl rfl)
theorem dX1_bank_177 : decode cX1_bank 177 = .ok (.aload_n 0, 1) := dk_42 (dk_at dksX1_bank_7 13 rfl rfl)
theorem dX1_bank_178 : decode cX1_bank 178 = .ok (.aload 7, 2) := dk_25 7 (dk_at dksX1_bank_7 14 rfl rfl)
theorem dX1_bank_180 : decode cX1_bank 180 = .ok (.iload_n 2, 1) := dk_28 (dk_at dksX1_bank_7 16 rfl rfl)
theorem dX1_bank_181 : decode cX1_bank 181 = .ok (.iload_n 3, 1) := dk_29 (dk_at dksX1_bank_7 17 rfl rfl)
theorem dX1_bank_182 : decode cX1_bank 182 = .ok (.invokevirtual 175, 3) := dk_182 0 175 (dk_at dksX1_bank_7 18 rfl rfl)
theorem dX1_bank_185 : decode cX1_bank 185 = .ok (.iadd, 1) := dk_96 (dk_at dksX1_bank_7 21 rfl rfl)
theorem dX1_bank_186 : decode cX1_bank 186 = .ok (.iastore, 1) := dk_79 (dk_at dksX1_bank_7 22 rfl rfl)
theorem dX1_bank_187 : decode cX1_bank 187 = .ok (.iinc 6 1, 3) := dk_132 6 1 (dk_at dksX1_bank_8 0 rfl rfl)
theorem dX1_bank_190 : decode cX1_bank 190 = .ok (.goto (-147), 3) := dk_167 255 109 (dk_at dksX1_bank_8 3 rfl rfl)
theorem dX1_bank_193 : decode cX1_bank 193 = .ok (.aload 5, 2) := dk_25 5 (dk_at dksX1_bank_8 6 rfl rfl)
theorem dX1_bank_195 : decode cX1_bank 195 = .ok (.iload 4, 2) := dk_21 4 (dk_at dksX1_bank_8 8 rfl rfl)
theorem dX1_bank_197 : decode cX1_bank 197 = .ok (.iaload, 1) := dk_46 (dk_at dksX1_bank_8 10 rfl rfl)
theorem dX1_bank_198 : decode cX1_bank 198 = .ok (.ireturn, 1) := dk_172 (dk_at dksX1_bank_8 11 rfl rfl)
def dkwX1_need_0 : List UInt8 := [26, 154, 0, 11, 187, 0, 109, 89, 183, 0, 111, 191, 177]
abbrev dktX1_need_0 : List UInt8 := dkwX1_need_0 ++ []
theorem dksX1_need_0 : cX1_need.data.toList.drop 0 = dktX1_need_0 := by decide +kernel
theorem dX1_need_0 : decode cX1_need 0 = .ok (.iload_n 0, 1) := dk_26 (dk_at dksX1_need_0 0 rfl rfl)
theorem dX1_need_1 : decode cX1_need 1 = .ok (.ifCond .ne 11, 3) := dk_154 0 11 (dk_at dksX1_need_0 1 rfl rfl)
theorem dX1_need_4 : decode cX1_need 4 = .ok (.new 109, 3) := dk_187 0 109 (dk_at dksX1_need_0 4 rfl rfl)
theorem dX1_need_7 : decode cX1_need 7 = .ok (.dup, 1) := dk_89 (dk_at dksX1_need_0 7 rfl rfl)
theorem dX1_need_8 : decode cX1_need 8 = .ok (.invokespecial 111, 3) := dk_183 0 111 (dk_at dksX1_need_0 8 rfl rfl)
theorem dX1_need_11 : decode cX1_need 11 = .ok (.athrow, 1) := dk_191 (dk_at dksX1_need_0 11 rfl rfl)
theorem dX1_need_12 : decode cX1_need 12 = .ok (.return_, 1) := dk_177 (dk_at dksX1_need_0 12 rfl rfl)
def dkwX1_river_1 : List UInt8 := [29, 21, 4, 182, 0, 207, 42, 182, 0, 211, 42, 182, 0, 215, 21, 4, 184, 0, 218, 173]
abbrev dktX1_river_1 : List UInt8 := dkwX1_river_1 ++ []
def dkwX1_river_0 : List UInt8 := [29, 2, 159, 0, 11, 42, 29, 182, 0, 136, 153, 0, 7, 4, 167, 0, 4, 3, 184, 0, 168, 42, 27, 28]
abbrev dktX1_river_0 : List UInt8 := dkwX1_river_0 ++ dktX1_river_1
theorem dksX1_river_0 : cX1_river.data.toList.drop 0 = dktX1_river_0 := by decide +kernel
theorem dksX1_river_1 : cX1_river.data.toList.drop 24 = dktX1_river_1 := dk_seg dksX1_river_0 24 rfl rfl
theorem dX1_river_0 : decode cX1_river 0 = .ok (.iload_n 3, 1) := dk_29 (dk_at dksX1_river_0 0 rfl rfl)
theorem dX1_river_1 : decode cX1_river 1 = .ok (.iconst (-1), 1) := dk_2 (dk_at dksX1_river_0 1 rfl rfl)
theorem dX1_river_2 : decode cX1_river 2 = .ok (.if_icmp .eq 11, 3) := dk_159 0 11 (dk_at dksX1_river_0 2 rfl rfl)
theorem dX1_river_5 : decode cX1_river 5 = .ok (.aload_n 0, 1) := dk_42 (dk_at dksX1_river_0 5 rfl rfl)
theorem dX1_river_6 : decode cX1_river 6 = .ok (.iload_n 3, 1) := dk_29 (dk_at dksX1_river_0 6 rfl rfl)
theorem dX1_river_7 : decode cX1_river 7 = .ok (.invokevirtual 136, 3) := dk_182 0 136 (dk_at dksX1_river_0 7 rfl rfl)
theorem dX1_river_10 : decode cX1_river 10 = .ok (.ifCond .eq 7, 3) := dk_153 0 7 (dk_at dksX1_river_0 10 rfl rfl)
theorem dX1_river_13 : decode cX1_river 13 = .ok (.iconst 1, 1) := dk_4 (dk_at dksX1_river_0 13 rfl rfl)
theorem dX1_river_14 : decode cX1_river 14 = .ok (.goto 4, 3) := dk_167 0 4 (dk_at dksX1_river_0 14 rfl rfl)
theorem dX1_river_17 : decode cX1_river 17 = .ok (.iconst 0, 1) := dk_3 (dk_at dksX1_river_0 17 rfl rfl)
theorem dX1_river_18 : decode cX1_river 18 = .ok (.invokestatic 168, 3) := dk_184 0 168 (dk_at dksX1_river_0 18 rfl rfl)
theorem dX1_river_21 : decode cX1_river 21 = .ok (.aload_n 0, 1) := dk_42 (dk_at dksX1_river_0 21 rfl rfl)
theorem dX1_river_22 : decode cX1_river 22 = .ok (.iload_n 1, 1) := dk_27 (dk_at dksX1_river_0 22 rfl rfl)
theorem dX1_river_23 : decode cX1_river 23 = .ok (.iload_n 2, 1) := dk_28 (dk_at dksX1_river_0 23 rfl rfl)
theorem dX1_river_24 : decode cX1_river 24 = .ok (.iload_n 3, 1) := dk_29 (dk_at dksX1_river_1 0 rfl rfl)
theorem dX1_river_25 : decode cX1_river 25 = .ok (.iload 4, 2) := dk_21 4 (dk_at dksX1_river_1 1 rfl rfl)
theorem dX1_river_27 : decode cX1_river 27 = .ok (.invokevirtual 207, 3) := dk_182 0 207 (dk_at dksX1_river_1 3 rfl rfl)
theorem dX1_river_30 : decode cX1_river 30 = .ok (.aload_n 0, 1) := dk_42 (dk_at dksX1_river_1 6 rfl rfl)
theorem dX1_river_31 : decode cX1_river 31 = .ok (.invokevirtual 211, 3) := dk_182 0 211 (dk_at dksX1_river_1 7 rfl rfl)
theorem dX1_river_34 : decode cX1_river 34 = .ok (.aload_n 0, 1) := dk_42 (dk_at dksX1_river_1 10 rfl rfl)
theorem dX1_river_35 : decode cX1_river 35 = .ok (.invokevirtual 215, 3) := dk_182 0 215 (dk_at dksX1_river_1 11 rfl rfl)
theorem dX1_river_38 : decode cX1_river 38 = .ok (.iload 4, 2) := dk_21 4 (dk_at dksX1_river_1 14 rfl rfl)
theorem dX1_river_40 : decode cX1_river 40 = .ok (.invokestatic 218, 3) := dk_184 0 218 (dk_at dksX1_river_1 16 rfl rfl)
theorem dX1_river_43 : decode cX1_river 43 = .ok (.lreturn, 1) := dk_173 (dk_at dksX1_river_1 19 rfl rfl)
def dkwX1_needRiver_1 : List UInt8 := [184, 0, 168, 42, 27, 28, 29, 182, 0, 204, 184, 0, 168, 177]
abbrev dktX1_needRiver_1 : List UInt8 := dkwX1_needRiver_1 ++ []
def dkwX1_needRiver_0 : List UInt8 := [27, 28, 184, 0, 164, 153, 0, 17, 21, 4, 3, 4, 184, 0, 112, 153, 0, 7, 4, 167, 0, 4, 3]
abbrev dktX1_needRiver_0 : List UInt8 := dkwX1_needRiver_0 ++ dktX1_needRiver_1
theorem dksX1_needRiver_0 : cX1_needRiver.data.toList.drop 0 = dktX1_needRiver_0 := by decide +kernel
theorem dksX1_needRiver_1 : cX1_needRiver.data.toList.drop 23 = dktX1_needRiver_1 := dk_seg dksX1_needRiver_0 23 rfl rfl
theorem dX1_needRiver_0 : decode cX1_needRiver 0 = .ok (.iload_n 1, 1) := dk_27 (dk_at dksX1_needRiver_0 0 rfl rfl)
theorem dX1_needRiver_1 : decode cX1_needRiver 1 = .ok (.iload_n 2, 1) := dk_28 (dk_at dksX1_needRiver_0 1 rfl rfl)
theorem dX1_needRiver_2 : decode cX1_needRiver 2 = .ok (.invokestatic 164, 3) := dk_184 0 164 (dk_at dksX1_needRiver_0 2 rfl rfl)
theorem dX1_needRiver_5 : decode cX1_needRiver 5 = .ok (.ifCond .eq 17, 3) := dk_153 0 17 (dk_at dksX1_needRiver_0 5 rfl rfl)
theorem dX1_needRiver_8 : decode cX1_needRiver 8 = .ok (.iload 4, 2) := dk_21 4 (dk_at dksX1_needRiver_0 8 rfl rfl)
theorem dX1_needRiver_10 : decode cX1_needRiver 10 = .ok (.iconst 0, 1) := dk_3 (dk_at dksX1_needRiver_0 10 rfl rfl)
theorem dX1_needRiver_11 : decode cX1_needRiver 11 = .ok (.iconst 1, 1) := dk_4 (dk_at dksX1_needRiver_0 11 rfl rfl)
theorem dX1_needRiver_12 : decode cX1_needRiver 12 = .ok (.invokestatic 112, 3) := dk_184 0 112 (dk_at dksX1_needRiver_0 12 rfl rfl)
theorem dX1_needRiver_15 : decode cX1_needRiver 15 = .ok (.ifCond .eq 7, 3) := dk_153 0 7 (dk_at dksX1_needRiver_0 15 rfl rfl)
theorem dX1_needRiver_18 : decode cX1_needRiver 18 = .ok (.iconst 1, 1) := dk_4 (dk_at dksX1_needRiver_0 18 rfl rfl)
theorem dX1_needRiver_19 : decode cX1_needRiver 19 = .ok (.goto 4, 3) := dk_167 0 4 (dk_at dksX1_needRiver_0 19 rfl rfl)
theorem dX1_needRiver_22 : decode cX1_needRiver 22 = .ok (.iconst 0, 1) := dk_3 (dk_at dksX1_needRiver_0 22 rfl rfl)
theorem dX1_needRiver_23 : decode cX1_needRiver 23 = .ok (.invokestatic 168, 3) := dk_184 0 168 (dk_at dksX1_needRiver_1 0 rfl rfl)
theorem dX1_needRiver_26 : decode cX1_needRiver 26 = .ok (.aload_n 0, 1) := dk_42 (dk_at dksX1_needRiver_1 3 rfl rfl)
theorem dX1_needRiver_27 : decode cX1_needRiver 27 = .ok (.iload_n 1, 1) := dk_27 (dk_at dksX1_needRiver_1 4 rfl rfl)
theorem dX1_needRiver_28 : decode cX1_needRiver 28 = .ok (.iload_n 2, 1) := dk_28 (dk_at dksX1_needRiver_1 5 rfl rfl)
theorem dX1_needRiver_29 : decode cX1_needRiver 29 = .ok (.iload_n 3, 1) := dk_29 (dk_at dksX1_needRiver_1 6 rfl rfl)
theorem dX1_needRiver_30 : decode cX1_needRiver 30 = .ok (.invokevirtual 204, 3) := dk_182 0 204 (dk_at dksX1_needRiver_1 7 rfl rfl)
theorem dX1_needRiver_33 : decode cX1_needRiver 33 = .ok (.invokestatic 168, 3) := dk_184 0 168 (dk_at dksX1_needRiver_1 10 rfl rfl)
theorem dX1_needRiver_36 : decode cX1_needRiver 36 = .ok (.return_, 1) := dk_177 (dk_at dksX1_needRiver_1 13 rfl rfl)
def dkwX1_part_3 : List UInt8 := [22, 7, 105, 21, 4, 184, 0, 218, 173]
abbrev dktX1_part_3 : List UInt8 := dkwX1_part_3 ++ []
def dkwX1_part_2 : List UInt8 := [182, 0, 204, 87, 42, 182, 0, 211, 22, 7, 105, 22, 5, 42, 182, 0, 215, 105, 101, 42, 182, 0, 215]
abbrev dktX1_part_2 : List UInt8 := dkwX1_part_2 ++ dktX1_part_3
def dkwX1_part_1 : List UInt8 := [28, 182, 0, 172, 184, 0, 168, 42, 182, 0, 211, 55, 5, 42, 182, 0, 215, 55, 7, 42, 27, 28, 2]
abbrev dktX1_part_1 : List UInt8 := dkwX1_part_1 ++ dktX1_part_2
def dkwX1_part_0 : List UInt8 := [42, 29, 182, 0, 136, 184, 0, 168, 42, 27, 28, 29, 21, 4, 182, 0, 207, 42, 180, 0, 21, 29, 50, 27]
abbrev dktX1_part_0 : List UInt8 := dkwX1_part_0 ++ dktX1_part_1
theorem dksX1_part_0 : cX1_part.data.toList.drop 0 = dktX1_part_0 := by decide +kernel
theorem dksX1_part_1 : cX1_part.data.toList.drop 24 = dktX1_part_1 := dk_seg dksX1_part_0 24 rfl rfl
theorem dksX1_part_2 : cX1_part.data.toList.drop 47 = dktX1_part_2 := dk_seg dksX1_part_1 23 rfl rfl
theorem dksX1_part_3 : cX1_part.data.toList.drop 70 = dktX1_part_3 := dk_seg dksX1_part_2 23 rfl rfl
theorem dX1_part_0 : decode cX1_part 0 = .ok (.aload_n 0, 1) := dk_42 (dk_at dksX1_part_0 0 rfl rfl)
theorem dX1_part_1 : decode cX1_part 1 = .ok (.iload_n 3, 1) := dk_29 (dk_at dksX1_part_0 1 rfl rfl)
theorem dX1_part_2 : decode cX1_part 2 = .ok (.invokevirtual 136, 3) := dk_182 0 136 (dk_at dksX1_part_0 2 rfl rfl)
theorem dX1_part_5 : decode cX1_part 5 = .ok (.invokestatic 168, 3) := dk_184 0 168 (dk_at dksX1_part_0 5 rfl rfl)
theorem dX1_part_8 : decode cX1_part 8 = .ok (.aload_n 0, 1) := dk_42 (dk_at dksX1_part_0 8 rfl rfl)
theorem dX1_part_9 : decode cX1_part 9 = .ok (.iload_n 1, 1) := dk_27 (dk_at dksX1_part_0 9 rfl rfl)
theorem dX1_part_10 : decode cX1_part 10 = .ok (.iload_n 2, 1) := dk_28 (dk_at dksX1_part_0 10 rfl rfl)
theorem dX1_part_11 : decode cX1_part 11 = .ok (.iload_n 3, 1) := dk_29 (dk_at dksX1_part_0 11 rfl rfl)
theorem dX1_part_12 : decode cX1_part 12 = .ok (.iload 4, 2) := dk_21 4 (dk_at dksX1_part_0 12 rfl rfl)
theorem dX1_part_14 : decode cX1_part 14 = .ok (.invokevirtual 207, 3) := dk_182 0 207 (dk_at dksX1_part_0 14 rfl rfl)
theorem dX1_part_17 : decode cX1_part 17 = .ok (.aload_n 0, 1) := dk_42 (dk_at dksX1_part_0 17 rfl rfl)
theorem dX1_part_18 : decode cX1_part 18 = .ok (.getfield 21, 3) := dk_180 0 21 (dk_at dksX1_part_0 18 rfl rfl)
theorem dX1_part_21 : decode cX1_part 21 = .ok (.iload_n 3, 1) := dk_29 (dk_at dksX1_part_0 21 rfl rfl)
theorem dX1_part_22 : decode cX1_part 22 = .ok (.aaload, 1) := dk_50 (dk_at dksX1_part_0 22 rfl rfl)
theorem dX1_part_23 : decode cX1_part 23 = .ok (.iload_n 1, 1) := dk_27 (dk_at dksX1_part_0 23 rfl rfl)
theorem dX1_part_24 : decode cX1_part 24 = .ok (.iload_n 2, 1) := dk_28 (dk_at dksX1_part_1 0 rfl rfl)
theorem dX1_part_25 : decode cX1_part 25 = .ok (.invokevirtual 172, 3) := dk_182 0 172 (dk_at dksX1_part_1 1 rfl rfl)
theorem dX1_part_28 : decode cX1_part 28 = .ok (.invokestatic 168, 3) := dk_184 0 168 (dk_at dksX1_part_1 4 rfl rfl)
theorem dX1_part_31 : decode cX1_part 31 = .ok (.aload_n 0, 1) := dk_42 (dk_at dksX1_part_1 7 rfl rfl)
theorem dX1_part_32 : decode cX1_part 32 = .ok (.invokevirtual 211, 3) := dk_182 0 211 (dk_at dksX1_part_1 8 rfl rfl)
theorem dX1_part_35 : decode cX1_part 35 = .ok (.lstore 5, 2) := dk_55 5 (dk_at dksX1_part_1 11 rfl rfl)
theorem dX1_part_37 : decode cX1_part 37 = .ok (.aload_n 0, 1) := dk_42 (dk_at dksX1_part_1 13 rfl rfl)
theorem dX1_part_38 : decode cX1_part 38 = .ok (.invokevirtual 215, 3) := dk_182 0 215 (dk_at dksX1_part_1 14 rfl rfl)
theorem dX1_part_41 : decode cX1_part 41 = .ok (.lstore 7, 2) := dk_55 7 (dk_at dksX1_part_1 17 rfl rfl)
theorem dX1_part_43 : decode cX1_part 43 = .ok (.aload_n 0, 1) := dk_42 (dk_at dksX1_part_1 19 rfl rfl)
theorem dX1_part_44 : decode cX1_part 44 = .ok (.iload_n 1, 1) := dk_27 (dk_at dksX1_part_1 20 rfl rfl)
theorem dX1_part_45 : decode cX1_part 45 = .ok (.iload_n 2, 1) := dk_28 (dk_at dksX1_part_1 21 rfl rfl)
theorem dX1_part_46 : decode cX1_part 46 = .ok (.iconst (-1), 1) := dk_2 (dk_at dksX1_part_1 22 rfl rfl)
theorem dX1_part_47 : decode cX1_part 47 = .ok (.invokevirtual 204, 3) := dk_182 0 204 (dk_at dksX1_part_2 0 rfl rfl)
theorem dX1_part_50 : decode cX1_part 50 = .ok (.pop, 1) := dk_87 (dk_at dksX1_part_2 3 rfl rfl)
theorem dX1_part_51 : decode cX1_part 51 = .ok (.aload_n 0, 1) := dk_42 (dk_at dksX1_part_2 4 rfl rfl)
theorem dX1_part_52 : decode cX1_part 52 = .ok (.invokevirtual 211, 3) := dk_182 0 211 (dk_at dksX1_part_2 5 rfl rfl)
theorem dX1_part_55 : decode cX1_part 55 = .ok (.lload 7, 2) := dk_22 7 (dk_at dksX1_part_2 8 rfl rfl)
theorem dX1_part_57 : decode cX1_part 57 = .ok (.lmul, 1) := dk_105 (dk_at dksX1_part_2 10 rfl rfl)
theorem dX1_part_58 : decode cX1_part 58 = .ok (.lload 5, 2) := dk_22 5 (dk_at dksX1_part_2 11 rfl rfl)
theorem dX1_part_60 : decode cX1_part 60 = .ok (.aload_n 0, 1) := dk_42 (dk_at dksX1_part_2 13 rfl rfl)
theorem dX1_part_61 : decode cX1_part 61 = .ok (.invokevirtual 215, 3) := dk_182 0 215 (dk_at dksX1_part_2 14 rfl rfl)
theorem dX1_part_64 : decode cX1_part 64 = .ok (.lmul, 1) := dk_105 (dk_at dksX1_part_2 17 rfl rfl)
theorem dX1_part_65 : decode cX1_part 65 = .ok (.lsub, 1) := dk_101 (dk_at dksX1_part_2 18 rfl rfl)
theorem dX1_part_66 : decode cX1_part 66 = .ok (.aload_n 0, 1) := dk_42 (dk_at dksX1_part_2 19 rfl rfl)
theorem dX1_part_67 : decode cX1_part 67 = .ok (.invokevirtual 215, 3) := dk_182 0 215 (dk_at dksX1_part_2 20 rfl rfl)
theorem dX1_part_70 : decode cX1_part 70 = .ok (.lload 7, 2) := dk_22 7 (dk_at dksX1_part_3 0 rfl rfl)
theorem dX1_part_72 : decode cX1_part 72 = .ok (.lmul, 1) := dk_105 (dk_at dksX1_part_3 2 rfl rfl)
theorem dX1_part_73 : decode cX1_part 73 = .ok (.iload 4, 2) := dk_21 4 (dk_at dksX1_part_3 3 rfl rfl)
theorem dX1_part_75 : decode cX1_part 75 = .ok (.invokestatic 218, 3) := dk_184 0 218 (dk_at dksX1_part_3 5 rfl rfl)
theorem dX1_part_78 : decode cX1_part 78 = .ok (.lreturn, 1) := dk_173 (dk_at dksX1_part_3 8 rfl rfl)
def dkwX1_bounds_2 : List UInt8 := [182, 0, 211, 42, 182, 0, 215, 29, 5, 112, 184, 0, 218, 173]
abbrev dktX1_bounds_2 : List UInt8 := dkwX1_bounds_2 ++ []
def dkwX1_bounds_1 : List UInt8 := [184, 0, 168, 42, 27, 28, 29, 4, 164, 0, 7, 4, 167, 0, 4, 3, 182, 0, 226, 184, 0, 168, 42]
abbrev dktX1_bounds_1 : List UInt8 := dkwX1_bounds_1 ++ dktX1_bounds_2
def dkwX1_bounds_0 : List UInt8 := [27, 28, 184, 0, 164, 153, 0, 16, 29, 3, 6, 184, 0, 112, 153, 0, 7, 4, 167, 0, 4, 3]
abbrev dktX1_bounds_0 : List UInt8 := dkwX1_bounds_0 ++ dktX1_bounds_1
theorem dksX1_bounds_0 : cX1_bounds.data.toList.drop 0 = dktX1_bounds_0 := by decide +kernel
theorem dksX1_bounds_1 : cX1_bounds.data.toList.drop 22 = dktX1_bounds_1 := dk_seg dksX1_bounds_0 22 rfl rfl
theorem dksX1_bounds_2 : cX1_bounds.data.toList.drop 45 = dktX1_bounds_2 := dk_seg dksX1_bounds_1 23 rfl rfl
theorem dX1_bounds_0 : decode cX1_bounds 0 = .ok (.iload_n 1, 1) := dk_27 (dk_at dksX1_bounds_0 0 rfl rfl)
theorem dX1_bounds_1 : decode cX1_bounds 1 = .ok (.iload_n 2, 1) := dk_28 (dk_at dksX1_bounds_0 1 rfl rfl)
theorem dX1_bounds_2 : decode cX1_bounds 2 = .ok (.invokestatic 164, 3) := dk_184 0 164 (dk_at dksX1_bounds_0 2 rfl rfl)
theorem dX1_bounds_5 : decode cX1_bounds 5 = .ok (.ifCond .eq 16, 3) := dk_153 0 16 (dk_at dksX1_bounds_0 5 rfl rfl)
theorem dX1_bounds_8 : decode cX1_bounds 8 = .ok (.iload_n 3, 1) := dk_29 (dk_at dksX1_bounds_0 8 rfl rfl)
theorem dX1_bounds_9 : decode cX1_bounds 9 = .ok (.iconst 0, 1) := dk_3 (dk_at dksX1_bounds_0 9 rfl rfl)
theorem dX1_bounds_10 : decode cX1_bounds 10 = .ok (.iconst 3, 1) := dk_6 (dk_at dksX1_bounds_0 10 rfl rfl)
theorem dX1_bounds_11 : decode cX1_bounds 11 = .ok (.invokestatic 112, 3) := dk_184 0 112 (dk_at dksX1_bounds_0 11 rfl rfl)
theorem dX1_bounds_14 : decode cX1_bounds 14 = .ok (.ifCond .eq 7, 3) := dk_153 0 7 (dk_at dksX1_bounds_0 14 rfl rfl)
theorem dX1_bounds_17 : decode cX1_bounds 17 = .ok (.iconst 1, 1) := dk_4 (dk_at dksX1_bounds_0 17 rfl rfl)
theorem dX1_bounds_18 : decode cX1_bounds 18 = .ok (.goto 4, 3) := dk_167 0 4 (dk_at dksX1_bounds_0 18 rfl rfl)
theorem dX1_bounds_21 : decode cX1_bounds 21 = .ok (.iconst 0, 1) := dk_3 (dk_at dksX1_bounds_0 21 rfl rfl)
theorem dX1_bounds_22 : decode cX1_bounds 22 = .ok (.invokestatic 168, 3) := dk_184 0 168 (dk_at dksX1_bounds_1 0 rfl rfl)
theorem dX1_bounds_25 : decode cX1_bounds 25 = .ok (.aload_n 0, 1) := dk_42 (dk_at dksX1_bounds_1 3 rfl rfl)
theorem dX1_bounds_26 : decode cX1_bounds 26 = .ok (.iload_n 1, 1) := dk_27 (dk_at dksX1_bounds_1 4 rfl rfl)
theorem dX1_bounds_27 : decode cX1_bounds 27 = .ok (.iload_n 2, 1) := dk_28 (dk_at dksX1_bounds_1 5 rfl rfl)
theorem dX1_bounds_28 : decode cX1_bounds 28 = .ok (.iload_n 3, 1) := dk_29 (dk_at dksX1_bounds_1 6 rfl rfl)
theorem dX1_bounds_29 : decode cX1_bounds 29 = .ok (.iconst 1, 1) := dk_4 (dk_at dksX1_bounds_1 7 rfl rfl)
theorem dX1_bounds_30 : decode cX1_bounds 30 = .ok (.if_icmp .le 7, 3) := dk_164 0 7 (dk_at dksX1_bounds_1 8 rfl rfl)
theorem dX1_bounds_33 : decode cX1_bounds 33 = .ok (.iconst 1, 1) := dk_4 (dk_at dksX1_bounds_1 11 rfl rfl)
theorem dX1_bounds_34 : decode cX1_bounds 34 = .ok (.goto 4, 3) := dk_167 0 4 (dk_at dksX1_bounds_1 12 rfl rfl)
theorem dX1_bounds_37 : decode cX1_bounds 37 = .ok (.iconst 0, 1) := dk_3 (dk_at dksX1_bounds_1 15 rfl rfl)
theorem dX1_bounds_38 : decode cX1_bounds 38 = .ok (.invokevirtual 226, 3) := dk_182 0 226 (dk_at dksX1_bounds_1 16 rfl rfl)
theorem dX1_bounds_41 : decode cX1_bounds 41 = .ok (.invokestatic 168, 3) := dk_184 0 168 (dk_at dksX1_bounds_1 19 rfl rfl)
theorem dX1_bounds_44 : decode cX1_bounds 44 = .ok (.aload_n 0, 1) := dk_42 (dk_at dksX1_bounds_1 22 rfl rfl)
theorem dX1_bounds_45 : decode cX1_bounds 45 = .ok (.invokevirtual 211, 3) := dk_182 0 211 (dk_at dksX1_bounds_2 0 rfl rfl)
theorem dX1_bounds_48 : decode cX1_bounds 48 = .ok (.aload_n 0, 1) := dk_42 (dk_at dksX1_bounds_2 3 rfl rfl)
theorem dX1_bounds_49 : decode cX1_bounds 49 = .ok (.invokevirtual 215, 3) := dk_182 0 215 (dk_at dksX1_bounds_2 4 rfl rfl)
theorem dX1_bounds_52 : decode cX1_bounds 52 = .ok (.iload_n 3, 1) := dk_29 (dk_at dksX1_bounds_2 7 rfl rfl)
theorem dX1_bounds_53 : decode cX1_bounds 53 = .ok (.iconst 2, 1) := dk_5 (dk_at dksX1_bounds_2 8 rfl rfl)
theorem dX1_bounds_54 : decode cX1_bounds 54 = .ok (.irem, 1) := dk_112 (dk_at dksX1_bounds_2 9 rfl rfl)
theorem dX1_bounds_55 : decode cX1_bounds 55 = .ok (.invokestatic 218, 3) := dk_184 0 218 (dk_at dksX1_bounds_2 10 rfl rfl)
theorem dX1_bounds_58 : decode cX1_bounds 58 = .ok (.lreturn, 1) := dk_173 (dk_at dksX1_bounds_2 13 rfl rfl)
def dkwX1_sheets_6 : List UInt8 := [21, 4, 184, 0, 218, 173]
abbrev dktX1_sheets_6 : List UInt8 := dkwX1_sheets_6 ++ []
def dkwX1_sheets_5 : List UInt8 := [182, 0, 196, 132, 5, 1, 167, 255, 165, 42, 182, 0, 200, 184, 0, 168, 42, 182, 0, 211, 42, 182, 0, 215]
abbrev dktX1_sheets_5 : List UInt8 := dkwX1_sheets_5 ++ dktX1_sheets_6
def dkwX1_sheets_4 : List UInt8 := [182, 0, 155, 42, 25, 6, 180, 0, 149, 27, 46, 25, 6, 180, 0, 152, 27, 46, 182, 0, 155, 100, 133]
abbrev dktX1_sheets_4 : List UInt8 := dkwX1_sheets_4 ++ dktX1_sheets_5
def dkwX1_sheets_3 : List UInt8 := [42, 25, 6, 180, 0, 124, 182, 0, 192, 42, 25, 6, 180, 0, 149, 28, 46, 25, 6, 180, 0, 152, 28, 46]
abbrev dktX1_sheets_3 : List UInt8 := dkwX1_sheets_3 ++ dktX1_sheets_4
def dkwX1_sheets_2 : List UInt8 := [58, 6, 25, 6, 27, 28, 182, 0, 230, 153, 0, 65, 25, 6, 180, 0, 133, 154, 0, 7, 29, 154, 0, 53]
abbrev dktX1_sheets_2 : List UInt8 := dkwX1_sheets_2 ++ dktX1_sheets_3
def dkwX1_sheets_1 : List UInt8 := [184, 0, 168, 42, 182, 0, 189, 3, 54, 5, 21, 5, 16, 24, 162, 0, 90, 42, 180, 0, 21, 21, 5, 50]
abbrev dktX1_sheets_1 : List UInt8 := dkwX1_sheets_1 ++ dktX1_sheets_2
def dkwX1_sheets_0 : List UInt8 := [27, 28, 184, 0, 164, 153, 0, 17, 21, 4, 3, 4, 184, 0, 112, 153, 0, 7, 4, 167, 0, 4, 3]
abbrev dktX1_sheets_0 : List UInt8 := dkwX1_sheets_0 ++ dktX1_sheets_1
theorem dksX1_sheets_0 : cX1_sheets.data.toList.drop 0 = dktX1_sheets_0 := by decide +kernel
theorem dksX1_sheets_1 : cX1_sheets.data.toList.drop 23 = dktX1_sheets_1 := dk_seg dksX1_sheets_0 23 rfl rfl
theorem dksX1_sheets_2 : cX1_sheets.data.toList.drop 47 = dktX1_sheets_2 := dk_seg dksX1_sheets_1 24 rfl rfl
theorem dksX1_sheets_3 : cX1_sheets.data.toList.drop 71 = dktX1_sheets_3 := dk_seg dksX1_sheets_2 24 rfl rfl
theorem dksX1_sheets_4 : cX1_sheets.data.toList.drop 95 = dktX1_sheets_4 := dk_seg dksX1_sheets_3 24 rfl rfl
theorem dksX1_sheets_5 : cX1_sheets.data.toList.drop 118 = dktX1_sheets_5 := dk_seg dksX1_sheets_4 23 rfl rfl
theorem dksX1_sheets_6 : cX1_sheets.data.toList.drop 142 = dktX1_sheets_6 := dk_seg dksX1_sheets_5 24 rfl rfl
theorem dX1_sheets_0 : decode cX1_sheets 0 = .ok (.iload_n 1, 1) := dk_27 (dk_at dksX1_sheets_0 0 rfl rfl)
theorem dX1_sheets_1 : decode cX1_sheets 1 = .ok (.iload_n 2, 1) := dk_28 (dk_at dksX1_sheets_0 1 rfl rfl)
theorem dX1_sheets_2 : decode cX1_sheets 2 = .ok (.invokestatic 164, 3) := dk_184 0 164 (dk_at dksX1_sheets_0 2 rfl rfl)
theorem dX1_sheets_5 : decode cX1_sheets 5 = .ok (.ifCond .eq 17, 3) := dk_153 0 17 (dk_at dksX1_sheets_0 5 rfl rfl)
theorem dX1_sheets_8 : decode cX1_sheets 8 = .ok (.iload 4, 2) := dk_21 4 (dk_at dksX1_sheets_0 8 rfl rfl)
theorem dX1_sheets_10 : decode cX1_sheets 10 = .ok (.iconst 0, 1) := dk_3 (dk_at dksX1_sheets_0 10 rfl rfl)
theorem dX1_sheets_11 : decode cX1_sheets 11 = .ok (.iconst 1, 1) := dk_4 (dk_at dksX1_sheets_0 11 rfl rfl)
theorem dX1_sheets_12 : decode cX1_sheets 12 = .ok (.invokestatic 112, 3) := dk_184 0 112 (dk_at dksX1_sheets_0 12 rfl rfl)
theorem dX1_sheets_15 : decode cX1_sheets 15 = .ok (.ifCond .eq 7, 3) := dk_153 0 7 (dk_at dksX1_sheets_0 15 rfl rfl)
theorem dX1_sheets_18 : decode cX1_sheets 18 = .ok (.iconst 1, 1) := dk_4 (dk_at dksX1_sheets_0 18 rfl rfl)
theorem dX1_sheets_19 : decode cX1_sheets 19 = .ok (.goto 4, 3) := dk_167 0 4 (dk_at dksX1_sheets_0 19 rfl rfl)
theorem dX1_sheets_22 : decode cX1_sheets 22 = .ok (.iconst 0, 1) := dk_3 (dk_at dksX1_sheets_0 22 rfl rfl)
theorem dX1_sheets_23 : decode cX1_sheets 23 = .ok (.invokestatic 168, 3) := dk_184 0 168 (dk_at dksX1_sheets_1 0 rfl rfl)
theorem dX1_sheets_26 : decode cX1_sheets 26 = .ok (.aload_n 0, 1) := dk_42 (dk_at dksX1_sheets_1 3 rfl rfl)
theorem dX1_sheets_27 : decode cX1_sheets 27 = .ok (.invokevirtual 189, 3) := dk_182 0 189 (dk_at dksX1_sheets_1 4 rfl rfl)
theorem dX1_sheets_30 : decode cX1_sheets 30 = .ok (.iconst 0, 1) := dk_3 (dk_at dksX1_sheets_1 7 rfl rfl)
theorem dX1_sheets_31 : decode cX1_sheets 31 = .ok (.istore 5, 2) := dk_54 5 (dk_at dksX1_sheets_1 8 rfl rfl)
theorem dX1_sheets_33 : decode cX1_sheets 33 = .ok (.iload 5, 2) := dk_21 5 (dk_at dksX1_sheets_1 10 rfl rfl)
theorem dX1_sheets_35 : decode cX1_sheets 35 = .ok (.bipush 24, 2) := dk_16 24 (dk_at dksX1_sheets_1 12 rfl rfl)
theorem dX1_sheets_37 : decode cX1_sheets 37 = .ok (.if_icmp .ge 90, 3) := dk_162 0 90 (dk_at dksX1_sheets_1 14 rfl rfl)
theorem dX1_sheets_40 : decode cX1_sheets 40 = .ok (.aload_n 0, 1) := dk_42 (dk_at dksX1_sheets_1 17 rfl rfl)
theorem dX1_sheets_41 : decode cX1_sheets 41 = .ok (.getfield 21, 3) := dk_180 0 21 (dk_at dksX1_sheets_1 18 rfl rfl)
theorem dX1_sheets_44 : decode cX1_sheets 44 = .ok (.iload 5, 2) := dk_21 5 (dk_at dksX1_sheets_1 21 rfl rfl)
theorem dX1_sheets_46 : decode cX1_sheets 46 = .ok (.aaload, 1) := dk_50 (dk_at dksX1_sheets_1 23 rfl rfl)
theorem dX1_sheets_47 : decode cX1_sheets 47 = .ok (.astore 6, 2) := dk_58 6 (dk_at dksX1_sheets_2 0 rfl rfl)
theorem dX1_sheets_49 : decode cX1_sheets 49 = .ok (.aload 6, 2) := dk_25 6 (dk_at dksX1_sheets_2 2 rfl rfl)
theorem dX1_sheets_51 : decode cX1_sheets 51 = .ok (.iload_n 1, 1) := dk_27 (dk_at dksX1_sheets_2 4 rfl rfl)
theorem dX1_sheets_52 : decode cX1_sheets 52 = .ok (.iload_n 2, 1) := dk_28 (dk_at dksX1_sheets_2 5 rfl rfl)
theorem dX1_sheets_53 : decode cX1_sheets 53 = .ok (.invokevirtual 230, 3) := dk_182 0 230 (dk_at dksX1_sheets_2 6 rfl rfl)
theorem dX1_sheets_56 : decode cX1_sheets 56 = .ok (.ifCond .eq 65, 3) := dk_153 0 65 (dk_at dksX1_sheets_2 9 rfl rfl)
theorem dX1_sheets_59 : decode cX1_sheets 59 = .ok (.aload 6, 2) := dk_25 6 (dk_at dksX1_sheets_2 12 rfl rfl)
theorem dX1_sheets_61 : decode cX1_sheets 61 = .ok (.getfield 133, 3) := dk_180 0 133 (dk_at dksX1_sheets_2 14 rfl rfl)
theorem dX1_sheets_64 : decode cX1_sheets 64 = .ok (.ifCond .ne 7, 3) := dk_154 0 7 (dk_at dksX1_sheets_2 17 rfl rfl)
theorem dX1_sheets_67 : decode cX1_sheets 67 = .ok (.iload_n 3, 1) := dk_29 (dk_at dksX1_sheets_2 20 rfl rfl)
theorem dX1_sheets_68 : decode cX1_sheets 68 = .ok (.ifCond .ne 53, 3) := dk_154 0 53 (dk_at dksX1_sheets_2 21 rfl rfl)
theorem dX1_sheets_71 : decode cX1_sheets 71 = .ok (.aload_n 0, 1) := dk_42 (dk_at dksX1_sheets_3 0 rfl rfl)
theorem dX1_sheets_72 : decode cX1_sheets 72 = .ok (.aload 6, 2) := dk_25 6 (dk_at dksX1_sheets_3 1 rfl rfl)
theorem dX1_sheets_74 : decode cX1_sheets 74 = .ok (.getfield 124, 3) := dk_180 0 124 (dk_at dksX1_sheets_3 3 rfl rfl)
theorem dX1_sheets_77 : decode cX1_sheets 77 = .ok (.invokevirtual 192, 3) := dk_182 0 192 (dk_at dksX1_sheets_3 6 rfl rfl)
theorem dX1_sheets_80 : decode cX1_sheets 80 = .ok (.aload_n 0, 1) := dk_42 (dk_at dksX1_sheets_3 9 rfl rfl)
theorem dX1_sheets_81 : decode cX1_sheets 81 = .ok (.aload 6, 2) := dk_25 6 (dk_at dksX1_sheets_3 10 rfl rfl)
theorem dX1_sheets_83 : decode cX1_sheets 83 = .ok (.getfield 149, 3) := dk_180 0 149 (dk_at dksX1_sheets_3 12 rfl rfl)
theorem dX1_sheets_86 : decode cX1_sheets 86 = .ok (.iload_n 2, 1) := dk_28 (dk_at dksX1_sheets_3 15 rfl rfl)
theorem dX1_sheets_87 : decode cX1_sheets 87 = .ok (.iaload, 1) := dk_46 (dk_at dksX1_sheets_3 16 rfl rfl)
theorem dX1_sheets_88 : decode cX1_sheets 88 = .ok (.aload 6, 2) := dk_25 6 (dk_at dksX1_sheets_3 17 rfl rfl)
theorem dX1_sheets_90 : decode cX1_sheets 90 = .ok (.getfield 152, 3) := dk_180 0 152 (dk_at dksX1_sheets_3 19 rfl rfl)
theorem dX1_sheets_93 : decode cX1_sheets 93 = .ok (.iload_n 2, 1) := dk_28 (dk_at dksX1_sheets_3 22 rfl rfl)
theorem dX1_sheets_94 : decode cX1_sheets 94 = .ok (.iaload, 1) := dk_46 (dk_at dksX1_sheets_3 23 rfl rfl)
theorem dX1_sheets_95 : decode cX1_sheets 95 = .ok (.invokevirtual 155, 3) := dk_182 0 155 (dk_at dksX1_sheets_4 0 rfl rfl)
theorem dX1_sheets_98 : decode cX1_sheets 98 = .ok (.aload_n 0, 1) := dk_42 (dk_at dksX1_sheets_4 3 rfl rfl)
theorem dX1_sheets_99 : decode cX1_sheets 99 = .ok (.aload 6, 2) := dk_25 6 (dk_at dksX1_sheets_4 4 rfl rfl)
theorem dX1_sheets_101 : decode cX1_sheets 101 = .ok (.getfield 149, 3) := dk_180 0 149 (dk_at dksX1_sheets_4 6 rfl rfl)
theorem dX1_sheets_104 : decode cX1_sheets 104 = .ok (.iload_n 1, 1) := dk_27 (dk_at dksX1_sheets_4 9 rfl rfl)
theorem dX1_sheets_105 : decode cX1_sheets 105 = .ok (.iaload, 1) := dk_46 (dk_at dksX1_sheets_4 10 rfl rfl)
theorem dX1_sheets_106 : decode cX1_sheets 106 = .ok (.aload 6, 2) := dk_25 6 (dk_at dksX1_sheets_4 11 rfl rfl)
theorem dX1_sheets_108 : decode cX1_sheets 108 = .ok (.getfield 152, 3) := dk_180 0 152 (dk_at dksX1_sheets_4 13 rfl rfl)
theorem dX1_sheets_111 : decode cX1_sheets 111 = .ok (.iload_n 1, 1) := dk_27 (dk_at dksX1_sheets_4 16 rfl rfl)
theorem dX1_sheets_112 : decode cX1_sheets 112 = .ok (.iaload, 1) := dk_46 (dk_at dksX1_sheets_4 17 rfl rfl)
theorem dX1_sheets_113 : decode cX1_sheets 113 = .ok (.invokevirtual 155, 3) := dk_182 0 155 (dk_at dksX1_sheets_4 18 rfl rfl)
theorem dX1_sheets_116 : decode cX1_sheets 116 = .ok (.isub, 1) := dk_100 (dk_at dksX1_sheets_4 21 rfl rfl)
theorem dX1_sheets_117 : decode cX1_sheets 117 = .ok (.i2l, 1) := dk_133 (dk_at dksX1_sheets_4 22 rfl rfl)
theorem dX1_sheets_118 : decode cX1_sheets 118 = .ok (.invokevirtual 196, 3) := dk_182 0 196 (dk_at dksX1_sheets_5 0 rfl rfl)
theorem dX1_sheets_121 : decode cX1_sheets 121 = .ok (.iinc 5 1, 3) := dk_132 5 1 (dk_at dksX1_sheets_5 3 rfl rfl)
theorem dX1_sheets_124 : decode cX1_sheets 124 = .ok (.goto (-91), 3) := dk_167 255 165 (dk_at dksX1_sheets_5 6 rfl rfl)
theorem dX1_sheets_127 : decode cX1_sheets 127 = .ok (.aload_n 0, 1) := dk_42 (dk_at dksX1_sheets_5 9 rfl rfl)
theorem dX1_sheets_128 : decode cX1_sheets 128 = .ok (.invokevirtual 200, 3) := dk_182 0 200 (dk_at dksX1_sheets_5 10 rfl rfl)
theorem dX1_sheets_131 : decode cX1_sheets 131 = .ok (.invokestatic 168, 3) := dk_184 0 168 (dk_at dksX1_sheets_5 13 rfl rfl)
theorem dX1_sheets_134 : decode cX1_sheets 134 = .ok (.aload_n 0, 1) := dk_42 (dk_at dksX1_sheets_5 16 rfl rfl)
theorem dX1_sheets_135 : decode cX1_sheets 135 = .ok (.invokevirtual 211, 3) := dk_182 0 211 (dk_at dksX1_sheets_5 17 rfl rfl)
theorem dX1_sheets_138 : decode cX1_sheets 138 = .ok (.aload_n 0, 1) := dk_42 (dk_at dksX1_sheets_5 20 rfl rfl)
theorem dX1_sheets_139 : decode cX1_sheets 139 = .ok (.invokevirtual 215, 3) := dk_182 0 215 (dk_at dksX1_sheets_5 21 rfl rfl)
theorem dX1_sheets_142 : decode cX1_sheets 142 = .ok (.iload 4, 2) := dk_21 4 (dk_at dksX1_sheets_6 0 rfl rfl)
theorem dX1_sheets_144 : decode cX1_sheets 144 = .ok (.invokestatic 218, 3) := dk_184 0 218 (dk_at dksX1_sheets_6 2 rfl rfl)
theorem dX1_sheets_147 : decode cX1_sheets 147 = .ok (.lreturn, 1) := dk_173 (dk_at dksX1_sheets_6 5 rfl rfl)
def dkwX1_choosing_7 : List UInt8 := [182, 0, 211, 42, 182, 0, 215, 21, 4, 5, 112, 184, 0, 218, 173]
abbrev dktX1_choosing_7 : List UInt8 := dkwX1_choosing_7 ++ []
def dkwX1_choosing_6 : List UInt8 := [42, 180, 0, 73, 21, 8, 46, 133, 182, 0, 196, 132, 8, 1, 167, 255, 209, 132, 5, 1, 167, 255, 139, 42]
abbrev dktX1_choosing_6 : List UInt8 := dkwX1_choosing_6 ++ dktX1_choosing_7
def dkwX1_choosing_5 : List UInt8 := [182, 0, 192, 21, 7, 153, 0, 19, 42, 180, 0, 73, 21, 6, 4, 100, 21, 8, 100, 46, 133, 167, 0, 11]
abbrev dktX1_choosing_5 : List UInt8 := dkwX1_choosing_5 ++ dktX1_choosing_6
def dkwX1_choosing_4 : List UInt8 := [160, 0, 7, 4, 167, 0, 4, 3, 54, 7, 3, 54, 8, 21, 8, 29, 162, 0, 47, 42, 21, 5]
abbrev dktX1_choosing_4 : List UInt8 := dkwX1_choosing_4 ++ dktX1_choosing_5
def dkwX1_choosing_3 : List UInt8 := [184, 0, 168, 21, 4, 4, 164, 0, 7, 4, 167, 0, 4, 3, 21, 5, 154, 0, 7, 4, 167, 0, 4, 3]
abbrev dktX1_choosing_3 : List UInt8 := dkwX1_choosing_3 ++ dktX1_choosing_4
def dkwX1_choosing_2 : List UInt8 := [162, 0, 117, 42, 21, 5, 27, 28, 182, 0, 233, 54, 6, 21, 6, 29, 161, 0, 7, 4, 167, 0, 4, 3]
abbrev dktX1_choosing_2 : List UInt8 := dkwX1_choosing_2 ++ dktX1_choosing_3
def dkwX1_choosing_1 : List UInt8 := [184, 0, 112, 153, 0, 7, 4, 167, 0, 4, 3, 184, 0, 168, 42, 182, 0, 189, 3, 54, 5, 21, 5, 5]
abbrev dktX1_choosing_1 : List UInt8 := dkwX1_choosing_1 ++ dktX1_choosing_2
def dkwX1_choosing_0 : List UInt8 := [27, 28, 184, 0, 164, 153, 0, 27, 29, 4, 16, 12, 184, 0, 112, 153, 0, 17, 21, 4, 3, 6]
abbrev dktX1_choosing_0 : List UInt8 := dkwX1_choosing_0 ++ dktX1_choosing_1
theorem dksX1_choosing_0 : cX1_choosing.data.toList.drop 0 = dktX1_choosing_0 := by decide +kernel
theorem dksX1_choosing_1 : cX1_choosing.data.toList.drop 22 = dktX1_choosing_1 := dk_seg dksX1_choosing_0 22 rfl rfl
theorem dksX1_choosing_2 : cX1_choosing.data.toList.drop 46 = dktX1_choosing_2 := dk_seg dksX1_choosing_1 24 rfl rfl
theorem dksX1_choosing_3 : cX1_choosing.data.toList.drop 70 = dktX1_choosing_3 := dk_seg dksX1_choosing_2 24 rfl rfl
theorem dksX1_choosing_4 : cX1_choosing.data.toList.drop 94 = dktX1_choosing_4 := dk_seg dksX1_choosing_3 24 rfl rfl
theorem dksX1_choosing_5 : cX1_choosing.data.toList.drop 116 = dktX1_choosing_5 := dk_seg dksX1_choosing_4 22 rfl rfl
theorem dksX1_choosing_6 : cX1_choosing.data.toList.drop 140 = dktX1_choosing_6 := dk_seg dksX1_choosing_5 24 rfl rfl
theorem dksX1_choosing_7 : cX1_choosing.data.toList.drop 164 = dktX1_choosing_7 := dk_seg dksX1_choosing_6 24 rfl rfl
theorem dX1_choosing_0 : decode cX1_choosing 0 = .ok (.iload_n 1, 1) := dk_27 (dk_at dksX1_choosing_0 0 rfl rfl)
theorem dX1_choosing_1 : decode cX1_choosing 1 = .ok (.iload_n 2, 1) := dk_28 (dk_at dksX1_choosing_0 1 rfl rfl)
theorem dX1_choosing_2 : decode cX1_choosing 2 = .ok (.invokestatic 164, 3) := dk_184 0 164 (dk_at dksX1_choosing_0 2 rfl rfl)
theorem dX1_choosing_5 : decode cX1_choosing 5 = .ok (.ifCond .eq 27, 3) := dk_153 0 27 (dk_at dksX1_choosing_0 5 rfl rfl)
theorem dX1_choosing_8 : decode cX1_choosing 8 = .ok (.iload_n 3, 1) := dk_29 (dk_at dksX1_choosing_0 8 rfl rfl)
theorem dX1_choosing_9 : decode cX1_choosing 9 = .ok (.iconst 1, 1) := dk_4 (dk_at dksX1_choosing_0 9 rfl rfl)
theorem dX1_choosing_10 : decode cX1_choosing 10 = .ok (.bipush 12, 2) := dk_16 12 (dk_at dksX1_choosing_0 10 rfl rfl)
theorem dX1_choosing_12 : decode cX1_choosing 12 = .ok (.invokestatic 112, 3) := dk_184 0 112 (dk_at dksX1_choosing_0 12 rfl rfl)
theorem dX1_choosing_15 : decode cX1_choosing 15 = .ok (.ifCond .eq 17, 3) := dk_153 0 17 (dk_at dksX1_choosing_0 15 rfl rfl)
theorem dX1_choosing_18 : decode cX1_choosing 18 = .ok (.iload 4, 2) := dk_21 4 (dk_at dksX1_choosing_0 18 rfl rfl)
theorem dX1_choosing_20 : decode cX1_choosing 20 = .ok (.iconst 0, 1) := dk_3 (dk_at dksX1_choosing_0 20 rfl rfl)
theorem dX1_choosing_21 : decode cX1_choosing 21 = .ok (.iconst 3, 1) := dk_6 (dk_at dksX1_choosing_0 21 rfl rfl)
theorem dX1_choosing_22 : decode cX1_choosing 22 = .ok (.invokestatic 112, 3) := dk_184 0 112 (dk_at dksX1_choosing_1 0 rfl rfl)
theorem dX1_choosing_25 : decode cX1_choosing 25 = .ok (.ifCond .eq 7, 3) := dk_153 0 7 (dk_at dksX1_choosing_1 3 rfl rfl)
theorem dX1_choosing_28 : decode cX1_choosing 28 = .ok (.iconst 1, 1) := dk_4 (dk_at dksX1_choosing_1 6 rfl rfl)
theorem dX1_choosing_29 : decode cX1_choosing 29 = .ok (.goto 4, 3) := dk_167 0 4 (dk_at dksX1_choosing_1 7 rfl rfl)
theorem dX1_choosing_32 : decode cX1_choosing 32 = .ok (.iconst 0, 1) := dk_3 (dk_at dksX1_choosing_1 10 rfl rfl)
theorem dX1_choosing_33 : decode cX1_choosing 33 = .ok (.invokestatic 168, 3) := dk_184 0 168 (dk_at dksX1_choosing_1 11 rfl rfl)
theorem dX1_choosing_36 : decode cX1_choosing 36 = .ok (.aload_n 0, 1) := dk_42 (dk_at dksX1_choosing_1 14 rfl rfl)
theorem dX1_choosing_37 : decode cX1_choosing 37 = .ok (.invokevirtual 189, 3) := dk_182 0 189 (dk_at dksX1_choosing_1 15 rfl rfl)
theorem dX1_choosing_40 : decode cX1_choosing 40 = .ok (.iconst 0, 1) := dk_3 (dk_at dksX1_choosing_1 18 rfl rfl)
theorem dX1_choosing_41 : decode cX1_choosing 41 = .ok (.istore 5, 2) := dk_54 5 (dk_at dksX1_choosing_1 19 rfl rfl)
theorem dX1_choosing_43 : decode cX1_choosing 43 = .ok (.iload 5, 2) := dk_21 5 (dk_at dksX1_choosing_1 21 rfl rfl)
theorem dX1_choosing_45 : decode cX1_choosing 45 = .ok (.iconst 2, 1) := dk_5 (dk_at dksX1_choosing_1 23 rfl rfl)
theorem dX1_choosing_46 : decode cX1_choosing 46 = .ok (.if_icmp .ge 117, 3) := dk_162 0 117 (dk_at dksX1_choosing_2 0 rfl rfl)
theorem dX1_choosing_49 : decode cX1_choosing 49 = .ok (.aload_n 0, 1) := dk_42 (dk_at dksX1_choosing_2 3 rfl rfl)
theorem dX1_choosing_50 : decode cX1_choosing 50 = .ok (.iload 5, 2) := dk_21 5 (dk_at dksX1_choosing_2 4 rfl rfl)
theorem dX1_choosing_52 : decode cX1_choosing 52 = .ok (.iload_n 1, 1) := dk_27 (dk_at dksX1_choosing_2 6 rfl rfl)
theorem dX1_choosing_53 : decode cX1_choosing 53 = .ok (.iload_n 2, 1) := dk_28 (dk_at dksX1_choosing_2 7 rfl rfl)
theorem dX1_choosing_54 : decode cX1_choosing 54 = .ok (.invokevirtual 233, 3) := dk_182 0 233 (dk_at dksX1_choosing_2 8 rfl rfl)
theorem dX1_choosing_57 : decode cX1_choosing 57 = .ok (.istore 6, 2) := dk_54 6 (dk_at dksX1_choosing_2 11 rfl rfl)
theorem dX1_choosing_59 : decode cX1_choosing 59 = .ok (.iload 6, 2) := dk_21 6 (dk_at dksX1_choosing_2 13 rfl rfl)
theorem dX1_choosing_61 : decode cX1_choosing 61 = .ok (.iload_n 3, 1) := dk_29 (dk_at dksX1_choosing_2 15 rfl rfl)
theorem dX1_choosing_62 : decode cX1_choosing 62 = .ok (.if_icmp .lt 7, 3) := dk_161 0 7 (dk_at dksX1_choosing_2 16 rfl rfl)
theorem dX1_choosing_65 : decode cX1_choosing 65 = .ok (.iconst 1, 1) := dk_4 (dk_at dksX1_choosing_2 19 rfl rfl)
theorem dX1_choosing_66 : decode cX1_choosing 66 = .ok (.goto 4, 3) := dk_167 0 4 (dk_at dksX1_choosing_2 20 rfl rfl)
theorem dX1_choosing_69 : decode cX1_choosing 69 = .ok (.iconst 0, 1) := dk_3 (dk_at dksX1_choosing_2 23 rfl rfl)
theorem dX1_choosing_70 : decode cX1_choosing 70 = .ok (.invokestatic 168, 3) := dk_184 0 168 (dk_at dksX1_choosing_3 0 rfl rfl)
theorem dX1_choosing_73 : decode cX1_choosing 73 = .ok (.iload 4, 2) := dk_21 4 (dk_at dksX1_choosing_3 3 rfl rfl)
theorem dX1_choosing_75 : decode cX1_choosing 75 = .ok (.iconst 1, 1) := dk_4 (dk_at dksX1_choosing_3 5 rfl rfl)
theorem dX1_choosing_76 : decode cX1_choosing 76 = .ok (.if_icmp .le 7, 3) := dk_164 0 7 (dk_at dksX1_choosing_3 6 rfl rfl)
theorem dX1_choosing_79 : decode cX1_choosing 79 = .ok (.iconst 1, 1) := dk_4 (dk_at dksX1_choosing_3 9 rfl rfl)
theorem dX1_choosing_80 : decode cX1_choosing 80 = .ok (.goto 4, 3) := dk_167 0 4 (dk_at dksX1_choosing_3 10 rfl rfl)
theorem dX1_choosing_83 : decode cX1_choosing 83 = .ok (.iconst 0, 1) := dk_3 (dk_at dksX1_choosing_3 13 rfl rfl)
theorem dX1_choosing_84 : decode cX1_choosing 84 = .ok (.iload 5, 2) := dk_21 5 (dk_at dksX1_choosing_3 14 rfl rfl)
theorem dX1_choosing_86 : decode cX1_choosing 86 = .ok (.ifCond .ne 7, 3) := dk_154 0 7 (dk_at dksX1_choosing_3 16 rfl rfl)
theorem dX1_choosing_89 : decode cX1_choosing 89 = .ok (.iconst 1, 1) := dk_4 (dk_at dksX1_choosing_3 19 rfl rfl)
theorem dX1_choosing_90 : decode cX1_choosing 90 = .ok (.goto 4, 3) := dk_167 0 4 (dk_at dksX1_choosing_3 20 rfl rfl)
theorem dX1_choosing_93 : decode cX1_choosing 93 = .ok (.iconst 0, 1) := dk_3 (dk_at dksX1_choosing_3 23 rfl rfl)
theorem dX1_choosing_94 : decode cX1_choosing 94 = .ok (.if_icmp .ne 7, 3) := dk_160 0 7 (dk_at dksX1_choosing_4 0 rfl rfl)
theorem dX1_choosing_97 : decode cX1_choosing 97 = .ok (.iconst 1, 1) := dk_4 (dk_at dksX1_choosing_4 3 rfl rfl)
theorem dX1_choosing_98 : decode cX1_choosing 98 = .ok (.goto 4, 3) := dk_167 0 4 (dk_at dksX1_choosing_4 4 rfl rfl)
theorem dX1_choosing_101 : decode cX1_choosing 101 = .ok (.iconst 0, 1) := dk_3 (dk_at dksX1_choosing_4 7 rfl rfl)
theorem dX1_choosing_102 : decode cX1_choosing 102 = .ok (.istore 7, 2) := dk_54 7 (dk_at dksX1_choosing_4 8 rfl rfl)
theorem dX1_choosing_104 : decode cX1_choosing 104 = .ok (.iconst 0, 1) := dk_3 (dk_at dksX1_choosing_4 10 rfl rfl)
theorem dX1_choosing_105 : decode cX1_choosing 105 = .ok (.istore 8, 2) := dk_54 8 (dk_at dksX1_choosing_4 11 rfl rfl)
theorem dX1_choosing_107 : decode cX1_choosing 107 = .ok (.iload 8, 2) := dk_21 8 (dk_at dksX1_choosing_4 13 rfl rfl)
theorem dX1_choosing_109 : decode cX1_choosing 109 = .ok (.iload_n 3, 1) := dk_29 (dk_at dksX1_choosing_4 15 rfl rfl)
theorem dX1_choosing_110 : decode cX1_choosing 110 = .ok (.if_icmp .ge 47, 3) := dk_162 0 47 (dk_at dksX1_choosing_4 16 rfl rfl)
theorem dX1_choosing_113 : decode cX1_choosing 113 = .ok (.aload_n 0, 1) := dk_42 (dk_at dksX1_choosing_4 19 rfl rfl)
theorem dX1_choosing_114 : decode cX1_choosing 114 = .ok (.iload 5, 2) := dk_21 5 (dk_at dksX1_choosing_4 20 rfl rfl)
theorem dX1_choosing_116 : decode cX1_choosing 116 = .ok (.invokevirtual 192, 3) := dk_182 0 192 (dk_at dksX1_choosing_5 0 rfl rfl)
theorem dX1_choosing_119 : decode cX1_choosing 119 = .ok (.iload 7, 2) := dk_21 7 (dk_at dksX1_choosing_5 3 rfl rfl)
theorem dX1_choosing_121 : decode cX1_choosing 121 = .ok (.ifCond .eq 19, 3) := dk_153 0 19 (dk_at dksX1_choosing_5 5 rfl rfl)
theorem dX1_choosing_124 : decode cX1_choosing 124 = .ok (.aload_n 0, 1) := dk_42 (dk_at dksX1_choosing_5 8 rfl rfl)
theorem dX1_choosing_125 : decode cX1_choosing 125 = .ok (.getfield 73, 3) := dk_180 0 73 (dk_at dksX1_choosing_5 9 rfl rfl)
theorem dX1_choosing_128 : decode cX1_choosing 128 = .ok (.iload 6, 2) := dk_21 6 (dk_at dksX1_choosing_5 12 rfl rfl)
theorem dX1_choosing_130 : decode cX1_choosing 130 = .ok (.iconst 1, 1) := dk_4 (dk_at dksX1_choosing_5 14 rfl rfl)
theorem dX1_choosing_131 : decode cX1_choosing 131 = .ok (.isub, 1) := dk_100 (dk_at dksX1_choosing_5 15 rfl rfl)
theorem dX1_choosing_132 : decode cX1_choosing 132 = .ok (.iload 8, 2) := dk_21 8 (dk_at dksX1_choosing_5 16 rfl rfl)
theorem dX1_choosing_134 : decode cX1_choosing 134 = .ok (.isub, 1) := dk_100 (dk_at dksX1_choosing_5 18 rfl rfl)
theorem dX1_choosing_135 : decode cX1_choosing 135 = .ok (.iaload, 1) := dk_46 (dk_at dksX1_choosing_5 19 rfl rfl)
theorem dX1_choosing_136 : decode cX1_choosing 136 = .ok (.i2l, 1) := dk_133 (dk_at dksX1_choosing_5 20 rfl rfl)
theorem dX1_choosing_137 : decode cX1_choosing 137 = .ok (.goto 11, 3) := dk_167 0 11 (dk_at dksX1_choosing_5 21 rfl rfl)
theorem dX1_choosing_140 : decode cX1_choosing 140 = .ok (.aload_n 0, 1) := dk_42 (dk_at dksX1_choosing_6 0 rfl rfl)
theorem dX1_choosing_141 : decode cX1_choosing 141 = .ok (.getfield 73, 3) := dk_180 0 73 (dk_at dksX1_choosing_6 1 rfl rfl)
theorem dX1_choosing_144 : decode cX1_choosing 144 = .ok (.iload 8, 2) := dk_21 8 (dk_at dksX1_choosing_6 4 rfl rfl)
theorem dX1_choosing_146 : decode cX1_choosing 146 = .ok (.iaload, 1) := dk_46 (dk_at dksX1_choosing_6 6 rfl rfl)
theorem dX1_choosing_147 : decode cX1_choosing 147 = .ok (.i2l, 1) := dk_133 (dk_at dksX1_choosing_6 7 rfl rfl)
theorem dX1_choosing_148 : decode cX1_choosing 148 = .ok (.invokevirtual 196, 3) := dk_182 0 196 (dk_at dksX1_choosing_6 8 rfl rfl)
theorem dX1_choosing_151 : decode cX1_choosing 151 = .ok (.iinc 8 1, 3) := dk_132 8 1 (dk_at dksX1_choosing_6 11 rfl rfl)
theorem dX1_choosing_154 : decode cX1_choosing 154 = .ok (.goto (-47), 3) := dk_167 255 209 (dk_at dksX1_choosing_6 14 rfl rfl)
theorem dX1_choosing_157 : decode cX1_choosing 157 = .ok (.iinc 5 1, 3) := dk_132 5 1 (dk_at dksX1_choosing_6 17 rfl rfl)
theorem dX1_choosing_160 : decode cX1_choosing 160 = .ok (.goto (-117), 3) := dk_167 255 139 (dk_at dksX1_choosing_6 20 rfl rfl)
theorem dX1_choosing_163 : decode cX1_choosing 163 = .ok (.aload_n 0, 1) := dk_42 (dk_at dksX1_choosing_6 23 rfl rfl)
theorem dX1_choosing_164 : decode cX1_choosing 164 = .ok (.invokevirtual 211, 3) := dk_182 0 211 (dk_at dksX1_choosing_7 0 rfl rfl)
theorem dX1_choosing_167 : decode cX1_choosing 167 = .ok (.aload_n 0, 1) := dk_42 (dk_at dksX1_choosing_7 3 rfl rfl)
theorem dX1_choosing_168 : decode cX1_choosing 168 = .ok (.invokevirtual 215, 3) := dk_182 0 215 (dk_at dksX1_choosing_7 4 rfl rfl)
theorem dX1_choosing_171 : decode cX1_choosing 171 = .ok (.iload 4, 2) := dk_21 4 (dk_at dksX1_choosing_7 7 rfl rfl)
theorem dX1_choosing_173 : decode cX1_choosing 173 = .ok (.iconst 2, 1) := dk_5 (dk_at dksX1_choosing_7 9 rfl rfl)
theorem dX1_choosing_174 : decode cX1_choosing 174 = .ok (.irem, 1) := dk_112 (dk_at dksX1_choosing_7 10 rfl rfl)
theorem dX1_choosing_175 : decode cX1_choosing 175 = .ok (.invokestatic 218, 3) := dk_184 0 218 (dk_at dksX1_choosing_7 11 rfl rfl)
theorem dX1_choosing_178 : decode cX1_choosing 178 = .ok (.lreturn, 1) := dk_173 (dk_at dksX1_choosing_7 14 rfl rfl)
def dkwX1_beside_5 : List UInt8 := [42, 182, 0, 211, 42, 182, 0, 215, 29, 184, 0, 218, 173]
abbrev dktX1_beside_5 : List UInt8 := dkwX1_beside_5 ++ []
def dkwX1_beside_4 : List UInt8 := [25, 5, 27, 28, 182, 0, 175, 133, 182, 0, 196, 132, 4, 1, 167, 255, 182, 42, 182, 0, 200, 184, 0, 168]
abbrev dktX1_beside_4 : List UInt8 := dkwX1_beside_4 ++ dktX1_beside_5
def dkwX1_beside_3 : List UInt8 := [180, 0, 127, 42, 180, 0, 27, 3, 50, 28, 46, 162, 0, 7, 3, 167, 0, 4, 4, 182, 0, 192, 42]
abbrev dktX1_beside_3 : List UInt8 := dkwX1_beside_3 ++ dktX1_beside_4
def dkwX1_beside_2 : List UInt8 := [58, 5, 25, 5, 27, 28, 182, 0, 172, 153, 0, 48, 25, 5, 180, 0, 124, 154, 0, 40, 42, 25, 5]
abbrev dktX1_beside_2 : List UInt8 := dkwX1_beside_2 ++ dktX1_beside_3
def dkwX1_beside_1 : List UInt8 := [184, 0, 168, 42, 182, 0, 189, 3, 54, 4, 21, 4, 16, 24, 162, 0, 73, 42, 180, 0, 21, 21, 4, 50]
abbrev dktX1_beside_1 : List UInt8 := dkwX1_beside_1 ++ dktX1_beside_2
def dkwX1_beside_0 : List UInt8 := [27, 28, 184, 0, 164, 153, 0, 16, 29, 3, 4, 184, 0, 112, 153, 0, 7, 4, 167, 0, 4, 3]
abbrev dktX1_beside_0 : List UInt8 := dkwX1_beside_0 ++ dktX1_beside_1
theorem dksX1_beside_0 : cX1_beside.data.toList.drop 0 = dktX1_beside_0 := by decide +kernel
theorem dksX1_beside_1 : cX1_beside.data.toList.drop 22 = dktX1_beside_1 := dk_seg dksX1_beside_0 22 rfl rfl
theorem dksX1_beside_2 : cX1_beside.data.toList.drop 46 = dktX1_beside_2 := dk_seg dksX1_beside_1 24 rfl rfl
theorem dksX1_beside_3 : cX1_beside.data.toList.drop 69 = dktX1_beside_3 := dk_seg dksX1_beside_2 23 rfl rfl
theorem dksX1_beside_4 : cX1_beside.data.toList.drop 92 = dktX1_beside_4 := dk_seg dksX1_beside_3 23 rfl rfl
theorem dksX1_beside_5 : cX1_beside.data.toList.drop 116 = dktX1_beside_5 := dk_seg dksX1_beside_4 24 rfl rfl
theorem dX1_beside_0 : decode cX1_beside 0 = .ok (.iload_n 1, 1) := dk_27 (dk_at dksX1_beside_0 0 rfl rfl)
theorem dX1_beside_1 : decode cX1_beside 1 = .ok (.iload_n 2, 1) := dk_28 (dk_at dksX1_beside_0 1 rfl rfl)
theorem dX1_beside_2 : decode cX1_beside 2 = .ok (.invokestatic 164, 3) := dk_184 0 164 (dk_at dksX1_beside_0 2 rfl rfl)
theorem dX1_beside_5 : decode cX1_beside 5 = .ok (.ifCond .eq 16, 3) := dk_153 0 16 (dk_at dksX1_beside_0 5 rfl rfl)
theorem dX1_beside_8 : decode cX1_beside 8 = .ok (.iload_n 3, 1) := dk_29 (dk_at dksX1_beside_0 8 rfl rfl)
theorem dX1_beside_9 : decode cX1_beside 9 = .ok (.iconst 0, 1) := dk_3 (dk_at dksX1_beside_0 9 rfl rfl)
theorem dX1_beside_10 : decode cX1_beside 10 = .ok (.iconst 1, 1) := dk_4 (dk_at dksX1_beside_0 10 rfl rfl)
theorem dX1_beside_11 : decode cX1_beside 11 = .ok (.invokestatic 112, 3) := dk_184 0 112 (dk_at dksX1_beside_0 11 rfl rfl)
theorem dX1_beside_14 : decode cX1_beside 14 = .ok (.ifCond .eq 7, 3) := dk_153 0 7 (dk_at dksX1_beside_0 14 rfl rfl)
theorem dX1_beside_17 : decode cX1_beside 17 = .ok (.iconst 1, 1) := dk_4 (dk_at dksX1_beside_0 17 rfl rfl)
theorem dX1_beside_18 : decode cX1_beside 18 = .ok (.goto 4, 3) := dk_167 0 4 (dk_at dksX1_beside_0 18 rfl rfl)
theorem dX1_beside_21 : decode cX1_beside 21 = .ok (.iconst 0, 1) := dk_3 (dk_at dksX1_beside_0 21 rfl rfl)
theorem dX1_beside_22 : decode cX1_beside 22 = .ok (.invokestatic 168, 3) := dk_184 0 168 (dk_at dksX1_beside_1 0 rfl rfl)
theorem dX1_beside_25 : decode cX1_beside 25 = .ok (.aload_n 0, 1) := dk_42 (dk_at dksX1_beside_1 3 rfl rfl)
theorem dX1_beside_26 : decode cX1_beside 26 = .ok (.invokevirtual 189, 3) := dk_182 0 189 (dk_at dksX1_beside_1 4 rfl rfl)
theorem dX1_beside_29 : decode cX1_beside 29 = .ok (.iconst 0, 1) := dk_3 (dk_at dksX1_beside_1 7 rfl rfl)
theorem dX1_beside_30 : decode cX1_beside 30 = .ok (.istore 4, 2) := dk_54 4 (dk_at dksX1_beside_1 8 rfl rfl)
theorem dX1_beside_32 : decode cX1_beside 32 = .ok (.iload 4, 2) := dk_21 4 (dk_at dksX1_beside_1 10 rfl rfl)
theorem dX1_beside_34 : decode cX1_beside 34 = .ok (.bipush 24, 2) := dk_16 24 (dk_at dksX1_beside_1 12 rfl rfl)
theorem dX1_beside_36 : decode cX1_beside 36 = .ok (.if_icmp .ge 73, 3) := dk_162 0 73 (dk_at dksX1_beside_1 14 rfl rfl)
theorem dX1_beside_39 : decode cX1_beside 39 = .ok (.aload_n 0, 1) := dk_42 (dk_at dksX1_beside_1 17 rfl rfl)
theorem dX1_beside_40 : decode cX1_beside 40 = .ok (.getfield 21, 3) := dk_180 0 21 (dk_at dksX1_beside_1 18 rfl rfl)
theorem dX1_beside_43 : decode cX1_beside 43 = .ok (.iload 4, 2) := dk_21 4 (dk_at dksX1_beside_1 21 rfl rfl)
theorem dX1_beside_45 : decode cX1_beside 45 = .ok (.aaload, 1) := dk_50 (dk_at dksX1_beside_1 23 rfl rfl)
theorem dX1_beside_46 : decode cX1_beside 46 = .ok (.astore 5, 2) := dk_58 5 (dk_at dksX1_beside_2 0 rfl rfl)
theorem dX1_beside_48 : decode cX1_beside 48 = .ok (.aload 5, 2) := dk_25 5 (dk_at dksX1_beside_2 2 rfl rfl)
theorem dX1_beside_50 : decode cX1_beside 50 = .ok (.iload_n 1, 1) := dk_27 (dk_at dksX1_beside_2 4 rfl rfl)
theorem dX1_beside_51 : decode cX1_beside 51 = .ok (.iload_n 2, 1) := dk_28 (dk_at dksX1_beside_2 5 rfl rfl)
theorem dX1_beside_52 : decode cX1_beside 52 = .ok (.invokevirtual 172, 3) := dk_182 0 172 (dk_at dksX1_beside_2 6 rfl rfl)
theorem dX1_beside_55 : decode cX1_beside 55 = .ok (.ifCond .eq 48, 3) := dk_153 0 48 (dk_at dksX1_beside_2 9 rfl rfl)
theorem dX1_beside_58 : decode cX1_beside 58 = .ok (.aload 5, 2) := dk_25 5 (dk_at dksX1_beside_2 12 rfl rfl)
theorem dX1_beside_60 : decode cX1_beside 60 = .ok (.getfield 124, 3) := dk_180 0 124 (dk_at dksX1_beside_2 14 rfl rfl)
theorem dX1_beside_63 : decode cX1_beside 63 = .ok (.ifCond .ne 40, 3) := dk_154 0 40 (dk_at dksX1_beside_2 17 rfl rfl)
theorem dX1_beside_66 : decode cX1_beside 66 = .ok (.aload_n 0, 1) := dk_42 (dk_at dksX1_beside_2 20 rfl rfl)
theorem dX1_beside_67 : decode cX1_beside 67 = .ok (.aload 5, 2) := dk_25 5 (dk_at dksX1_beside_2 21 rfl rfl)
theorem dX1_beside_69 : decode cX1_beside 69 = .ok (.getfield 127, 3) := dk_180 0 127 (dk_at dksX1_beside_3 0 rfl rfl)
theorem dX1_beside_72 : decode cX1_beside 72 = .ok (.aload_n 0, 1) := dk_42 (dk_at dksX1_beside_3 3 rfl rfl)
theorem dX1_beside_73 : decode cX1_beside 73 = .ok (.getfield 27, 3) := dk_180 0 27 (dk_at dksX1_beside_3 4 rfl rfl)
theorem dX1_beside_76 : decode cX1_beside 76 = .ok (.iconst 0, 1) := dk_3 (dk_at dksX1_beside_3 7 rfl rfl)
theorem dX1_beside_77 : decode cX1_beside 77 = .ok (.aaload, 1) := dk_50 (dk_at dksX1_beside_3 8 rfl rfl)
theorem dX1_beside_78 : decode cX1_beside 78 = .ok (.iload_n 2, 1) := dk_28 (dk_at dksX1_beside_3 9 rfl rfl)
theorem dX1_beside_79 : decode cX1_beside 79 = .ok (.iaload, 1) := dk_46 (dk_at dksX1_beside_3 10 rfl rfl)
theorem dX1_beside_80 : decode cX1_beside 80 = .ok (.if_icmp .ge 7, 3) := dk_162 0 7 (dk_at dksX1_beside_3 11 rfl rfl)
theorem dX1_beside_83 : decode cX1_beside 83 = .ok (.iconst 0, 1) := dk_3 (dk_at dksX1_beside_3 14 rfl rfl)
theorem dX1_beside_84 : decode cX1_beside 84 = .ok (.goto 4, 3) := dk_167 0 4 (dk_at dksX1_beside_3 15 rfl rfl)
theorem dX1_beside_87 : decode cX1_beside 87 = .ok (.iconst 1, 1) := dk_4 (dk_at dksX1_beside_3 18 rfl rfl)
theorem dX1_beside_88 : decode cX1_beside 88 = .ok (.invokevirtual 192, 3) := dk_182 0 192 (dk_at dksX1_beside_3 19 rfl rfl)
theorem dX1_beside_91 : decode cX1_beside 91 = .ok (.aload_n 0, 1) := dk_42 (dk_at dksX1_beside_3 22 rfl rfl)
theorem dX1_beside_92 : decode cX1_beside 92 = .ok (.aload 5, 2) := dk_25 5 (dk_at dksX1_beside_4 0 rfl rfl)
theorem dX1_beside_94 : decode cX1_beside 94 = .ok (.iload_n 1, 1) := dk_27 (dk_at dksX1_beside_4 2 rfl rfl)
theorem dX1_beside_95 : decode cX1_beside 95 = .ok (.iload_n 2, 1) := dk_28 (dk_at dksX1_beside_4 3 rfl rfl)
theorem dX1_beside_96 : decode cX1_beside 96 = .ok (.invokevirtual 175, 3) := dk_182 0 175 (dk_at dksX1_beside_4 4 rfl rfl)
theorem dX1_beside_99 : decode cX1_beside 99 = .ok (.i2l, 1) := dk_133 (dk_at dksX1_beside_4 7 rfl rfl)
theorem dX1_beside_100 : decode cX1_beside 100 = .ok (.invokevirtual 196, 3) := dk_182 0 196 (dk_at dksX1_beside_4 8 rfl rfl)
theorem dX1_beside_103 : decode cX1_beside 103 = .ok (.iinc 4 1, 3) := dk_132 4 1 (dk_at dksX1_beside_4 11 rfl rfl)
theorem dX1_beside_106 : decode cX1_beside 106 = .ok (.goto (-74), 3) := dk_167 255 182 (dk_at dksX1_beside_4 14 rfl rfl)
theorem dX1_beside_109 : decode cX1_beside 109 = .ok (.aload_n 0, 1) := dk_42 (dk_at dksX1_beside_4 17 rfl rfl)
theorem dX1_beside_110 : decode cX1_beside 110 = .ok (.invokevirtual 200, 3) := dk_182 0 200 (dk_at dksX1_beside_4 18 rfl rfl)
theorem dX1_beside_113 : decode cX1_beside 113 = .ok (.invokestatic 168, 3) := dk_184 0 168 (dk_at dksX1_beside_4 21 rfl rfl)
theorem dX1_beside_116 : decode cX1_beside 116 = .ok (.aload_n 0, 1) := dk_42 (dk_at dksX1_beside_5 0 rfl rfl)
theorem dX1_beside_117 : decode cX1_beside 117 = .ok (.invokevirtual 211, 3) := dk_182 0 211 (dk_at dksX1_beside_5 1 rfl rfl)
theorem dX1_beside_120 : decode cX1_beside 120 = .ok (.aload_n 0, 1) := dk_42 (dk_at dksX1_beside_5 4 rfl rfl)
theorem dX1_beside_121 : decode cX1_beside 121 = .ok (.invokevirtual 215, 3) := dk_182 0 215 (dk_at dksX1_beside_5 5 rfl rfl)
theorem dX1_beside_124 : decode cX1_beside 124 = .ok (.iload_n 3, 1) := dk_29 (dk_at dksX1_beside_5 8 rfl rfl)
theorem dX1_beside_125 : decode cX1_beside 125 = .ok (.invokestatic 218, 3) := dk_184 0 218 (dk_at dksX1_beside_5 9 rfl rfl)
theorem dX1_beside_128 : decode cX1_beside 128 = .ok (.lreturn, 1) := dk_173 (dk_at dksX1_beside_5 12 rfl rfl)
def dkwX1_apart_1 : List UInt8 := [29, 133, 28, 27, 100, 133, 105, 42, 182, 0, 215, 105, 101, 42, 182, 0, 215, 21, 4, 184, 0, 218, 173]
abbrev dktX1_apart_1 : List UInt8 := dkwX1_apart_1 ++ []
def dkwX1_apart_0 : List UInt8 := [29, 16, 157, 16, 99, 184, 0, 112, 184, 0, 168, 42, 27, 28, 2, 21, 4, 182, 0, 207, 42, 182, 0, 211]
abbrev dktX1_apart_0 : List UInt8 := dkwX1_apart_0 ++ dktX1_apart_1
theorem dksX1_apart_0 : cX1_apart.data.toList.drop 0 = dktX1_apart_0 := by decide +kernel
theorem dksX1_apart_1 : cX1_apart.data.toList.drop 24 = dktX1_apart_1 := dk_seg dksX1_apart_0 24 rfl rfl
theorem dX1_apart_0 : decode cX1_apart 0 = .ok (.iload_n 3, 1) := dk_29 (dk_at dksX1_apart_0 0 rfl rfl)
theorem dX1_apart_1 : decode cX1_apart 1 = .ok (.bipush (-99), 2) := dk_16 157 (dk_at dksX1_apart_0 1 rfl rfl)
theorem dX1_apart_3 : decode cX1_apart 3 = .ok (.bipush 99, 2) := dk_16 99 (dk_at dksX1_apart_0 3 rfl rfl)
theorem dX1_apart_5 : decode cX1_apart 5 = .ok (.invokestatic 112, 3) := dk_184 0 112 (dk_at dksX1_apart_0 5 rfl rfl)
theorem dX1_apart_8 : decode cX1_apart 8 = .ok (.invokestatic 168, 3) := dk_184 0 168 (dk_at dksX1_apart_0 8 rfl rfl)
theorem dX1_apart_11 : decode cX1_apart 11 = .ok (.aload_n 0, 1) := dk_42 (dk_at dksX1_apart_0 11 rfl rfl)
theorem dX1_apart_12 : decode cX1_apart 12 = .ok (.iload_n 1, 1) := dk_27 (dk_at dksX1_apart_0 12 rfl rfl)
theorem dX1_apart_13 : decode cX1_apart 13 = .ok (.iload_n 2, 1) := dk_28 (dk_at dksX1_apart_0 13 rfl rfl)
theorem dX1_apart_14 : decode cX1_apart 14 = .ok (.iconst (-1), 1) := dk_2 (dk_at dksX1_apart_0 14 rfl rfl)
theorem dX1_apart_15 : decode cX1_apart 15 = .ok (.iload 4, 2) := dk_21 4 (dk_at dksX1_apart_0 15 rfl rfl)
theorem dX1_apart_17 : decode cX1_apart 17 = .ok (.invokevirtual 207, 3) := dk_182 0 207 (dk_at dksX1_apart_0 17 rfl rfl)
theorem dX1_apart_20 : decode cX1_apart 20 = .ok (.aload_n 0, 1) := dk_42 (dk_at dksX1_apart_0 20 rfl rfl)
theorem dX1_apart_21 : decode cX1_apart 21 = .ok (.invokevirtual 211, 3) := dk_182 0 211 (dk_at dksX1_apart_0 21 rfl rfl)
theorem dX1_apart_24 : decode cX1_apart 24 = .ok (.iload_n 3, 1) := dk_29 (dk_at dksX1_apart_1 0 rfl rfl)
theorem dX1_apart_25 : decode cX1_apart 25 = .ok (.i2l, 1) := dk_133 (dk_at dksX1_apart_1 1 rfl rfl)
theorem dX1_apart_26 : decode cX1_apart 26 = .ok (.iload_n 2, 1) := dk_28 (dk_at dksX1_apart_1 2 rfl rfl)
theorem dX1_apart_27 : decode cX1_apart 27 = .ok (.iload_n 1, 1) := dk_27 (dk_at dksX1_apart_1 3 rfl rfl)
theorem dX1_apart_28 : decode cX1_apart 28 = .ok (.isub, 1) := dk_100 (dk_at dksX1_apart_1 4 rfl rfl)
theorem dX1_apart_29 : decode cX1_apart 29 = .ok (.i2l, 1) := dk_133 (dk_at dksX1_apart_1 5 rfl rfl)
theorem dX1_apart_30 : decode cX1_apart 30 = .ok (.lmul, 1) := dk_105 (dk_at dksX1_apart_1 6 rfl rfl)
theorem dX1_apart_31 : decode cX1_apart 31 = .ok (.aload_n 0, 1) := dk_42 (dk_at dksX1_apart_1 7 rfl rfl)
theorem dX1_apart_32 : decode cX1_apart 32 = .ok (.invokevirtual 215, 3) := dk_182 0 215 (dk_at dksX1_apart_1 8 rfl rfl)
theorem dX1_apart_35 : decode cX1_apart 35 = .ok (.lmul, 1) := dk_105 (dk_at dksX1_apart_1 11 rfl rfl)
theorem dX1_apart_36 : decode cX1_apart 36 = .ok (.lsub, 1) := dk_101 (dk_at dksX1_apart_1 12 rfl rfl)
theorem dX1_apart_37 : decode cX1_apart 37 = .ok (.aload_n 0, 1) := dk_42 (dk_at dksX1_apart_1 13 rfl rfl)
theorem dX1_apart_38 : decode cX1_apart 38 = .ok (.invokevirtual 215, 3) := dk_182 0 215 (dk_at dksX1_apart_1 14 rfl rfl)
theorem dX1_apart_41 : decode cX1_apart 41 = .ok (.iload 4, 2) := dk_21 4 (dk_at dksX1_apart_1 17 rfl rfl)
theorem dX1_apart_43 : decode cX1_apart 43 = .ok (.invokestatic 218, 3) := dk_184 0 218 (dk_at dksX1_apart_1 19 rfl rfl)
theorem dX1_apart_46 : decode cX1_apart 46 = .ok (.lreturn, 1) := dk_173 (dk_at dksX1_apart_1 22 rfl rfl)
def dkwX1_others_2 : List UInt8 := [184, 0, 218, 173]
abbrev dktX1_others_2 : List UInt8 := dkwX1_others_2 ++ []
def dkwX1_others_1 : List UInt8 := [4, 167, 0, 4, 3, 184, 0, 168, 42, 180, 0, 66, 180, 0, 185, 42, 180, 0, 66, 180, 0, 182, 133, 28]
abbrev dktX1_others_1 : List UInt8 := dkwX1_others_1 ++ dktX1_others_2
def dkwX1_others_0 : List UInt8 := [28, 3, 4, 184, 0, 112, 184, 0, 168, 42, 27, 182, 1, 69, 42, 180, 0, 66, 180, 0, 182, 158, 0, 7]
abbrev dktX1_others_0 : List UInt8 := dkwX1_others_0 ++ dktX1_others_1
theorem dksX1_others_0 : cX1_others.data.toList.drop 0 = dktX1_others_0 := by decide +kernel
theorem dksX1_others_1 : cX1_others.data.toList.drop 24 = dktX1_others_1 := dk_seg dksX1_others_0 24 rfl rfl
theorem dksX1_others_2 : cX1_others.data.toList.drop 48 = dktX1_others_2 := dk_seg dksX1_others_1 24 rfl rfl
theorem dX1_others_0 : decode cX1_others 0 = .ok (.iload_n 2, 1) := dk_28 (dk_at dksX1_others_0 0 rfl rfl)
theorem dX1_others_1 : decode cX1_others 1 = .ok (.iconst 0, 1) := dk_3 (dk_at dksX1_others_0 1 rfl rfl)
theorem dX1_others_2 : decode cX1_others 2 = .ok (.iconst 1, 1) := dk_4 (dk_at dksX1_others_0 2 rfl rfl)
theorem dX1_others_3 : decode cX1_others 3 = .ok (.invokestatic 112, 3) := dk_184 0 112 (dk_at dksX1_others_0 3 rfl rfl)
theorem dX1_others_6 : decode cX1_others 6 = .ok (.invokestatic 168, 3) := dk_184 0 168 (dk_at dksX1_others_0 6 rfl rfl)
theorem dX1_others_9 : decode cX1_others 9 = .ok (.aload_n 0, 1) := dk_42 (dk_at dksX1_others_0 9 rfl rfl)
theorem dX1_others_10 : decode cX1_others 10 = .ok (.iload_n 1, 1) := dk_27 (dk_at dksX1_others_0 10 rfl rfl)
theorem dX1_others_11 : decode cX1_others 11 = .ok (.invokevirtual 325, 3) := dk_182 1 69 (dk_at dksX1_others_0 11 rfl rfl)
theorem dX1_others_14 : decode cX1_others 14 = .ok (.aload_n 0, 1) := dk_42 (dk_at dksX1_others_0 14 rfl rfl)
theorem dX1_others_15 : decode cX1_others 15 = .ok (.getfield 66, 3) := dk_180 0 66 (dk_at dksX1_others_0 15 rfl rfl)
theorem dX1_others_18 : decode cX1_others 18 = .ok (.getfield 182, 3) := dk_180 0 182 (dk_at dksX1_others_0 18 rfl rfl)
theorem dX1_others_21 : decode cX1_others 21 = .ok (.ifCond .le 7, 3) := dk_158 0 7 (dk_at dksX1_others_0 21 rfl rfl)
theorem dX1_others_24 : decode cX1_others 24 = .ok (.iconst 1, 1) := dk_4 (dk_at dksX1_others_1 0 rfl rfl)
theorem dX1_others_25 : decode cX1_others 25 = .ok (.goto 4, 3) := dk_167 0 4 (dk_at dksX1_others_1 1 rfl rfl)
theorem dX1_others_28 : decode cX1_others 28 = .ok (.iconst 0, 1) := dk_3 (dk_at dksX1_others_1 4 rfl rfl)
theorem dX1_others_29 : decode cX1_others 29 = .ok (.invokestatic 168, 3) := dk_184 0 168 (dk_at dksX1_others_1 5 rfl rfl)
theorem dX1_others_32 : decode cX1_others 32 = .ok (.aload_n 0, 1) := dk_42 (dk_at dksX1_others_1 8 rfl rfl)
theorem dX1_others_33 : decode cX1_others 33 = .ok (.getfield 66, 3) := dk_180 0 66 (dk_at dksX1_others_1 9 rfl rfl)
theorem dX1_others_36 : decode cX1_others 36 = .ok (.getfield 185, 3) := dk_180 0 185 (dk_at dksX1_others_1 12 rfl rfl)
theorem dX1_others_39 : decode cX1_others 39 = .ok (.aload_n 0, 1) := dk_42 (dk_at dksX1_others_1 15 rfl rfl)
theorem dX1_others_40 : decode cX1_others 40 = .ok (.getfield 66, 3) := dk_180 0 66 (dk_at dksX1_others_1 16 rfl rfl)
theorem dX1_others_43 : decode cX1_others 43 = .ok (.getfield 182, 3) := dk_180 0 182 (dk_at dksX1_others_1 19 rfl rfl)
theorem dX1_others_46 : decode cX1_others 46 = .ok (.i2l, 1) := dk_133 (dk_at dksX1_others_1 22 rfl rfl)
theorem dX1_others_47 : decode cX1_others 47 = .ok (.iload_n 2, 1) := dk_28 (dk_at dksX1_others_1 23 rfl rfl)
theorem dX1_others_48 : decode cX1_others 48 = .ok (.invokestatic 218, 3) := dk_184 0 218 (dk_at dksX1_others_2 0 rfl rfl)
theorem dX1_others_51 : decode cX1_others 51 = .ok (.lreturn, 1) := dk_173 (dk_at dksX1_others_2 3 rfl rfl)
def dkwX1_writes_3 : List UInt8 := [182, 0, 211, 42, 182, 0, 215, 28, 184, 0, 218, 173]
abbrev dktX1_writes_3 : List UInt8 := dkwX1_writes_3 ++ []
def dkwX1_writes_2 : List UInt8 := [180, 0, 56, 167, 0, 12, 42, 180, 0, 52, 27, 50, 180, 1, 89, 182, 1, 94, 184, 0, 168, 42]
abbrev dktX1_writes_2 : List UInt8 := dkwX1_writes_2 ++ dktX1_writes_3
def dkwX1_writes_1 : List UInt8 := [184, 0, 168, 42, 42, 180, 0, 52, 27, 50, 42, 180, 0, 52, 27, 50, 180, 1, 89, 2, 160, 0, 10, 42]
abbrev dktX1_writes_1 : List UInt8 := dkwX1_writes_1 ++ dktX1_writes_2
def dkwX1_writes_0 : List UInt8 := [27, 3, 6, 184, 0, 112, 153, 0, 16, 28, 3, 4, 184, 0, 112, 153, 0, 7, 4, 167, 0, 4, 3]
abbrev dktX1_writes_0 : List UInt8 := dkwX1_writes_0 ++ dktX1_writes_1
theorem dksX1_writes_0 : cX1_writes.data.toList.drop 0 = dktX1_writes_0 := by decide +kernel
theorem dksX1_writes_1 : cX1_writes.data.toList.drop 23 = dktX1_writes_1 := dk_seg dksX1_writes_0 23 rfl rfl
theorem dksX1_writes_2 : cX1_writes.data.toList.drop 47 = dktX1_writes_2 := dk_seg dksX1_writes_1 24 rfl rfl
theorem dksX1_writes_3 : cX1_writes.data.toList.drop 69 = dktX1_writes_3 := dk_seg dksX1_writes_2 22 rfl rfl
theorem dX1_writes_0 : decode cX1_writes 0 = .ok (.iload_n 1, 1) := dk_27 (dk_at dksX1_writes_0 0 rfl rfl)
theorem dX1_writes_1 : decode cX1_writes 1 = .ok (.iconst 0, 1) := dk_3 (dk_at dksX1_writes_0 1 rfl rfl)
theorem dX1_writes_2 : decode cX1_writes 2 = .ok (.iconst 3, 1) := dk_6 (dk_at dksX1_writes_0 2 rfl rfl)
theorem dX1_writes_3 : decode cX1_writes 3 = .ok (.invokestatic 112, 3) := dk_184 0 112 (dk_at dksX1_writes_0 3 rfl rfl)
theorem dX1_writes_6 : decode cX1_writes 6 = .ok (.ifCond .eq 16, 3) := dk_153 0 16 (dk_at dksX1_writes_0 6 rfl rfl)
theorem dX1_writes_9 : decode cX1_writes 9 = .ok (.iload_n 2, 1) := dk_28 (dk_at dksX1_writes_0 9 rfl rfl)
theorem dX1_writes_10 : decode cX1_writes 10 = .ok (.iconst 0, 1) := dk_3 (dk_at dksX1_writes_0 10 rfl rfl)
theorem dX1_writes_11 : decode cX1_writes 11 = .ok (.iconst 1, 1) := dk_4 (dk_at dksX1_writes_0 11 rfl rfl)
theorem dX1_writes_12 : decode cX1_writes 12 = .ok (.invokestatic 112, 3) := dk_184 0 112 (dk_at dksX1_writes_0 12 rfl rfl)
theorem dX1_writes_15 : decode cX1_writes 15 = .ok (.ifCond .eq 7, 3) := dk_153 0 7 (dk_at dksX1_writes_0 15 rfl rfl)
theorem dX1_writes_18 : decode cX1_writes 18 = .ok (.iconst 1, 1) := dk_4 (dk_at dksX1_writes_0 18 rfl rfl)
theorem dX1_writes_19 : decode cX1_writes 19 = .ok (.goto 4, 3) := dk_167 0 4 (dk_at dksX1_writes_0 19 rfl rfl)
theorem dX1_writes_22 : decode cX1_writes 22 = .ok (.iconst 0, 1) := dk_3 (dk_at dksX1_writes_0 22 rfl rfl)
theorem dX1_writes_23 : decode cX1_writes 23 = .ok (.invokestatic 168, 3) := dk_184 0 168 (dk_at dksX1_writes_1 0 rfl rfl)
theorem dX1_writes_26 : decode cX1_writes 26 = .ok (.aload_n 0, 1) := dk_42 (dk_at dksX1_writes_1 3 rfl rfl)
theorem dX1_writes_27 : decode cX1_writes 27 = .ok (.aload_n 0, 1) := dk_42 (dk_at dksX1_writes_1 4 rfl rfl)
theorem dX1_writes_28 : decode cX1_writes 28 = .ok (.getfield 52, 3) := dk_180 0 52 (dk_at dksX1_writes_1 5 rfl rfl)
theorem dX1_writes_31 : decode cX1_writes 31 = .ok (.iload_n 1, 1) := dk_27 (dk_at dksX1_writes_1 8 rfl rfl)
theorem dX1_writes_32 : decode cX1_writes 32 = .ok (.aaload, 1) := dk_50 (dk_at dksX1_writes_1 9 rfl rfl)
theorem dX1_writes_33 : decode cX1_writes 33 = .ok (.aload_n 0, 1) := dk_42 (dk_at dksX1_writes_1 10 rfl rfl)
theorem dX1_writes_34 : decode cX1_writes 34 = .ok (.getfield 52, 3) := dk_180 0 52 (dk_at dksX1_writes_1 11 rfl rfl)
theorem dX1_writes_37 : decode cX1_writes 37 = .ok (.iload_n 1, 1) := dk_27 (dk_at dksX1_writes_1 14 rfl rfl)
theorem dX1_writes_38 : decode cX1_writes 38 = .ok (.aaload, 1) := dk_50 (dk_at dksX1_writes_1 15 rfl rfl)
theorem dX1_writes_39 : decode cX1_writes 39 = .ok (.getfield 345, 3) := dk_180 1 89 (dk_at dksX1_writes_1 16 rfl rfl)
theorem dX1_writes_42 : decode cX1_writes 42 = .ok (.iconst (-1), 1) := dk_2 (dk_at dksX1_writes_1 19 rfl rfl)
theorem dX1_writes_43 : decode cX1_writes 43 = .ok (.if_icmp .ne 10, 3) := dk_160 0 10 (dk_at dksX1_writes_1 20 rfl rfl)
theorem dX1_writes_46 : decode cX1_writes 46 = .ok (.aload_n 0, 1) := dk_42 (dk_at dksX1_writes_1 23 rfl rfl)
theorem dX1_writes_47 : decode cX1_writes 47 = .ok (.getfield 56, 3) := dk_180 0 56 (dk_at dksX1_writes_2 0 rfl rfl)
theorem dX1_writes_50 : decode cX1_writes 50 = .ok (.goto 12, 3) := dk_167 0 12 (dk_at dksX1_writes_2 3 rfl rfl)
theorem dX1_writes_53 : decode cX1_writes 53 = .ok (.aload_n 0, 1) := dk_42 (dk_at dksX1_writes_2 6 rfl rfl)
theorem dX1_writes_54 : decode cX1_writes 54 = .ok (.getfield 52, 3) := dk_180 0 52 (dk_at dksX1_writes_2 7 rfl rfl)
theorem dX1_writes_57 : decode cX1_writes 57 = .ok (.iload_n 1, 1) := dk_27 (dk_at dksX1_writes_2 10 rfl rfl)
theorem dX1_writes_58 : decode cX1_writes 58 = .ok (.aaload, 1) := dk_50 (dk_at dksX1_writes_2 11 rfl rfl)
theorem dX1_writes_59 : decode cX1_writes 59 = .ok (.getfield 345, 3) := dk_180 1 89 (dk_at dksX1_writes_2 12 rfl rfl)
theorem dX1_writes_62 : decode cX1_writes 62 = .ok (.invokevirtual 350, 3) := dk_182 1 94 (dk_at dksX1_writes_2 15 rfl rfl)
theorem dX1_writes_65 : decode cX1_writes 65 = .ok (.invokestatic 168, 3) := dk_184 0 168 (dk_at dksX1_writes_2 18 rfl rfl)
theorem dX1_writes_68 : decode cX1_writes 68 = .ok (.aload_n 0, 1) := dk_42 (dk_at dksX1_writes_2 21 rfl rfl)
theorem dX1_writes_69 : decode cX1_writes 69 = .ok (.invokevirtual 211, 3) := dk_182 0 211 (dk_at dksX1_writes_3 0 rfl rfl)
theorem dX1_writes_72 : decode cX1_writes 72 = .ok (.aload_n 0, 1) := dk_42 (dk_at dksX1_writes_3 3 rfl rfl)
theorem dX1_writes_73 : decode cX1_writes 73 = .ok (.invokevirtual 215, 3) := dk_182 0 215 (dk_at dksX1_writes_3 4 rfl rfl)
theorem dX1_writes_76 : decode cX1_writes 76 = .ok (.iload_n 2, 1) := dk_28 (dk_at dksX1_writes_3 7 rfl rfl)
theorem dX1_writes_77 : decode cX1_writes 77 = .ok (.invokestatic 218, 3) := dk_184 0 218 (dk_at dksX1_writes_3 8 rfl rfl)
theorem dX1_writes_80 : decode cX1_writes 80 = .ok (.lreturn, 1) := dk_173 (dk_at dksX1_writes_3 11 rfl rfl)
def dkwX1_writes_2_4 : List UInt8 := [182, 0, 196, 132, 3, 1, 167, 255, 172, 42, 42, 180, 0, 56, 181, 0, 60, 42, 182, 0, 200, 172]
abbrev dktX1_writes_2_4 : List UInt8 := dkwX1_writes_2_4 ++ []
def dkwX1_writes_2_3 : List UInt8 := [182, 0, 192, 42, 42, 180, 0, 21, 29, 50, 43, 180, 1, 86, 43, 180, 1, 83, 182, 0, 175, 133]
abbrev dktX1_writes_2_3 : List UInt8 := dkwX1_writes_2_3 ++ dktX1_writes_2_4
def dkwX1_writes_2_2 : List UInt8 := [153, 0, 47, 42, 43, 29, 182, 1, 90, 153, 0, 38, 42, 42, 180, 0, 21, 29, 50, 180, 0, 124]
abbrev dktX1_writes_2_2 : List UInt8 := dkwX1_writes_2_2 ++ dktX1_writes_2_3
def dkwX1_writes_2_1 : List UInt8 := [180, 1, 83, 159, 0, 73, 42, 180, 0, 21, 29, 50, 43, 180, 1, 86, 43, 180, 1, 83, 182, 0, 172]
abbrev dktX1_writes_2_1 : List UInt8 := dkwX1_writes_2_1 ++ dktX1_writes_2_2
def dkwX1_writes_2_0 : List UInt8 := [42, 182, 0, 189, 42, 28, 181, 0, 60, 3, 62, 29, 16, 24, 162, 0, 84, 43, 180, 1, 86, 43]
abbrev dktX1_writes_2_0 : List UInt8 := dkwX1_writes_2_0 ++ dktX1_writes_2_1
theorem dksX1_writes_2_0 : cX1_writes_2.data.toList.drop 0 = dktX1_writes_2_0 := by decide +kernel
theorem dksX1_writes_2_1 : cX1_writes_2.data.toList.drop 22 = dktX1_writes_2_1 := dk_seg dksX1_writes_2_0 22 rfl rfl
theorem dksX1_writes_2_2 : cX1_writes_2.data.toList.drop 45 = dktX1_writes_2_2 := dk_seg dksX1_writes_2_1 23 rfl rfl
theorem dksX1_writes_2_3 : cX1_writes_2.data.toList.drop 67 = dktX1_writes_2_3 := dk_seg dksX1_writes_2_2 22 rfl rfl
theorem dksX1_writes_2_4 : cX1_writes_2.data.toList.drop 89 = dktX1_writes_2_4 := dk_seg dksX1_writes_2_3 22 rfl rfl
theorem dX1_writes_2_0 : decode cX1_writes_2 0 = .ok (.aload_n 0, 1) := dk_42 (dk_at dksX1_writes_2_0 0 rfl rfl)
theorem dX1_writes_2_1 : decode cX1_writes_2 1 = .ok (.invokevirtual 189, 3) := dk_182 0 189 (dk_at dksX1_writes_2_0 1 rfl rfl)
theorem dX1_writes_2_4 : decode cX1_writes_2 4 = .ok (.aload_n 0, 1) := dk_42 (dk_at dksX1_writes_2_0 4 rfl rfl)
theorem dX1_writes_2_5 : decode cX1_writes_2 5 = .ok (.iload_n 2, 1) := dk_28 (dk_at dksX1_writes_2_0 5 rfl rfl)
theorem dX1_writes_2_6 : decode cX1_writes_2 6 = .ok (.putfield 60, 3) := dk_181 0 60 (dk_at dksX1_writes_2_0 6 rfl rfl)
theorem dX1_writes_2_9 : decode cX1_writes_2 9 = .ok (.iconst 0, 1) := dk_3 (dk_at dksX1_writes_2_0 9 rfl rfl)
theorem dX1_writes_2_10 : decode cX1_writes_2 10 = .ok (.istore_n 3, 1) := dk_62 (dk_at dksX1_writes_2_0 10 rfl rfl)
theorem dX1_writes_2_11 : decode cX1_writes_2 11 = .ok (.iload_n 3, 1) := dk_29 (dk_at dksX1_writes_2_0 11 rfl rfl)
theorem dX1_writes_2_12 : decode cX1_writes_2 12 = .ok (.bipush 24, 2) := dk_16 24 (dk_at dksX1_writes_2_0 12 rfl rfl)
theorem dX1_writes_2_14 : decode cX1_writes_2 14 = .ok (.if_icmp .ge 84, 3) := dk_162 0 84 (dk_at dksX1_writes_2_0 14 rfl rfl)
theorem dX1_writes_2_17 : decode cX1_writes_2 17 = .ok (.aload_n 1, 1) := dk_43 (dk_at dksX1_writes_2_0 17 rfl rfl)
theorem dX1_writes_2_18 : decode cX1_writes_2 18 = .ok (.getfield 342, 3) := dk_180 1 86 (dk_at dksX1_writes_2_0 18 rfl rfl)
theorem dX1_writes_2_21 : decode cX1_writes_2 21 = .ok (.aload_n 1, 1) := dk_43 (dk_at dksX1_writes_2_0 21 rfl rfl)
theorem dX1_writes_2_22 : decode cX1_writes_2 22 = .ok (.getfield 339, 3) := dk_180 1 83 (dk_at dksX1_writes_2_1 0 rfl rfl)
theorem dX1_writes_2_25 : decode cX1_writes_2 25 = .ok (.if_icmp .eq 73, 3) := dk_159 0 73 (dk_at dksX1_writes_2_1 3 rfl rfl)
theorem dX1_writes_2_28 : decode cX1_writes_2 28 = .ok (.aload_n 0, 1) := dk_42 (dk_at dksX1_writes_2_1 6 rfl rfl)
theorem dX1_writes_2_29 : decode cX1_writes_2 29 = .ok (.getfield 21, 3) := dk_180 0 21 (dk_at dksX1_writes_2_1 7 rfl rfl)
theorem dX1_writes_2_32 : decode cX1_writes_2 32 = .ok (.iload_n 3, 1) := dk_29 (dk_at dksX1_writes_2_1 10 rfl rfl)
theorem dX1_writes_2_33 : decode cX1_writes_2 33 = .ok (.aaload, 1) := dk_50 (dk_at dksX1_writes_2_1 11 rfl rfl)
theorem dX1_writes_2_34 : decode cX1_writes_2 34 = .ok (.aload_n 1, 1) := dk_43 (dk_at dksX1_writes_2_1 12 rfl rfl)
theorem dX1_writes_2_35 : decode cX1_writes_2 35 = .ok (.getfield 342, 3) := dk_180 1 86 (dk_at dksX1_writes_2_1 13 rfl rfl)
theorem dX1_writes_2_38 : decode cX1_writes_2 38 = .ok (.aload_n 1, 1) := dk_43 (dk_at dksX1_writes_2_1 16 rfl rfl)
theorem dX1_writes_2_39 : decode cX1_writes_2 39 = .ok (.getfield 339, 3) := dk_180 1 83 (dk_at dksX1_writes_2_1 17 rfl rfl)
theorem dX1_writes_2_42 : decode cX1_writes_2 42 = .ok (.invokevirtual 172, 3) := dk_182 0 172 (dk_at dksX1_writes_2_1 20 rfl rfl)
theorem dX1_writes_2_45 : decode cX1_writes_2 45 = .ok (.ifCond .eq 47, 3) := dk_153 0 47 (dk_at dksX1_writes_2_2 0 rfl rfl)
theorem dX1_writes_2_48 : decode cX1_writes_2 48 = .ok (.aload_n 0, 1) := dk_42 (dk_at dksX1_writes_2_2 3 rfl rfl)
theorem dX1_writes_2_49 : decode cX1_writes_2 49 = .ok (.aload_n 1, 1) := dk_43 (dk_at dksX1_writes_2_2 4 rfl rfl)
theorem dX1_writes_2_50 : decode cX1_writes_2 50 = .ok (.iload_n 3, 1) := dk_29 (dk_at dksX1_writes_2_2 5 rfl rfl)
theorem dX1_writes_2_51 : decode cX1_writes_2 51 = .ok (.invokevirtual 346, 3) := dk_182 1 90 (dk_at dksX1_writes_2_2 6 rfl rfl)
theorem dX1_writes_2_54 : decode cX1_writes_2 54 = .ok (.ifCond .eq 38, 3) := dk_153 0 38 (dk_at dksX1_writes_2_2 9 rfl rfl)
theorem dX1_writes_2_57 : decode cX1_writes_2 57 = .ok (.aload_n 0, 1) := dk_42 (dk_at dksX1_writes_2_2 12 rfl rfl)
theorem dX1_writes_2_58 : decode cX1_writes_2 58 = .ok (.aload_n 0, 1) := dk_42 (dk_at dksX1_writes_2_2 13 rfl rfl)
theorem dX1_writes_2_59 : decode cX1_writes_2 59 = .ok (.getfield 21, 3) := dk_180 0 21 (dk_at dksX1_writes_2_2 14 rfl rfl)
theorem dX1_writes_2_62 : decode cX1_writes_2 62 = .ok (.iload_n 3, 1) := dk_29 (dk_at dksX1_writes_2_2 17 rfl rfl)
theorem dX1_writes_2_63 : decode cX1_writes_2 63 = .ok (.aaload, 1) := dk_50 (dk_at dksX1_writes_2_2 18 rfl rfl)
theorem dX1_writes_2_64 : decode cX1_writes_2 64 = .ok (.getfield 124, 3) := dk_180 0 124 (dk_at dksX1_writes_2_2 19 rfl rfl)
theorem dX1_writes_2_67 : decode cX1_writes_2 67 = .ok (.invokevirtual 192, 3) := dk_182 0 192 (dk_at dksX1_writes_2_3 0 rfl rfl)
theorem dX1_writes_2_70 : decode cX1_writes_2 70 = .ok (.aload_n 0, 1) := dk_42 (dk_at dksX1_writes_2_3 3 rfl rfl)
theorem dX1_writes_2_71 : decode cX1_writes_2 71 = .ok (.aload_n 0, 1) := dk_42 (dk_at dksX1_writes_2_3 4 rfl rfl)
theorem dX1_writes_2_72 : decode cX1_writes_2 72 = .ok (.getfield 21, 3) := dk_180 0 21 (dk_at dksX1_writes_2_3 5 rfl rfl)
theorem dX1_writes_2_75 : decode cX1_writes_2 75 = .ok (.iload_n 3, 1) := dk_29 (dk_at dksX1_writes_2_3 8 rfl rfl)
theorem dX1_writes_2_76 : decode cX1_writes_2 76 = .ok (.aaload, 1) := dk_50 (dk_at dksX1_writes_2_3 9 rfl rfl)
theorem dX1_writes_2_77 : decode cX1_writes_2 77 = .ok (.aload_n 1, 1) := dk_43 (dk_at dksX1_writes_2_3 10 rfl rfl)
theorem dX1_writes_2_78 : decode cX1_writes_2 78 = .ok (.getfield 342, 3) := dk_180 1 86 (dk_at dksX1_writes_2_3 11 rfl rfl)
theorem dX1_writes_2_81 : decode cX1_writes_2 81 = .ok (.aload_n 1, 1) := dk_43 (dk_at dksX1_writes_2_3 14 rfl rfl)
theorem dX1_writes_2_82 : decode cX1_writes_2 82 = .ok (.getfield 339, 3) := dk_180 1 83 (dk_at dksX1_writes_2_3 15 rfl rfl)
theorem dX1_writes_2_85 : decode cX1_writes_2 85 = .ok (.invokevirtual 175, 3) := dk_182 0 175 (dk_at dksX1_writes_2_3 18 rfl rfl)
theorem dX1_writes_2_88 : decode cX1_writes_2 88 = .ok (.i2l, 1) := dk_133 (dk_at dksX1_writes_2_3 21 rfl rfl)
theorem dX1_writes_2_89 : decode cX1_writes_2 89 = .ok (.invokevirtual 196, 3) := dk_182 0 196 (dk_at dksX1_writes_2_4 0 rfl rfl)
theorem dX1_writes_2_92 : decode cX1_writes_2 92 = .ok (.iinc 3 1, 3) := dk_132 3 1 (dk_at dksX1_writes_2_4 3 rfl rfl)
theorem dX1_writes_2_95 : decode cX1_writes_2 95 = .ok (.goto (-84), 3) := dk_167 255 172 (dk_at dksX1_writes_2_4 6 rfl rfl)
theorem dX1_writes_2_98 : decode cX1_writes_2 98 = .ok (.aload_n 0, 1) := dk_42 (dk_at dksX1_writes_2_4 9 rfl rfl)
theorem dX1_writes_2_99 : decode cX1_writes_2 99 = .ok (.aload_n 0, 1) := dk_42 (dk_at dksX1_writes_2_4 10 rfl rfl)
theorem dX1_writes_2_100 : decode cX1_writes_2 100 = .ok (.getfield 56, 3) := dk_180 0 56 (dk_at dksX1_writes_2_4 11 rfl rfl)
theorem dX1_writes_2_103 : decode cX1_writes_2 103 = .ok (.putfield 60, 3) := dk_181 0 60 (dk_at dksX1_writes_2_4 14 rfl rfl)
theorem dX1_writes_2_106 : decode cX1_writes_2 106 = .ok (.aload_n 0, 1) := dk_42 (dk_at dksX1_writes_2_4 17 rfl rfl)
theorem dX1_writes_2_107 : decode cX1_writes_2 107 = .ok (.invokevirtual 200, 3) := dk_182 0 200 (dk_at dksX1_writes_2_4 18 rfl rfl)
theorem dX1_writes_2_110 : decode cX1_writes_2 110 = .ok (.ireturn, 1) := dk_172 (dk_at dksX1_writes_2_4 21 rfl rfl)
def dkwX1_forks_10 : List UInt8 := [100, 184, 0, 218, 173]
abbrev dktX1_forks_10 : List UInt8 := dkwX1_forks_10 ++ []
def dkwX1_forks_9 : List UInt8 := [27, 8, 162, 0, 16, 22, 5, 22, 7, 27, 6, 100, 184, 0, 218, 167, 0, 13, 22, 9, 22, 11, 27, 8]
abbrev dktX1_forks_9 : List UInt8 := dkwX1_forks_9 ++ dktX1_forks_10
def dkwX1_forks_8 : List UInt8 := [160, 0, 8, 29, 133, 167, 0, 6, 21, 4, 133, 173, 28, 158, 0, 7, 4, 167, 0, 4, 3, 184, 0, 168]
abbrev dktX1_forks_8 : List UInt8 := dkwX1_forks_8 ++ dktX1_forks_9
def dkwX1_forks_7 : List UInt8 := [132, 13, 1, 167, 255, 117, 27, 6, 162, 0, 26, 27, 154, 0, 8, 28, 133, 167, 0, 16, 27, 4]
abbrev dktX1_forks_7 : List UInt8 := dkwX1_forks_7 ++ dktX1_forks_8
def dkwX1_forks_6 : List UInt8 := [158, 0, 15, 42, 182, 0, 211, 55, 9, 42, 182, 0, 215, 55, 11, 132, 2, 1, 132, 14, 1, 167, 255, 132]
abbrev dktX1_forks_6 : List UInt8 := dkwX1_forks_6 ++ dktX1_forks_7
def dkwX1_forks_5 : List UInt8 := [182, 0, 215, 55, 7, 28, 153, 0, 21, 42, 182, 0, 211, 22, 11, 105, 22, 9, 42, 182, 0, 215, 105, 148]
abbrev dktX1_forks_5 : List UInt8 := dkwX1_forks_5 ++ dktX1_forks_6
def dkwX1_forks_4 : List UInt8 := [182, 0, 211, 22, 7, 105, 22, 5, 42, 182, 0, 215, 105, 148, 156, 0, 15, 42, 182, 0, 211, 55, 5, 42]
abbrev dktX1_forks_4 : List UInt8 := dkwX1_forks_4 ++ dktX1_forks_5
def dkwX1_forks_3 : List UInt8 := [148, 156, 0, 6, 132, 3, 1, 42, 182, 0, 211, 9, 148, 158, 0, 6, 132, 4, 1, 28, 153, 0, 21, 42]
abbrev dktX1_forks_3 : List UInt8 := dkwX1_forks_3 ++ dktX1_forks_4
def dkwX1_forks_2 : List UInt8 := [42, 42, 180, 0, 52, 21, 13, 50, 21, 14, 182, 1, 94, 154, 0, 6, 167, 0, 98, 42, 182, 0, 211, 9]
abbrev dktX1_forks_2 : List UInt8 := dkwX1_forks_2 ++ dktX1_forks_3
def dkwX1_forks_1 : List UInt8 := [55, 9, 10, 55, 11, 3, 54, 13, 21, 13, 7, 162, 0, 139, 3, 54, 14, 21, 14, 16, 10, 163, 0, 123]
abbrev dktX1_forks_1 : List UInt8 := dkwX1_forks_1 ++ dktX1_forks_2
def dkwX1_forks_0 : List UInt8 := [27, 3, 16, 6, 184, 0, 112, 184, 0, 168, 3, 61, 3, 62, 3, 54, 4, 9, 55, 5, 10, 55, 7, 9]
abbrev dktX1_forks_0 : List UInt8 := dkwX1_forks_0 ++ dktX1_forks_1
theorem dksX1_forks_0 : cX1_forks.data.toList.drop 0 = dktX1_forks_0 := by decide +kernel
theorem dksX1_forks_1 : cX1_forks.data.toList.drop 24 = dktX1_forks_1 := dk_seg dksX1_forks_0 24 rfl rfl
theorem dksX1_forks_2 : cX1_forks.data.toList.drop 48 = dktX1_forks_2 := dk_seg dksX1_forks_1 24 rfl rfl
theorem dksX1_forks_3 : cX1_forks.data.toList.drop 72 = dktX1_forks_3 := dk_seg dksX1_forks_2 24 rfl rfl
theorem dksX1_forks_4 : cX1_forks.data.toList.drop 96 = dktX1_forks_4 := dk_seg dksX1_forks_3 24 rfl rfl
theorem dksX1_forks_5 : cX1_forks.data.toList.drop 120 = dktX1_forks_5 := dk_seg dksX1_forks_4 24 rfl rfl
theorem dksX1_forks_6 : cX1_forks.data.toList.drop 144 = dktX1_forks_6 := dk_seg dksX1_forks_5 24 rfl rfl
theorem dksX1_forks_7 : cX1_forks.data.toList.drop 168 = dktX1_forks_7 := dk_seg dksX1_forks_6 24 rfl rfl
theorem dksX1_forks_8 : cX1_forks.data.toList.drop 190 = dktX1_forks_8 := dk_seg dksX1_forks_7 22 rfl rfl
theorem dksX1_forks_9 : cX1_forks.data.toList.drop 214 = dktX1_forks_9 := dk_seg dksX1_forks_8 24 rfl rfl
theorem dksX1_forks_10 : cX1_forks.data.toList.drop 238 = dktX1_forks_10 := dk_seg dksX1_forks_9 24 rfl rfl
theorem dX1_forks_0 : decode cX1_forks 0 = .ok (.iload_n 1, 1) := dk_27 (dk_at dksX1_forks_0 0 rfl rfl)
theorem dX1_forks_1 : decode cX1_forks 1 = .ok (.iconst 0, 1) := dk_3 (dk_at dksX1_forks_0 1 rfl rfl)
theorem dX1_forks_2 : decode cX1_forks 2 = .ok (.bipush 6, 2) := dk_16 6 (dk_at dksX1_forks_0 2 rfl rfl)
theorem dX1_forks_4 : decode cX1_forks 4 = .ok (.invokestatic 112, 3) := dk_184 0 112 (dk_at dksX1_forks_0 4 rfl rfl)
theorem dX1_forks_7 : decode cX1_forks 7 = .ok (.invokestatic 168, 3) := dk_184 0 168 (dk_at dksX1_forks_0 7 rfl rfl)
theorem dX1_forks_10 : decode cX1_forks 10 = .ok (.iconst 0, 1) := dk_3 (dk_at dksX1_forks_0 10 rfl rfl)
theorem dX1_forks_11 : decode cX1_forks 11 = .ok (.istore_n 2, 1) := dk_61 (dk_at dksX1_forks_0 11 rfl rfl)
theorem dX1_forks_12 : decode cX1_forks 12 = .ok (.iconst 0, 1) := dk_3 (dk_at dksX1_forks_0 12 rfl rfl)
theorem dX1_forks_13 : decode cX1_forks 13 = .ok (.istore_n 3, 1) := dk_62 (dk_at dksX1_forks_0 13 rfl rfl)
theorem dX1_forks_14 : decode cX1_forks 14 = .ok (.iconst 0, 1) := dk_3 (dk_at dksX1_forks_0 14 rfl rfl)
theorem dX1_forks_15 : decode cX1_forks 15 = .ok (.istore 4, 2) := dk_54 4 (dk_at dksX1_forks_0 15 rfl rfl)
theorem dX1_forks_17 : decode cX1_forks 17 = .ok (.lconst 0, 1) := dk_9 (dk_at dksX1_forks_0 17 rfl rfl)
theorem dX1_forks_18 : decode cX1_forks 18 = .ok (.lstore 5, 2) := dk_55 5 (dk_at dksX1_forks_0 18 rfl rfl)
theorem dX1_forks_20 : decode cX1_forks 20 = .ok (.lconst 1, 1) := dk_10 (dk_at dksX1_forks_0 20 rfl rfl)
theorem dX1_forks_21 : decode cX1_forks 21 = .ok (.lstore 7, 2) := dk_55 7 (dk_at dksX1_forks_0 21 rfl rfl)
theorem dX1_forks_23 : decode cX1_forks 23 = .ok (.lconst 0, 1) := dk_9 (dk_at dksX1_forks_0 23 rfl rfl)
theorem dX1_forks_24 : decode cX1_forks 24 = .ok (.lstore 9, 2) := dk_55 9 (dk_at dksX1_forks_1 0 rfl rfl)
theorem dX1_forks_26 : decode cX1_forks 26 = .ok (.lconst 1, 1) := dk_10 (dk_at dksX1_forks_1 2 rfl rfl)
theorem dX1_forks_27 : decode cX1_forks 27 = .ok (.lstore 11, 2) := dk_55 11 (dk_at dksX1_forks_1 3 rfl rfl)
theorem dX1_forks_29 : decode cX1_forks 29 = .ok (.iconst 0, 1) := dk_3 (dk_at dksX1_forks_1 5 rfl rfl)
theorem dX1_forks_30 : decode cX1_forks 30 = .ok (.istore 13, 2) := dk_54 13 (dk_at dksX1_forks_1 6 rfl rfl)
theorem dX1_forks_32 : decode cX1_forks 32 = .ok (.iload 13, 2) := dk_21 13 (dk_at dksX1_forks_1 8 rfl rfl)
theorem dX1_forks_34 : decode cX1_forks 34 = .ok (.iconst 4, 1) := dk_7 (dk_at dksX1_forks_1 10 rfl rfl)
theorem dX1_forks_35 : decode cX1_forks 35 = .ok (.if_icmp .ge 139, 3) := dk_162 0 139 (dk_at dksX1_forks_1 11 rfl rfl)
theorem dX1_forks_38 : decode cX1_forks 38 = .ok (.iconst 0, 1) := dk_3 (dk_at dksX1_forks_1 14 rfl rfl)
theorem dX1_forks_39 : decode cX1_forks 39 = .ok (.istore 14, 2) := dk_54 14 (dk_at dksX1_forks_1 15 rfl rfl)
theorem dX1_forks_41 : decode cX1_forks 41 = .ok (.iload 14, 2) := dk_21 14 (dk_at dksX1_forks_1 17 rfl rfl)
theorem dX1_forks_43 : decode cX1_forks 43 = .ok (.bipush 10, 2) := dk_16 10 (dk_at dksX1_forks_1 19 rfl rfl)
theorem dX1_forks_45 : decode cX1_forks 45 = .ok (.if_icmp .gt 123, 3) := dk_163 0 123 (dk_at dksX1_forks_1 21 rfl rfl)
theorem dX1_forks_48 : decode cX1_forks 48 = .ok (.aload_n 0, 1) := dk_42 (dk_at dksX1_forks_2 0 rfl rfl)
theorem dX1_forks_49 : decode cX1_forks 49 = .ok (.aload_n 0, 1) := dk_42 (dk_at dksX1_forks_2 1 rfl rfl)
theorem dX1_forks_50 : decode cX1_forks 50 = .ok (.getfield 52, 3) := dk_180 0 52 (dk_at dksX1_forks_2 2 rfl rfl)
theorem dX1_forks_53 : decode cX1_forks 53 = .ok (.iload 13, 2) := dk_21 13 (dk_at dksX1_forks_2 5 rfl rfl)
theorem dX1_forks_55 : decode cX1_forks 55 = .ok (.aaload, 1) := dk_50 (dk_at dksX1_forks_2 7 rfl rfl)
theorem dX1_forks_56 : decode cX1_forks 56 = .ok (.iload 14, 2) := dk_21 14 (dk_at dksX1_forks_2 8 rfl rfl)
theorem dX1_forks_58 : decode cX1_forks 58 = .ok (.invokevirtual 350, 3) := dk_182 1 94 (dk_at dksX1_forks_2 10 rfl rfl)
theorem dX1_forks_61 : decode cX1_forks 61 = .ok (.ifCond .ne 6, 3) := dk_154 0 6 (dk_at dksX1_forks_2 13 rfl rfl)
theorem dX1_forks_64 : decode cX1_forks 64 = .ok (.goto 98, 3) := dk_167 0 98 (dk_at dksX1_forks_2 16 rfl rfl)
theorem dX1_forks_67 : decode cX1_forks 67 = .ok (.aload_n 0, 1) := dk_42 (dk_at dksX1_forks_2 19 rfl rfl)
theorem dX1_forks_68 : decode cX1_forks 68 = .ok (.invokevirtual 211, 3) := dk_182 0 211 (dk_at dksX1_forks_2 20 rfl rfl)
theorem dX1_forks_71 : decode cX1_forks 71 = .ok (.lconst 0, 1) := dk_9 (dk_at dksX1_forks_2 23 rfl rfl)
theorem dX1_forks_72 : decode cX1_forks 72 = .ok (.lcmp, 1) := dk_148 (dk_at dksX1_forks_3 0 rfl rfl)
theorem dX1_forks_73 : decode cX1_forks 73 = .ok (.ifCond .ge 6, 3) := dk_156 0 6 (dk_at dksX1_forks_3 1 rfl rfl)
theorem dX1_forks_76 : decode cX1_forks 76 = .ok (.iinc 3 1, 3) := dk_132 3 1 (dk_at dksX1_forks_3 4 rfl rfl)
theorem dX1_forks_79 : decode cX1_forks 79 = .ok (.aload_n 0, 1) := dk_42 (dk_at dksX1_forks_3 7 rfl rfl)
theorem dX1_forks_80 : decode cX1_forks 80 = .ok (.invokevirtual 211, 3) := dk_182 0 211 (dk_at dksX1_forks_3 8 rfl rfl)
theorem dX1_forks_83 : decode cX1_forks 83 = .ok (.lconst 0, 1) := dk_9 (dk_at dksX1_forks_3 11 rfl rfl)
theorem dX1_forks_84 : decode cX1_forks 84 = .ok (.lcmp, 1) := dk_148 (dk_at dksX1_forks_3 12 rfl rfl)
theorem dX1_forks_85 : decode cX1_forks 85 = .ok (.ifCond .le 6, 3) := dk_158 0 6 (dk_at dksX1_forks_3 13 rfl rfl)
theorem dX1_forks_88 : decode cX1_forks 88 = .ok (.iinc 4 1, 3) := dk_132 4 1 (dk_at dksX1_forks_3 16 rfl rfl)
theorem dX1_forks_91 : decode cX1_forks 91 = .ok (.iload_n 2, 1) := dk_28 (dk_at dksX1_forks_3 19 rfl rfl)
theorem dX1_forks_92 : decode cX1_forks 92 = .ok (.ifCond .eq 21, 3) := dk_153 0 21 (dk_at dksX1_forks_3 20 rfl rfl)
theorem dX1_forks_95 : decode cX1_forks 95 = .ok (.aload_n 0, 1) := dk_42 (dk_at dksX1_forks_3 23 rfl rfl)
theorem dX1_forks_96 : decode cX1_forks 96 = .ok (.invokevirtual 211, 3) := dk_182 0 211 (dk_at dksX1_forks_4 0 rfl rfl)
theorem dX1_forks_99 : decode cX1_forks 99 = .ok (.lload 7, 2) := dk_22 7 (dk_at dksX1_forks_4 3 rfl rfl)
theorem dX1_forks_101 : decode cX1_forks 101 = .ok (.lmul, 1) := dk_105 (dk_at dksX1_forks_4 5 rfl rfl)
theorem dX1_forks_102 : decode cX1_forks 102 = .ok (.lload 5, 2) := dk_22 5 (dk_at dksX1_forks_4 6 rfl rfl)
theorem dX1_forks_104 : decode cX1_forks 104 = .ok (.aload_n 0, 1) := dk_42 (dk_at dksX1_forks_4 8 rfl rfl)
theorem dX1_forks_105 : decode cX1_forks 105 = .ok (.invokevirtual 215, 3) := dk_182 0 215 (dk_at dksX1_forks_4 9 rfl rfl)
theorem dX1_forks_108 : decode cX1_forks 108 = .ok (.lmul, 1) := dk_105 (dk_at dksX1_forks_4 12 rfl rfl)
theorem dX1_forks_109 : decode cX1_forks 109 = .ok (.lcmp, 1) := dk_148 (dk_at dksX1_forks_4 13 rfl rfl)
theorem dX1_forks_110 : decode cX1_forks 110 = .ok (.ifCond .ge 15, 3) := dk_156 0 15 (dk_at dksX1_forks_4 14 rfl rfl)
theorem dX1_forks_113 : decode cX1_forks 113 = .ok (.aload_n 0, 1) := dk_42 (dk_at dksX1_forks_4 17 rfl rfl)
theorem dX1_forks_114 : decode cX1_forks 114 = .ok (.invokevirtual 211, 3) := dk_182 0 211 (dk_at dksX1_forks_4 18 rfl rfl)
theorem dX1_forks_117 : decode cX1_forks 117 = .ok (.lstore 5, 2) := dk_55 5 (dk_at dksX1_forks_4 21 rfl rfl)
theorem dX1_forks_119 : decode cX1_forks 119 = .ok (.aload_n 0, 1) := dk_42 (dk_at dksX1_forks_4 23 rfl rfl)
theorem dX1_forks_120 : decode cX1_forks 120 = .ok (.invokevirtual 215, 3) := dk_182 0 215 (dk_at dksX1_forks_5 0 rfl rfl)
theorem dX1_forks_123 : decode cX1_forks 123 = .ok (.lstore 7, 2) := dk_55 7 (dk_at dksX1_forks_5 3 rfl rfl)
theorem dX1_forks_125 : decode cX1_forks 125 = .ok (.iload_n 2, 1) := dk_28 (dk_at dksX1_forks_5 5 rfl rfl)
theorem dX1_forks_126 : decode cX1_forks 126 = .ok (.ifCond .eq 21, 3) := dk_153 0 21 (dk_at dksX1_forks_5 6 rfl rfl)
theorem dX1_forks_129 : decode cX1_forks 129 = .ok (.aload_n 0, 1) := dk_42 (dk_at dksX1_forks_5 9 rfl rfl)
theorem dX1_forks_130 : decode cX1_forks 130 = .ok (.invokevirtual 211, 3) := dk_182 0 211 (dk_at dksX1_forks_5 10 rfl rfl)
theorem dX1_forks_133 : decode cX1_forks 133 = .ok (.lload 11, 2) := dk_22 11 (dk_at dksX1_forks_5 13 rfl rfl)
theorem dX1_forks_135 : decode cX1_forks 135 = .ok (.lmul, 1) := dk_105 (dk_at dksX1_forks_5 15 rfl rfl)
theorem dX1_forks_136 : decode cX1_forks 136 = .ok (.lload 9, 2) := dk_22 9 (dk_at dksX1_forks_5 16 rfl rfl)
theorem dX1_forks_138 : decode cX1_forks 138 = .ok (.aload_n 0, 1) := dk_42 (dk_at dksX1_forks_5 18 rfl rfl)
theorem dX1_forks_139 : decode cX1_forks 139 = .ok (.invokevirtual 215, 3) := dk_182 0 215 (dk_at dksX1_forks_5 19 rfl rfl)
theorem dX1_forks_142 : decode cX1_forks 142 = .ok (.lmul, 1) := dk_105 (dk_at dksX1_forks_5 22 rfl rfl)
theorem dX1_forks_143 : decode cX1_forks 143 = .ok (.lcmp, 1) := dk_148 (dk_at dksX1_forks_5 23 rfl rfl)
theorem dX1_forks_144 : decode cX1_forks 144 = .ok (.ifCond .le 15, 3) := dk_158 0 15 (dk_at dksX1_forks_6 0 rfl rfl)
theorem dX1_forks_147 : decode cX1_forks 147 = .ok (.aload_n 0, 1) := dk_42 (dk_at dksX1_forks_6 3 rfl rfl)
theorem dX1_forks_148 : decode cX1_forks 148 = .ok (.invokevirtual 211, 3) := dk_182 0 211 (dk_at dksX1_forks_6 4 rfl rfl)
theorem dX1_forks_151 : decode cX1_forks 151 = .ok (.lstore 9, 2) := dk_55 9 (dk_at dksX1_forks_6 7 rfl rfl)
theorem dX1_forks_153 : decode cX1_forks 153 = .ok (.aload_n 0, 1) := dk_42 (dk_at dksX1_forks_6 9 rfl rfl)
theorem dX1_forks_154 : decode cX1_forks 154 = .ok (.invokevirtual 215, 3) := dk_182 0 215 (dk_at dksX1_forks_6 10 rfl rfl)
theorem dX1_forks_157 : decode cX1_forks 157 = .ok (.lstore 11, 2) := dk_55 11 (dk_at dksX1_forks_6 13 rfl rfl)
theorem dX1_forks_159 : decode cX1_forks 159 = .ok (.iinc 2 1, 3) := dk_132 2 1 (dk_at dksX1_forks_6 15 rfl rfl)
theorem dX1_forks_162 : decode cX1_forks 162 = .ok (.iinc 14 1, 3) := dk_132 14 1 (dk_at dksX1_forks_6 18 rfl rfl)
theorem dX1_forks_165 : decode cX1_forks 165 = .ok (.goto (-124), 3) := dk_167 255 132 (dk_at dksX1_forks_6 21 rfl rfl)
theorem dX1_forks_168 : decode cX1_forks 168 = .ok (.iinc 13 1, 3) := dk_132 13 1 (dk_at dksX1_forks_7 0 rfl rfl)
theorem dX1_forks_171 : decode cX1_forks 171 = .ok (.goto (-139), 3) := dk_167 255 117 (dk_at dksX1_forks_7 3 rfl rfl)
theorem dX1_forks_174 : decode cX1_forks 174 = .ok (.iload_n 1, 1) := dk_27 (dk_at dksX1_forks_7 6 rfl rfl)
theorem dX1_forks_175 : decode cX1_forks 175 = .ok (.iconst 3, 1) := dk_6 (dk_at dksX1_forks_7 7 rfl rfl)
theorem dX1_forks_176 : decode cX1_forks 176 = .ok (.if_icmp .ge 26, 3) := dk_162 0 26 (dk_at dksX1_forks_7 8 rfl rfl)
theorem dX1_forks_179 : decode cX1_forks 179 = .ok (.iload_n 1, 1) := dk_27 (dk_at dksX1_forks_7 11 rfl rfl)
theorem dX1_forks_180 : decode cX1_forks 180 = .ok (.ifCond .ne 8, 3) := dk_154 0 8 (dk_at dksX1_forks_7 12 rfl rfl)
theorem dX1_forks_183 : decode cX1_forks 183 = .ok (.iload_n 2, 1) := dk_28 (dk_at dksX1_forks_7 15 rfl rfl)
theorem dX1_forks_184 : decode cX1_forks 184 = .ok (.i2l, 1) := dk_133 (dk_at dksX1_forks_7 16 rfl rfl)
theorem dX1_forks_185 : decode cX1_forks 185 = .ok (.goto 16, 3) := dk_167 0 16 (dk_at dksX1_forks_7 17 rfl rfl)
theorem dX1_forks_188 : decode cX1_forks 188 = .ok (.iload_n 1, 1) := dk_27 (dk_at dksX1_forks_7 20 rfl rfl)
theorem dX1_forks_189 : decode cX1_forks 189 = .ok (.iconst 1, 1) := dk_4 (dk_at dksX1_forks_7 21 rfl rfl)
theorem dX1_forks_190 : decode cX1_forks 190 = .ok (.if_icmp .ne 8, 3) := dk_160 0 8 (dk_at dksX1_forks_8 0 rfl rfl)
theorem dX1_forks_193 : decode cX1_forks 193 = .ok (.iload_n 3, 1) := dk_29 (dk_at dksX1_forks_8 3 rfl rfl)
theorem dX1_forks_194 : decode cX1_forks 194 = .ok (.i2l, 1) := dk_133 (dk_at dksX1_forks_8 4 rfl rfl)
theorem dX1_forks_195 : decode cX1_forks 195 = .ok (.goto 6, 3) := dk_167 0 6 (dk_at dksX1_forks_8 5 rfl rfl)
theorem dX1_forks_198 : decode cX1_forks 198 = .ok (.iload 4, 2) := dk_21 4 (dk_at dksX1_forks_8 8 rfl rfl)
theorem dX1_forks_200 : decode cX1_forks 200 = .ok (.i2l, 1) := dk_133 (dk_at dksX1_forks_8 10 rfl rfl)
theorem dX1_forks_201 : decode cX1_forks 201 = .ok (.lreturn, 1) := dk_173 (dk_at dksX1_forks_8 11 rfl rfl)
theorem dX1_forks_202 : decode cX1_forks 202 = .ok (.iload_n 2, 1) := dk_28 (dk_at dksX1_forks_8 12 rfl rfl)
theorem dX1_forks_203 : decode cX1_forks 203 = .ok (.ifCond .le 7, 3) := dk_158 0 7 (dk_at dksX1_forks_8 13 rfl rfl)
theorem dX1_forks_206 : decode cX1_forks 206 = .ok (.iconst 1, 1) := dk_4 (dk_at dksX1_forks_8 16 rfl rfl)
theorem dX1_forks_207 : decode cX1_forks 207 = .ok (.goto 4, 3) := dk_167 0 4 (dk_at dksX1_forks_8 17 rfl rfl)
theorem dX1_forks_210 : decode cX1_forks 210 = .ok (.iconst 0, 1) := dk_3 (dk_at dksX1_forks_8 20 rfl rfl)
theorem dX1_forks_211 : decode cX1_forks 211 = .ok (.invokestatic 168, 3) := dk_184 0 168 (dk_at dksX1_forks_8 21 rfl rfl)
theorem dX1_forks_214 : decode cX1_forks 214 = .ok (.iload_n 1, 1) := dk_27 (dk_at dksX1_forks_9 0 rfl rfl)
theorem dX1_forks_215 : decode cX1_forks 215 = .ok (.iconst 5, 1) := dk_8 (dk_at dksX1_forks_9 1 rfl rfl)
theorem dX1_forks_216 : decode cX1_forks 216 = .ok (.if_icmp .ge 16, 3) := dk_162 0 16 (dk_at dksX1_forks_9 2 rfl rfl)
theorem dX1_forks_219 : decode cX1_forks 219 = .ok (.lload 5, 2) := dk_22 5 (dk_at dksX1_forks_9 5 rfl rfl)
theorem dX1_forks_221 : decode cX1_forks 221 = .ok (.lload 7, 2) := dk_22 7 (dk_at dksX1_forks_9 7 rfl rfl)
theorem dX1_forks_223 : decode cX1_forks 223 = .ok (.iload_n 1, 1) := dk_27 (dk_at dksX1_forks_9 9 rfl rfl)
theorem dX1_forks_224 : decode cX1_forks 224 = .ok (.iconst 3, 1) := dk_6 (dk_at dksX1_forks_9 10 rfl rfl)
theorem dX1_forks_225 : decode cX1_forks 225 = .ok (.isub, 1) := dk_100 (dk_at dksX1_forks_9 11 rfl rfl)
theorem dX1_forks_226 : decode cX1_forks 226 = .ok (.invokestatic 218, 3) := dk_184 0 218 (dk_at dksX1_forks_9 12 rfl rfl)
theorem dX1_forks_229 : decode cX1_forks 229 = .ok (.goto 13, 3) := dk_167 0 13 (dk_at dksX1_forks_9 15 rfl rfl)
theorem dX1_forks_232 : decode cX1_forks 232 = .ok (.lload 9, 2) := dk_22 9 (dk_at dksX1_forks_9 18 rfl rfl)
theorem dX1_forks_234 : decode cX1_forks 234 = .ok (.lload 11, 2) := dk_22 11 (dk_at dksX1_forks_9 20 rfl rfl)
theorem dX1_forks_236 : decode cX1_forks 236 = .ok (.iload_n 1, 1) := dk_27 (dk_at dksX1_forks_9 22 rfl rfl)
theorem dX1_forks_237 : decode cX1_forks 237 = .ok (.iconst 5, 1) := dk_8 (dk_at dksX1_forks_9 23 rfl rfl)
theorem dX1_forks_238 : decode cX1_forks 238 = .ok (.isub, 1) := dk_100 (dk_at dksX1_forks_10 0 rfl rfl)
theorem dX1_forks_239 : decode cX1_forks 239 = .ok (.invokestatic 218, 3) := dk_184 0 218 (dk_at dksX1_forks_10 1 rfl rfl)
theorem dX1_forks_242 : decode cX1_forks 242 = .ok (.lreturn, 1) := dk_173 (dk_at dksX1_forks_10 4 rfl rfl)
def dkwX1_booked_4 : List UInt8 := [182, 1, 110, 101, 173]
abbrev dktX1_booked_4 : List UInt8 := dkwX1_booked_4 ++ []
def dkwX1_booked_3 : List UInt8 := [160, 0, 13, 42, 25, 4, 28, 182, 1, 110, 167, 0, 17, 25, 4, 28, 184, 1, 113, 42, 25, 4, 28]
abbrev dktX1_booked_3 : List UInt8 := dkwX1_booked_3 ++ dktX1_booked_4
def dkwX1_booked_2 : List UInt8 := [182, 1, 104, 173, 25, 4, 28, 182, 0, 158, 154, 0, 7, 4, 167, 0, 4, 3, 184, 0, 168, 29, 4]
abbrev dktX1_booked_2 : List UInt8 := dkwX1_booked_2 ++ dktX1_booked_3
def dkwX1_booked_1 : List UInt8 := [4, 167, 0, 4, 3, 184, 0, 168, 42, 180, 0, 21, 27, 50, 58, 4, 29, 154, 0, 11, 42, 25, 4, 28]
abbrev dktX1_booked_1 : List UInt8 := dkwX1_booked_1 ++ dktX1_booked_2
def dkwX1_booked_0 : List UInt8 := [42, 27, 182, 0, 136, 153, 0, 23, 28, 184, 0, 120, 153, 0, 16, 29, 3, 5, 184, 0, 112, 153, 0, 7]
abbrev dktX1_booked_0 : List UInt8 := dkwX1_booked_0 ++ dktX1_booked_1
theorem dksX1_booked_0 : cX1_booked.data.toList.drop 0 = dktX1_booked_0 := by decide +kernel
theorem dksX1_booked_1 : cX1_booked.data.toList.drop 24 = dktX1_booked_1 := dk_seg dksX1_booked_0 24 rfl rfl
theorem dksX1_booked_2 : cX1_booked.data.toList.drop 48 = dktX1_booked_2 := dk_seg dksX1_booked_1 24 rfl rfl
theorem dksX1_booked_3 : cX1_booked.data.toList.drop 71 = dktX1_booked_3 := dk_seg dksX1_booked_2 23 rfl rfl
theorem dksX1_booked_4 : cX1_booked.data.toList.drop 94 = dktX1_booked_4 := dk_seg dksX1_booked_3 23 rfl rfl
theorem dX1_booked_0 : decode cX1_booked 0 = .ok (.aload_n 0, 1) := dk_42 (dk_at dksX1_booked_0 0 rfl rfl)
theorem dX1_booked_1 : decode cX1_booked 1 = .ok (.iload_n 1, 1) := dk_27 (dk_at dksX1_booked_0 1 rfl rfl)
theorem dX1_booked_2 : decode cX1_booked 2 = .ok (.invokevirtual 136, 3) := dk_182 0 136 (dk_at dksX1_booked_0 2 rfl rfl)
theorem dX1_booked_5 : decode cX1_booked 5 = .ok (.ifCond .eq 23, 3) := dk_153 0 23 (dk_at dksX1_booked_0 5 rfl rfl)
theorem dX1_booked_8 : decode cX1_booked 8 = .ok (.iload_n 2, 1) := dk_28 (dk_at dksX1_booked_0 8 rfl rfl)
theorem dX1_booked_9 : decode cX1_booked 9 = .ok (.invokestatic 120, 3) := dk_184 0 120 (dk_at dksX1_booked_0 9 rfl rfl)
theorem dX1_booked_12 : decode cX1_booked 12 = .ok (.ifCond .eq 16, 3) := dk_153 0 16 (dk_at dksX1_booked_0 12 rfl rfl)
theorem dX1_booked_15 : decode cX1_booked 15 = .ok (.iload_n 3, 1) := dk_29 (dk_at dksX1_booked_0 15 rfl rfl)
theorem dX1_booked_16 : decode cX1_booked 16 = .ok (.iconst 0, 1) := dk_3 (dk_at dksX1_booked_0 16 rfl rfl)
theorem dX1_booked_17 : decode cX1_booked 17 = .ok (.iconst 2, 1) := dk_5 (dk_at dksX1_booked_0 17 rfl rfl)
theorem dX1_booked_18 : decode cX1_booked 18 = .ok (.invokestatic 112, 3) := dk_184 0 112 (dk_at dksX1_booked_0 18 rfl rfl)
theorem dX1_booked_21 : decode cX1_booked 21 = .ok (.ifCond .eq 7, 3) := dk_153 0 7 (dk_at dksX1_booked_0 21 rfl rfl)
theorem dX1_booked_24 : decode cX1_booked 24 = .ok (.iconst 1, 1) := dk_4 (dk_at dksX1_booked_1 0 rfl rfl)
theorem dX1_booked_25 : decode cX1_booked 25 = .ok (.goto 4, 3) := dk_167 0 4 (dk_at dksX1_booked_1 1 rfl rfl)
theorem dX1_booked_28 : decode cX1_booked 28 = .ok (.iconst 0, 1) := dk_3 (dk_at dksX1_booked_1 4 rfl rfl)
theorem dX1_booked_29 : decode cX1_booked 29 = .ok (.invokestatic 168, 3) := dk_184 0 168 (dk_at dksX1_booked_1 5 rfl rfl)
theorem dX1_booked_32 : decode cX1_booked 32 = .ok (.aload_n 0, 1) := dk_42 (dk_at dksX1_booked_1 8 rfl rfl)
theorem dX1_booked_33 : decode cX1_booked 33 = .ok (.getfield 21, 3) := dk_180 0 21 (dk_at dksX1_booked_1 9 rfl rfl)
theorem dX1_booked_36 : decode cX1_booked 36 = .ok (.iload_n 1, 1) := dk_27 (dk_at dksX1_booked_1 12 rfl rfl)
theorem dX1_booked_37 : decode cX1_booked 37 = .ok (.aaload, 1) := dk_50 (dk_at dksX1_booked_1 13 rfl rfl)
theorem dX1_booked_38 : decode cX1_booked 38 = .ok (.astore 4, 2) := dk_58 4 (dk_at dksX1_booked_1 14 rfl rfl)
theorem dX1_booked_40 : decode cX1_booked 40 = .ok (.iload_n 3, 1) := dk_29 (dk_at dksX1_booked_1 16 rfl rfl)
theorem dX1_booked_41 : decode cX1_booked 41 = .ok (.ifCond .ne 11, 3) := dk_154 0 11 (dk_at dksX1_booked_1 17 rfl rfl)
theorem dX1_booked_44 : decode cX1_booked 44 = .ok (.aload_n 0, 1) := dk_42 (dk_at dksX1_booked_1 20 rfl rfl)
theorem dX1_booked_45 : decode cX1_booked 45 = .ok (.aload 4, 2) := dk_25 4 (dk_at dksX1_booked_1 21 rfl rfl)
theorem dX1_booked_47 : decode cX1_booked 47 = .ok (.iload_n 2, 1) := dk_28 (dk_at dksX1_booked_1 23 rfl rfl)
theorem dX1_booked_48 : decode cX1_booked 48 = .ok (.invokevirtual 360, 3) := dk_182 1 104 (dk_at dksX1_booked_2 0 rfl rfl)
theorem dX1_booked_51 : decode cX1_booked 51 = .ok (.lreturn, 1) := dk_173 (dk_at dksX1_booked_2 3 rfl rfl)
theorem dX1_booked_52 : decode cX1_booked 52 = .ok (.aload 4, 2) := dk_25 4 (dk_at dksX1_booked_2 4 rfl rfl)
theorem dX1_booked_54 : decode cX1_booked 54 = .ok (.iload_n 2, 1) := dk_28 (dk_at dksX1_booked_2 6 rfl rfl)
theorem dX1_booked_55 : decode cX1_booked 55 = .ok (.invokevirtual 158, 3) := dk_182 0 158 (dk_at dksX1_booked_2 7 rfl rfl)
theorem dX1_booked_58 : decode cX1_booked 58 = .ok (.ifCond .ne 7, 3) := dk_154 0 7 (dk_at dksX1_booked_2 10 rfl rfl)
theorem dX1_booked_61 : decode cX1_booked 61 = .ok (.iconst 1, 1) := dk_4 (dk_at dksX1_booked_2 13 rfl rfl)
theorem dX1_booked_62 : decode cX1_booked 62 = .ok (.goto 4, 3) := dk_167 0 4 (dk_at dksX1_booked_2 14 rfl rfl)
theorem dX1_booked_65 : decode cX1_booked 65 = .ok (.iconst 0, 1) := dk_3 (dk_at dksX1_booked_2 17 rfl rfl)
theorem dX1_booked_66 : decode cX1_booked 66 = .ok (.invokestatic 168, 3) := dk_184 0 168 (dk_at dksX1_booked_2 18 rfl rfl)
theorem dX1_booked_69 : decode cX1_booked 69 = .ok (.iload_n 3, 1) := dk_29 (dk_at dksX1_booked_2 21 rfl rfl)
theorem dX1_booked_70 : decode cX1_booked 70 = .ok (.iconst 1, 1) := dk_4 (dk_at dksX1_booked_2 22 rfl rfl)
theorem dX1_booked_71 : decode cX1_booked 71 = .ok (.if_icmp .ne 13, 3) := dk_160 0 13 (dk_at dksX1_booked_3 0 rfl rfl)
theorem dX1_booked_74 : decode cX1_booked 74 = .ok (.aload_n 0, 1) := dk_42 (dk_at dksX1_booked_3 3 rfl rfl)
theorem dX1_booked_75 : decode cX1_booked 75 = .ok (.aload 4, 2) := dk_25 4 (dk_at dksX1_booked_3 4 rfl rfl)
theorem dX1_booked_77 : decode cX1_booked 77 = .ok (.iload_n 2, 1) := dk_28 (dk_at dksX1_booked_3 6 rfl rfl)
theorem dX1_booked_78 : decode cX1_booked 78 = .ok (.invokevirtual 366, 3) := dk_182 1 110 (dk_at dksX1_booked_3 7 rfl rfl)
theorem dX1_booked_81 : decode cX1_booked 81 = .ok (.goto 17, 3) := dk_167 0 17 (dk_at dksX1_booked_3 10 rfl rfl)
theorem dX1_booked_84 : decode cX1_booked 84 = .ok (.aload 4, 2) := dk_25 4 (dk_at dksX1_booked_3 13 rfl rfl)
theorem dX1_booked_86 : decode cX1_booked 86 = .ok (.iload_n 2, 1) := dk_28 (dk_at dksX1_booked_3 15 rfl rfl)
theorem dX1_booked_87 : decode cX1_booked 87 = .ok (.invokestatic 369, 3) := dk_184 1 113 (dk_at dksX1_booked_3 16 rfl rfl)
theorem dX1_booked_90 : decode cX1_booked 90 = .ok (.aload_n 0, 1) := dk_42 (dk_at dksX1_booked_3 19 rfl rfl)
theorem dX1_booked_91 : decode cX1_booked 91 = .ok (.aload 4, 2) := dk_25 4 (dk_at dksX1_booked_3 20 rfl rfl)
theorem dX1_booked_93 : decode cX1_booked 93 = .ok (.iload_n 2, 1) := dk_28 (dk_at dksX1_booked_3 22 rfl rfl)
theorem dX1_booked_94 : decode cX1_booked 94 = .ok (.invokevirtual 366, 3) := dk_182 1 110 (dk_at dksX1_booked_4 0 rfl rfl)
theorem dX1_booked_97 : decode cX1_booked 97 = .ok (.lsub, 1) := dk_101 (dk_at dksX1_booked_4 3 rfl rfl)
theorem dX1_booked_98 : decode cX1_booked 98 = .ok (.lreturn, 1) := dk_173 (dk_at dksX1_booked_4 4 rfl rfl)
def dkwX1_rate_0 : List UInt8 := [43, 180, 0, 127, 42, 180, 0, 27, 43, 180, 0, 124, 50, 28, 46, 184, 0, 145, 133, 173]
abbrev dktX1_rate_0 : List UInt8 := dkwX1_rate_0 ++ []
theorem dksX1_rate_0 : cX1_rate.data.toList.drop 0 = dktX1_rate_0 := by decide +kernel
theorem dX1_rate_0 : decode cX1_rate 0 = .ok (.aload_n 1, 1) := dk_43 (dk_at dksX1_rate_0 0 rfl rfl)
theorem dX1_rate_1 : decode cX1_rate 1 = .ok (.getfield 127, 3) := dk_180 0 127 (dk_at dksX1_rate_0 1 rfl rfl)
theorem dX1_rate_4 : decode cX1_rate 4 = .ok (.aload_n 0, 1) := dk_42 (dk_at dksX1_rate_0 4 rfl rfl)
theorem dX1_rate_5 : decode cX1_rate 5 = .ok (.getfield 27, 3) := dk_180 0 27 (dk_at dksX1_rate_0 5 rfl rfl)
theorem dX1_rate_8 : decode cX1_rate 8 = .ok (.aload_n 1, 1) := dk_43 (dk_at dksX1_rate_0 8 rfl rfl)
theorem dX1_rate_9 : decode cX1_rate 9 = .ok (.getfield 124, 3) := dk_180 0 124 (dk_at dksX1_rate_0 9 rfl rfl)
theorem dX1_rate_12 : decode cX1_rate 12 = .ok (.aaload, 1) := dk_50 (dk_at dksX1_rate_0 12 rfl rfl)
theorem dX1_rate_13 : decode cX1_rate 13 = .ok (.iload_n 2, 1) := dk_28 (dk_at dksX1_rate_0 13 rfl rfl)
theorem dX1_rate_14 : decode cX1_rate 14 = .ok (.iaload, 1) := dk_46 (dk_at dksX1_rate_0 14 rfl rfl)
theorem dX1_rate_15 : decode cX1_rate 15 = .ok (.invokestatic 145, 3) := dk_184 0 145 (dk_at dksX1_rate_0 15 rfl rfl)
theorem dX1_rate_18 : decode cX1_rate 18 = .ok (.i2l, 1) := dk_133 (dk_at dksX1_rate_0 18 rfl rfl)
theorem dX1_rate_19 : decode cX1_rate 19 = .ok (.lreturn, 1) := dk_173 (dk_at dksX1_rate_0 19 rfl rfl)
def dkwX1_paid_0 : List UInt8 := [42, 43, 28, 182, 0, 161, 43, 180, 1, 98, 28, 46, 104, 133, 42, 43, 28, 182, 1, 104, 105, 173]
abbrev dktX1_paid_0 : List UInt8 := dkwX1_paid_0 ++ []
theorem dksX1_paid_0 : cX1_paid.data.toList.drop 0 = dktX1_paid_0 := by decide +kernel
theorem dX1_paid_0 : decode cX1_paid 0 = .ok (.aload_n 0, 1) := dk_42 (dk_at dksX1_paid_0 0 rfl rfl)
theorem dX1_paid_1 : decode cX1_paid 1 = .ok (.aload_n 1, 1) := dk_43 (dk_at dksX1_paid_0 1 rfl rfl)
theorem dX1_paid_2 : decode cX1_paid 2 = .ok (.iload_n 2, 1) := dk_28 (dk_at dksX1_paid_0 2 rfl rfl)
theorem dX1_paid_3 : decode cX1_paid 3 = .ok (.invokevirtual 161, 3) := dk_182 0 161 (dk_at dksX1_paid_0 3 rfl rfl)
theorem dX1_paid_6 : decode cX1_paid 6 = .ok (.aload_n 1, 1) := dk_43 (dk_at dksX1_paid_0 6 rfl rfl)
theorem dX1_paid_7 : decode cX1_paid 7 = .ok (.getfield 354, 3) := dk_180 1 98 (dk_at dksX1_paid_0 7 rfl rfl)
theorem dX1_paid_10 : decode cX1_paid 10 = .ok (.iload_n 2, 1) := dk_28 (dk_at dksX1_paid_0 10 rfl rfl)
theorem dX1_paid_11 : decode cX1_paid 11 = .ok (.iaload, 1) := dk_46 (dk_at dksX1_paid_0 11 rfl rfl)
theorem dX1_paid_12 : decode cX1_paid 12 = .ok (.imul, 1) := dk_104 (dk_at dksX1_paid_0 12 rfl rfl)
theorem dX1_paid_13 : decode cX1_paid 13 = .ok (.i2l, 1) := dk_133 (dk_at dksX1_paid_0 13 rfl rfl)
theorem dX1_paid_14 : decode cX1_paid 14 = .ok (.aload_n 0, 1) := dk_42 (dk_at dksX1_paid_0 14 rfl rfl)
theorem dX1_paid_15 : decode cX1_paid 15 = .ok (.aload_n 1, 1) := dk_43 (dk_at dksX1_paid_0 15 rfl rfl)
theorem dX1_paid_16 : decode cX1_paid 16 = .ok (.iload_n 2, 1) := dk_28 (dk_at dksX1_paid_0 16 rfl rfl)
theorem dX1_paid_17 : decode cX1_paid 17 = .ok (.invokevirtual 360, 3) := dk_182 1 104 (dk_at dksX1_paid_0 17 rfl rfl)
theorem dX1_paid_20 : decode cX1_paid 20 = .ok (.lmul, 1) := dk_105 (dk_at dksX1_paid_0 20 rfl rfl)
theorem dX1_paid_21 : decode cX1_paid 21 = .ok (.lreturn, 1) := dk_173 (dk_at dksX1_paid_0 21 rfl rfl)
def dkwX1_taken_0 : List UInt8 := [20, 1, 108, 42, 180, 1, 101, 27, 46, 133, 105, 173]
abbrev dktX1_taken_0 : List UInt8 := dkwX1_taken_0 ++ []
theorem dksX1_taken_0 : cX1_taken.data.toList.drop 0 = dktX1_taken_0 := by decide +kernel
theorem dX1_taken_0 : decode cX1_taken 0 = .ok (.ldc2_w 364, 3) := dk_20 1 108 (dk_at dksX1_taken_0 0 rfl rfl)
theorem dX1_taken_3 : decode cX1_taken 3 = .ok (.aload_n 0, 1) := dk_42 (dk_at dksX1_taken_0 3 rfl rfl)
theorem dX1_taken_4 : decode cX1_taken 4 = .ok (.getfield 357, 3) := dk_180 1 101 (dk_at dksX1_taken_0 4 rfl rfl)
theorem dX1_taken_7 : decode cX1_taken 7 = .ok (.iload_n 1, 1) := dk_27 (dk_at dksX1_taken_0 7 rfl rfl)
theorem dX1_taken_8 : decode cX1_taken 8 = .ok (.iaload, 1) := dk_46 (dk_at dksX1_taken_0 8 rfl rfl)
theorem dX1_taken_9 : decode cX1_taken 9 = .ok (.i2l, 1) := dk_133 (dk_at dksX1_taken_0 9 rfl rfl)
theorem dX1_taken_10 : decode cX1_taken 10 = .ok (.lmul, 1) := dk_105 (dk_at dksX1_taken_0 10 rfl rfl)
theorem dX1_taken_11 : decode cX1_taken 11 = .ok (.lreturn, 1) := dk_173 (dk_at dksX1_taken_0 11 rfl rfl)
def dkwX1_closes_12 : List UInt8 := [97, 55, 5, 132, 7, 1, 167, 255, 2, 22, 5, 173]
abbrev dktX1_closes_12 : List UInt8 := dkwX1_closes_12 ++ []
def dkwX1_closes_11 : List UInt8 := [105, 97, 55, 5, 167, 0, 23, 22, 5, 22, 11, 97, 55, 5, 167, 0, 13, 22, 5, 22, 11, 22, 9, 101]
abbrev dktX1_closes_11 : List UInt8 := dkwX1_closes_11 ++ dktX1_closes_12
def dkwX1_closes_10 : List UInt8 := [25, 8, 180, 1, 98, 29, 46, 104, 133, 42, 25, 8, 29, 182, 1, 104, 42, 25, 8, 28, 182, 1, 104, 101]
abbrev dktX1_closes_10 : List UInt8 := dkwX1_closes_10 ++ dktX1_closes_11
def dkwX1_closes_9 : List UInt8 := [42, 25, 8, 28, 182, 1, 104, 105, 97, 55, 5, 167, 0, 63, 22, 5, 42, 25, 8, 29, 182, 0, 161]
abbrev dktX1_closes_9 : List UInt8 := dkwX1_closes_9 ++ dktX1_closes_10
def dkwX1_closes_8 : List UInt8 := [25, 8, 29, 182, 0, 161, 133, 25, 8, 180, 1, 98, 29, 46, 25, 8, 180, 1, 98, 28, 46, 100, 133, 105]
abbrev dktX1_closes_8 : List UInt8 := dkwX1_closes_8 ++ dktX1_closes_9
def dkwX1_closes_7 : List UInt8 := [180, 1, 98, 28, 46, 104, 133, 42, 25, 8, 28, 182, 1, 104, 105, 97, 55, 5, 167, 0, 104, 22, 5, 42]
abbrev dktX1_closes_7 : List UInt8 := dkwX1_closes_7 ++ dktX1_closes_8
def dkwX1_closes_6 : List UInt8 := [22, 5, 22, 9, 97, 55, 5, 167, 0, 137, 22, 5, 42, 25, 8, 28, 29, 182, 0, 175, 25, 8]
abbrev dktX1_closes_6 : List UInt8 := dkwX1_closes_6 ++ dktX1_closes_7
def dkwX1_closes_5 : List UInt8 := [170, 0, 0, 0, 0, 0, 169, 0, 0, 0, 0, 0, 0, 0, 4, 0, 0, 0, 35, 0, 0, 0, 45, 0, 0, 0, 78, 0, 0, 0, 119, 0, 0, 0, 159]
abbrev dktX1_closes_5 : List UInt8 := dkwX1_closes_5 ++ dktX1_closes_6
def dkwX1_closes_4 : List UInt8 := [25, 8, 29, 184, 1, 113, 25, 8, 28, 184, 1, 113, 101, 55, 11, 21, 4]
abbrev dktX1_closes_4 : List UInt8 := dkwX1_closes_4 ++ dktX1_closes_5
def dkwX1_closes_3 : List UInt8 := [27, 159, 0, 6, 167, 0, 216, 42, 25, 8, 29, 182, 1, 110, 42, 25, 8, 28, 182, 1, 110, 101, 55, 9]
abbrev dktX1_closes_3 : List UInt8 := dkwX1_closes_3 ++ dktX1_closes_4
def dkwX1_closes_2 : List UInt8 := [42, 180, 0, 21, 21, 7, 50, 58, 8, 25, 8, 28, 29, 182, 0, 172, 153, 0, 228, 25, 8, 180, 0, 124]
abbrev dktX1_closes_2 : List UInt8 := dkwX1_closes_2 ++ dktX1_closes_3
def dkwX1_closes_1 : List UInt8 := [153, 0, 7, 4, 167, 0, 4, 3, 184, 0, 168, 9, 55, 5, 3, 54, 7, 21, 7, 16, 24, 162, 0, 253]
abbrev dktX1_closes_1 : List UInt8 := dkwX1_closes_1 ++ dktX1_closes_2
def dkwX1_closes_0 : List UInt8 := [27, 3, 4, 184, 0, 112, 153, 0, 25, 28, 29, 184, 0, 164, 153, 0, 17, 21, 4, 3, 8, 184, 0, 112]
abbrev dktX1_closes_0 : List UInt8 := dkwX1_closes_0 ++ dktX1_closes_1
theorem dksX1_closes_0 : cX1_closes.data.toList.drop 0 = dktX1_closes_0 := by decide +kernel
theorem dksX1_closes_1 : cX1_closes.data.toList.drop 24 = dktX1_closes_1 := dk_seg dksX1_closes_0 24 rfl rfl
theorem dksX1_closes_2 : cX1_closes.data.toList.drop 48 = dktX1_closes_2 := dk_seg dksX1_closes_1 24 rfl rfl
theorem dksX1_closes_3 : cX1_closes.data.toList.drop 72 = dktX1_closes_3 := dk_seg dksX1_closes_2 24 rfl rfl
theorem dksX1_closes_4 : cX1_closes.data.toList.drop 96 = dktX1_closes_4 := dk_seg dksX1_closes_3 24 rfl rfl
theorem dksX1_closes_5 : cX1_closes.data.toList.drop 113 = dktX1_closes_5 := dk_seg dksX1_closes_4 17 rfl rfl
theorem dksX1_closes_6 : cX1_closes.data.toList.drop 148 = dktX1_closes_6 := dk_seg dksX1_closes_5 35 rfl rfl
theorem dksX1_closes_7 : cX1_closes.data.toList.drop 170 = dktX1_closes_7 := dk_seg dksX1_closes_6 22 rfl rfl
theorem dksX1_closes_8 : cX1_closes.data.toList.drop 194 = dktX1_closes_8 := dk_seg dksX1_closes_7 24 rfl rfl
theorem dksX1_closes_9 : cX1_closes.data.toList.drop 218 = dktX1_closes_9 := dk_seg dksX1_closes_8 24 rfl rfl
theorem dksX1_closes_10 : cX1_closes.data.toList.drop 241 = dktX1_closes_10 := dk_seg dksX1_closes_9 23 rfl rfl
theorem dksX1_closes_11 : cX1_closes.data.toList.drop 265 = dktX1_closes_11 := dk_seg dksX1_closes_10 24 rfl rfl
theorem dksX1_closes_12 : cX1_closes.data.toList.drop 289 = dktX1_closes_12 := dk_seg dksX1_closes_11 24 rfl rfl
theorem dX1_closes_0 : decode cX1_closes 0 = .ok (.iload_n 1, 1) := dk_27 (dk_at dksX1_closes_0 0 rfl rfl)
theorem dX1_closes_1 : decode cX1_closes 1 = .ok (.iconst 0, 1) := dk_3 (dk_at dksX1_closes_0 1 rfl rfl)
theorem dX1_closes_2 : decode cX1_closes 2 = .ok (.iconst 1, 1) := dk_4 (dk_at dksX1_closes_0 2 rfl rfl)
theorem dX1_closes_3 : decode cX1_closes 3 = .ok (.invokestatic 112, 3) := dk_184 0 112 (dk_at dksX1_closes_0 3 rfl rfl)
theorem dX1_closes_6 : decode cX1_closes 6 = .ok (.ifCond .eq 25, 3) := dk_153 0 25 (dk_at dksX1_closes_0 6 rfl rfl)
theorem dX1_closes_9 : decode cX1_closes 9 = .ok (.iload_n 2, 1) := dk_28 (dk_at dksX1_closes_0 9 rfl rfl)
theorem dX1_closes_10 : decode cX1_closes 10 = .ok (.iload_n 3, 1) := dk_29 (dk_at dksX1_closes_0 10 rfl rfl)
theorem dX1_closes_11 : decode cX1_closes 11 = .ok (.invokestatic 164, 3) := dk_184 0 164 (dk_at dksX1_closes_0 11 rfl rfl)
theorem dX1_closes_14 : decode cX1_closes 14 = .ok (.ifCond .eq 17, 3) := dk_153 0 17 (dk_at dksX1_closes_0 14 rfl rfl)
theorem dX1_closes_17 : decode cX1_closes 17 = .ok (.iload 4, 2) := dk_21 4 (dk_at dksX1_closes_0 17 rfl rfl)
theorem dX1_closes_19 : decode cX1_closes 19 = .ok (.iconst 0, 1) := dk_3 (dk_at dksX1_closes_0 19 rfl rfl)
theorem dX1_closes_20 : decode cX1_closes 20 = .ok (.iconst 5, 1) := dk_8 (dk_at dksX1_closes_0 20 rfl rfl)
theorem dX1_closes_21 : decode cX1_closes 21 = .ok (.invokestatic 112, 3) := dk_184 0 112 (dk_at dksX1_closes_0 21 rfl rfl)
theorem dX1_closes_24 : decode cX1_closes 24 = .ok (.ifCond .eq 7, 3) := dk_153 0 7 (dk_at dksX1_closes_1 0 rfl rfl)
theorem dX1_closes_27 : decode cX1_closes 27 = .ok (.iconst 1, 1) := dk_4 (dk_at dksX1_closes_1 3 rfl rfl)
theorem dX1_closes_28 : decode cX1_closes 28 = .ok (.goto 4, 3) := dk_167 0 4 (dk_at dksX1_closes_1 4 rfl rfl)
theorem dX1_closes_31 : decode cX1_closes 31 = .ok (.iconst 0, 1) := dk_3 (dk_at dksX1_closes_1 7 rfl rfl)
theorem dX1_closes_32 : decode cX1_closes 32 = .ok (.invokestatic 168, 3) := dk_184 0 168 (dk_at dksX1_closes_1 8 rfl rfl)
theorem dX1_closes_35 : decode cX1_closes 35 = .ok (.lconst 0, 1) := dk_9 (dk_at dksX1_closes_1 11 rfl rfl)
theorem dX1_closes_36 : decode cX1_closes 36 = .ok (.lstore 5, 2) := dk_55 5 (dk_at dksX1_closes_1 12 rfl rfl)
theorem dX1_closes_38 : decode cX1_closes 38 = .ok (.iconst 0, 1) := dk_3 (dk_at dksX1_closes_1 14 rfl rfl)
theorem dX1_closes_39 : decode cX1_closes 39 = .ok (.istore 7, 2) := dk_54 7 (dk_at dksX1_closes_1 15 rfl rfl)
theorem dX1_closes_41 : decode cX1_closes 41 = .ok (.iload 7, 2) := dk_21 7 (dk_at dksX1_closes_1 17 rfl rfl)
theorem dX1_closes_43 : decode cX1_closes 43 = .ok (.bipush 24, 2) := dk_16 24 (dk_at dksX1_closes_1 19 rfl rfl)
theorem dX1_closes_45 : decode cX1_closes 45 = .ok (.if_icmp .ge 253, 3) := dk_162 0 253 (dk_at dksX1_closes_1 21 rfl rfl)
theorem dX1_closes_48 : decode cX1_closes 48 = .ok (.aload_n 0, 1) := dk_42 (dk_at dksX1_closes_2 0 rfl rfl)
theorem dX1_closes_49 : decode cX1_closes 49 = .ok (.getfield 21, 3) := dk_180 0 21 (dk_at dksX1_closes_2 1 rfl rfl)
theorem dX1_closes_52 : decode cX1_closes 52 = .ok (.iload 7, 2) := dk_21 7 (dk_at dksX1_closes_2 4 rfl rfl)
theorem dX1_closes_54 : decode cX1_closes 54 = .ok (.aaload, 1) := dk_50 (dk_at dksX1_closes_2 6 rfl rfl)
theorem dX1_closes_55 : decode cX1_closes 55 = .ok (.astore 8, 2) := dk_58 8 (dk_at dksX1_closes_2 7 rfl rfl)
theorem dX1_closes_57 : decode cX1_closes 57 = .ok (.aload 8, 2) := dk_25 8 (dk_at dksX1_closes_2 9 rfl rfl)
theorem dX1_closes_59 : decode cX1_closes 59 = .ok (.iload_n 2, 1) := dk_28 (dk_at dksX1_closes_2 11 rfl rfl)
theorem dX1_closes_60 : decode cX1_closes 60 = .ok (.iload_n 3, 1) := dk_29 (dk_at dksX1_closes_2 12 rfl rfl)
theorem dX1_closes_61 : decode cX1_closes 61 = .ok (.invokevirtual 172, 3) := dk_182 0 172 (dk_at dksX1_closes_2 13 rfl rfl)
theorem dX1_closes_64 : decode cX1_closes 64 = .ok (.ifCond .eq 228, 3) := dk_153 0 228 (dk_at dksX1_closes_2 16 rfl rfl)
theorem dX1_closes_67 : decode cX1_closes 67 = .ok (.aload 8, 2) := dk_25 8 (dk_at dksX1_closes_2 19 rfl rfl)
theorem dX1_closes_69 : decode cX1_closes 69 = .ok (.getfield 124, 3) := dk_180 0 124 (dk_at dksX1_closes_2 21 rfl rfl)
theorem dX1_closes_72 : decode cX1_closes 72 = .ok (.iload_n 1, 1) := dk_27 (dk_at dksX1_closes_3 0 rfl rfl)
theorem dX1_closes_73 : decode cX1_closes 73 = .ok (.if_icmp .eq 6, 3) := dk_159 0 6 (dk_at dksX1_closes_3 1 rfl rfl)
theorem dX1_closes_76 : decode cX1_closes 76 = .ok (.goto 216, 3) := dk_167 0 216 (dk_at dksX1_closes_3 4 rfl rfl)
theorem dX1_closes_79 : decode cX1_closes 79 = .ok (.aload_n 0, 1) := dk_42 (dk_at dksX1_closes_3 7 rfl rfl)
theorem dX1_closes_80 : decode cX1_closes 80 = .ok (.aload 8, 2) := dk_25 8 (dk_at dksX1_closes_3 8 rfl rfl)
theorem dX1_closes_82 : decode cX1_closes 82 = .ok (.iload_n 3, 1) := dk_29 (dk_at dksX1_closes_3 10 rfl rfl)
theorem dX1_closes_83 : decode cX1_closes 83 = .ok (.invokevirtual 366, 3) := dk_182 1 110 (dk_at dksX1_closes_3 11 rfl rfl)
theorem dX1_closes_86 : decode cX1_closes 86 = .ok (.aload_n 0, 1) := dk_42 (dk_at dksX1_closes_3 14 rfl rfl)
theorem dX1_closes_87 : decode cX1_closes 87 = .ok (.aload 8, 2) := dk_25 8 (dk_at dksX1_closes_3 15 rfl rfl)
theorem dX1_closes_89 : decode cX1_closes 89 = .ok (.iload_n 2, 1) := dk_28 (dk_at dksX1_closes_3 17 rfl rfl)
theorem dX1_closes_90 : decode cX1_closes 90 = .ok (.invokevirtual 366, 3) := dk_182 1 110 (dk_at dksX1_closes_3 18 rfl rfl)
theorem dX1_closes_93 : decode cX1_closes 93 = .ok (.lsub, 1) := dk_101 (dk_at dksX1_closes_3 21 rfl rfl)
theorem dX1_closes_94 : decode cX1_closes 94 = .ok (.lstore 9, 2) := dk_55 9 (dk_at dksX1_closes_3 22 rfl rfl)
theorem dX1_closes_96 : decode cX1_closes 96 = .ok (.aload 8, 2) := dk_25 8 (dk_at dksX1_closes_4 0 rfl rfl)
theorem dX1_closes_98 : decode cX1_closes 98 = .ok (.iload_n 3, 1) := dk_29 (dk_at dksX1_closes_4 2 rfl rfl)
theorem dX1_closes_99 : decode cX1_closes 99 = .ok (.invokestatic 369, 3) := dk_184 1 113 (dk_at dksX1_closes_4 3 rfl rfl)
theorem dX1_closes_102 : decode cX1_closes 102 = .ok (.aload 8, 2) := dk_25 8 (dk_at dksX1_closes_4 6 rfl rfl)
theorem dX1_closes_104 : decode cX1_closes 104 = .ok (.iload_n 2, 1) := dk_28 (dk_at dksX1_closes_4 8 rfl rfl)
theorem dX1_closes_105 : decode cX1_closes 105 = .ok (.invokestatic 369, 3) := dk_184 1 113 (dk_at dksX1_closes_4 9 rfl rfl)
theorem dX1_closes_108 : decode cX1_closes 108 = .ok (.lsub, 1) := dk_101 (dk_at dksX1_closes_4 12 rfl rfl)
theorem dX1_closes_109 : decode cX1_closes 109 = .ok (.lstore 11, 2) := dk_55 11 (dk_at dksX1_closes_4 13 rfl rfl)
theorem dX1_closes_111 : decode cX1_closes 111 = .ok (.iload 4, 2) := dk_21 4 (dk_at dksX1_closes_4 15 rfl rfl)
theorem dX1_closes_113 : decode cX1_closes 113 = .ok (.tableswitch 169 0 4 #[35, 45, 78, 119, 159], 35) := by decide +kernel
theorem dX1_closes_148 : decode cX1_closes 148 = .ok (.lload 5, 2) := dk_22 5 (dk_at dksX1_closes_6 0 rfl rfl)
theorem dX1_closes_150 : decode cX1_closes 150 = .ok (.lload 9, 2) := dk_22 9 (dk_at dksX1_closes_6 2 rfl rfl)
theorem dX1_closes_152 : decode cX1_closes 152 = .ok (.ladd, 1) := dk_97 (dk_at dksX1_closes_6 4 rfl rfl)
theorem dX1_closes_153 : decode cX1_closes 153 = .ok (.lstore 5, 2) := dk_55 5 (dk_at dksX1_closes_6 5 rfl rfl)
theorem dX1_closes_155 : decode cX1_closes 155 = .ok (.goto 137, 3) := dk_167 0 137 (dk_at dksX1_closes_6 7 rfl rfl)
theorem dX1_closes_158 : decode cX1_closes 158 = .ok (.lload 5, 2) := dk_22 5 (dk_at dksX1_closes_6 10 rfl rfl)
theorem dX1_closes_160 : decode cX1_closes 160 = .ok (.aload_n 0, 1) := dk_42 (dk_at dksX1_closes_6 12 rfl rfl)
theorem dX1_closes_161 : decode cX1_closes 161 = .ok (.aload 8, 2) := dk_25 8 (dk_at dksX1_closes_6 13 rfl rfl)
theorem dX1_closes_163 : decode cX1_closes 163 = .ok (.iload_n 2, 1) := dk_28 (dk_at dksX1_closes_6 15 rfl rfl)
theorem dX1_closes_164 : decode cX1_closes 164 = .ok (.iload_n 3, 1) := dk_29 (dk_at dksX1_closes_6 16 rfl rfl)
theorem dX1_closes_165 : decode cX1_closes 165 = .ok (.invokevirtual 175, 3) := dk_182 0 175 (dk_at dksX1_closes_6 17 rfl rfl)
theorem dX1_closes_168 : decode cX1_closes 168 = .ok (.aload 8, 2) := dk_25 8 (dk_at dksX1_closes_6 20 rfl rfl)
theorem dX1_closes_170 : decode cX1_closes 170 = .ok (.getfield 354, 3) := dk_180 1 98 (dk_at dksX1_closes_7 0 rfl rfl)
theorem dX1_closes_173 : decode cX1_closes 173 = .ok (.iload_n 2, 1) := dk_28 (dk_at dksX1_closes_7 3 rfl rfl)
theorem dX1_closes_174 : decode cX1_closes 174 = .ok (.iaload, 1) := dk_46 (dk_at dksX1_closes_7 4 rfl rfl)
theorem dX1_closes_175 : decode cX1_closes 175 = .ok (.imul, 1) := dk_104 (dk_at dksX1_closes_7 5 rfl rfl)
theorem dX1_closes_176 : decode cX1_closes 176 = .ok (.i2l, 1) := dk_133 (dk_at dksX1_closes_7 6 rfl rfl)
theorem dX1_closes_177 : decode cX1_closes 177 = .ok (.aload_n 0, 1) := dk_42 (dk_at dksX1_closes_7 7 rfl rfl)
theorem dX1_closes_178 : decode cX1_closes 178 = .ok (.aload 8, 2) := dk_25 8 (dk_at dksX1_closes_7 8 rfl rfl)
theorem dX1_closes_180 : decode cX1_closes 180 = .ok (.iload_n 2, 1) := dk_28 (dk_at dksX1_closes_7 10 rfl rfl)
theorem dX1_closes_181 : decode cX1_closes 181 = .ok (.invokevirtual 360, 3) := dk_182 1 104 (dk_at dksX1_closes_7 11 rfl rfl)
theorem dX1_closes_184 : decode cX1_closes 184 = .ok (.lmul, 1) := dk_105 (dk_at dksX1_closes_7 14 rfl rfl)
theorem dX1_closes_185 : decode cX1_closes 185 = .ok (.ladd, 1) := dk_97 (dk_at dksX1_closes_7 15 rfl rfl)
theorem dX1_closes_186 : decode cX1_closes 186 = .ok (.lstore 5, 2) := dk_55 5 (dk_at dksX1_closes_7 16 rfl rfl)
theorem dX1_closes_188 : decode cX1_closes 188 = .ok (.goto 104, 3) := dk_167 0 104 (dk_at dksX1_closes_7 18 rfl rfl)
theorem dX1_closes_191 : decode cX1_closes 191 = .ok (.lload 5, 2) := dk_22 5 (dk_at dksX1_closes_7 21 rfl rfl)
theorem dX1_closes_193 : decode cX1_closes 193 = .ok (.aload_n 0, 1) := dk_42 (dk_at dksX1_closes_7 23 rfl rfl)
theorem dX1_closes_194 : decode cX1_closes 194 = .ok (.aload 8, 2) := dk_25 8 (dk_at dksX1_closes_8 0 rfl rfl)
theorem dX1_closes_196 : decode cX1_closes 196 = .ok (.iload_n 3, 1) := dk_29 (dk_at dksX1_closes_8 2 rfl rfl)
theorem dX1_closes_197 : decode cX1_closes 197 = .ok (.invokevirtual 161, 3) := dk_182 0 161 (dk_at dksX1_closes_8 3 rfl rfl)
theorem dX1_closes_200 : decode cX1_closes 200 = .ok (.i2l, 1) := dk_133 (dk_at dksX1_closes_8 6 rfl rfl)
theorem dX1_closes_201 : decode cX1_closes 201 = .ok (.aload 8, 2) := dk_25 8 (dk_at dksX1_closes_8 7 rfl rfl)
theorem dX1_closes_203 : decode cX1_closes 203 = .ok (.getfield 354, 3) := dk_180 1 98 (dk_at dksX1_closes_8 9 rfl rfl)
theorem dX1_closes_206 : decode cX1_closes 206 = .ok (.iload_n 3, 1) := dk_29 (dk_at dksX1_closes_8 12 rfl rfl)
theorem dX1_closes_207 : decode cX1_closes 207 = .ok (.iaload, 1) := dk_46 (dk_at dksX1_closes_8 13 rfl rfl)
theorem dX1_closes_208 : decode cX1_closes 208 = .ok (.aload 8, 2) := dk_25 8 (dk_at dksX1_closes_8 14 rfl rfl)
theorem dX1_closes_210 : decode cX1_closes 210 = .ok (.getfield 354, 3) := dk_180 1 98 (dk_at dksX1_closes_8 16 rfl rfl)
theorem dX1_closes_213 : decode cX1_closes 213 = .ok (.iload_n 2, 1) := dk_28 (dk_at dksX1_closes_8 19 rfl rfl)
theorem dX1_closes_214 : decode cX1_closes 214 = .ok (.iaload, 1) := dk_46 (dk_at dksX1_closes_8 20 rfl rfl)
theorem dX1_closes_215 : decode cX1_closes 215 = .ok (.isub, 1) := dk_100 (dk_at dksX1_closes_8 21 rfl rfl)
theorem dX1_closes_216 : decode cX1_closes 216 = .ok (.i2l, 1) := dk_133 (dk_at dksX1_closes_8 22 rfl rfl)
theorem dX1_closes_217 : decode cX1_closes 217 = .ok (.lmul, 1) := dk_105 (dk_at dksX1_closes_8 23 rfl rfl)
theorem dX1_closes_218 : decode cX1_closes 218 = .ok (.aload_n 0, 1) := dk_42 (dk_at dksX1_closes_9 0 rfl rfl)
theorem dX1_closes_219 : decode cX1_closes 219 = .ok (.aload 8, 2) := dk_25 8 (dk_at dksX1_closes_9 1 rfl rfl)
theorem dX1_closes_221 : decode cX1_closes 221 = .ok (.iload_n 2, 1) := dk_28 (dk_at dksX1_closes_9 3 rfl rfl)
theorem dX1_closes_222 : decode cX1_closes 222 = .ok (.invokevirtual 360, 3) := dk_182 1 104 (dk_at dksX1_closes_9 4 rfl rfl)
theorem dX1_closes_225 : decode cX1_closes 225 = .ok (.lmul, 1) := dk_105 (dk_at dksX1_closes_9 7 rfl rfl)
theorem dX1_closes_226 : decode cX1_closes 226 = .ok (.ladd, 1) := dk_97 (dk_at dksX1_closes_9 8 rfl rfl)
theorem dX1_closes_227 : decode cX1_closes 227 = .ok (.lstore 5, 2) := dk_55 5 (dk_at dksX1_closes_9 9 rfl rfl)
theorem dX1_closes_229 : decode cX1_closes 229 = .ok (.goto 63, 3) := dk_167 0 63 (dk_at dksX1_closes_9 11 rfl rfl)
theorem dX1_closes_232 : decode cX1_closes 232 = .ok (.lload 5, 2) := dk_22 5 (dk_at dksX1_closes_9 14 rfl rfl)
theorem dX1_closes_234 : decode cX1_closes 234 = .ok (.aload_n 0, 1) := dk_42 (dk_at dksX1_closes_9 16 rfl rfl)
theorem dX1_closes_235 : decode cX1_closes 235 = .ok (.aload 8, 2) := dk_25 8 (dk_at dksX1_closes_9 17 rfl rfl)
theorem dX1_closes_237 : decode cX1_closes 237 = .ok (.iload_n 3, 1) := dk_29 (dk_at dksX1_closes_9 19 rfl rfl)
theorem dX1_closes_238 : decode cX1_closes 238 = .ok (.invokevirtual 161, 3) := dk_182 0 161 (dk_at dksX1_closes_9 20 rfl rfl)
theorem dX1_closes_241 : decode cX1_closes 241 = .ok (.aload 8, 2) := dk_25 8 (dk_at dksX1_closes_10 0 rfl rfl)
theorem dX1_closes_243 : decode cX1_closes 243 = .ok (.getfield 354, 3) := dk_180 1 98 (dk_at dksX1_closes_10 2 rfl rfl)
theorem dX1_closes_246 : decode cX1_closes 246 = .ok (.iload_n 3, 1) := dk_29 (dk_at dksX1_closes_10 5 rfl rfl)
theorem dX1_closes_247 : decode cX1_closes 247 = .ok (.iaload, 1) := dk_46 (dk_at dksX1_closes_10 6 rfl rfl)
theorem dX1_closes_248 : decode cX1_closes 248 = .ok (.imul, 1) := dk_104 (dk_at dksX1_closes_10 7 rfl rfl)
theorem dX1_closes_249 : decode cX1_closes 249 = .ok (.i2l, 1) := dk_133 (dk_at dksX1_closes_10 8 rfl rfl)
theorem dX1_closes_250 : decode cX1_closes 250 = .ok (.aload_n 0, 1) := dk_42 (dk_at dksX1_closes_10 9 rfl rfl)
theorem dX1_closes_251 : decode cX1_closes 251 = .ok (.aload 8, 2) := dk_25 8 (dk_at dksX1_closes_10 10 rfl rfl)
theorem dX1_closes_253 : decode cX1_closes 253 = .ok (.iload_n 3, 1) := dk_29 (dk_at dksX1_closes_10 12 rfl rfl)
theorem dX1_closes_254 : decode cX1_closes 254 = .ok (.invokevirtual 360, 3) := dk_182 1 104 (dk_at dksX1_closes_10 13 rfl rfl)
theorem dX1_closes_257 : decode cX1_closes 257 = .ok (.aload_n 0, 1) := dk_42 (dk_at dksX1_closes_10 16 rfl rfl)
theorem dX1_closes_258 : decode cX1_closes 258 = .ok (.aload 8, 2) := dk_25 8 (dk_at dksX1_closes_10 17 rfl rfl)
theorem dX1_closes_260 : decode cX1_closes 260 = .ok (.iload_n 2, 1) := dk_28 (dk_at dksX1_closes_10 19 rfl rfl)
theorem dX1_closes_261 : decode cX1_closes 261 = .ok (.invokevirtual 360, 3) := dk_182 1 104 (dk_at dksX1_closes_10 20 rfl rfl)
theorem dX1_closes_264 : decode cX1_closes 264 = .ok (.lsub, 1) := dk_101 (dk_at dksX1_closes_10 23 rfl rfl)
theorem dX1_closes_265 : decode cX1_closes 265 = .ok (.lmul, 1) := dk_105 (dk_at dksX1_closes_11 0 rfl rfl)
theorem dX1_closes_266 : decode cX1_closes 266 = .ok (.ladd, 1) := dk_97 (dk_at dksX1_closes_11 1 rfl rfl)
theorem dX1_closes_267 : decode cX1_closes 267 = .ok (.lstore 5, 2) := dk_55 5 (dk_at dksX1_closes_11 2 rfl rfl)
theorem dX1_closes_269 : decode cX1_closes 269 = .ok (.goto 23, 3) := dk_167 0 23 (dk_at dksX1_closes_11 4 rfl rfl)
theorem dX1_closes_272 : decode cX1_closes 272 = .ok (.lload 5, 2) := dk_22 5 (dk_at dksX1_closes_11 7 rfl rfl)
theorem dX1_closes_274 : decode cX1_closes 274 = .ok (.lload 11, 2) := dk_22 11 (dk_at dksX1_closes_11 9 rfl rfl)
theorem dX1_closes_276 : decode cX1_closes 276 = .ok (.ladd, 1) := dk_97 (dk_at dksX1_closes_11 11 rfl rfl)
theorem dX1_closes_277 : decode cX1_closes 277 = .ok (.lstore 5, 2) := dk_55 5 (dk_at dksX1_closes_11 12 rfl rfl)
theorem dX1_closes_279 : decode cX1_closes 279 = .ok (.goto 13, 3) := dk_167 0 13 (dk_at dksX1_closes_11 14 rfl rfl)
theorem dX1_closes_282 : decode cX1_closes 282 = .ok (.lload 5, 2) := dk_22 5 (dk_at dksX1_closes_11 17 rfl rfl)
theorem dX1_closes_284 : decode cX1_closes 284 = .ok (.lload 11, 2) := dk_22 11 (dk_at dksX1_closes_11 19 rfl rfl)
theorem dX1_closes_286 : decode cX1_closes 286 = .ok (.lload 9, 2) := dk_22 9 (dk_at dksX1_closes_11 21 rfl rfl)
theorem dX1_closes_288 : decode cX1_closes 288 = .ok (.lsub, 1) := dk_101 (dk_at dksX1_closes_11 23 rfl rfl)
theorem dX1_closes_289 : decode cX1_closes 289 = .ok (.ladd, 1) := dk_97 (dk_at dksX1_closes_12 0 rfl rfl)
theorem dX1_closes_290 : decode cX1_closes 290 = .ok (.lstore 5, 2) := dk_55 5 (dk_at dksX1_closes_12 1 rfl rfl)
theorem dX1_closes_292 : decode cX1_closes 292 = .ok (.iinc 7 1, 3) := dk_132 7 1 (dk_at dksX1_closes_12 3 rfl rfl)
theorem dX1_closes_295 : decode cX1_closes 295 = .ok (.goto (-254), 3) := dk_167 255 2 (dk_at dksX1_closes_12 6 rfl rfl)
theorem dX1_closes_298 : decode cX1_closes 298 = .ok (.lload 5, 2) := dk_22 5 (dk_at dksX1_closes_12 9 rfl rfl)
theorem dX1_closes_300 : decode cX1_closes 300 = .ok (.lreturn, 1) := dk_173 (dk_at dksX1_closes_12 11 rfl rfl)
def dkwX1_mixed_9 : List UInt8 := [184, 0, 218, 173]
abbrev dktX1_mixed_9 : List UInt8 := dkwX1_mixed_9 ++ []
def dkwX1_mixed_8 : List UInt8 := [132, 4, 1, 167, 255, 103, 42, 182, 0, 200, 184, 0, 168, 42, 182, 0, 211, 42, 182, 0, 215, 29, 5, 112]
abbrev dktX1_mixed_8 : List UInt8 := dkwX1_mixed_8 ++ dktX1_mixed_9
def dkwX1_mixed_7 : List UInt8 := [21, 7, 21, 6, 184, 0, 145, 133, 167, 0, 11, 21, 7, 21, 6, 184, 1, 43, 133, 182, 0, 196]
abbrev dktX1_mixed_7 : List UInt8 := dkwX1_mixed_7 ++ dktX1_mixed_8
def dkwX1_mixed_6 : List UInt8 := [164, 0, 7, 4, 167, 0, 4, 3, 25, 5, 180, 0, 124, 154, 0, 7, 4, 167, 0, 4, 3, 160, 0, 14]
abbrev dktX1_mixed_6 : List UInt8 := dkwX1_mixed_6 ++ dktX1_mixed_7
def dkwX1_mixed_5 : List UInt8 := [182, 0, 155, 100, 167, 0, 5, 21, 6, 54, 7, 42, 25, 5, 180, 0, 124, 182, 0, 192, 29, 4]
abbrev dktX1_mixed_5 : List UInt8 := dkwX1_mixed_5 ++ dktX1_mixed_6
def dkwX1_mixed_4 : List UInt8 := [180, 0, 152, 28, 46, 182, 0, 155, 42, 25, 5, 180, 0, 149, 27, 46, 25, 5, 180, 0, 152, 27, 46]
abbrev dktX1_mixed_4 : List UInt8 := dkwX1_mixed_4 ++ dktX1_mixed_5
def dkwX1_mixed_3 : List UInt8 := [54, 6, 25, 5, 27, 28, 182, 0, 230, 153, 0, 43, 42, 25, 5, 180, 0, 149, 28, 46, 25, 5]
abbrev dktX1_mixed_3 : List UInt8 := dkwX1_mixed_3 ++ dktX1_mixed_4
def dkwX1_mixed_2 : List UInt8 := [58, 5, 25, 5, 27, 28, 182, 0, 172, 154, 0, 6, 167, 0, 124, 42, 25, 5, 27, 28, 182, 0, 175]
abbrev dktX1_mixed_2 : List UInt8 := dkwX1_mixed_2 ++ dktX1_mixed_3
def dkwX1_mixed_1 : List UInt8 := [184, 0, 168, 42, 182, 0, 189, 3, 54, 4, 21, 4, 16, 24, 162, 0, 152, 42, 180, 0, 21, 21, 4, 50]
abbrev dktX1_mixed_1 : List UInt8 := dkwX1_mixed_1 ++ dktX1_mixed_2
def dkwX1_mixed_0 : List UInt8 := [27, 28, 184, 0, 164, 153, 0, 16, 29, 3, 6, 184, 0, 112, 153, 0, 7, 4, 167, 0, 4, 3]
abbrev dktX1_mixed_0 : List UInt8 := dkwX1_mixed_0 ++ dktX1_mixed_1
theorem dksX1_mixed_0 : cX1_mixed.data.toList.drop 0 = dktX1_mixed_0 := by decide +kernel
theorem dksX1_mixed_1 : cX1_mixed.data.toList.drop 22 = dktX1_mixed_1 := dk_seg dksX1_mixed_0 22 rfl rfl
theorem dksX1_mixed_2 : cX1_mixed.data.toList.drop 46 = dktX1_mixed_2 := dk_seg dksX1_mixed_1 24 rfl rfl
theorem dksX1_mixed_3 : cX1_mixed.data.toList.drop 69 = dktX1_mixed_3 := dk_seg dksX1_mixed_2 23 rfl rfl
theorem dksX1_mixed_4 : cX1_mixed.data.toList.drop 91 = dktX1_mixed_4 := dk_seg dksX1_mixed_3 22 rfl rfl
theorem dksX1_mixed_5 : cX1_mixed.data.toList.drop 114 = dktX1_mixed_5 := dk_seg dksX1_mixed_4 23 rfl rfl
theorem dksX1_mixed_6 : cX1_mixed.data.toList.drop 136 = dktX1_mixed_6 := dk_seg dksX1_mixed_5 22 rfl rfl
theorem dksX1_mixed_7 : cX1_mixed.data.toList.drop 160 = dktX1_mixed_7 := dk_seg dksX1_mixed_6 24 rfl rfl
theorem dksX1_mixed_8 : cX1_mixed.data.toList.drop 182 = dktX1_mixed_8 := dk_seg dksX1_mixed_7 22 rfl rfl
theorem dksX1_mixed_9 : cX1_mixed.data.toList.drop 206 = dktX1_mixed_9 := dk_seg dksX1_mixed_8 24 rfl rfl
theorem dX1_mixed_0 : decode cX1_mixed 0 = .ok (.iload_n 1, 1) := dk_27 (dk_at dksX1_mixed_0 0 rfl rfl)
theorem dX1_mixed_1 : decode cX1_mixed 1 = .ok (.iload_n 2, 1) := dk_28 (dk_at dksX1_mixed_0 1 rfl rfl)
theorem dX1_mixed_2 : decode cX1_mixed 2 = .ok (.invokestatic 164, 3) := dk_184 0 164 (dk_at dksX1_mixed_0 2 rfl rfl)
theorem dX1_mixed_5 : decode cX1_mixed 5 = .ok (.ifCond .eq 16, 3) := dk_153 0 16 (dk_at dksX1_mixed_0 5 rfl rfl)
theorem dX1_mixed_8 : decode cX1_mixed 8 = .ok (.iload_n 3, 1) := dk_29 (dk_at dksX1_mixed_0 8 rfl rfl)
theorem dX1_mixed_9 : decode cX1_mixed 9 = .ok (.iconst 0, 1) := dk_3 (dk_at dksX1_mixed_0 9 rfl rfl)
theorem dX1_mixed_10 : decode cX1_mixed 10 = .ok (.iconst 3, 1) := dk_6 (dk_at dksX1_mixed_0 10 rfl rfl)
theorem dX1_mixed_11 : decode cX1_mixed 11 = .ok (.invokestatic 112, 3) := dk_184 0 112 (dk_at dksX1_mixed_0 11 rfl rfl)
theorem dX1_mixed_14 : decode cX1_mixed 14 = .ok (.ifCond .eq 7, 3) := dk_153 0 7 (dk_at dksX1_mixed_0 14 rfl rfl)
theorem dX1_mixed_17 : decode cX1_mixed 17 = .ok (.iconst 1, 1) := dk_4 (dk_at dksX1_mixed_0 17 rfl rfl)
theorem dX1_mixed_18 : decode cX1_mixed 18 = .ok (.goto 4, 3) := dk_167 0 4 (dk_at dksX1_mixed_0 18 rfl rfl)
theorem dX1_mixed_21 : decode cX1_mixed 21 = .ok (.iconst 0, 1) := dk_3 (dk_at dksX1_mixed_0 21 rfl rfl)
theorem dX1_mixed_22 : decode cX1_mixed 22 = .ok (.invokestatic 168, 3) := dk_184 0 168 (dk_at dksX1_mixed_1 0 rfl rfl)
theorem dX1_mixed_25 : decode cX1_mixed 25 = .ok (.aload_n 0, 1) := dk_42 (dk_at dksX1_mixed_1 3 rfl rfl)
theorem dX1_mixed_26 : decode cX1_mixed 26 = .ok (.invokevirtual 189, 3) := dk_182 0 189 (dk_at dksX1_mixed_1 4 rfl rfl)
theorem dX1_mixed_29 : decode cX1_mixed 29 = .ok (.iconst 0, 1) := dk_3 (dk_at dksX1_mixed_1 7 rfl rfl)
theorem dX1_mixed_30 : decode cX1_mixed 30 = .ok (.istore 4, 2) := dk_54 4 (dk_at dksX1_mixed_1 8 rfl rfl)
theorem dX1_mixed_32 : decode cX1_mixed 32 = .ok (.iload 4, 2) := dk_21 4 (dk_at dksX1_mixed_1 10 rfl rfl)
theorem dX1_mixed_34 : decode cX1_mixed 34 = .ok (.bipush 24, 2) := dk_16 24 (dk_at dksX1_mixed_1 12 rfl rfl)
theorem dX1_mixed_36 : decode cX1_mixed 36 = .ok (.if_icmp .ge 152, 3) := dk_162 0 152 (dk_at dksX1_mixed_1 14 rfl rfl)
theorem dX1_mixed_39 : decode cX1_mixed 39 = .ok (.aload_n 0, 1) := dk_42 (dk_at dksX1_mixed_1 17 rfl rfl)
theorem dX1_mixed_40 : decode cX1_mixed 40 = .ok (.getfield 21, 3) := dk_180 0 21 (dk_at dksX1_mixed_1 18 rfl rfl)
theorem dX1_mixed_43 : decode cX1_mixed 43 = .ok (.iload 4, 2) := dk_21 4 (dk_at dksX1_mixed_1 21 rfl rfl)
theorem dX1_mixed_45 : decode cX1_mixed 45 = .ok (.aaload, 1) := dk_50 (dk_at dksX1_mixed_1 23 rfl rfl)
theorem dX1_mixed_46 : decode cX1_mixed 46 = .ok (.astore 5, 2) := dk_58 5 (dk_at dksX1_mixed_2 0 rfl rfl)
theorem dX1_mixed_48 : decode cX1_mixed 48 = .ok (.aload 5, 2) := dk_25 5 (dk_at dksX1_mixed_2 2 rfl rfl)
theorem dX1_mixed_50 : decode cX1_mixed 50 = .ok (.iload_n 1, 1) := dk_27 (dk_at dksX1_mixed_2 4 rfl rfl)
theorem dX1_mixed_51 : decode cX1_mixed 51 = .ok (.iload_n 2, 1) := dk_28 (dk_at dksX1_mixed_2 5 rfl rfl)
theorem dX1_mixed_52 : decode cX1_mixed 52 = .ok (.invokevirtual 172, 3) := dk_182 0 172 (dk_at dksX1_mixed_2 6 rfl rfl)
theorem dX1_mixed_55 : decode cX1_mixed 55 = .ok (.ifCond .ne 6, 3) := dk_154 0 6 (dk_at dksX1_mixed_2 9 rfl rfl)
theorem dX1_mixed_58 : decode cX1_mixed 58 = .ok (.goto 124, 3) := dk_167 0 124 (dk_at dksX1_mixed_2 12 rfl rfl)
theorem dX1_mixed_61 : decode cX1_mixed 61 = .ok (.aload_n 0, 1) := dk_42 (dk_at dksX1_mixed_2 15 rfl rfl)
theorem dX1_mixed_62 : decode cX1_mixed 62 = .ok (.aload 5, 2) := dk_25 5 (dk_at dksX1_mixed_2 16 rfl rfl)
theorem dX1_mixed_64 : decode cX1_mixed 64 = .ok (.iload_n 1, 1) := dk_27 (dk_at dksX1_mixed_2 18 rfl rfl)
theorem dX1_mixed_65 : decode cX1_mixed 65 = .ok (.iload_n 2, 1) := dk_28 (dk_at dksX1_mixed_2 19 rfl rfl)
theorem dX1_mixed_66 : decode cX1_mixed 66 = .ok (.invokevirtual 175, 3) := dk_182 0 175 (dk_at dksX1_mixed_2 20 rfl rfl)
theorem dX1_mixed_69 : decode cX1_mixed 69 = .ok (.istore 6, 2) := dk_54 6 (dk_at dksX1_mixed_3 0 rfl rfl)
theorem dX1_mixed_71 : decode cX1_mixed 71 = .ok (.aload 5, 2) := dk_25 5 (dk_at dksX1_mixed_3 2 rfl rfl)
theorem dX1_mixed_73 : decode cX1_mixed 73 = .ok (.iload_n 1, 1) := dk_27 (dk_at dksX1_mixed_3 4 rfl rfl)
theorem dX1_mixed_74 : decode cX1_mixed 74 = .ok (.iload_n 2, 1) := dk_28 (dk_at dksX1_mixed_3 5 rfl rfl)
theorem dX1_mixed_75 : decode cX1_mixed 75 = .ok (.invokevirtual 230, 3) := dk_182 0 230 (dk_at dksX1_mixed_3 6 rfl rfl)
theorem dX1_mixed_78 : decode cX1_mixed 78 = .ok (.ifCond .eq 43, 3) := dk_153 0 43 (dk_at dksX1_mixed_3 9 rfl rfl)
theorem dX1_mixed_81 : decode cX1_mixed 81 = .ok (.aload_n 0, 1) := dk_42 (dk_at dksX1_mixed_3 12 rfl rfl)
theorem dX1_mixed_82 : decode cX1_mixed 82 = .ok (.aload 5, 2) := dk_25 5 (dk_at dksX1_mixed_3 13 rfl rfl)
theorem dX1_mixed_84 : decode cX1_mixed 84 = .ok (.getfield 149, 3) := dk_180 0 149 (dk_at dksX1_mixed_3 15 rfl rfl)
theorem dX1_mixed_87 : decode cX1_mixed 87 = .ok (.iload_n 2, 1) := dk_28 (dk_at dksX1_mixed_3 18 rfl rfl)
theorem dX1_mixed_88 : decode cX1_mixed 88 = .ok (.iaload, 1) := dk_46 (dk_at dksX1_mixed_3 19 rfl rfl)
theorem dX1_mixed_89 : decode cX1_mixed 89 = .ok (.aload 5, 2) := dk_25 5 (dk_at dksX1_mixed_3 20 rfl rfl)
theorem dX1_mixed_91 : decode cX1_mixed 91 = .ok (.getfield 152, 3) := dk_180 0 152 (dk_at dksX1_mixed_4 0 rfl rfl)
theorem dX1_mixed_94 : decode cX1_mixed 94 = .ok (.iload_n 2, 1) := dk_28 (dk_at dksX1_mixed_4 3 rfl rfl)
theorem dX1_mixed_95 : decode cX1_mixed 95 = .ok (.iaload, 1) := dk_46 (dk_at dksX1_mixed_4 4 rfl rfl)
theorem dX1_mixed_96 : decode cX1_mixed 96 = .ok (.invokevirtual 155, 3) := dk_182 0 155 (dk_at dksX1_mixed_4 5 rfl rfl)
theorem dX1_mixed_99 : decode cX1_mixed 99 = .ok (.aload_n 0, 1) := dk_42 (dk_at dksX1_mixed_4 8 rfl rfl)
theorem dX1_mixed_100 : decode cX1_mixed 100 = .ok (.aload 5, 2) := dk_25 5 (dk_at dksX1_mixed_4 9 rfl rfl)
theorem dX1_mixed_102 : decode cX1_mixed 102 = .ok (.getfield 149, 3) := dk_180 0 149 (dk_at dksX1_mixed_4 11 rfl rfl)
theorem dX1_mixed_105 : decode cX1_mixed 105 = .ok (.iload_n 1, 1) := dk_27 (dk_at dksX1_mixed_4 14 rfl rfl)
theorem dX1_mixed_106 : decode cX1_mixed 106 = .ok (.iaload, 1) := dk_46 (dk_at dksX1_mixed_4 15 rfl rfl)
theorem dX1_mixed_107 : decode cX1_mixed 107 = .ok (.aload 5, 2) := dk_25 5 (dk_at dksX1_mixed_4 16 rfl rfl)
theorem dX1_mixed_109 : decode cX1_mixed 109 = .ok (.getfield 152, 3) := dk_180 0 152 (dk_at dksX1_mixed_4 18 rfl rfl)
theorem dX1_mixed_112 : decode cX1_mixed 112 = .ok (.iload_n 1, 1) := dk_27 (dk_at dksX1_mixed_4 21 rfl rfl)
theorem dX1_mixed_113 : decode cX1_mixed 113 = .ok (.iaload, 1) := dk_46 (dk_at dksX1_mixed_4 22 rfl rfl)
theorem dX1_mixed_114 : decode cX1_mixed 114 = .ok (.invokevirtual 155, 3) := dk_182 0 155 (dk_at dksX1_mixed_5 0 rfl rfl)
theorem dX1_mixed_117 : decode cX1_mixed 117 = .ok (.isub, 1) := dk_100 (dk_at dksX1_mixed_5 3 rfl rfl)
theorem dX1_mixed_118 : decode cX1_mixed 118 = .ok (.goto 5, 3) := dk_167 0 5 (dk_at dksX1_mixed_5 4 rfl rfl)
theorem dX1_mixed_121 : decode cX1_mixed 121 = .ok (.iload 6, 2) := dk_21 6 (dk_at dksX1_mixed_5 7 rfl rfl)
theorem dX1_mixed_123 : decode cX1_mixed 123 = .ok (.istore 7, 2) := dk_54 7 (dk_at dksX1_mixed_5 9 rfl rfl)
theorem dX1_mixed_125 : decode cX1_mixed 125 = .ok (.aload_n 0, 1) := dk_42 (dk_at dksX1_mixed_5 11 rfl rfl)
theorem dX1_mixed_126 : decode cX1_mixed 126 = .ok (.aload 5, 2) := dk_25 5 (dk_at dksX1_mixed_5 12 rfl rfl)
theorem dX1_mixed_128 : decode cX1_mixed 128 = .ok (.getfield 124, 3) := dk_180 0 124 (dk_at dksX1_mixed_5 14 rfl rfl)
theorem dX1_mixed_131 : decode cX1_mixed 131 = .ok (.invokevirtual 192, 3) := dk_182 0 192 (dk_at dksX1_mixed_5 17 rfl rfl)
theorem dX1_mixed_134 : decode cX1_mixed 134 = .ok (.iload_n 3, 1) := dk_29 (dk_at dksX1_mixed_5 20 rfl rfl)
theorem dX1_mixed_135 : decode cX1_mixed 135 = .ok (.iconst 1, 1) := dk_4 (dk_at dksX1_mixed_5 21 rfl rfl)
theorem dX1_mixed_136 : decode cX1_mixed 136 = .ok (.if_icmp .le 7, 3) := dk_164 0 7 (dk_at dksX1_mixed_6 0 rfl rfl)
theorem dX1_mixed_139 : decode cX1_mixed 139 = .ok (.iconst 1, 1) := dk_4 (dk_at dksX1_mixed_6 3 rfl rfl)
theorem dX1_mixed_140 : decode cX1_mixed 140 = .ok (.goto 4, 3) := dk_167 0 4 (dk_at dksX1_mixed_6 4 rfl rfl)
theorem dX1_mixed_143 : decode cX1_mixed 143 = .ok (.iconst 0, 1) := dk_3 (dk_at dksX1_mixed_6 7 rfl rfl)
theorem dX1_mixed_144 : decode cX1_mixed 144 = .ok (.aload 5, 2) := dk_25 5 (dk_at dksX1_mixed_6 8 rfl rfl)
theorem dX1_mixed_146 : decode cX1_mixed 146 = .ok (.getfield 124, 3) := dk_180 0 124 (dk_at dksX1_mixed_6 10 rfl rfl)
theorem dX1_mixed_149 : decode cX1_mixed 149 = .ok (.ifCond .ne 7, 3) := dk_154 0 7 (dk_at dksX1_mixed_6 13 rfl rfl)
theorem dX1_mixed_152 : decode cX1_mixed 152 = .ok (.iconst 1, 1) := dk_4 (dk_at dksX1_mixed_6 16 rfl rfl)
theorem dX1_mixed_153 : decode cX1_mixed 153 = .ok (.goto 4, 3) := dk_167 0 4 (dk_at dksX1_mixed_6 17 rfl rfl)
theorem dX1_mixed_156 : decode cX1_mixed 156 = .ok (.iconst 0, 1) := dk_3 (dk_at dksX1_mixed_6 20 rfl rfl)
theorem dX1_mixed_157 : decode cX1_mixed 157 = .ok (.if_icmp .ne 14, 3) := dk_160 0 14 (dk_at dksX1_mixed_6 21 rfl rfl)
theorem dX1_mixed_160 : decode cX1_mixed 160 = .ok (.iload 7, 2) := dk_21 7 (dk_at dksX1_mixed_7 0 rfl rfl)
theorem dX1_mixed_162 : decode cX1_mixed 162 = .ok (.iload 6, 2) := dk_21 6 (dk_at dksX1_mixed_7 2 rfl rfl)
theorem dX1_mixed_164 : decode cX1_mixed 164 = .ok (.invokestatic 145, 3) := dk_184 0 145 (dk_at dksX1_mixed_7 4 rfl rfl)
theorem dX1_mixed_167 : decode cX1_mixed 167 = .ok (.i2l, 1) := dk_133 (dk_at dksX1_mixed_7 7 rfl rfl)
theorem dX1_mixed_168 : decode cX1_mixed 168 = .ok (.goto 11, 3) := dk_167 0 11 (dk_at dksX1_mixed_7 8 rfl rfl)
theorem dX1_mixed_171 : decode cX1_mixed 171 = .ok (.iload 7, 2) := dk_21 7 (dk_at dksX1_mixed_7 11 rfl rfl)
theorem dX1_mixed_173 : decode cX1_mixed 173 = .ok (.iload 6, 2) := dk_21 6 (dk_at dksX1_mixed_7 13 rfl rfl)
theorem dX1_mixed_175 : decode cX1_mixed 175 = .ok (.invokestatic 299, 3) := dk_184 1 43 (dk_at dksX1_mixed_7 15 rfl rfl)
theorem dX1_mixed_178 : decode cX1_mixed 178 = .ok (.i2l, 1) := dk_133 (dk_at dksX1_mixed_7 18 rfl rfl)
theorem dX1_mixed_179 : decode cX1_mixed 179 = .ok (.invokevirtual 196, 3) := dk_182 0 196 (dk_at dksX1_mixed_7 19 rfl rfl)
theorem dX1_mixed_182 : decode cX1_mixed 182 = .ok (.iinc 4 1, 3) := dk_132 4 1 (dk_at dksX1_mixed_8 0 rfl rfl)
theorem dX1_mixed_185 : decode cX1_mixed 185 = .ok (.goto (-153), 3) := dk_167 255 103 (dk_at dksX1_mixed_8 3 rfl rfl)
theorem dX1_mixed_188 : decode cX1_mixed 188 = .ok (.aload_n 0, 1) := dk_42 (dk_at dksX1_mixed_8 6 rfl rfl)
theorem dX1_mixed_189 : decode cX1_mixed 189 = .ok (.invokevirtual 200, 3) := dk_182 0 200 (dk_at dksX1_mixed_8 7 rfl rfl)
theorem dX1_mixed_192 : decode cX1_mixed 192 = .ok (.invokestatic 168, 3) := dk_184 0 168 (dk_at dksX1_mixed_8 10 rfl rfl)
theorem dX1_mixed_195 : decode cX1_mixed 195 = .ok (.aload_n 0, 1) := dk_42 (dk_at dksX1_mixed_8 13 rfl rfl)
theorem dX1_mixed_196 : decode cX1_mixed 196 = .ok (.invokevirtual 211, 3) := dk_182 0 211 (dk_at dksX1_mixed_8 14 rfl rfl)
theorem dX1_mixed_199 : decode cX1_mixed 199 = .ok (.aload_n 0, 1) := dk_42 (dk_at dksX1_mixed_8 17 rfl rfl)
theorem dX1_mixed_200 : decode cX1_mixed 200 = .ok (.invokevirtual 215, 3) := dk_182 0 215 (dk_at dksX1_mixed_8 18 rfl rfl)
theorem dX1_mixed_203 : decode cX1_mixed 203 = .ok (.iload_n 3, 1) := dk_29 (dk_at dksX1_mixed_8 21 rfl rfl)
theorem dX1_mixed_204 : decode cX1_mixed 204 = .ok (.iconst 2, 1) := dk_5 (dk_at dksX1_mixed_8 22 rfl rfl)
theorem dX1_mixed_205 : decode cX1_mixed 205 = .ok (.irem, 1) := dk_112 (dk_at dksX1_mixed_8 23 rfl rfl)
theorem dX1_mixed_206 : decode cX1_mixed 206 = .ok (.invokestatic 218, 3) := dk_184 0 218 (dk_at dksX1_mixed_9 0 rfl rfl)
theorem dX1_mixed_209 : decode cX1_mixed 209 = .ok (.lreturn, 1) := dk_173 (dk_at dksX1_mixed_9 3 rfl rfl)
