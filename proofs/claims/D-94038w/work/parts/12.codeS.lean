set_option maxRecDepth 100000
theorem dX2_init_0 : decode cX2_init 0 = .ok (.aload_n 0, 1) := by decide +kernel
theorem dX2_init_1 : decode cX2_init 1 = .ok (.invokespecial 3, 3) := by decide +kernel
theorem dX2_init_4 : decode cX2_init 4 = .ok (.return_, 1) := by decide +kernel
def dkwX2_begin_1 : List UInt8 := [177]
abbrev dktX2_begin_1 : List UInt8 := dkwX2_begin_1 ++ []
def dkwX2_begin_0 : List UInt8 := [42, 43, 181, 0, 9, 42, 28, 181, 0, 15, 42, 3, 181, 0, 19, 42, 3, 181, 0, 22, 42, 182, 0, 25]
abbrev dktX2_begin_0 : List UInt8 := dkwX2_begin_0 ++ dktX2_begin_1
theorem dksX2_begin_0 : cX2_begin.data.toList.drop 0 = dktX2_begin_0 := by decide +kernel
theorem dksX2_begin_1 : cX2_begin.data.toList.drop 24 = dktX2_begin_1 := dk_seg dksX2_begin_0 24 rfl rfl
theorem dX2_begin_0 : decode cX2_begin 0 = .ok (.aload_n 0, 1) := dk_42 (dk_at dksX2_begin_0 0 rfl rfl)
theorem dX2_begin_1 : decode cX2_begin 1 = .ok (.aload_n 1, 1) := dk_43 (dk_at dksX2_begin_0 1 rfl rfl)
theorem dX2_begin_2 : decode cX2_begin 2 = .ok (.putfield 9, 3) := dk_181 0 9 (dk_at dksX2_begin_0 2 rfl rfl)
theorem dX2_begin_5 : decode cX2_begin 5 = .ok (.aload_n 0, 1) := dk_42 (dk_at dksX2_begin_0 5 rfl rfl)
theorem dX2_begin_6 : decode cX2_begin 6 = .ok (.iload_n 2, 1) := dk_28 (dk_at dksX2_begin_0 6 rfl rfl)
theorem dX2_begin_7 : decode cX2_begin 7 = .ok (.putfield 15, 3) := dk_181 0 15 (dk_at dksX2_begin_0 7 rfl rfl)
theorem dX2_begin_10 : decode cX2_begin 10 = .ok (.aload_n 0, 1) := dk_42 (dk_at dksX2_begin_0 10 rfl rfl)
theorem dX2_begin_11 : decode cX2_begin 11 = .ok (.iconst 0, 1) := dk_3 (dk_at dksX2_begin_0 11 rfl rfl)
theorem dX2_begin_12 : decode cX2_begin 12 = .ok (.putfield 19, 3) := dk_181 0 19 (dk_at dksX2_begin_0 12 rfl rfl)
theorem dX2_begin_15 : decode cX2_begin 15 = .ok (.aload_n 0, 1) := dk_42 (dk_at dksX2_begin_0 15 rfl rfl)
theorem dX2_begin_16 : decode cX2_begin 16 = .ok (.iconst 0, 1) := dk_3 (dk_at dksX2_begin_0 16 rfl rfl)
theorem dX2_begin_17 : decode cX2_begin 17 = .ok (.putfield 22, 3) := dk_181 0 22 (dk_at dksX2_begin_0 17 rfl rfl)
theorem dX2_begin_20 : decode cX2_begin 20 = .ok (.aload_n 0, 1) := dk_42 (dk_at dksX2_begin_0 20 rfl rfl)
theorem dX2_begin_21 : decode cX2_begin 21 = .ok (.invokevirtual 25, 3) := dk_182 0 25 (dk_at dksX2_begin_0 21 rfl rfl)
theorem dX2_begin_24 : decode cX2_begin 24 = .ok (.return_, 1) := dk_177 (dk_at dksX2_begin_1 0 rfl rfl)
def dkwX2_next_12 : List UInt8 := [6, 167, 0, 4, 7, 181, 0, 31, 42, 89, 180, 0, 19, 4, 96, 181, 0, 19, 177]
abbrev dktX2_next_12 : List UInt8 := dkwX2_next_12 ++ []
def dkwX2_next_11 : List UInt8 := [181, 0, 31, 167, 0, 39, 42, 18, 48, 42, 42, 180, 0, 19, 182, 0, 34, 146, 182, 0, 50, 155, 0, 7]
abbrev dktX2_next_11 : List UInt8 := dkwX2_next_11 ++ dktX2_next_12
def dkwX2_next_10 : List UInt8 := [167, 255, 189, 42, 42, 180, 0, 19, 42, 180, 0, 28, 100, 7, 164, 0, 7, 7, 167, 0, 4, 5]
abbrev dktX2_next_10 : List UInt8 := dkwX2_next_10 ++ dktX2_next_11
def dkwX2_next_9 : List UInt8 := [96, 16, 48, 100, 167, 0, 7, 42, 180, 0, 45, 181, 0, 45, 42, 89, 180, 0, 19, 4, 96, 181, 0, 19]
abbrev dktX2_next_9 : List UInt8 := dkwX2_next_9 ++ dktX2_next_10
def dkwX2_next_8 : List UInt8 := [42, 180, 0, 28, 100, 7, 162, 0, 25, 16, 10, 42, 180, 0, 45, 104, 42, 42, 180, 0, 19, 182, 0, 34]
abbrev dktX2_next_8 : List UInt8 := dkwX2_next_8 ++ dktX2_next_9
def dkwX2_next_7 : List UInt8 := [42, 3, 181, 0, 45, 42, 42, 180, 0, 19, 182, 0, 34, 184, 0, 42, 153, 0, 59, 42, 42, 180, 0, 19]
abbrev dktX2_next_7 : List UInt8 := dkwX2_next_7 ++ dktX2_next_8
def dkwX2_next_6 : List UInt8 := [167, 0, 4, 4, 181, 0, 31, 167, 0, 153, 42, 42, 180, 0, 19, 182, 0, 34, 184, 0, 42, 153, 0, 103]
abbrev dktX2_next_6 : List UInt8 := dkwX2_next_6 ++ dktX2_next_7
def dkwX2_next_5 : List UInt8 := [181, 0, 19, 167, 255, 232, 42, 42, 180, 0, 19, 42, 180, 0, 28, 100, 16, 8, 164, 0, 7, 7]
abbrev dktX2_next_5 : List UInt8 := dkwX2_next_5 ++ dktX2_next_6
def dkwX2_next_4 : List UInt8 := [153, 0, 56, 42, 42, 180, 0, 19, 182, 0, 34, 184, 0, 38, 153, 0, 16, 42, 89, 180, 0, 19, 4, 96]
abbrev dktX2_next_4 : List UInt8 := dkwX2_next_4 ++ dktX2_next_5
def dkwX2_next_3 : List UInt8 := [160, 0, 11, 42, 3, 181, 0, 31, 167, 0, 220, 42, 42, 180, 0, 19, 182, 0, 34, 184, 0, 38]
abbrev dktX2_next_3 : List UInt8 := dkwX2_next_3 ++ dktX2_next_4
def dkwX2_next_2 : List UInt8 := [181, 0, 19, 167, 255, 207, 42, 42, 180, 0, 19, 181, 0, 28, 42, 180, 0, 19, 42, 180, 0, 15]
abbrev dktX2_next_2 : List UInt8 := dkwX2_next_2 ++ dktX2_next_3
def dkwX2_next_1 : List UInt8 := [159, 0, 17, 42, 180, 0, 9, 42, 180, 0, 19, 51, 16, 32, 160, 0, 16, 42, 89, 180, 0, 19, 4, 96]
abbrev dktX2_next_1 : List UInt8 := dkwX2_next_1 ++ dktX2_next_2
def dkwX2_next_0 : List UInt8 := [42, 180, 0, 19, 42, 180, 0, 15, 162, 0, 44, 42, 180, 0, 9, 42, 180, 0, 19, 51, 16, 10]
abbrev dktX2_next_0 : List UInt8 := dkwX2_next_0 ++ dktX2_next_1
theorem dksX2_next_0 : cX2_next.data.toList.drop 0 = dktX2_next_0 := by decide +kernel
theorem dksX2_next_1 : cX2_next.data.toList.drop 22 = dktX2_next_1 := dk_seg dksX2_next_0 22 rfl rfl
theorem dksX2_next_2 : cX2_next.data.toList.drop 46 = dktX2_next_2 := dk_seg dksX2_next_1 24 rfl rfl
theorem dksX2_next_3 : cX2_next.data.toList.drop 68 = dktX2_next_3 := dk_seg dksX2_next_2 22 rfl rfl
theorem dksX2_next_4 : cX2_next.data.toList.drop 90 = dktX2_next_4 := dk_seg dksX2_next_3 22 rfl rfl
theorem dksX2_next_5 : cX2_next.data.toList.drop 114 = dktX2_next_5 := dk_seg dksX2_next_4 24 rfl rfl
theorem dksX2_next_6 : cX2_next.data.toList.drop 136 = dktX2_next_6 := dk_seg dksX2_next_5 22 rfl rfl
theorem dksX2_next_7 : cX2_next.data.toList.drop 160 = dktX2_next_7 := dk_seg dksX2_next_6 24 rfl rfl
theorem dksX2_next_8 : cX2_next.data.toList.drop 184 = dktX2_next_8 := dk_seg dksX2_next_7 24 rfl rfl
theorem dksX2_next_9 : cX2_next.data.toList.drop 208 = dktX2_next_9 := dk_seg dksX2_next_8 24 rfl rfl
theorem dksX2_next_10 : cX2_next.data.toList.drop 232 = dktX2_next_10 := dk_seg dksX2_next_9 24 rfl rfl
theorem dksX2_next_11 : cX2_next.data.toList.drop 254 = dktX2_next_11 := dk_seg dksX2_next_10 22 rfl rfl
theorem dksX2_next_12 : cX2_next.data.toList.drop 278 = dktX2_next_12 := dk_seg dksX2_next_11 24 rfl rfl
theorem dX2_next_0 : decode cX2_next 0 = .ok (.aload_n 0, 1) := dk_42 (dk_at dksX2_next_0 0 rfl rfl)
theorem dX2_next_1 : decode cX2_next 1 = .ok (.getfield 19, 3) := dk_180 0 19 (dk_at dksX2_next_0 1 rfl rfl)
theorem dX2_next_4 : decode cX2_next 4 = .ok (.aload_n 0, 1) := dk_42 (dk_at dksX2_next_0 4 rfl rfl)
theorem dX2_next_5 : decode cX2_next 5 = .ok (.getfield 15, 3) := dk_180 0 15 (dk_at dksX2_next_0 5 rfl rfl)
theorem dX2_next_8 : decode cX2_next 8 = .ok (.if_icmp .ge 44, 3) := dk_162 0 44 (dk_at dksX2_next_0 8 rfl rfl)
theorem dX2_next_11 : decode cX2_next 11 = .ok (.aload_n 0, 1) := dk_42 (dk_at dksX2_next_0 11 rfl rfl)
theorem dX2_next_12 : decode cX2_next 12 = .ok (.getfield 9, 3) := dk_180 0 9 (dk_at dksX2_next_0 12 rfl rfl)
theorem dX2_next_15 : decode cX2_next 15 = .ok (.aload_n 0, 1) := dk_42 (dk_at dksX2_next_0 15 rfl rfl)
theorem dX2_next_16 : decode cX2_next 16 = .ok (.getfield 19, 3) := dk_180 0 19 (dk_at dksX2_next_0 16 rfl rfl)
theorem dX2_next_19 : decode cX2_next 19 = .ok (.baload, 1) := dk_51 (dk_at dksX2_next_0 19 rfl rfl)
theorem dX2_next_20 : decode cX2_next 20 = .ok (.bipush 10, 2) := dk_16 10 (dk_at dksX2_next_0 20 rfl rfl)
theorem dX2_next_22 : decode cX2_next 22 = .ok (.if_icmp .eq 17, 3) := dk_159 0 17 (dk_at dksX2_next_1 0 rfl rfl)
theorem dX2_next_25 : decode cX2_next 25 = .ok (.aload_n 0, 1) := dk_42 (dk_at dksX2_next_1 3 rfl rfl)
theorem dX2_next_26 : decode cX2_next 26 = .ok (.getfield 9, 3) := dk_180 0 9 (dk_at dksX2_next_1 4 rfl rfl)
theorem dX2_next_29 : decode cX2_next 29 = .ok (.aload_n 0, 1) := dk_42 (dk_at dksX2_next_1 7 rfl rfl)
theorem dX2_next_30 : decode cX2_next 30 = .ok (.getfield 19, 3) := dk_180 0 19 (dk_at dksX2_next_1 8 rfl rfl)
theorem dX2_next_33 : decode cX2_next 33 = .ok (.baload, 1) := dk_51 (dk_at dksX2_next_1 11 rfl rfl)
theorem dX2_next_34 : decode cX2_next 34 = .ok (.bipush 32, 2) := dk_16 32 (dk_at dksX2_next_1 12 rfl rfl)
theorem dX2_next_36 : decode cX2_next 36 = .ok (.if_icmp .ne 16, 3) := dk_160 0 16 (dk_at dksX2_next_1 14 rfl rfl)
theorem dX2_next_39 : decode cX2_next 39 = .ok (.aload_n 0, 1) := dk_42 (dk_at dksX2_next_1 17 rfl rfl)
theorem dX2_next_40 : decode cX2_next 40 = .ok (.dup, 1) := dk_89 (dk_at dksX2_next_1 18 rfl rfl)
theorem dX2_next_41 : decode cX2_next 41 = .ok (.getfield 19, 3) := dk_180 0 19 (dk_at dksX2_next_1 19 rfl rfl)
theorem dX2_next_44 : decode cX2_next 44 = .ok (.iconst 1, 1) := dk_4 (dk_at dksX2_next_1 22 rfl rfl)
theorem dX2_next_45 : decode cX2_next 45 = .ok (.iadd, 1) := dk_96 (dk_at dksX2_next_1 23 rfl rfl)
theorem dX2_next_46 : decode cX2_next 46 = .ok (.putfield 19, 3) := dk_181 0 19 (dk_at dksX2_next_2 0 rfl rfl)
theorem dX2_next_49 : decode cX2_next 49 = .ok (.goto (-49), 3) := dk_167 255 207 (dk_at dksX2_next_2 3 rfl rfl)
theorem dX2_next_52 : decode cX2_next 52 = .ok (.aload_n 0, 1) := dk_42 (dk_at dksX2_next_2 6 rfl rfl)
theorem dX2_next_53 : decode cX2_next 53 = .ok (.aload_n 0, 1) := dk_42 (dk_at dksX2_next_2 7 rfl rfl)
theorem dX2_next_54 : decode cX2_next 54 = .ok (.getfield 19, 3) := dk_180 0 19 (dk_at dksX2_next_2 8 rfl rfl)
theorem dX2_next_57 : decode cX2_next 57 = .ok (.putfield 28, 3) := dk_181 0 28 (dk_at dksX2_next_2 11 rfl rfl)
theorem dX2_next_60 : decode cX2_next 60 = .ok (.aload_n 0, 1) := dk_42 (dk_at dksX2_next_2 14 rfl rfl)
theorem dX2_next_61 : decode cX2_next 61 = .ok (.getfield 19, 3) := dk_180 0 19 (dk_at dksX2_next_2 15 rfl rfl)
theorem dX2_next_64 : decode cX2_next 64 = .ok (.aload_n 0, 1) := dk_42 (dk_at dksX2_next_2 18 rfl rfl)
theorem dX2_next_65 : decode cX2_next 65 = .ok (.getfield 15, 3) := dk_180 0 15 (dk_at dksX2_next_2 19 rfl rfl)
theorem dX2_next_68 : decode cX2_next 68 = .ok (.if_icmp .ne 11, 3) := dk_160 0 11 (dk_at dksX2_next_3 0 rfl rfl)
theorem dX2_next_71 : decode cX2_next 71 = .ok (.aload_n 0, 1) := dk_42 (dk_at dksX2_next_3 3 rfl rfl)
theorem dX2_next_72 : decode cX2_next 72 = .ok (.iconst 0, 1) := dk_3 (dk_at dksX2_next_3 4 rfl rfl)
theorem dX2_next_73 : decode cX2_next 73 = .ok (.putfield 31, 3) := dk_181 0 31 (dk_at dksX2_next_3 5 rfl rfl)
theorem dX2_next_76 : decode cX2_next 76 = .ok (.goto 220, 3) := dk_167 0 220 (dk_at dksX2_next_3 8 rfl rfl)
theorem dX2_next_79 : decode cX2_next 79 = .ok (.aload_n 0, 1) := dk_42 (dk_at dksX2_next_3 11 rfl rfl)
theorem dX2_next_80 : decode cX2_next 80 = .ok (.aload_n 0, 1) := dk_42 (dk_at dksX2_next_3 12 rfl rfl)
theorem dX2_next_81 : decode cX2_next 81 = .ok (.getfield 19, 3) := dk_180 0 19 (dk_at dksX2_next_3 13 rfl rfl)
theorem dX2_next_84 : decode cX2_next 84 = .ok (.invokevirtual 34, 3) := dk_182 0 34 (dk_at dksX2_next_3 16 rfl rfl)
theorem dX2_next_87 : decode cX2_next 87 = .ok (.invokestatic 38, 3) := dk_184 0 38 (dk_at dksX2_next_3 19 rfl rfl)
theorem dX2_next_90 : decode cX2_next 90 = .ok (.ifCond .eq 56, 3) := dk_153 0 56 (dk_at dksX2_next_4 0 rfl rfl)
theorem dX2_next_93 : decode cX2_next 93 = .ok (.aload_n 0, 1) := dk_42 (dk_at dksX2_next_4 3 rfl rfl)
theorem dX2_next_94 : decode cX2_next 94 = .ok (.aload_n 0, 1) := dk_42 (dk_at dksX2_next_4 4 rfl rfl)
theorem dX2_next_95 : decode cX2_next 95 = .ok (.getfield 19, 3) := dk_180 0 19 (dk_at dksX2_next_4 5 rfl rfl)
theorem dX2_next_98 : decode cX2_next 98 = .ok (.invokevirtual 34, 3) := dk_182 0 34 (dk_at dksX2_next_4 8 rfl rfl)
theorem dX2_next_101 : decode cX2_next 101 = .ok (.invokestatic 38, 3) := dk_184 0 38 (dk_at dksX2_next_4 11 rfl rfl)
theorem dX2_next_104 : decode cX2_next 104 = .ok (.ifCond .eq 16, 3) := dk_153 0 16 (dk_at dksX2_next_4 14 rfl rfl)
theorem dX2_next_107 : decode cX2_next 107 = .ok (.aload_n 0, 1) := dk_42 (dk_at dksX2_next_4 17 rfl rfl)
theorem dX2_next_108 : decode cX2_next 108 = .ok (.dup, 1) := dk_89 (dk_at dksX2_next_4 18 rfl rfl)
theorem dX2_next_109 : decode cX2_next 109 = .ok (.getfield 19, 3) := dk_180 0 19 (dk_at dksX2_next_4 19 rfl rfl)
theorem dX2_next_112 : decode cX2_next 112 = .ok (.iconst 1, 1) := dk_4 (dk_at dksX2_next_4 22 rfl rfl)
theorem dX2_next_113 : decode cX2_next 113 = .ok (.iadd, 1) := dk_96 (dk_at dksX2_next_4 23 rfl rfl)
theorem dX2_next_114 : decode cX2_next 114 = .ok (.putfield 19, 3) := dk_181 0 19 (dk_at dksX2_next_5 0 rfl rfl)
theorem dX2_next_117 : decode cX2_next 117 = .ok (.goto (-24), 3) := dk_167 255 232 (dk_at dksX2_next_5 3 rfl rfl)
theorem dX2_next_120 : decode cX2_next 120 = .ok (.aload_n 0, 1) := dk_42 (dk_at dksX2_next_5 6 rfl rfl)
theorem dX2_next_121 : decode cX2_next 121 = .ok (.aload_n 0, 1) := dk_42 (dk_at dksX2_next_5 7 rfl rfl)
theorem dX2_next_122 : decode cX2_next 122 = .ok (.getfield 19, 3) := dk_180 0 19 (dk_at dksX2_next_5 8 rfl rfl)
theorem dX2_next_125 : decode cX2_next 125 = .ok (.aload_n 0, 1) := dk_42 (dk_at dksX2_next_5 11 rfl rfl)
theorem dX2_next_126 : decode cX2_next 126 = .ok (.getfield 28, 3) := dk_180 0 28 (dk_at dksX2_next_5 12 rfl rfl)
theorem dX2_next_129 : decode cX2_next 129 = .ok (.isub, 1) := dk_100 (dk_at dksX2_next_5 15 rfl rfl)
theorem dX2_next_130 : decode cX2_next 130 = .ok (.bipush 8, 2) := dk_16 8 (dk_at dksX2_next_5 16 rfl rfl)
theorem dX2_next_132 : decode cX2_next 132 = .ok (.if_icmp .le 7, 3) := dk_164 0 7 (dk_at dksX2_next_5 18 rfl rfl)
theorem dX2_next_135 : decode cX2_next 135 = .ok (.iconst 4, 1) := dk_7 (dk_at dksX2_next_5 21 rfl rfl)
theorem dX2_next_136 : decode cX2_next 136 = .ok (.goto 4, 3) := dk_167 0 4 (dk_at dksX2_next_6 0 rfl rfl)
theorem dX2_next_139 : decode cX2_next 139 = .ok (.iconst 1, 1) := dk_4 (dk_at dksX2_next_6 3 rfl rfl)
theorem dX2_next_140 : decode cX2_next 140 = .ok (.putfield 31, 3) := dk_181 0 31 (dk_at dksX2_next_6 4 rfl rfl)
theorem dX2_next_143 : decode cX2_next 143 = .ok (.goto 153, 3) := dk_167 0 153 (dk_at dksX2_next_6 7 rfl rfl)
theorem dX2_next_146 : decode cX2_next 146 = .ok (.aload_n 0, 1) := dk_42 (dk_at dksX2_next_6 10 rfl rfl)
theorem dX2_next_147 : decode cX2_next 147 = .ok (.aload_n 0, 1) := dk_42 (dk_at dksX2_next_6 11 rfl rfl)
theorem dX2_next_148 : decode cX2_next 148 = .ok (.getfield 19, 3) := dk_180 0 19 (dk_at dksX2_next_6 12 rfl rfl)
theorem dX2_next_151 : decode cX2_next 151 = .ok (.invokevirtual 34, 3) := dk_182 0 34 (dk_at dksX2_next_6 15 rfl rfl)
theorem dX2_next_154 : decode cX2_next 154 = .ok (.invokestatic 42, 3) := dk_184 0 42 (dk_at dksX2_next_6 18 rfl rfl)
theorem dX2_next_157 : decode cX2_next 157 = .ok (.ifCond .eq 103, 3) := dk_153 0 103 (dk_at dksX2_next_6 21 rfl rfl)
theorem dX2_next_160 : decode cX2_next 160 = .ok (.aload_n 0, 1) := dk_42 (dk_at dksX2_next_7 0 rfl rfl)
theorem dX2_next_161 : decode cX2_next 161 = .ok (.iconst 0, 1) := dk_3 (dk_at dksX2_next_7 1 rfl rfl)
theorem dX2_next_162 : decode cX2_next 162 = .ok (.putfield 45, 3) := dk_181 0 45 (dk_at dksX2_next_7 2 rfl rfl)
theorem dX2_next_165 : decode cX2_next 165 = .ok (.aload_n 0, 1) := dk_42 (dk_at dksX2_next_7 5 rfl rfl)
theorem dX2_next_166 : decode cX2_next 166 = .ok (.aload_n 0, 1) := dk_42 (dk_at dksX2_next_7 6 rfl rfl)
theorem dX2_next_167 : decode cX2_next 167 = .ok (.getfield 19, 3) := dk_180 0 19 (dk_at dksX2_next_7 7 rfl rfl)
theorem dX2_next_170 : decode cX2_next 170 = .ok (.invokevirtual 34, 3) := dk_182 0 34 (dk_at dksX2_next_7 10 rfl rfl)
theorem dX2_next_173 : decode cX2_next 173 = .ok (.invokestatic 42, 3) := dk_184 0 42 (dk_at dksX2_next_7 13 rfl rfl)
theorem dX2_next_176 : decode cX2_next 176 = .ok (.ifCond .eq 59, 3) := dk_153 0 59 (dk_at dksX2_next_7 16 rfl rfl)
theorem dX2_next_179 : decode cX2_next 179 = .ok (.aload_n 0, 1) := dk_42 (dk_at dksX2_next_7 19 rfl rfl)
theorem dX2_next_180 : decode cX2_next 180 = .ok (.aload_n 0, 1) := dk_42 (dk_at dksX2_next_7 20 rfl rfl)
theorem dX2_next_181 : decode cX2_next 181 = .ok (.getfield 19, 3) := dk_180 0 19 (dk_at dksX2_next_7 21 rfl rfl)
theorem dX2_next_184 : decode cX2_next 184 = .ok (.aload_n 0, 1) := dk_42 (dk_at dksX2_next_8 0 rfl rfl)
theorem dX2_next_185 : decode cX2_next 185 = .ok (.getfield 28, 3) := dk_180 0 28 (dk_at dksX2_next_8 1 rfl rfl)
theorem dX2_next_188 : decode cX2_next 188 = .ok (.isub, 1) := dk_100 (dk_at dksX2_next_8 4 rfl rfl)
theorem dX2_next_189 : decode cX2_next 189 = .ok (.iconst 4, 1) := dk_7 (dk_at dksX2_next_8 5 rfl rfl)
theorem dX2_next_190 : decode cX2_next 190 = .ok (.if_icmp .ge 25, 3) := dk_162 0 25 (dk_at dksX2_next_8 6 rfl rfl)
theorem dX2_next_193 : decode cX2_next 193 = .ok (.bipush 10, 2) := dk_16 10 (dk_at dksX2_next_8 9 rfl rfl)
theorem dX2_next_195 : decode cX2_next 195 = .ok (.aload_n 0, 1) := dk_42 (dk_at dksX2_next_8 11 rfl rfl)
theorem dX2_next_196 : decode cX2_next 196 = .ok (.getfield 45, 3) := dk_180 0 45 (dk_at dksX2_next_8 12 rfl rfl)
theorem dX2_next_199 : decode cX2_next 199 = .ok (.imul, 1) := dk_104 (dk_at dksX2_next_8 15 rfl rfl)
theorem dX2_next_200 : decode cX2_next 200 = .ok (.aload_n 0, 1) := dk_42 (dk_at dksX2_next_8 16 rfl rfl)
theorem dX2_next_201 : decode cX2_next 201 = .ok (.aload_n 0, 1) := dk_42 (dk_at dksX2_next_8 17 rfl rfl)
theorem dX2_next_202 : decode cX2_next 202 = .ok (.getfield 19, 3) := dk_180 0 19 (dk_at dksX2_next_8 18 rfl rfl)
theorem dX2_next_205 : decode cX2_next 205 = .ok (.invokevirtual 34, 3) := dk_182 0 34 (dk_at dksX2_next_8 21 rfl rfl)
theorem dX2_next_208 : decode cX2_next 208 = .ok (.iadd, 1) := dk_96 (dk_at dksX2_next_9 0 rfl rfl)
theorem dX2_next_209 : decode cX2_next 209 = .ok (.bipush 48, 2) := dk_16 48 (dk_at dksX2_next_9 1 rfl rfl)
theorem dX2_next_211 : decode cX2_next 211 = .ok (.isub, 1) := dk_100 (dk_at dksX2_next_9 3 rfl rfl)
theorem dX2_next_212 : decode cX2_next 212 = .ok (.goto 7, 3) := dk_167 0 7 (dk_at dksX2_next_9 4 rfl rfl)
theorem dX2_next_215 : decode cX2_next 215 = .ok (.aload_n 0, 1) := dk_42 (dk_at dksX2_next_9 7 rfl rfl)
theorem dX2_next_216 : decode cX2_next 216 = .ok (.getfield 45, 3) := dk_180 0 45 (dk_at dksX2_next_9 8 rfl rfl)
theorem dX2_next_219 : decode cX2_next 219 = .ok (.putfield 45, 3) := dk_181 0 45 (dk_at dksX2_next_9 11 rfl rfl)
theorem dX2_next_222 : decode cX2_next 222 = .ok (.aload_n 0, 1) := dk_42 (dk_at dksX2_next_9 14 rfl rfl)
theorem dX2_next_223 : decode cX2_next 223 = .ok (.dup, 1) := dk_89 (dk_at dksX2_next_9 15 rfl rfl)
theorem dX2_next_224 : decode cX2_next 224 = .ok (.getfield 19, 3) := dk_180 0 19 (dk_at dksX2_next_9 16 rfl rfl)
theorem dX2_next_227 : decode cX2_next 227 = .ok (.iconst 1, 1) := dk_4 (dk_at dksX2_next_9 19 rfl rfl)
theorem dX2_next_228 : decode cX2_next 228 = .ok (.iadd, 1) := dk_96 (dk_at dksX2_next_9 20 rfl rfl)
theorem dX2_next_229 : decode cX2_next 229 = .ok (.putfield 19, 3) := dk_181 0 19 (dk_at dksX2_next_9 21 rfl rfl)
theorem dX2_next_232 : decode cX2_next 232 = .ok (.goto (-67), 3) := dk_167 255 189 (dk_at dksX2_next_10 0 rfl rfl)
theorem dX2_next_235 : decode cX2_next 235 = .ok (.aload_n 0, 1) := dk_42 (dk_at dksX2_next_10 3 rfl rfl)
theorem dX2_next_236 : decode cX2_next 236 = .ok (.aload_n 0, 1) := dk_42 (dk_at dksX2_next_10 4 rfl rfl)
theorem dX2_next_237 : decode cX2_next 237 = .ok (.getfield 19, 3) := dk_180 0 19 (dk_at dksX2_next_10 5 rfl rfl)
theorem dX2_next_240 : decode cX2_next 240 = .ok (.aload_n 0, 1) := dk_42 (dk_at dksX2_next_10 8 rfl rfl)
theorem dX2_next_241 : decode cX2_next 241 = .ok (.getfield 28, 3) := dk_180 0 28 (dk_at dksX2_next_10 9 rfl rfl)
theorem dX2_next_244 : decode cX2_next 244 = .ok (.isub, 1) := dk_100 (dk_at dksX2_next_10 12 rfl rfl)
theorem dX2_next_245 : decode cX2_next 245 = .ok (.iconst 4, 1) := dk_7 (dk_at dksX2_next_10 13 rfl rfl)
theorem dX2_next_246 : decode cX2_next 246 = .ok (.if_icmp .le 7, 3) := dk_164 0 7 (dk_at dksX2_next_10 14 rfl rfl)
theorem dX2_next_249 : decode cX2_next 249 = .ok (.iconst 4, 1) := dk_7 (dk_at dksX2_next_10 17 rfl rfl)
theorem dX2_next_250 : decode cX2_next 250 = .ok (.goto 4, 3) := dk_167 0 4 (dk_at dksX2_next_10 18 rfl rfl)
theorem dX2_next_253 : decode cX2_next 253 = .ok (.iconst 2, 1) := dk_5 (dk_at dksX2_next_10 21 rfl rfl)
theorem dX2_next_254 : decode cX2_next 254 = .ok (.putfield 31, 3) := dk_181 0 31 (dk_at dksX2_next_11 0 rfl rfl)
theorem dX2_next_257 : decode cX2_next 257 = .ok (.goto 39, 3) := dk_167 0 39 (dk_at dksX2_next_11 3 rfl rfl)
theorem dX2_next_260 : decode cX2_next 260 = .ok (.aload_n 0, 1) := dk_42 (dk_at dksX2_next_11 6 rfl rfl)
theorem dX2_next_261 : decode cX2_next 261 = .ok (.ldc 48, 2) := dk_18 48 (dk_at dksX2_next_11 7 rfl rfl)
theorem dX2_next_263 : decode cX2_next 263 = .ok (.aload_n 0, 1) := dk_42 (dk_at dksX2_next_11 9 rfl rfl)
theorem dX2_next_264 : decode cX2_next 264 = .ok (.aload_n 0, 1) := dk_42 (dk_at dksX2_next_11 10 rfl rfl)
theorem dX2_next_265 : decode cX2_next 265 = .ok (.getfield 19, 3) := dk_180 0 19 (dk_at dksX2_next_11 11 rfl rfl)
theorem dX2_next_268 : decode cX2_next 268 = .ok (.invokevirtual 34, 3) := dk_182 0 34 (dk_at dksX2_next_11 14 rfl rfl)
theorem dX2_next_271 : decode cX2_next 271 = .ok (.i2c, 1) := dk_146 (dk_at dksX2_next_11 17 rfl rfl)
theorem dX2_next_272 : decode cX2_next 272 = .ok (.invokevirtual 50, 3) := dk_182 0 50 (dk_at dksX2_next_11 18 rfl rfl)
theorem dX2_next_275 : decode cX2_next 275 = .ok (.ifCond .lt 7, 3) := dk_155 0 7 (dk_at dksX2_next_11 21 rfl rfl)
theorem dX2_next_278 : decode cX2_next 278 = .ok (.iconst 3, 1) := dk_6 (dk_at dksX2_next_12 0 rfl rfl)
theorem dX2_next_279 : decode cX2_next 279 = .ok (.goto 4, 3) := dk_167 0 4 (dk_at dksX2_next_12 1 rfl rfl)
theorem dX2_next_282 : decode cX2_next 282 = .ok (.iconst 4, 1) := dk_7 (dk_at dksX2_next_12 4 rfl rfl)
theorem dX2_next_283 : decode cX2_next 283 = .ok (.putfield 31, 3) := dk_181 0 31 (dk_at dksX2_next_12 5 rfl rfl)
theorem dX2_next_286 : decode cX2_next 286 = .ok (.aload_n 0, 1) := dk_42 (dk_at dksX2_next_12 8 rfl rfl)
theorem dX2_next_287 : decode cX2_next 287 = .ok (.dup, 1) := dk_89 (dk_at dksX2_next_12 9 rfl rfl)
theorem dX2_next_288 : decode cX2_next 288 = .ok (.getfield 19, 3) := dk_180 0 19 (dk_at dksX2_next_12 10 rfl rfl)
theorem dX2_next_291 : decode cX2_next 291 = .ok (.iconst 1, 1) := dk_4 (dk_at dksX2_next_12 13 rfl rfl)
theorem dX2_next_292 : decode cX2_next 292 = .ok (.iadd, 1) := dk_96 (dk_at dksX2_next_12 14 rfl rfl)
theorem dX2_next_293 : decode cX2_next 293 = .ok (.putfield 19, 3) := dk_181 0 19 (dk_at dksX2_next_12 15 rfl rfl)
theorem dX2_next_296 : decode cX2_next 296 = .ok (.return_, 1) := dk_177 (dk_at dksX2_next_12 18 rfl rfl)
def dkwX2_at_0 : List UInt8 := [27, 42, 180, 0, 15, 162, 0, 12, 42, 180, 0, 9, 27, 51, 167, 0, 4, 3, 172]
abbrev dktX2_at_0 : List UInt8 := dkwX2_at_0 ++ []
theorem dksX2_at_0 : cX2_at.data.toList.drop 0 = dktX2_at_0 := by decide +kernel
theorem dX2_at_0 : decode cX2_at 0 = .ok (.iload_n 1, 1) := dk_27 (dk_at dksX2_at_0 0 rfl rfl)
theorem dX2_at_1 : decode cX2_at 1 = .ok (.aload_n 0, 1) := dk_42 (dk_at dksX2_at_0 1 rfl rfl)
theorem dX2_at_2 : decode cX2_at 2 = .ok (.getfield 15, 3) := dk_180 0 15 (dk_at dksX2_at_0 2 rfl rfl)
theorem dX2_at_5 : decode cX2_at 5 = .ok (.if_icmp .ge 12, 3) := dk_162 0 12 (dk_at dksX2_at_0 5 rfl rfl)
theorem dX2_at_8 : decode cX2_at 8 = .ok (.aload_n 0, 1) := dk_42 (dk_at dksX2_at_0 8 rfl rfl)
theorem dX2_at_9 : decode cX2_at 9 = .ok (.getfield 9, 3) := dk_180 0 9 (dk_at dksX2_at_0 9 rfl rfl)
theorem dX2_at_12 : decode cX2_at 12 = .ok (.iload_n 1, 1) := dk_27 (dk_at dksX2_at_0 12 rfl rfl)
theorem dX2_at_13 : decode cX2_at 13 = .ok (.baload, 1) := dk_51 (dk_at dksX2_at_0 13 rfl rfl)
theorem dX2_at_14 : decode cX2_at 14 = .ok (.goto 4, 3) := dk_167 0 4 (dk_at dksX2_at_0 14 rfl rfl)
theorem dX2_at_17 : decode cX2_at 17 = .ok (.iconst 0, 1) := dk_3 (dk_at dksX2_at_0 17 rfl rfl)
theorem dX2_at_18 : decode cX2_at 18 = .ok (.ireturn, 1) := dk_172 (dk_at dksX2_at_0 18 rfl rfl)
def dkwX2_isLetter_0 : List UInt8 := [26, 16, 97, 161, 0, 13, 26, 16, 122, 163, 0, 7, 4, 167, 0, 4, 3, 172]
abbrev dktX2_isLetter_0 : List UInt8 := dkwX2_isLetter_0 ++ []
theorem dksX2_isLetter_0 : cX2_isLetter.data.toList.drop 0 = dktX2_isLetter_0 := by decide +kernel
theorem dX2_isLetter_0 : decode cX2_isLetter 0 = .ok (.iload_n 0, 1) := dk_26 (dk_at dksX2_isLetter_0 0 rfl rfl)
theorem dX2_isLetter_1 : decode cX2_isLetter 1 = .ok (.bipush 97, 2) := dk_16 97 (dk_at dksX2_isLetter_0 1 rfl rfl)
theorem dX2_isLetter_3 : decode cX2_isLetter 3 = .ok (.if_icmp .lt 13, 3) := dk_161 0 13 (dk_at dksX2_isLetter_0 3 rfl rfl)
theorem dX2_isLetter_6 : decode cX2_isLetter 6 = .ok (.iload_n 0, 1) := dk_26 (dk_at dksX2_isLetter_0 6 rfl rfl)
theorem dX2_isLetter_7 : decode cX2_isLetter 7 = .ok (.bipush 122, 2) := dk_16 122 (dk_at dksX2_isLetter_0 7 rfl rfl)
theorem dX2_isLetter_9 : decode cX2_isLetter 9 = .ok (.if_icmp .gt 7, 3) := dk_163 0 7 (dk_at dksX2_isLetter_0 9 rfl rfl)
theorem dX2_isLetter_12 : decode cX2_isLetter 12 = .ok (.iconst 1, 1) := dk_4 (dk_at dksX2_isLetter_0 12 rfl rfl)
theorem dX2_isLetter_13 : decode cX2_isLetter 13 = .ok (.goto 4, 3) := dk_167 0 4 (dk_at dksX2_isLetter_0 13 rfl rfl)
theorem dX2_isLetter_16 : decode cX2_isLetter 16 = .ok (.iconst 0, 1) := dk_3 (dk_at dksX2_isLetter_0 16 rfl rfl)
theorem dX2_isLetter_17 : decode cX2_isLetter 17 = .ok (.ireturn, 1) := dk_172 (dk_at dksX2_isLetter_0 17 rfl rfl)
def dkwX2_isDigit_0 : List UInt8 := [26, 16, 48, 161, 0, 13, 26, 16, 57, 163, 0, 7, 4, 167, 0, 4, 3, 172]
abbrev dktX2_isDigit_0 : List UInt8 := dkwX2_isDigit_0 ++ []
theorem dksX2_isDigit_0 : cX2_isDigit.data.toList.drop 0 = dktX2_isDigit_0 := by decide +kernel
theorem dX2_isDigit_0 : decode cX2_isDigit 0 = .ok (.iload_n 0, 1) := dk_26 (dk_at dksX2_isDigit_0 0 rfl rfl)
theorem dX2_isDigit_1 : decode cX2_isDigit 1 = .ok (.bipush 48, 2) := dk_16 48 (dk_at dksX2_isDigit_0 1 rfl rfl)
theorem dX2_isDigit_3 : decode cX2_isDigit 3 = .ok (.if_icmp .lt 13, 3) := dk_161 0 13 (dk_at dksX2_isDigit_0 3 rfl rfl)
theorem dX2_isDigit_6 : decode cX2_isDigit 6 = .ok (.iload_n 0, 1) := dk_26 (dk_at dksX2_isDigit_0 6 rfl rfl)
theorem dX2_isDigit_7 : decode cX2_isDigit 7 = .ok (.bipush 57, 2) := dk_16 57 (dk_at dksX2_isDigit_0 7 rfl rfl)
theorem dX2_isDigit_9 : decode cX2_isDigit 9 = .ok (.if_icmp .gt 7, 3) := dk_163 0 7 (dk_at dksX2_isDigit_0 9 rfl rfl)
theorem dX2_isDigit_12 : decode cX2_isDigit 12 = .ok (.iconst 1, 1) := dk_4 (dk_at dksX2_isDigit_0 12 rfl rfl)
theorem dX2_isDigit_13 : decode cX2_isDigit 13 = .ok (.goto 4, 3) := dk_167 0 4 (dk_at dksX2_isDigit_0 13 rfl rfl)
theorem dX2_isDigit_16 : decode cX2_isDigit 16 = .ok (.iconst 0, 1) := dk_3 (dk_at dksX2_isDigit_0 16 rfl rfl)
theorem dX2_isDigit_17 : decode cX2_isDigit 17 = .ok (.ireturn, 1) := dk_172 (dk_at dksX2_isDigit_0 17 rfl rfl)
def dkwX2_law_3 : List UInt8 := [28, 42, 182, 0, 104, 83, 42, 16, 59, 182, 0, 108, 167, 255, 186, 43, 176]
abbrev dktX2_law_3 : List UInt8 := dkwX2_law_3 ++ []
def dkwX2_law_2 : List UInt8 := [6, 182, 0, 75, 191, 42, 182, 0, 25, 28, 4, 164, 0, 9, 42, 18, 98, 182, 0, 100, 43, 180, 0, 94]
abbrev dktX2_law_2 : List UInt8 := dkwX2_law_2 ++ dktX2_law_3
def dkwX2_law_1 : List UInt8 := [182, 0, 71, 61, 28, 156, 0, 9, 42, 4, 182, 0, 75, 191, 43, 180, 0, 94, 28, 50, 198, 0, 9, 42]
abbrev dktX2_law_1 : List UInt8 := dkwX2_law_1 ++ dktX2_law_2
def dkwX2_law_0 : List UInt8 := [187, 0, 83, 89, 183, 0, 85, 76, 42, 18, 86, 181, 0, 88, 42, 180, 0, 31, 153, 0, 69, 42, 18, 92]
abbrev dktX2_law_0 : List UInt8 := dkwX2_law_0 ++ dktX2_law_1
theorem dksX2_law_0 : cX2_law.data.toList.drop 0 = dktX2_law_0 := by decide +kernel
theorem dksX2_law_1 : cX2_law.data.toList.drop 24 = dktX2_law_1 := dk_seg dksX2_law_0 24 rfl rfl
theorem dksX2_law_2 : cX2_law.data.toList.drop 48 = dktX2_law_2 := dk_seg dksX2_law_1 24 rfl rfl
theorem dksX2_law_3 : cX2_law.data.toList.drop 72 = dktX2_law_3 := dk_seg dksX2_law_2 24 rfl rfl
theorem dX2_law_0 : decode cX2_law 0 = .ok (.new 83, 3) := dk_187 0 83 (dk_at dksX2_law_0 0 rfl rfl)
theorem dX2_law_3 : decode cX2_law 3 = .ok (.dup, 1) := dk_89 (dk_at dksX2_law_0 3 rfl rfl)
theorem dX2_law_4 : decode cX2_law 4 = .ok (.invokespecial 85, 3) := dk_183 0 85 (dk_at dksX2_law_0 4 rfl rfl)
theorem dX2_law_7 : decode cX2_law 7 = .ok (.astore_n 1, 1) := dk_76 (dk_at dksX2_law_0 7 rfl rfl)
theorem dX2_law_8 : decode cX2_law 8 = .ok (.aload_n 0, 1) := dk_42 (dk_at dksX2_law_0 8 rfl rfl)
theorem dX2_law_9 : decode cX2_law 9 = .ok (.ldc 86, 2) := dk_18 86 (dk_at dksX2_law_0 9 rfl rfl)
theorem dX2_law_11 : decode cX2_law 11 = .ok (.putfield 88, 3) := dk_181 0 88 (dk_at dksX2_law_0 11 rfl rfl)
theorem dX2_law_14 : decode cX2_law 14 = .ok (.aload_n 0, 1) := dk_42 (dk_at dksX2_law_0 14 rfl rfl)
theorem dX2_law_15 : decode cX2_law 15 = .ok (.getfield 31, 3) := dk_180 0 31 (dk_at dksX2_law_0 15 rfl rfl)
theorem dX2_law_18 : decode cX2_law 18 = .ok (.ifCond .eq 69, 3) := dk_153 0 69 (dk_at dksX2_law_0 18 rfl rfl)
theorem dX2_law_21 : decode cX2_law 21 = .ok (.aload_n 0, 1) := dk_42 (dk_at dksX2_law_0 21 rfl rfl)
theorem dX2_law_22 : decode cX2_law 22 = .ok (.ldc 92, 2) := dk_18 92 (dk_at dksX2_law_0 22 rfl rfl)
theorem dX2_law_24 : decode cX2_law 24 = .ok (.invokevirtual 71, 3) := dk_182 0 71 (dk_at dksX2_law_1 0 rfl rfl)
theorem dX2_law_27 : decode cX2_law 27 = .ok (.istore_n 2, 1) := dk_61 (dk_at dksX2_law_1 3 rfl rfl)
theorem dX2_law_28 : decode cX2_law 28 = .ok (.iload_n 2, 1) := dk_28 (dk_at dksX2_law_1 4 rfl rfl)
theorem dX2_law_29 : decode cX2_law 29 = .ok (.ifCond .ge 9, 3) := dk_156 0 9 (dk_at dksX2_law_1 5 rfl rfl)
theorem dX2_law_32 : decode cX2_law 32 = .ok (.aload_n 0, 1) := dk_42 (dk_at dksX2_law_1 8 rfl rfl)
theorem dX2_law_33 : decode cX2_law 33 = .ok (.iconst 1, 1) := dk_4 (dk_at dksX2_law_1 9 rfl rfl)
theorem dX2_law_34 : decode cX2_law 34 = .ok (.invokevirtual 75, 3) := dk_182 0 75 (dk_at dksX2_law_1 10 rfl rfl)
theorem dX2_law_37 : decode cX2_law 37 = .ok (.athrow, 1) := dk_191 (dk_at dksX2_law_1 13 rfl rfl)
theorem dX2_law_38 : decode cX2_law 38 = .ok (.aload_n 1, 1) := dk_43 (dk_at dksX2_law_1 14 rfl rfl)
theorem dX2_law_39 : decode cX2_law 39 = .ok (.getfield 94, 3) := dk_180 0 94 (dk_at dksX2_law_1 15 rfl rfl)
theorem dX2_law_42 : decode cX2_law 42 = .ok (.iload_n 2, 1) := dk_28 (dk_at dksX2_law_1 18 rfl rfl)
theorem dX2_law_43 : decode cX2_law 43 = .ok (.aaload, 1) := dk_50 (dk_at dksX2_law_1 19 rfl rfl)
theorem dX2_law_44 : decode cX2_law 44 = .ok (.ifnull 9, 3) := dk_198 0 9 (dk_at dksX2_law_1 20 rfl rfl)
theorem dX2_law_47 : decode cX2_law 47 = .ok (.aload_n 0, 1) := dk_42 (dk_at dksX2_law_1 23 rfl rfl)
theorem dX2_law_48 : decode cX2_law 48 = .ok (.iconst 3, 1) := dk_6 (dk_at dksX2_law_2 0 rfl rfl)
theorem dX2_law_49 : decode cX2_law 49 = .ok (.invokevirtual 75, 3) := dk_182 0 75 (dk_at dksX2_law_2 1 rfl rfl)
theorem dX2_law_52 : decode cX2_law 52 = .ok (.athrow, 1) := dk_191 (dk_at dksX2_law_2 4 rfl rfl)
theorem dX2_law_53 : decode cX2_law 53 = .ok (.aload_n 0, 1) := dk_42 (dk_at dksX2_law_2 5 rfl rfl)
theorem dX2_law_54 : decode cX2_law 54 = .ok (.invokevirtual 25, 3) := dk_182 0 25 (dk_at dksX2_law_2 6 rfl rfl)
theorem dX2_law_57 : decode cX2_law 57 = .ok (.iload_n 2, 1) := dk_28 (dk_at dksX2_law_2 9 rfl rfl)
theorem dX2_law_58 : decode cX2_law 58 = .ok (.iconst 1, 1) := dk_4 (dk_at dksX2_law_2 10 rfl rfl)
theorem dX2_law_59 : decode cX2_law 59 = .ok (.if_icmp .le 9, 3) := dk_164 0 9 (dk_at dksX2_law_2 11 rfl rfl)
theorem dX2_law_62 : decode cX2_law 62 = .ok (.aload_n 0, 1) := dk_42 (dk_at dksX2_law_2 14 rfl rfl)
theorem dX2_law_63 : decode cX2_law 63 = .ok (.ldc 98, 2) := dk_18 98 (dk_at dksX2_law_2 15 rfl rfl)
theorem dX2_law_65 : decode cX2_law 65 = .ok (.invokevirtual 100, 3) := dk_182 0 100 (dk_at dksX2_law_2 17 rfl rfl)
theorem dX2_law_68 : decode cX2_law 68 = .ok (.aload_n 1, 1) := dk_43 (dk_at dksX2_law_2 20 rfl rfl)
theorem dX2_law_69 : decode cX2_law 69 = .ok (.getfield 94, 3) := dk_180 0 94 (dk_at dksX2_law_2 21 rfl rfl)
theorem dX2_law_72 : decode cX2_law 72 = .ok (.iload_n 2, 1) := dk_28 (dk_at dksX2_law_3 0 rfl rfl)
theorem dX2_law_73 : decode cX2_law 73 = .ok (.aload_n 0, 1) := dk_42 (dk_at dksX2_law_3 1 rfl rfl)
theorem dX2_law_74 : decode cX2_law 74 = .ok (.invokevirtual 104, 3) := dk_182 0 104 (dk_at dksX2_law_3 2 rfl rfl)
theorem dX2_law_77 : decode cX2_law 77 = .ok (.aastore, 1) := dk_83 (dk_at dksX2_law_3 5 rfl rfl)
theorem dX2_law_78 : decode cX2_law 78 = .ok (.aload_n 0, 1) := dk_42 (dk_at dksX2_law_3 6 rfl rfl)
theorem dX2_law_79 : decode cX2_law 79 = .ok (.bipush 59, 2) := dk_16 59 (dk_at dksX2_law_3 7 rfl rfl)
theorem dX2_law_81 : decode cX2_law 81 = .ok (.invokevirtual 108, 3) := dk_182 0 108 (dk_at dksX2_law_3 9 rfl rfl)
theorem dX2_law_84 : decode cX2_law 84 = .ok (.goto (-70), 3) := dk_167 255 186 (dk_at dksX2_law_3 12 rfl rfl)
theorem dX2_law_87 : decode cX2_law 87 = .ok (.aload_n 1, 1) := dk_43 (dk_at dksX2_law_3 15 rfl rfl)
theorem dX2_law_88 : decode cX2_law 88 = .ok (.areturn, 1) := dk_176 (dk_at dksX2_law_3 16 rfl rfl)
def dkwX2_which_5 : List UInt8 := [96, 62, 132, 2, 1, 167, 255, 140, 2, 172]
abbrev dktX2_which_5 : List UInt8 := dkwX2_which_5 ++ []
def dkwX2_which_4 : List UInt8 := [167, 0, 4, 3, 54, 5, 132, 6, 1, 167, 255, 211, 21, 5, 153, 0, 5, 28, 172, 29, 21, 4, 4, 96]
abbrev dktX2_which_4 : List UInt8 := dkwX2_which_4 ++ dktX2_which_5
def dkwX2_which_3 : List UInt8 := [180, 0, 9, 42, 180, 0, 28, 21, 6, 96, 51, 43, 29, 21, 6, 96, 182, 0, 67, 160, 0, 7, 4]
abbrev dktX2_which_3 : List UInt8 := dkwX2_which_3 ++ dktX2_which_4
def dkwX2_which_2 : List UInt8 := [167, 0, 4, 3, 54, 5, 3, 54, 6, 21, 5, 153, 0, 46, 21, 6, 21, 4, 162, 0, 39, 42]
abbrev dktX2_which_2 : List UInt8 := dkwX2_which_2 ++ dktX2_which_3
def dkwX2_which_1 : List UInt8 := [182, 0, 64, 29, 100, 54, 4, 42, 180, 0, 19, 42, 180, 0, 28, 100, 21, 4, 160, 0, 7, 4]
abbrev dktX2_which_1 : List UInt8 := dkwX2_which_1 ++ dktX2_which_2
def dkwX2_which_0 : List UInt8 := [3, 61, 3, 62, 29, 43, 182, 0, 60, 162, 0, 114, 42, 180, 0, 31, 4, 160, 0, 106, 43, 16, 32, 29]
abbrev dktX2_which_0 : List UInt8 := dkwX2_which_0 ++ dktX2_which_1
theorem dksX2_which_0 : cX2_which.data.toList.drop 0 = dktX2_which_0 := by decide +kernel
theorem dksX2_which_1 : cX2_which.data.toList.drop 24 = dktX2_which_1 := dk_seg dksX2_which_0 24 rfl rfl
theorem dksX2_which_2 : cX2_which.data.toList.drop 46 = dktX2_which_2 := dk_seg dksX2_which_1 22 rfl rfl
theorem dksX2_which_3 : cX2_which.data.toList.drop 68 = dktX2_which_3 := dk_seg dksX2_which_2 22 rfl rfl
theorem dksX2_which_4 : cX2_which.data.toList.drop 91 = dktX2_which_4 := dk_seg dksX2_which_3 23 rfl rfl
theorem dksX2_which_5 : cX2_which.data.toList.drop 115 = dktX2_which_5 := dk_seg dksX2_which_4 24 rfl rfl
theorem dX2_which_0 : decode cX2_which 0 = .ok (.iconst 0, 1) := dk_3 (dk_at dksX2_which_0 0 rfl rfl)
theorem dX2_which_1 : decode cX2_which 1 = .ok (.istore_n 2, 1) := dk_61 (dk_at dksX2_which_0 1 rfl rfl)
theorem dX2_which_2 : decode cX2_which 2 = .ok (.iconst 0, 1) := dk_3 (dk_at dksX2_which_0 2 rfl rfl)
theorem dX2_which_3 : decode cX2_which 3 = .ok (.istore_n 3, 1) := dk_62 (dk_at dksX2_which_0 3 rfl rfl)
theorem dX2_which_4 : decode cX2_which 4 = .ok (.iload_n 3, 1) := dk_29 (dk_at dksX2_which_0 4 rfl rfl)
theorem dX2_which_5 : decode cX2_which 5 = .ok (.aload_n 1, 1) := dk_43 (dk_at dksX2_which_0 5 rfl rfl)
theorem dX2_which_6 : decode cX2_which 6 = .ok (.invokevirtual 60, 3) := dk_182 0 60 (dk_at dksX2_which_0 6 rfl rfl)
theorem dX2_which_9 : decode cX2_which 9 = .ok (.if_icmp .ge 114, 3) := dk_162 0 114 (dk_at dksX2_which_0 9 rfl rfl)
theorem dX2_which_12 : decode cX2_which 12 = .ok (.aload_n 0, 1) := dk_42 (dk_at dksX2_which_0 12 rfl rfl)
theorem dX2_which_13 : decode cX2_which 13 = .ok (.getfield 31, 3) := dk_180 0 31 (dk_at dksX2_which_0 13 rfl rfl)
theorem dX2_which_16 : decode cX2_which 16 = .ok (.iconst 1, 1) := dk_4 (dk_at dksX2_which_0 16 rfl rfl)
theorem dX2_which_17 : decode cX2_which 17 = .ok (.if_icmp .ne 106, 3) := dk_160 0 106 (dk_at dksX2_which_0 17 rfl rfl)
theorem dX2_which_20 : decode cX2_which 20 = .ok (.aload_n 1, 1) := dk_43 (dk_at dksX2_which_0 20 rfl rfl)
theorem dX2_which_21 : decode cX2_which 21 = .ok (.bipush 32, 2) := dk_16 32 (dk_at dksX2_which_0 21 rfl rfl)
theorem dX2_which_23 : decode cX2_which 23 = .ok (.iload_n 3, 1) := dk_29 (dk_at dksX2_which_0 23 rfl rfl)
theorem dX2_which_24 : decode cX2_which 24 = .ok (.invokevirtual 64, 3) := dk_182 0 64 (dk_at dksX2_which_1 0 rfl rfl)
theorem dX2_which_27 : decode cX2_which 27 = .ok (.iload_n 3, 1) := dk_29 (dk_at dksX2_which_1 3 rfl rfl)
theorem dX2_which_28 : decode cX2_which 28 = .ok (.isub, 1) := dk_100 (dk_at dksX2_which_1 4 rfl rfl)
theorem dX2_which_29 : decode cX2_which 29 = .ok (.istore 4, 2) := dk_54 4 (dk_at dksX2_which_1 5 rfl rfl)
theorem dX2_which_31 : decode cX2_which 31 = .ok (.aload_n 0, 1) := dk_42 (dk_at dksX2_which_1 7 rfl rfl)
theorem dX2_which_32 : decode cX2_which 32 = .ok (.getfield 19, 3) := dk_180 0 19 (dk_at dksX2_which_1 8 rfl rfl)
theorem dX2_which_35 : decode cX2_which 35 = .ok (.aload_n 0, 1) := dk_42 (dk_at dksX2_which_1 11 rfl rfl)
theorem dX2_which_36 : decode cX2_which 36 = .ok (.getfield 28, 3) := dk_180 0 28 (dk_at dksX2_which_1 12 rfl rfl)
theorem dX2_which_39 : decode cX2_which 39 = .ok (.isub, 1) := dk_100 (dk_at dksX2_which_1 15 rfl rfl)
theorem dX2_which_40 : decode cX2_which 40 = .ok (.iload 4, 2) := dk_21 4 (dk_at dksX2_which_1 16 rfl rfl)
theorem dX2_which_42 : decode cX2_which 42 = .ok (.if_icmp .ne 7, 3) := dk_160 0 7 (dk_at dksX2_which_1 18 rfl rfl)
theorem dX2_which_45 : decode cX2_which 45 = .ok (.iconst 1, 1) := dk_4 (dk_at dksX2_which_1 21 rfl rfl)
theorem dX2_which_46 : decode cX2_which 46 = .ok (.goto 4, 3) := dk_167 0 4 (dk_at dksX2_which_2 0 rfl rfl)
theorem dX2_which_49 : decode cX2_which 49 = .ok (.iconst 0, 1) := dk_3 (dk_at dksX2_which_2 3 rfl rfl)
theorem dX2_which_50 : decode cX2_which 50 = .ok (.istore 5, 2) := dk_54 5 (dk_at dksX2_which_2 4 rfl rfl)
theorem dX2_which_52 : decode cX2_which 52 = .ok (.iconst 0, 1) := dk_3 (dk_at dksX2_which_2 6 rfl rfl)
theorem dX2_which_53 : decode cX2_which 53 = .ok (.istore 6, 2) := dk_54 6 (dk_at dksX2_which_2 7 rfl rfl)
theorem dX2_which_55 : decode cX2_which 55 = .ok (.iload 5, 2) := dk_21 5 (dk_at dksX2_which_2 9 rfl rfl)
theorem dX2_which_57 : decode cX2_which 57 = .ok (.ifCond .eq 46, 3) := dk_153 0 46 (dk_at dksX2_which_2 11 rfl rfl)
theorem dX2_which_60 : decode cX2_which 60 = .ok (.iload 6, 2) := dk_21 6 (dk_at dksX2_which_2 14 rfl rfl)
theorem dX2_which_62 : decode cX2_which 62 = .ok (.iload 4, 2) := dk_21 4 (dk_at dksX2_which_2 16 rfl rfl)
theorem dX2_which_64 : decode cX2_which 64 = .ok (.if_icmp .ge 39, 3) := dk_162 0 39 (dk_at dksX2_which_2 18 rfl rfl)
theorem dX2_which_67 : decode cX2_which 67 = .ok (.aload_n 0, 1) := dk_42 (dk_at dksX2_which_2 21 rfl rfl)
theorem dX2_which_68 : decode cX2_which 68 = .ok (.getfield 9, 3) := dk_180 0 9 (dk_at dksX2_which_3 0 rfl rfl)
theorem dX2_which_71 : decode cX2_which 71 = .ok (.aload_n 0, 1) := dk_42 (dk_at dksX2_which_3 3 rfl rfl)
theorem dX2_which_72 : decode cX2_which 72 = .ok (.getfield 28, 3) := dk_180 0 28 (dk_at dksX2_which_3 4 rfl rfl)
theorem dX2_which_75 : decode cX2_which 75 = .ok (.iload 6, 2) := dk_21 6 (dk_at dksX2_which_3 7 rfl rfl)
theorem dX2_which_77 : decode cX2_which 77 = .ok (.iadd, 1) := dk_96 (dk_at dksX2_which_3 9 rfl rfl)
theorem dX2_which_78 : decode cX2_which 78 = .ok (.baload, 1) := dk_51 (dk_at dksX2_which_3 10 rfl rfl)
theorem dX2_which_79 : decode cX2_which 79 = .ok (.aload_n 1, 1) := dk_43 (dk_at dksX2_which_3 11 rfl rfl)
theorem dX2_which_80 : decode cX2_which 80 = .ok (.iload_n 3, 1) := dk_29 (dk_at dksX2_which_3 12 rfl rfl)
theorem dX2_which_81 : decode cX2_which 81 = .ok (.iload 6, 2) := dk_21 6 (dk_at dksX2_which_3 13 rfl rfl)
theorem dX2_which_83 : decode cX2_which 83 = .ok (.iadd, 1) := dk_96 (dk_at dksX2_which_3 15 rfl rfl)
theorem dX2_which_84 : decode cX2_which 84 = .ok (.invokevirtual 67, 3) := dk_182 0 67 (dk_at dksX2_which_3 16 rfl rfl)
theorem dX2_which_87 : decode cX2_which 87 = .ok (.if_icmp .ne 7, 3) := dk_160 0 7 (dk_at dksX2_which_3 19 rfl rfl)
theorem dX2_which_90 : decode cX2_which 90 = .ok (.iconst 1, 1) := dk_4 (dk_at dksX2_which_3 22 rfl rfl)
theorem dX2_which_91 : decode cX2_which 91 = .ok (.goto 4, 3) := dk_167 0 4 (dk_at dksX2_which_4 0 rfl rfl)
theorem dX2_which_94 : decode cX2_which 94 = .ok (.iconst 0, 1) := dk_3 (dk_at dksX2_which_4 3 rfl rfl)
theorem dX2_which_95 : decode cX2_which 95 = .ok (.istore 5, 2) := dk_54 5 (dk_at dksX2_which_4 4 rfl rfl)
theorem dX2_which_97 : decode cX2_which 97 = .ok (.iinc 6 1, 3) := dk_132 6 1 (dk_at dksX2_which_4 6 rfl rfl)
theorem dX2_which_100 : decode cX2_which 100 = .ok (.goto (-45), 3) := dk_167 255 211 (dk_at dksX2_which_4 9 rfl rfl)
theorem dX2_which_103 : decode cX2_which 103 = .ok (.iload 5, 2) := dk_21 5 (dk_at dksX2_which_4 12 rfl rfl)
theorem dX2_which_105 : decode cX2_which 105 = .ok (.ifCond .eq 5, 3) := dk_153 0 5 (dk_at dksX2_which_4 14 rfl rfl)
theorem dX2_which_108 : decode cX2_which 108 = .ok (.iload_n 2, 1) := dk_28 (dk_at dksX2_which_4 17 rfl rfl)
theorem dX2_which_109 : decode cX2_which 109 = .ok (.ireturn, 1) := dk_172 (dk_at dksX2_which_4 18 rfl rfl)
theorem dX2_which_110 : decode cX2_which 110 = .ok (.iload_n 3, 1) := dk_29 (dk_at dksX2_which_4 19 rfl rfl)
theorem dX2_which_111 : decode cX2_which 111 = .ok (.iload 4, 2) := dk_21 4 (dk_at dksX2_which_4 20 rfl rfl)
theorem dX2_which_113 : decode cX2_which 113 = .ok (.iconst 1, 1) := dk_4 (dk_at dksX2_which_4 22 rfl rfl)
theorem dX2_which_114 : decode cX2_which 114 = .ok (.iadd, 1) := dk_96 (dk_at dksX2_which_4 23 rfl rfl)
theorem dX2_which_115 : decode cX2_which 115 = .ok (.iadd, 1) := dk_96 (dk_at dksX2_which_5 0 rfl rfl)
theorem dX2_which_116 : decode cX2_which 116 = .ok (.istore_n 3, 1) := dk_62 (dk_at dksX2_which_5 1 rfl rfl)
theorem dX2_which_117 : decode cX2_which 117 = .ok (.iinc 2 1, 3) := dk_132 2 1 (dk_at dksX2_which_5 2 rfl rfl)
theorem dX2_which_120 : decode cX2_which 120 = .ok (.goto (-116), 3) := dk_167 255 140 (dk_at dksX2_which_5 5 rfl rfl)
theorem dX2_which_123 : decode cX2_which 123 = .ok (.iconst (-1), 1) := dk_2 (dk_at dksX2_which_5 8 rfl rfl)
theorem dX2_which_124 : decode cX2_which 124 = .ok (.ireturn, 1) := dk_172 (dk_at dksX2_which_5 9 rfl rfl)
def dkwX2_wrong_0 : List UInt8 := [187, 0, 55, 89, 27, 42, 180, 0, 28, 183, 0, 57, 176]
abbrev dktX2_wrong_0 : List UInt8 := dkwX2_wrong_0 ++ []
theorem dksX2_wrong_0 : cX2_wrong.data.toList.drop 0 = dktX2_wrong_0 := by decide +kernel
theorem dX2_wrong_0 : decode cX2_wrong 0 = .ok (.new 55, 3) := dk_187 0 55 (dk_at dksX2_wrong_0 0 rfl rfl)
theorem dX2_wrong_3 : decode cX2_wrong 3 = .ok (.dup, 1) := dk_89 (dk_at dksX2_wrong_0 3 rfl rfl)
theorem dX2_wrong_4 : decode cX2_wrong 4 = .ok (.iload_n 1, 1) := dk_27 (dk_at dksX2_wrong_0 4 rfl rfl)
theorem dX2_wrong_5 : decode cX2_wrong 5 = .ok (.aload_n 0, 1) := dk_42 (dk_at dksX2_wrong_0 5 rfl rfl)
theorem dX2_wrong_6 : decode cX2_wrong 6 = .ok (.getfield 28, 3) := dk_180 0 28 (dk_at dksX2_wrong_0 6 rfl rfl)
theorem dX2_wrong_9 : decode cX2_wrong 9 = .ok (.invokespecial 57, 3) := dk_183 0 57 (dk_at dksX2_wrong_0 9 rfl rfl)
theorem dX2_wrong_12 : decode cX2_wrong 12 = .ok (.areturn, 1) := dk_176 (dk_at dksX2_wrong_0 12 rfl rfl)
def dkwX2_need_0 : List UInt8 := [42, 43, 182, 0, 71, 156, 0, 9, 42, 4, 182, 0, 75, 191, 42, 182, 0, 25, 177]
abbrev dktX2_need_0 : List UInt8 := dkwX2_need_0 ++ []
theorem dksX2_need_0 : cX2_need.data.toList.drop 0 = dktX2_need_0 := by decide +kernel
theorem dX2_need_0 : decode cX2_need 0 = .ok (.aload_n 0, 1) := dk_42 (dk_at dksX2_need_0 0 rfl rfl)
theorem dX2_need_1 : decode cX2_need 1 = .ok (.aload_n 1, 1) := dk_43 (dk_at dksX2_need_0 1 rfl rfl)
theorem dX2_need_2 : decode cX2_need 2 = .ok (.invokevirtual 71, 3) := dk_182 0 71 (dk_at dksX2_need_0 2 rfl rfl)
theorem dX2_need_5 : decode cX2_need 5 = .ok (.ifCond .ge 9, 3) := dk_156 0 9 (dk_at dksX2_need_0 5 rfl rfl)
theorem dX2_need_8 : decode cX2_need 8 = .ok (.aload_n 0, 1) := dk_42 (dk_at dksX2_need_0 8 rfl rfl)
theorem dX2_need_9 : decode cX2_need 9 = .ok (.iconst 1, 1) := dk_4 (dk_at dksX2_need_0 9 rfl rfl)
theorem dX2_need_10 : decode cX2_need 10 = .ok (.invokevirtual 75, 3) := dk_182 0 75 (dk_at dksX2_need_0 10 rfl rfl)
theorem dX2_need_13 : decode cX2_need 13 = .ok (.athrow, 1) := dk_191 (dk_at dksX2_need_0 13 rfl rfl)
theorem dX2_need_14 : decode cX2_need 14 = .ok (.aload_n 0, 1) := dk_42 (dk_at dksX2_need_0 14 rfl rfl)
theorem dX2_need_15 : decode cX2_need 15 = .ok (.invokevirtual 25, 3) := dk_182 0 25 (dk_at dksX2_need_0 15 rfl rfl)
theorem dX2_need_18 : decode cX2_need 18 = .ok (.return_, 1) := dk_177 (dk_at dksX2_need_0 18 rfl rfl)
def dkwX2_expression_2 : List UInt8 := [167, 255, 215]
abbrev dktX2_expression_2 : List UInt8 := dkwX2_expression_2 ++ []
def dkwX2_expression_1 : List UInt8 := [187, 0, 135, 89, 28, 154, 0, 8, 16, 38, 167, 0, 5, 16, 124, 43, 42, 182, 0, 130, 183, 0, 137, 76]
abbrev dktX2_expression_1 : List UInt8 := dkwX2_expression_1 ++ dktX2_expression_2
def dkwX2_expression_0 : List UInt8 := [42, 182, 0, 130, 76, 42, 18, 133, 182, 0, 71, 61, 28, 156, 0, 5, 43, 176, 42, 182, 0, 25]
abbrev dktX2_expression_0 : List UInt8 := dkwX2_expression_0 ++ dktX2_expression_1
theorem dksX2_expression_0 : cX2_expression.data.toList.drop 0 = dktX2_expression_0 := by decide +kernel
theorem dksX2_expression_1 : cX2_expression.data.toList.drop 22 = dktX2_expression_1 := dk_seg dksX2_expression_0 22 rfl rfl
theorem dksX2_expression_2 : cX2_expression.data.toList.drop 46 = dktX2_expression_2 := dk_seg dksX2_expression_1 24 rfl rfl
theorem dX2_expression_0 : decode cX2_expression 0 = .ok (.aload_n 0, 1) := dk_42 (dk_at dksX2_expression_0 0 rfl rfl)
theorem dX2_expression_1 : decode cX2_expression 1 = .ok (.invokevirtual 130, 3) := dk_182 0 130 (dk_at dksX2_expression_0 1 rfl rfl)
theorem dX2_expression_4 : decode cX2_expression 4 = .ok (.astore_n 1, 1) := dk_76 (dk_at dksX2_expression_0 4 rfl rfl)
theorem dX2_expression_5 : decode cX2_expression 5 = .ok (.aload_n 0, 1) := dk_42 (dk_at dksX2_expression_0 5 rfl rfl)
theorem dX2_expression_6 : decode cX2_expression 6 = .ok (.ldc 133, 2) := dk_18 133 (dk_at dksX2_expression_0 6 rfl rfl)
theorem dX2_expression_8 : decode cX2_expression 8 = .ok (.invokevirtual 71, 3) := dk_182 0 71 (dk_at dksX2_expression_0 8 rfl rfl)
theorem dX2_expression_11 : decode cX2_expression 11 = .ok (.istore_n 2, 1) := dk_61 (dk_at dksX2_expression_0 11 rfl rfl)
theorem dX2_expression_12 : decode cX2_expression 12 = .ok (.iload_n 2, 1) := dk_28 (dk_at dksX2_expression_0 12 rfl rfl)
theorem dX2_expression_13 : decode cX2_expression 13 = .ok (.ifCond .ge 5, 3) := dk_156 0 5 (dk_at dksX2_expression_0 13 rfl rfl)
theorem dX2_expression_16 : decode cX2_expression 16 = .ok (.aload_n 1, 1) := dk_43 (dk_at dksX2_expression_0 16 rfl rfl)
theorem dX2_expression_17 : decode cX2_expression 17 = .ok (.areturn, 1) := dk_176 (dk_at dksX2_expression_0 17 rfl rfl)
theorem dX2_expression_18 : decode cX2_expression 18 = .ok (.aload_n 0, 1) := dk_42 (dk_at dksX2_expression_0 18 rfl rfl)
theorem dX2_expression_19 : decode cX2_expression 19 = .ok (.invokevirtual 25, 3) := dk_182 0 25 (dk_at dksX2_expression_0 19 rfl rfl)
theorem dX2_expression_22 : decode cX2_expression 22 = .ok (.new 135, 3) := dk_187 0 135 (dk_at dksX2_expression_1 0 rfl rfl)
theorem dX2_expression_25 : decode cX2_expression 25 = .ok (.dup, 1) := dk_89 (dk_at dksX2_expression_1 3 rfl rfl)
theorem dX2_expression_26 : decode cX2_expression 26 = .ok (.iload_n 2, 1) := dk_28 (dk_at dksX2_expression_1 4 rfl rfl)
theorem dX2_expression_27 : decode cX2_expression 27 = .ok (.ifCond .ne 8, 3) := dk_154 0 8 (dk_at dksX2_expression_1 5 rfl rfl)
theorem dX2_expression_30 : decode cX2_expression 30 = .ok (.bipush 38, 2) := dk_16 38 (dk_at dksX2_expression_1 8 rfl rfl)
theorem dX2_expression_32 : decode cX2_expression 32 = .ok (.goto 5, 3) := dk_167 0 5 (dk_at dksX2_expression_1 10 rfl rfl)
theorem dX2_expression_35 : decode cX2_expression 35 = .ok (.bipush 124, 2) := dk_16 124 (dk_at dksX2_expression_1 13 rfl rfl)
theorem dX2_expression_37 : decode cX2_expression 37 = .ok (.aload_n 1, 1) := dk_43 (dk_at dksX2_expression_1 15 rfl rfl)
theorem dX2_expression_38 : decode cX2_expression 38 = .ok (.aload_n 0, 1) := dk_42 (dk_at dksX2_expression_1 16 rfl rfl)
theorem dX2_expression_39 : decode cX2_expression 39 = .ok (.invokevirtual 130, 3) := dk_182 0 130 (dk_at dksX2_expression_1 17 rfl rfl)
theorem dX2_expression_42 : decode cX2_expression 42 = .ok (.invokespecial 137, 3) := dk_183 0 137 (dk_at dksX2_expression_1 20 rfl rfl)
theorem dX2_expression_45 : decode cX2_expression 45 = .ok (.astore_n 1, 1) := dk_76 (dk_at dksX2_expression_1 23 rfl rfl)
theorem dX2_expression_46 : decode cX2_expression 46 = .ok (.goto (-41), 3) := dk_167 255 215 (dk_at dksX2_expression_2 0 rfl rfl)
def dkwX2_test_2 : List UInt8 := [182, 0, 25, 187, 0, 135, 89, 28, 43, 42, 182, 0, 140, 183, 0, 137, 176]
abbrev dktX2_test_2 : List UInt8 := dkwX2_test_2 ++ []
def dkwX2_test_1 : List UInt8 := [182, 0, 79, 153, 0, 8, 16, 61, 167, 0, 5, 16, 32, 61, 28, 16, 32, 160, 0, 5, 43, 176, 42]
abbrev dktX2_test_1 : List UInt8 := dkwX2_test_1 ++ dktX2_test_2
def dkwX2_test_0 : List UInt8 := [42, 182, 0, 140, 76, 42, 16, 60, 182, 0, 79, 153, 0, 8, 16, 60, 167, 0, 19, 42, 16, 61]
abbrev dktX2_test_0 : List UInt8 := dkwX2_test_0 ++ dktX2_test_1
theorem dksX2_test_0 : cX2_test.data.toList.drop 0 = dktX2_test_0 := by decide +kernel
theorem dksX2_test_1 : cX2_test.data.toList.drop 22 = dktX2_test_1 := dk_seg dksX2_test_0 22 rfl rfl
theorem dksX2_test_2 : cX2_test.data.toList.drop 45 = dktX2_test_2 := dk_seg dksX2_test_1 23 rfl rfl
theorem dX2_test_0 : decode cX2_test 0 = .ok (.aload_n 0, 1) := dk_42 (dk_at dksX2_test_0 0 rfl rfl)
theorem dX2_test_1 : decode cX2_test 1 = .ok (.invokevirtual 140, 3) := dk_182 0 140 (dk_at dksX2_test_0 1 rfl rfl)
theorem dX2_test_4 : decode cX2_test 4 = .ok (.astore_n 1, 1) := dk_76 (dk_at dksX2_test_0 4 rfl rfl)
theorem dX2_test_5 : decode cX2_test 5 = .ok (.aload_n 0, 1) := dk_42 (dk_at dksX2_test_0 5 rfl rfl)
theorem dX2_test_6 : decode cX2_test 6 = .ok (.bipush 60, 2) := dk_16 60 (dk_at dksX2_test_0 6 rfl rfl)
theorem dX2_test_8 : decode cX2_test 8 = .ok (.invokevirtual 79, 3) := dk_182 0 79 (dk_at dksX2_test_0 8 rfl rfl)
theorem dX2_test_11 : decode cX2_test 11 = .ok (.ifCond .eq 8, 3) := dk_153 0 8 (dk_at dksX2_test_0 11 rfl rfl)
theorem dX2_test_14 : decode cX2_test 14 = .ok (.bipush 60, 2) := dk_16 60 (dk_at dksX2_test_0 14 rfl rfl)
theorem dX2_test_16 : decode cX2_test 16 = .ok (.goto 19, 3) := dk_167 0 19 (dk_at dksX2_test_0 16 rfl rfl)
theorem dX2_test_19 : decode cX2_test 19 = .ok (.aload_n 0, 1) := dk_42 (dk_at dksX2_test_0 19 rfl rfl)
theorem dX2_test_20 : decode cX2_test 20 = .ok (.bipush 61, 2) := dk_16 61 (dk_at dksX2_test_0 20 rfl rfl)
theorem dX2_test_22 : decode cX2_test 22 = .ok (.invokevirtual 79, 3) := dk_182 0 79 (dk_at dksX2_test_1 0 rfl rfl)
theorem dX2_test_25 : decode cX2_test 25 = .ok (.ifCond .eq 8, 3) := dk_153 0 8 (dk_at dksX2_test_1 3 rfl rfl)
theorem dX2_test_28 : decode cX2_test 28 = .ok (.bipush 61, 2) := dk_16 61 (dk_at dksX2_test_1 6 rfl rfl)
theorem dX2_test_30 : decode cX2_test 30 = .ok (.goto 5, 3) := dk_167 0 5 (dk_at dksX2_test_1 8 rfl rfl)
theorem dX2_test_33 : decode cX2_test 33 = .ok (.bipush 32, 2) := dk_16 32 (dk_at dksX2_test_1 11 rfl rfl)
theorem dX2_test_35 : decode cX2_test 35 = .ok (.istore_n 2, 1) := dk_61 (dk_at dksX2_test_1 13 rfl rfl)
theorem dX2_test_36 : decode cX2_test 36 = .ok (.iload_n 2, 1) := dk_28 (dk_at dksX2_test_1 14 rfl rfl)
theorem dX2_test_37 : decode cX2_test 37 = .ok (.bipush 32, 2) := dk_16 32 (dk_at dksX2_test_1 15 rfl rfl)
theorem dX2_test_39 : decode cX2_test 39 = .ok (.if_icmp .ne 5, 3) := dk_160 0 5 (dk_at dksX2_test_1 17 rfl rfl)
theorem dX2_test_42 : decode cX2_test 42 = .ok (.aload_n 1, 1) := dk_43 (dk_at dksX2_test_1 20 rfl rfl)
theorem dX2_test_43 : decode cX2_test 43 = .ok (.areturn, 1) := dk_176 (dk_at dksX2_test_1 21 rfl rfl)
theorem dX2_test_44 : decode cX2_test 44 = .ok (.aload_n 0, 1) := dk_42 (dk_at dksX2_test_1 22 rfl rfl)
theorem dX2_test_45 : decode cX2_test 45 = .ok (.invokevirtual 25, 3) := dk_182 0 25 (dk_at dksX2_test_2 0 rfl rfl)
theorem dX2_test_48 : decode cX2_test 48 = .ok (.new 135, 3) := dk_187 0 135 (dk_at dksX2_test_2 3 rfl rfl)
theorem dX2_test_51 : decode cX2_test 51 = .ok (.dup, 1) := dk_89 (dk_at dksX2_test_2 6 rfl rfl)
theorem dX2_test_52 : decode cX2_test 52 = .ok (.iload_n 2, 1) := dk_28 (dk_at dksX2_test_2 7 rfl rfl)
theorem dX2_test_53 : decode cX2_test 53 = .ok (.aload_n 1, 1) := dk_43 (dk_at dksX2_test_2 8 rfl rfl)
theorem dX2_test_54 : decode cX2_test 54 = .ok (.aload_n 0, 1) := dk_42 (dk_at dksX2_test_2 9 rfl rfl)
theorem dX2_test_55 : decode cX2_test 55 = .ok (.invokevirtual 140, 3) := dk_182 0 140 (dk_at dksX2_test_2 10 rfl rfl)
theorem dX2_test_58 : decode cX2_test 58 = .ok (.invokespecial 137, 3) := dk_183 0 137 (dk_at dksX2_test_2 13 rfl rfl)
theorem dX2_test_61 : decode cX2_test 61 = .ok (.areturn, 1) := dk_176 (dk_at dksX2_test_2 16 rfl rfl)
def dkwX2_sum_2 : List UInt8 := [28, 43, 42, 182, 0, 143, 183, 0, 137, 76, 167, 255, 203, 43, 176]
abbrev dktX2_sum_2 : List UInt8 := dkwX2_sum_2 ++ []
def dkwX2_sum_1 : List UInt8 := [16, 43, 182, 0, 79, 153, 0, 8, 16, 43, 167, 0, 5, 16, 45, 61, 42, 182, 0, 25, 187, 0, 135, 89]
abbrev dktX2_sum_1 : List UInt8 := dkwX2_sum_1 ++ dktX2_sum_2
def dkwX2_sum_0 : List UInt8 := [42, 182, 0, 143, 76, 42, 16, 43, 182, 0, 79, 154, 0, 12, 42, 16, 45, 182, 0, 79, 153, 0, 41, 42]
abbrev dktX2_sum_0 : List UInt8 := dkwX2_sum_0 ++ dktX2_sum_1
theorem dksX2_sum_0 : cX2_sum.data.toList.drop 0 = dktX2_sum_0 := by decide +kernel
theorem dksX2_sum_1 : cX2_sum.data.toList.drop 24 = dktX2_sum_1 := dk_seg dksX2_sum_0 24 rfl rfl
theorem dksX2_sum_2 : cX2_sum.data.toList.drop 48 = dktX2_sum_2 := dk_seg dksX2_sum_1 24 rfl rfl
theorem dX2_sum_0 : decode cX2_sum 0 = .ok (.aload_n 0, 1) := dk_42 (dk_at dksX2_sum_0 0 rfl rfl)
theorem dX2_sum_1 : decode cX2_sum 1 = .ok (.invokevirtual 143, 3) := dk_182 0 143 (dk_at dksX2_sum_0 1 rfl rfl)
theorem dX2_sum_4 : decode cX2_sum 4 = .ok (.astore_n 1, 1) := dk_76 (dk_at dksX2_sum_0 4 rfl rfl)
theorem dX2_sum_5 : decode cX2_sum 5 = .ok (.aload_n 0, 1) := dk_42 (dk_at dksX2_sum_0 5 rfl rfl)
theorem dX2_sum_6 : decode cX2_sum 6 = .ok (.bipush 43, 2) := dk_16 43 (dk_at dksX2_sum_0 6 rfl rfl)
theorem dX2_sum_8 : decode cX2_sum 8 = .ok (.invokevirtual 79, 3) := dk_182 0 79 (dk_at dksX2_sum_0 8 rfl rfl)
theorem dX2_sum_11 : decode cX2_sum 11 = .ok (.ifCond .ne 12, 3) := dk_154 0 12 (dk_at dksX2_sum_0 11 rfl rfl)
theorem dX2_sum_14 : decode cX2_sum 14 = .ok (.aload_n 0, 1) := dk_42 (dk_at dksX2_sum_0 14 rfl rfl)
theorem dX2_sum_15 : decode cX2_sum 15 = .ok (.bipush 45, 2) := dk_16 45 (dk_at dksX2_sum_0 15 rfl rfl)
theorem dX2_sum_17 : decode cX2_sum 17 = .ok (.invokevirtual 79, 3) := dk_182 0 79 (dk_at dksX2_sum_0 17 rfl rfl)
theorem dX2_sum_20 : decode cX2_sum 20 = .ok (.ifCond .eq 41, 3) := dk_153 0 41 (dk_at dksX2_sum_0 20 rfl rfl)
theorem dX2_sum_23 : decode cX2_sum 23 = .ok (.aload_n 0, 1) := dk_42 (dk_at dksX2_sum_0 23 rfl rfl)
theorem dX2_sum_24 : decode cX2_sum 24 = .ok (.bipush 43, 2) := dk_16 43 (dk_at dksX2_sum_1 0 rfl rfl)
theorem dX2_sum_26 : decode cX2_sum 26 = .ok (.invokevirtual 79, 3) := dk_182 0 79 (dk_at dksX2_sum_1 2 rfl rfl)
theorem dX2_sum_29 : decode cX2_sum 29 = .ok (.ifCond .eq 8, 3) := dk_153 0 8 (dk_at dksX2_sum_1 5 rfl rfl)
theorem dX2_sum_32 : decode cX2_sum 32 = .ok (.bipush 43, 2) := dk_16 43 (dk_at dksX2_sum_1 8 rfl rfl)
theorem dX2_sum_34 : decode cX2_sum 34 = .ok (.goto 5, 3) := dk_167 0 5 (dk_at dksX2_sum_1 10 rfl rfl)
theorem dX2_sum_37 : decode cX2_sum 37 = .ok (.bipush 45, 2) := dk_16 45 (dk_at dksX2_sum_1 13 rfl rfl)
theorem dX2_sum_39 : decode cX2_sum 39 = .ok (.istore_n 2, 1) := dk_61 (dk_at dksX2_sum_1 15 rfl rfl)
theorem dX2_sum_40 : decode cX2_sum 40 = .ok (.aload_n 0, 1) := dk_42 (dk_at dksX2_sum_1 16 rfl rfl)
theorem dX2_sum_41 : decode cX2_sum 41 = .ok (.invokevirtual 25, 3) := dk_182 0 25 (dk_at dksX2_sum_1 17 rfl rfl)
theorem dX2_sum_44 : decode cX2_sum 44 = .ok (.new 135, 3) := dk_187 0 135 (dk_at dksX2_sum_1 20 rfl rfl)
theorem dX2_sum_47 : decode cX2_sum 47 = .ok (.dup, 1) := dk_89 (dk_at dksX2_sum_1 23 rfl rfl)
theorem dX2_sum_48 : decode cX2_sum 48 = .ok (.iload_n 2, 1) := dk_28 (dk_at dksX2_sum_2 0 rfl rfl)
theorem dX2_sum_49 : decode cX2_sum 49 = .ok (.aload_n 1, 1) := dk_43 (dk_at dksX2_sum_2 1 rfl rfl)
theorem dX2_sum_50 : decode cX2_sum 50 = .ok (.aload_n 0, 1) := dk_42 (dk_at dksX2_sum_2 2 rfl rfl)
theorem dX2_sum_51 : decode cX2_sum 51 = .ok (.invokevirtual 143, 3) := dk_182 0 143 (dk_at dksX2_sum_2 3 rfl rfl)
theorem dX2_sum_54 : decode cX2_sum 54 = .ok (.invokespecial 137, 3) := dk_183 0 137 (dk_at dksX2_sum_2 6 rfl rfl)
theorem dX2_sum_57 : decode cX2_sum 57 = .ok (.astore_n 1, 1) := dk_76 (dk_at dksX2_sum_2 9 rfl rfl)
theorem dX2_sum_58 : decode cX2_sum 58 = .ok (.goto (-53), 3) := dk_167 255 203 (dk_at dksX2_sum_2 10 rfl rfl)
theorem dX2_sum_61 : decode cX2_sum 61 = .ok (.aload_n 1, 1) := dk_43 (dk_at dksX2_sum_2 13 rfl rfl)
theorem dX2_sum_62 : decode cX2_sum 62 = .ok (.areturn, 1) := dk_176 (dk_at dksX2_sum_2 14 rfl rfl)
def dkwX2_product_1 : List UInt8 := [43, 42, 182, 0, 146, 183, 0, 137, 76, 167, 255, 228, 43, 176]
abbrev dktX2_product_1 : List UInt8 := dkwX2_product_1 ++ []
def dkwX2_product_0 : List UInt8 := [42, 182, 0, 146, 76, 42, 16, 42, 182, 0, 79, 153, 0, 25, 42, 182, 0, 25, 187, 0, 135, 89, 16, 42]
abbrev dktX2_product_0 : List UInt8 := dkwX2_product_0 ++ dktX2_product_1
theorem dksX2_product_0 : cX2_product.data.toList.drop 0 = dktX2_product_0 := by decide +kernel
theorem dksX2_product_1 : cX2_product.data.toList.drop 24 = dktX2_product_1 := dk_seg dksX2_product_0 24 rfl rfl
theorem dX2_product_0 : decode cX2_product 0 = .ok (.aload_n 0, 1) := dk_42 (dk_at dksX2_product_0 0 rfl rfl)
theorem dX2_product_1 : decode cX2_product 1 = .ok (.invokevirtual 146, 3) := dk_182 0 146 (dk_at dksX2_product_0 1 rfl rfl)
theorem dX2_product_4 : decode cX2_product 4 = .ok (.astore_n 1, 1) := dk_76 (dk_at dksX2_product_0 4 rfl rfl)
theorem dX2_product_5 : decode cX2_product 5 = .ok (.aload_n 0, 1) := dk_42 (dk_at dksX2_product_0 5 rfl rfl)
theorem dX2_product_6 : decode cX2_product 6 = .ok (.bipush 42, 2) := dk_16 42 (dk_at dksX2_product_0 6 rfl rfl)
theorem dX2_product_8 : decode cX2_product 8 = .ok (.invokevirtual 79, 3) := dk_182 0 79 (dk_at dksX2_product_0 8 rfl rfl)
theorem dX2_product_11 : decode cX2_product 11 = .ok (.ifCond .eq 25, 3) := dk_153 0 25 (dk_at dksX2_product_0 11 rfl rfl)
theorem dX2_product_14 : decode cX2_product 14 = .ok (.aload_n 0, 1) := dk_42 (dk_at dksX2_product_0 14 rfl rfl)
theorem dX2_product_15 : decode cX2_product 15 = .ok (.invokevirtual 25, 3) := dk_182 0 25 (dk_at dksX2_product_0 15 rfl rfl)
theorem dX2_product_18 : decode cX2_product 18 = .ok (.new 135, 3) := dk_187 0 135 (dk_at dksX2_product_0 18 rfl rfl)
theorem dX2_product_21 : decode cX2_product 21 = .ok (.dup, 1) := dk_89 (dk_at dksX2_product_0 21 rfl rfl)
theorem dX2_product_22 : decode cX2_product 22 = .ok (.bipush 42, 2) := dk_16 42 (dk_at dksX2_product_0 22 rfl rfl)
theorem dX2_product_24 : decode cX2_product 24 = .ok (.aload_n 1, 1) := dk_43 (dk_at dksX2_product_1 0 rfl rfl)
theorem dX2_product_25 : decode cX2_product 25 = .ok (.aload_n 0, 1) := dk_42 (dk_at dksX2_product_1 1 rfl rfl)
theorem dX2_product_26 : decode cX2_product 26 = .ok (.invokevirtual 146, 3) := dk_182 0 146 (dk_at dksX2_product_1 2 rfl rfl)
theorem dX2_product_29 : decode cX2_product 29 = .ok (.invokespecial 137, 3) := dk_183 0 137 (dk_at dksX2_product_1 5 rfl rfl)
theorem dX2_product_32 : decode cX2_product 32 = .ok (.astore_n 1, 1) := dk_76 (dk_at dksX2_product_1 8 rfl rfl)
theorem dX2_product_33 : decode cX2_product 33 = .ok (.goto (-28), 3) := dk_167 255 228 (dk_at dksX2_product_1 9 rfl rfl)
theorem dX2_product_36 : decode cX2_product 36 = .ok (.aload_n 1, 1) := dk_43 (dk_at dksX2_product_1 12 rfl rfl)
theorem dX2_product_37 : decode cX2_product 37 = .ok (.areturn, 1) := dk_176 (dk_at dksX2_product_1 13 rfl rfl)
def dkwX2_part_7 : List UInt8 := [181, 0, 22, 25, 4, 176]
abbrev dktX2_part_7 : List UInt8 := dkwX2_part_7 ++ []
def dkwX2_part_6 : List UInt8 := [182, 0, 104, 58, 4, 29, 153, 0, 9, 42, 16, 41, 182, 0, 108, 42, 89, 180, 0, 22, 4, 100]
abbrev dktX2_part_6 : List UInt8 := dkwX2_part_6 ++ dktX2_part_7
def dkwX2_part_5 : List UInt8 := [181, 0, 22, 28, 153, 0, 17, 187, 0, 159, 89, 42, 182, 0, 146, 183, 0, 161, 167, 0, 7, 42]
abbrev dktX2_part_5 : List UInt8 := dkwX2_part_5 ++ dktX2_part_6
def dkwX2_part_4 : List UInt8 := [182, 0, 25, 27, 155, 0, 12, 187, 0, 156, 89, 27, 183, 0, 158, 176, 42, 89, 180, 0, 22, 4, 96]
abbrev dktX2_part_4 : List UInt8 := dkwX2_part_4 ++ dktX2_part_5
def dkwX2_part_3 : List UInt8 := [180, 0, 31, 5, 160, 0, 19, 187, 0, 151, 89, 42, 3, 17, 39, 15, 182, 0, 122, 183, 0, 153, 176, 42]
abbrev dktX2_part_3 : List UInt8 := dkwX2_part_3 ++ dktX2_part_4
def dkwX2_part_2 : List UInt8 := [159, 0, 9, 42, 4, 182, 0, 75, 191, 42, 180, 0, 22, 8, 160, 0, 9, 42, 8, 182, 0, 75, 191, 42]
abbrev dktX2_part_2 : List UInt8 := dkwX2_part_2 ++ dktX2_part_3
def dkwX2_part_1 : List UInt8 := [42, 16, 40, 182, 0, 79, 62, 27, 156, 0, 25, 28, 154, 0, 21, 29, 154, 0, 17, 42, 180, 0, 31, 5]
abbrev dktX2_part_1 : List UInt8 := dkwX2_part_1 ++ dktX2_part_2
def dkwX2_part_0 : List UInt8 := [42, 42, 180, 0, 88, 182, 0, 71, 60, 42, 18, 149, 182, 0, 71, 155, 0, 7, 4, 167, 0, 4, 3, 61]
abbrev dktX2_part_0 : List UInt8 := dkwX2_part_0 ++ dktX2_part_1
theorem dksX2_part_0 : cX2_part.data.toList.drop 0 = dktX2_part_0 := by decide +kernel
theorem dksX2_part_1 : cX2_part.data.toList.drop 24 = dktX2_part_1 := dk_seg dksX2_part_0 24 rfl rfl
theorem dksX2_part_2 : cX2_part.data.toList.drop 48 = dktX2_part_2 := dk_seg dksX2_part_1 24 rfl rfl
theorem dksX2_part_3 : cX2_part.data.toList.drop 72 = dktX2_part_3 := dk_seg dksX2_part_2 24 rfl rfl
theorem dksX2_part_4 : cX2_part.data.toList.drop 96 = dktX2_part_4 := dk_seg dksX2_part_3 24 rfl rfl
theorem dksX2_part_5 : cX2_part.data.toList.drop 119 = dktX2_part_5 := dk_seg dksX2_part_4 23 rfl rfl
theorem dksX2_part_6 : cX2_part.data.toList.drop 141 = dktX2_part_6 := dk_seg dksX2_part_5 22 rfl rfl
theorem dksX2_part_7 : cX2_part.data.toList.drop 163 = dktX2_part_7 := dk_seg dksX2_part_6 22 rfl rfl
theorem dX2_part_0 : decode cX2_part 0 = .ok (.aload_n 0, 1) := dk_42 (dk_at dksX2_part_0 0 rfl rfl)
theorem dX2_part_1 : decode cX2_part 1 = .ok (.aload_n 0, 1) := dk_42 (dk_at dksX2_part_0 1 rfl rfl)
theorem dX2_part_2 : decode cX2_part 2 = .ok (.getfield 88, 3) := dk_180 0 88 (dk_at dksX2_part_0 2 rfl rfl)
theorem dX2_part_5 : decode cX2_part 5 = .ok (.invokevirtual 71, 3) := dk_182 0 71 (dk_at dksX2_part_0 5 rfl rfl)
theorem dX2_part_8 : decode cX2_part 8 = .ok (.istore_n 1, 1) := dk_60 (dk_at dksX2_part_0 8 rfl rfl)
theorem dX2_part_9 : decode cX2_part 9 = .ok (.aload_n 0, 1) := dk_42 (dk_at dksX2_part_0 9 rfl rfl)
theorem dX2_part_10 : decode cX2_part 10 = .ok (.ldc 149, 2) := dk_18 149 (dk_at dksX2_part_0 10 rfl rfl)
theorem dX2_part_12 : decode cX2_part 12 = .ok (.invokevirtual 71, 3) := dk_182 0 71 (dk_at dksX2_part_0 12 rfl rfl)
theorem dX2_part_15 : decode cX2_part 15 = .ok (.ifCond .lt 7, 3) := dk_155 0 7 (dk_at dksX2_part_0 15 rfl rfl)
theorem dX2_part_18 : decode cX2_part 18 = .ok (.iconst 1, 1) := dk_4 (dk_at dksX2_part_0 18 rfl rfl)
theorem dX2_part_19 : decode cX2_part 19 = .ok (.goto 4, 3) := dk_167 0 4 (dk_at dksX2_part_0 19 rfl rfl)
theorem dX2_part_22 : decode cX2_part 22 = .ok (.iconst 0, 1) := dk_3 (dk_at dksX2_part_0 22 rfl rfl)
theorem dX2_part_23 : decode cX2_part 23 = .ok (.istore_n 2, 1) := dk_61 (dk_at dksX2_part_0 23 rfl rfl)
theorem dX2_part_24 : decode cX2_part 24 = .ok (.aload_n 0, 1) := dk_42 (dk_at dksX2_part_1 0 rfl rfl)
theorem dX2_part_25 : decode cX2_part 25 = .ok (.bipush 40, 2) := dk_16 40 (dk_at dksX2_part_1 1 rfl rfl)
theorem dX2_part_27 : decode cX2_part 27 = .ok (.invokevirtual 79, 3) := dk_182 0 79 (dk_at dksX2_part_1 3 rfl rfl)
theorem dX2_part_30 : decode cX2_part 30 = .ok (.istore_n 3, 1) := dk_62 (dk_at dksX2_part_1 6 rfl rfl)
theorem dX2_part_31 : decode cX2_part 31 = .ok (.iload_n 1, 1) := dk_27 (dk_at dksX2_part_1 7 rfl rfl)
theorem dX2_part_32 : decode cX2_part 32 = .ok (.ifCond .ge 25, 3) := dk_156 0 25 (dk_at dksX2_part_1 8 rfl rfl)
theorem dX2_part_35 : decode cX2_part 35 = .ok (.iload_n 2, 1) := dk_28 (dk_at dksX2_part_1 11 rfl rfl)
theorem dX2_part_36 : decode cX2_part 36 = .ok (.ifCond .ne 21, 3) := dk_154 0 21 (dk_at dksX2_part_1 12 rfl rfl)
theorem dX2_part_39 : decode cX2_part 39 = .ok (.iload_n 3, 1) := dk_29 (dk_at dksX2_part_1 15 rfl rfl)
theorem dX2_part_40 : decode cX2_part 40 = .ok (.ifCond .ne 17, 3) := dk_154 0 17 (dk_at dksX2_part_1 16 rfl rfl)
theorem dX2_part_43 : decode cX2_part 43 = .ok (.aload_n 0, 1) := dk_42 (dk_at dksX2_part_1 19 rfl rfl)
theorem dX2_part_44 : decode cX2_part 44 = .ok (.getfield 31, 3) := dk_180 0 31 (dk_at dksX2_part_1 20 rfl rfl)
theorem dX2_part_47 : decode cX2_part 47 = .ok (.iconst 2, 1) := dk_5 (dk_at dksX2_part_1 23 rfl rfl)
theorem dX2_part_48 : decode cX2_part 48 = .ok (.if_icmp .eq 9, 3) := dk_159 0 9 (dk_at dksX2_part_2 0 rfl rfl)
theorem dX2_part_51 : decode cX2_part 51 = .ok (.aload_n 0, 1) := dk_42 (dk_at dksX2_part_2 3 rfl rfl)
theorem dX2_part_52 : decode cX2_part 52 = .ok (.iconst 1, 1) := dk_4 (dk_at dksX2_part_2 4 rfl rfl)
theorem dX2_part_53 : decode cX2_part 53 = .ok (.invokevirtual 75, 3) := dk_182 0 75 (dk_at dksX2_part_2 5 rfl rfl)
theorem dX2_part_56 : decode cX2_part 56 = .ok (.athrow, 1) := dk_191 (dk_at dksX2_part_2 8 rfl rfl)
theorem dX2_part_57 : decode cX2_part 57 = .ok (.aload_n 0, 1) := dk_42 (dk_at dksX2_part_2 9 rfl rfl)
theorem dX2_part_58 : decode cX2_part 58 = .ok (.getfield 22, 3) := dk_180 0 22 (dk_at dksX2_part_2 10 rfl rfl)
theorem dX2_part_61 : decode cX2_part 61 = .ok (.iconst 5, 1) := dk_8 (dk_at dksX2_part_2 13 rfl rfl)
theorem dX2_part_62 : decode cX2_part 62 = .ok (.if_icmp .ne 9, 3) := dk_160 0 9 (dk_at dksX2_part_2 14 rfl rfl)
theorem dX2_part_65 : decode cX2_part 65 = .ok (.aload_n 0, 1) := dk_42 (dk_at dksX2_part_2 17 rfl rfl)
theorem dX2_part_66 : decode cX2_part 66 = .ok (.iconst 5, 1) := dk_8 (dk_at dksX2_part_2 18 rfl rfl)
theorem dX2_part_67 : decode cX2_part 67 = .ok (.invokevirtual 75, 3) := dk_182 0 75 (dk_at dksX2_part_2 19 rfl rfl)
theorem dX2_part_70 : decode cX2_part 70 = .ok (.athrow, 1) := dk_191 (dk_at dksX2_part_2 22 rfl rfl)
theorem dX2_part_71 : decode cX2_part 71 = .ok (.aload_n 0, 1) := dk_42 (dk_at dksX2_part_2 23 rfl rfl)
theorem dX2_part_72 : decode cX2_part 72 = .ok (.getfield 31, 3) := dk_180 0 31 (dk_at dksX2_part_3 0 rfl rfl)
theorem dX2_part_75 : decode cX2_part 75 = .ok (.iconst 2, 1) := dk_5 (dk_at dksX2_part_3 3 rfl rfl)
theorem dX2_part_76 : decode cX2_part 76 = .ok (.if_icmp .ne 19, 3) := dk_160 0 19 (dk_at dksX2_part_3 4 rfl rfl)
theorem dX2_part_79 : decode cX2_part 79 = .ok (.new 151, 3) := dk_187 0 151 (dk_at dksX2_part_3 7 rfl rfl)
theorem dX2_part_82 : decode cX2_part 82 = .ok (.dup, 1) := dk_89 (dk_at dksX2_part_3 10 rfl rfl)
theorem dX2_part_83 : decode cX2_part 83 = .ok (.aload_n 0, 1) := dk_42 (dk_at dksX2_part_3 11 rfl rfl)
theorem dX2_part_84 : decode cX2_part 84 = .ok (.iconst 0, 1) := dk_3 (dk_at dksX2_part_3 12 rfl rfl)
theorem dX2_part_85 : decode cX2_part 85 = .ok (.sipush 9999, 3) := dk_17 39 15 (dk_at dksX2_part_3 13 rfl rfl)
theorem dX2_part_88 : decode cX2_part 88 = .ok (.invokevirtual 122, 3) := dk_182 0 122 (dk_at dksX2_part_3 16 rfl rfl)
theorem dX2_part_91 : decode cX2_part 91 = .ok (.invokespecial 153, 3) := dk_183 0 153 (dk_at dksX2_part_3 19 rfl rfl)
theorem dX2_part_94 : decode cX2_part 94 = .ok (.areturn, 1) := dk_176 (dk_at dksX2_part_3 22 rfl rfl)
theorem dX2_part_95 : decode cX2_part 95 = .ok (.aload_n 0, 1) := dk_42 (dk_at dksX2_part_3 23 rfl rfl)
theorem dX2_part_96 : decode cX2_part 96 = .ok (.invokevirtual 25, 3) := dk_182 0 25 (dk_at dksX2_part_4 0 rfl rfl)
theorem dX2_part_99 : decode cX2_part 99 = .ok (.iload_n 1, 1) := dk_27 (dk_at dksX2_part_4 3 rfl rfl)
theorem dX2_part_100 : decode cX2_part 100 = .ok (.ifCond .lt 12, 3) := dk_155 0 12 (dk_at dksX2_part_4 4 rfl rfl)
theorem dX2_part_103 : decode cX2_part 103 = .ok (.new 156, 3) := dk_187 0 156 (dk_at dksX2_part_4 7 rfl rfl)
theorem dX2_part_106 : decode cX2_part 106 = .ok (.dup, 1) := dk_89 (dk_at dksX2_part_4 10 rfl rfl)
theorem dX2_part_107 : decode cX2_part 107 = .ok (.iload_n 1, 1) := dk_27 (dk_at dksX2_part_4 11 rfl rfl)
theorem dX2_part_108 : decode cX2_part 108 = .ok (.invokespecial 158, 3) := dk_183 0 158 (dk_at dksX2_part_4 12 rfl rfl)
theorem dX2_part_111 : decode cX2_part 111 = .ok (.areturn, 1) := dk_176 (dk_at dksX2_part_4 15 rfl rfl)
theorem dX2_part_112 : decode cX2_part 112 = .ok (.aload_n 0, 1) := dk_42 (dk_at dksX2_part_4 16 rfl rfl)
theorem dX2_part_113 : decode cX2_part 113 = .ok (.dup, 1) := dk_89 (dk_at dksX2_part_4 17 rfl rfl)
theorem dX2_part_114 : decode cX2_part 114 = .ok (.getfield 22, 3) := dk_180 0 22 (dk_at dksX2_part_4 18 rfl rfl)
theorem dX2_part_117 : decode cX2_part 117 = .ok (.iconst 1, 1) := dk_4 (dk_at dksX2_part_4 21 rfl rfl)
theorem dX2_part_118 : decode cX2_part 118 = .ok (.iadd, 1) := dk_96 (dk_at dksX2_part_4 22 rfl rfl)
theorem dX2_part_119 : decode cX2_part 119 = .ok (.putfield 22, 3) := dk_181 0 22 (dk_at dksX2_part_5 0 rfl rfl)
theorem dX2_part_122 : decode cX2_part 122 = .ok (.iload_n 2, 1) := dk_28 (dk_at dksX2_part_5 3 rfl rfl)
theorem dX2_part_123 : decode cX2_part 123 = .ok (.ifCond .eq 17, 3) := dk_153 0 17 (dk_at dksX2_part_5 4 rfl rfl)
theorem dX2_part_126 : decode cX2_part 126 = .ok (.new 159, 3) := dk_187 0 159 (dk_at dksX2_part_5 7 rfl rfl)
theorem dX2_part_129 : decode cX2_part 129 = .ok (.dup, 1) := dk_89 (dk_at dksX2_part_5 10 rfl rfl)
theorem dX2_part_130 : decode cX2_part 130 = .ok (.aload_n 0, 1) := dk_42 (dk_at dksX2_part_5 11 rfl rfl)
theorem dX2_part_131 : decode cX2_part 131 = .ok (.invokevirtual 146, 3) := dk_182 0 146 (dk_at dksX2_part_5 12 rfl rfl)
theorem dX2_part_134 : decode cX2_part 134 = .ok (.invokespecial 161, 3) := dk_183 0 161 (dk_at dksX2_part_5 15 rfl rfl)
theorem dX2_part_137 : decode cX2_part 137 = .ok (.goto 7, 3) := dk_167 0 7 (dk_at dksX2_part_5 18 rfl rfl)
theorem dX2_part_140 : decode cX2_part 140 = .ok (.aload_n 0, 1) := dk_42 (dk_at dksX2_part_5 21 rfl rfl)
theorem dX2_part_141 : decode cX2_part 141 = .ok (.invokevirtual 104, 3) := dk_182 0 104 (dk_at dksX2_part_6 0 rfl rfl)
theorem dX2_part_144 : decode cX2_part 144 = .ok (.astore 4, 2) := dk_58 4 (dk_at dksX2_part_6 3 rfl rfl)
theorem dX2_part_146 : decode cX2_part 146 = .ok (.iload_n 3, 1) := dk_29 (dk_at dksX2_part_6 5 rfl rfl)
theorem dX2_part_147 : decode cX2_part 147 = .ok (.ifCond .eq 9, 3) := dk_153 0 9 (dk_at dksX2_part_6 6 rfl rfl)
theorem dX2_part_150 : decode cX2_part 150 = .ok (.aload_n 0, 1) := dk_42 (dk_at dksX2_part_6 9 rfl rfl)
theorem dX2_part_151 : decode cX2_part 151 = .ok (.bipush 41, 2) := dk_16 41 (dk_at dksX2_part_6 10 rfl rfl)
theorem dX2_part_153 : decode cX2_part 153 = .ok (.invokevirtual 108, 3) := dk_182 0 108 (dk_at dksX2_part_6 12 rfl rfl)
theorem dX2_part_156 : decode cX2_part 156 = .ok (.aload_n 0, 1) := dk_42 (dk_at dksX2_part_6 15 rfl rfl)
theorem dX2_part_157 : decode cX2_part 157 = .ok (.dup, 1) := dk_89 (dk_at dksX2_part_6 16 rfl rfl)
theorem dX2_part_158 : decode cX2_part 158 = .ok (.getfield 22, 3) := dk_180 0 22 (dk_at dksX2_part_6 17 rfl rfl)
theorem dX2_part_161 : decode cX2_part 161 = .ok (.iconst 1, 1) := dk_4 (dk_at dksX2_part_6 20 rfl rfl)
theorem dX2_part_162 : decode cX2_part 162 = .ok (.isub, 1) := dk_100 (dk_at dksX2_part_6 21 rfl rfl)
theorem dX2_part_163 : decode cX2_part 163 = .ok (.putfield 22, 3) := dk_181 0 22 (dk_at dksX2_part_7 0 rfl rfl)
theorem dX2_part_166 : decode cX2_part 166 = .ok (.aload 4, 2) := dk_25 4 (dk_at dksX2_part_7 3 rfl rfl)
theorem dX2_part_168 : decode cX2_part 168 = .ok (.areturn, 1) := dk_176 (dk_at dksX2_part_7 5 rfl rfl)
def dkwX2_isSign_1 : List UInt8 := [167, 0, 4, 3, 172]
abbrev dktX2_isSign_1 : List UInt8 := dkwX2_isSign_1 ++ []
def dkwX2_isSign_0 : List UInt8 := [42, 180, 0, 31, 6, 160, 0, 20, 42, 180, 0, 9, 42, 180, 0, 28, 51, 27, 160, 0, 7, 4]
abbrev dktX2_isSign_0 : List UInt8 := dkwX2_isSign_0 ++ dktX2_isSign_1
theorem dksX2_isSign_0 : cX2_isSign.data.toList.drop 0 = dktX2_isSign_0 := by decide +kernel
theorem dksX2_isSign_1 : cX2_isSign.data.toList.drop 22 = dktX2_isSign_1 := dk_seg dksX2_isSign_0 22 rfl rfl
theorem dX2_isSign_0 : decode cX2_isSign 0 = .ok (.aload_n 0, 1) := dk_42 (dk_at dksX2_isSign_0 0 rfl rfl)
theorem dX2_isSign_1 : decode cX2_isSign 1 = .ok (.getfield 31, 3) := dk_180 0 31 (dk_at dksX2_isSign_0 1 rfl rfl)
theorem dX2_isSign_4 : decode cX2_isSign 4 = .ok (.iconst 3, 1) := dk_6 (dk_at dksX2_isSign_0 4 rfl rfl)
theorem dX2_isSign_5 : decode cX2_isSign 5 = .ok (.if_icmp .ne 20, 3) := dk_160 0 20 (dk_at dksX2_isSign_0 5 rfl rfl)
theorem dX2_isSign_8 : decode cX2_isSign 8 = .ok (.aload_n 0, 1) := dk_42 (dk_at dksX2_isSign_0 8 rfl rfl)
theorem dX2_isSign_9 : decode cX2_isSign 9 = .ok (.getfield 9, 3) := dk_180 0 9 (dk_at dksX2_isSign_0 9 rfl rfl)
theorem dX2_isSign_12 : decode cX2_isSign 12 = .ok (.aload_n 0, 1) := dk_42 (dk_at dksX2_isSign_0 12 rfl rfl)
theorem dX2_isSign_13 : decode cX2_isSign 13 = .ok (.getfield 28, 3) := dk_180 0 28 (dk_at dksX2_isSign_0 13 rfl rfl)
theorem dX2_isSign_16 : decode cX2_isSign 16 = .ok (.baload, 1) := dk_51 (dk_at dksX2_isSign_0 16 rfl rfl)
theorem dX2_isSign_17 : decode cX2_isSign 17 = .ok (.iload_n 1, 1) := dk_27 (dk_at dksX2_isSign_0 17 rfl rfl)
theorem dX2_isSign_18 : decode cX2_isSign 18 = .ok (.if_icmp .ne 7, 3) := dk_160 0 7 (dk_at dksX2_isSign_0 18 rfl rfl)
theorem dX2_isSign_21 : decode cX2_isSign 21 = .ok (.iconst 1, 1) := dk_4 (dk_at dksX2_isSign_0 21 rfl rfl)
theorem dX2_isSign_22 : decode cX2_isSign 22 = .ok (.goto 4, 3) := dk_167 0 4 (dk_at dksX2_isSign_1 0 rfl rfl)
theorem dX2_isSign_25 : decode cX2_isSign 25 = .ok (.iconst 0, 1) := dk_3 (dk_at dksX2_isSign_1 3 rfl rfl)
theorem dX2_isSign_26 : decode cX2_isSign 26 = .ok (.ireturn, 1) := dk_172 (dk_at dksX2_isSign_1 4 rfl rfl)
def dkwX2_number_1 : List UInt8 := [180, 0, 45, 28, 164, 0, 9, 42, 7, 182, 0, 75, 191, 42, 180, 0, 45, 62, 42, 182, 0, 25, 29, 172]
abbrev dktX2_number_1 : List UInt8 := dkwX2_number_1 ++ []
def dkwX2_number_0 : List UInt8 := [42, 180, 0, 31, 5, 159, 0, 9, 42, 4, 182, 0, 75, 191, 42, 180, 0, 45, 27, 161, 0, 11, 42]
abbrev dktX2_number_0 : List UInt8 := dkwX2_number_0 ++ dktX2_number_1
theorem dksX2_number_0 : cX2_number.data.toList.drop 0 = dktX2_number_0 := by decide +kernel
theorem dksX2_number_1 : cX2_number.data.toList.drop 23 = dktX2_number_1 := dk_seg dksX2_number_0 23 rfl rfl
theorem dX2_number_0 : decode cX2_number 0 = .ok (.aload_n 0, 1) := dk_42 (dk_at dksX2_number_0 0 rfl rfl)
theorem dX2_number_1 : decode cX2_number 1 = .ok (.getfield 31, 3) := dk_180 0 31 (dk_at dksX2_number_0 1 rfl rfl)
theorem dX2_number_4 : decode cX2_number 4 = .ok (.iconst 2, 1) := dk_5 (dk_at dksX2_number_0 4 rfl rfl)
theorem dX2_number_5 : decode cX2_number 5 = .ok (.if_icmp .eq 9, 3) := dk_159 0 9 (dk_at dksX2_number_0 5 rfl rfl)
theorem dX2_number_8 : decode cX2_number 8 = .ok (.aload_n 0, 1) := dk_42 (dk_at dksX2_number_0 8 rfl rfl)
theorem dX2_number_9 : decode cX2_number 9 = .ok (.iconst 1, 1) := dk_4 (dk_at dksX2_number_0 9 rfl rfl)
theorem dX2_number_10 : decode cX2_number 10 = .ok (.invokevirtual 75, 3) := dk_182 0 75 (dk_at dksX2_number_0 10 rfl rfl)
theorem dX2_number_13 : decode cX2_number 13 = .ok (.athrow, 1) := dk_191 (dk_at dksX2_number_0 13 rfl rfl)
theorem dX2_number_14 : decode cX2_number 14 = .ok (.aload_n 0, 1) := dk_42 (dk_at dksX2_number_0 14 rfl rfl)
theorem dX2_number_15 : decode cX2_number 15 = .ok (.getfield 45, 3) := dk_180 0 45 (dk_at dksX2_number_0 15 rfl rfl)
theorem dX2_number_18 : decode cX2_number 18 = .ok (.iload_n 1, 1) := dk_27 (dk_at dksX2_number_0 18 rfl rfl)
theorem dX2_number_19 : decode cX2_number 19 = .ok (.if_icmp .lt 11, 3) := dk_161 0 11 (dk_at dksX2_number_0 19 rfl rfl)
theorem dX2_number_22 : decode cX2_number 22 = .ok (.aload_n 0, 1) := dk_42 (dk_at dksX2_number_0 22 rfl rfl)
theorem dX2_number_23 : decode cX2_number 23 = .ok (.getfield 45, 3) := dk_180 0 45 (dk_at dksX2_number_1 0 rfl rfl)
theorem dX2_number_26 : decode cX2_number 26 = .ok (.iload_n 2, 1) := dk_28 (dk_at dksX2_number_1 3 rfl rfl)
theorem dX2_number_27 : decode cX2_number 27 = .ok (.if_icmp .le 9, 3) := dk_164 0 9 (dk_at dksX2_number_1 4 rfl rfl)
theorem dX2_number_30 : decode cX2_number 30 = .ok (.aload_n 0, 1) := dk_42 (dk_at dksX2_number_1 7 rfl rfl)
theorem dX2_number_31 : decode cX2_number 31 = .ok (.iconst 4, 1) := dk_7 (dk_at dksX2_number_1 8 rfl rfl)
theorem dX2_number_32 : decode cX2_number 32 = .ok (.invokevirtual 75, 3) := dk_182 0 75 (dk_at dksX2_number_1 9 rfl rfl)
theorem dX2_number_35 : decode cX2_number 35 = .ok (.athrow, 1) := dk_191 (dk_at dksX2_number_1 12 rfl rfl)
theorem dX2_number_36 : decode cX2_number 36 = .ok (.aload_n 0, 1) := dk_42 (dk_at dksX2_number_1 13 rfl rfl)
theorem dX2_number_37 : decode cX2_number 37 = .ok (.getfield 45, 3) := dk_180 0 45 (dk_at dksX2_number_1 14 rfl rfl)
theorem dX2_number_40 : decode cX2_number 40 = .ok (.istore_n 3, 1) := dk_62 (dk_at dksX2_number_1 17 rfl rfl)
theorem dX2_number_41 : decode cX2_number 41 = .ok (.aload_n 0, 1) := dk_42 (dk_at dksX2_number_1 18 rfl rfl)
theorem dX2_number_42 : decode cX2_number 42 = .ok (.invokevirtual 25, 3) := dk_182 0 25 (dk_at dksX2_number_1 19 rfl rfl)
theorem dX2_number_45 : decode cX2_number 45 = .ok (.iload_n 3, 1) := dk_29 (dk_at dksX2_number_1 22 rfl rfl)
theorem dX2_number_46 : decode cX2_number 46 = .ok (.ireturn, 1) := dk_172 (dk_at dksX2_number_1 23 rfl rfl)
def dkwX2_need_2_0 : List UInt8 := [42, 27, 182, 0, 79, 154, 0, 9, 42, 4, 182, 0, 75, 191, 42, 182, 0, 25, 177]
abbrev dktX2_need_2_0 : List UInt8 := dkwX2_need_2_0 ++ []
theorem dksX2_need_2_0 : cX2_need_2.data.toList.drop 0 = dktX2_need_2_0 := by decide +kernel
theorem dX2_need_2_0 : decode cX2_need_2 0 = .ok (.aload_n 0, 1) := dk_42 (dk_at dksX2_need_2_0 0 rfl rfl)
theorem dX2_need_2_1 : decode cX2_need_2 1 = .ok (.iload_n 1, 1) := dk_27 (dk_at dksX2_need_2_0 1 rfl rfl)
theorem dX2_need_2_2 : decode cX2_need_2 2 = .ok (.invokevirtual 79, 3) := dk_182 0 79 (dk_at dksX2_need_2_0 2 rfl rfl)
theorem dX2_need_2_5 : decode cX2_need_2 5 = .ok (.ifCond .ne 9, 3) := dk_154 0 9 (dk_at dksX2_need_2_0 5 rfl rfl)
theorem dX2_need_2_8 : decode cX2_need_2 8 = .ok (.aload_n 0, 1) := dk_42 (dk_at dksX2_need_2_0 8 rfl rfl)
theorem dX2_need_2_9 : decode cX2_need_2 9 = .ok (.iconst 1, 1) := dk_4 (dk_at dksX2_need_2_0 9 rfl rfl)
theorem dX2_need_2_10 : decode cX2_need_2 10 = .ok (.invokevirtual 75, 3) := dk_182 0 75 (dk_at dksX2_need_2_0 10 rfl rfl)
theorem dX2_need_2_13 : decode cX2_need_2 13 = .ok (.athrow, 1) := dk_191 (dk_at dksX2_need_2_0 13 rfl rfl)
theorem dX2_need_2_14 : decode cX2_need_2 14 = .ok (.aload_n 0, 1) := dk_42 (dk_at dksX2_need_2_0 14 rfl rfl)
theorem dX2_need_2_15 : decode cX2_need_2 15 = .ok (.invokevirtual 25, 3) := dk_182 0 25 (dk_at dksX2_need_2_0 15 rfl rfl)
theorem dX2_need_2_18 : decode cX2_need_2 18 = .ok (.return_, 1) := dk_177 (dk_at dksX2_need_2_0 18 rfl rfl)
def dkwX2_writer_6 : List UInt8 := [167, 255, 131, 43, 176]
abbrev dktX2_writer_6 : List UInt8 := dkwX2_writer_6 ++ []
def dkwX2_writer_5 : List UInt8 := [181, 0, 126, 167, 0, 14, 43, 42, 3, 16, 10, 182, 0, 122, 181, 0, 127, 42, 16, 59, 182, 0, 108]
abbrev dktX2_writer_5 : List UInt8 := dkwX2_writer_5 ++ dktX2_writer_6
def dkwX2_writer_4 : List UInt8 := [16, 11, 182, 0, 122, 181, 0, 125, 167, 0, 33, 29, 5, 160, 0, 17, 43, 42, 3, 16, 11, 182, 0, 122]
abbrev dktX2_writer_4 : List UInt8 := dkwX2_writer_4 ++ dktX2_writer_5
def dkwX2_writer_3 : List UInt8 := [18, 98, 182, 0, 100, 43, 42, 182, 0, 104, 181, 0, 118, 167, 0, 52, 29, 4, 160, 0, 17, 43, 42, 3]
abbrev dktX2_writer_3 : List UInt8 := dkwX2_writer_3 ++ dktX2_writer_4
def dkwX2_writer_2 : List UInt8 := [160, 0, 9, 42, 6, 182, 0, 75, 191, 28, 4, 29, 120, 128, 61, 42, 182, 0, 25, 29, 154, 0, 20, 42]
abbrev dktX2_writer_2 : List UInt8 := dkwX2_writer_2 ++ dktX2_writer_3
def dkwX2_writer_1 : List UInt8 := [18, 116, 182, 0, 71, 62, 29, 156, 0, 9, 42, 4, 182, 0, 75, 191, 28, 29, 122, 4, 126, 4]
abbrev dktX2_writer_1 : List UInt8 := dkwX2_writer_1 ++ dktX2_writer_2
def dkwX2_writer_0 : List UInt8 := [187, 0, 111, 89, 183, 0, 113, 76, 3, 61, 42, 18, 114, 181, 0, 88, 42, 180, 0, 31, 153, 0, 124, 42]
abbrev dktX2_writer_0 : List UInt8 := dkwX2_writer_0 ++ dktX2_writer_1
theorem dksX2_writer_0 : cX2_writer.data.toList.drop 0 = dktX2_writer_0 := by decide +kernel
theorem dksX2_writer_1 : cX2_writer.data.toList.drop 24 = dktX2_writer_1 := dk_seg dksX2_writer_0 24 rfl rfl
theorem dksX2_writer_2 : cX2_writer.data.toList.drop 46 = dktX2_writer_2 := dk_seg dksX2_writer_1 22 rfl rfl
theorem dksX2_writer_3 : cX2_writer.data.toList.drop 70 = dktX2_writer_3 := dk_seg dksX2_writer_2 24 rfl rfl
theorem dksX2_writer_4 : cX2_writer.data.toList.drop 94 = dktX2_writer_4 := dk_seg dksX2_writer_3 24 rfl rfl
theorem dksX2_writer_5 : cX2_writer.data.toList.drop 118 = dktX2_writer_5 := dk_seg dksX2_writer_4 24 rfl rfl
theorem dksX2_writer_6 : cX2_writer.data.toList.drop 141 = dktX2_writer_6 := dk_seg dksX2_writer_5 23 rfl rfl
theorem dX2_writer_0 : decode cX2_writer 0 = .ok (.new 111, 3) := dk_187 0 111 (dk_at dksX2_writer_0 0 rfl rfl)
theorem dX2_writer_3 : decode cX2_writer 3 = .ok (.dup, 1) := dk_89 (dk_at dksX2_writer_0 3 rfl rfl)
theorem dX2_writer_4 : decode cX2_writer 4 = .ok (.invokespecial 113, 3) := dk_183 0 113 (dk_at dksX2_writer_0 4 rfl rfl)
theorem dX2_writer_7 : decode cX2_writer 7 = .ok (.astore_n 1, 1) := dk_76 (dk_at dksX2_writer_0 7 rfl rfl)
theorem dX2_writer_8 : decode cX2_writer 8 = .ok (.iconst 0, 1) := dk_3 (dk_at dksX2_writer_0 8 rfl rfl)
theorem dX2_writer_9 : decode cX2_writer 9 = .ok (.istore_n 2, 1) := dk_61 (dk_at dksX2_writer_0 9 rfl rfl)
theorem dX2_writer_10 : decode cX2_writer 10 = .ok (.aload_n 0, 1) := dk_42 (dk_at dksX2_writer_0 10 rfl rfl)
theorem dX2_writer_11 : decode cX2_writer 11 = .ok (.ldc 114, 2) := dk_18 114 (dk_at dksX2_writer_0 11 rfl rfl)
theorem dX2_writer_13 : decode cX2_writer 13 = .ok (.putfield 88, 3) := dk_181 0 88 (dk_at dksX2_writer_0 13 rfl rfl)
theorem dX2_writer_16 : decode cX2_writer 16 = .ok (.aload_n 0, 1) := dk_42 (dk_at dksX2_writer_0 16 rfl rfl)
theorem dX2_writer_17 : decode cX2_writer 17 = .ok (.getfield 31, 3) := dk_180 0 31 (dk_at dksX2_writer_0 17 rfl rfl)
theorem dX2_writer_20 : decode cX2_writer 20 = .ok (.ifCond .eq 124, 3) := dk_153 0 124 (dk_at dksX2_writer_0 20 rfl rfl)
theorem dX2_writer_23 : decode cX2_writer 23 = .ok (.aload_n 0, 1) := dk_42 (dk_at dksX2_writer_0 23 rfl rfl)
theorem dX2_writer_24 : decode cX2_writer 24 = .ok (.ldc 116, 2) := dk_18 116 (dk_at dksX2_writer_1 0 rfl rfl)
theorem dX2_writer_26 : decode cX2_writer 26 = .ok (.invokevirtual 71, 3) := dk_182 0 71 (dk_at dksX2_writer_1 2 rfl rfl)
theorem dX2_writer_29 : decode cX2_writer 29 = .ok (.istore_n 3, 1) := dk_62 (dk_at dksX2_writer_1 5 rfl rfl)
theorem dX2_writer_30 : decode cX2_writer 30 = .ok (.iload_n 3, 1) := dk_29 (dk_at dksX2_writer_1 6 rfl rfl)
theorem dX2_writer_31 : decode cX2_writer 31 = .ok (.ifCond .ge 9, 3) := dk_156 0 9 (dk_at dksX2_writer_1 7 rfl rfl)
theorem dX2_writer_34 : decode cX2_writer 34 = .ok (.aload_n 0, 1) := dk_42 (dk_at dksX2_writer_1 10 rfl rfl)
theorem dX2_writer_35 : decode cX2_writer 35 = .ok (.iconst 1, 1) := dk_4 (dk_at dksX2_writer_1 11 rfl rfl)
theorem dX2_writer_36 : decode cX2_writer 36 = .ok (.invokevirtual 75, 3) := dk_182 0 75 (dk_at dksX2_writer_1 12 rfl rfl)
theorem dX2_writer_39 : decode cX2_writer 39 = .ok (.athrow, 1) := dk_191 (dk_at dksX2_writer_1 15 rfl rfl)
theorem dX2_writer_40 : decode cX2_writer 40 = .ok (.iload_n 2, 1) := dk_28 (dk_at dksX2_writer_1 16 rfl rfl)
theorem dX2_writer_41 : decode cX2_writer 41 = .ok (.iload_n 3, 1) := dk_29 (dk_at dksX2_writer_1 17 rfl rfl)
theorem dX2_writer_42 : decode cX2_writer 42 = .ok (.ishr, 1) := dk_122 (dk_at dksX2_writer_1 18 rfl rfl)
theorem dX2_writer_43 : decode cX2_writer 43 = .ok (.iconst 1, 1) := dk_4 (dk_at dksX2_writer_1 19 rfl rfl)
theorem dX2_writer_44 : decode cX2_writer 44 = .ok (.iand, 1) := dk_126 (dk_at dksX2_writer_1 20 rfl rfl)
theorem dX2_writer_45 : decode cX2_writer 45 = .ok (.iconst 1, 1) := dk_4 (dk_at dksX2_writer_1 21 rfl rfl)
theorem dX2_writer_46 : decode cX2_writer 46 = .ok (.if_icmp .ne 9, 3) := dk_160 0 9 (dk_at dksX2_writer_2 0 rfl rfl)
theorem dX2_writer_49 : decode cX2_writer 49 = .ok (.aload_n 0, 1) := dk_42 (dk_at dksX2_writer_2 3 rfl rfl)
theorem dX2_writer_50 : decode cX2_writer 50 = .ok (.iconst 3, 1) := dk_6 (dk_at dksX2_writer_2 4 rfl rfl)
theorem dX2_writer_51 : decode cX2_writer 51 = .ok (.invokevirtual 75, 3) := dk_182 0 75 (dk_at dksX2_writer_2 5 rfl rfl)
theorem dX2_writer_54 : decode cX2_writer 54 = .ok (.athrow, 1) := dk_191 (dk_at dksX2_writer_2 8 rfl rfl)
theorem dX2_writer_55 : decode cX2_writer 55 = .ok (.iload_n 2, 1) := dk_28 (dk_at dksX2_writer_2 9 rfl rfl)
theorem dX2_writer_56 : decode cX2_writer 56 = .ok (.iconst 1, 1) := dk_4 (dk_at dksX2_writer_2 10 rfl rfl)
theorem dX2_writer_57 : decode cX2_writer 57 = .ok (.iload_n 3, 1) := dk_29 (dk_at dksX2_writer_2 11 rfl rfl)
theorem dX2_writer_58 : decode cX2_writer 58 = .ok (.ishl, 1) := dk_120 (dk_at dksX2_writer_2 12 rfl rfl)
theorem dX2_writer_59 : decode cX2_writer 59 = .ok (.ior, 1) := dk_128 (dk_at dksX2_writer_2 13 rfl rfl)
theorem dX2_writer_60 : decode cX2_writer 60 = .ok (.istore_n 2, 1) := dk_61 (dk_at dksX2_writer_2 14 rfl rfl)
theorem dX2_writer_61 : decode cX2_writer 61 = .ok (.aload_n 0, 1) := dk_42 (dk_at dksX2_writer_2 15 rfl rfl)
theorem dX2_writer_62 : decode cX2_writer 62 = .ok (.invokevirtual 25, 3) := dk_182 0 25 (dk_at dksX2_writer_2 16 rfl rfl)
theorem dX2_writer_65 : decode cX2_writer 65 = .ok (.iload_n 3, 1) := dk_29 (dk_at dksX2_writer_2 19 rfl rfl)
theorem dX2_writer_66 : decode cX2_writer 66 = .ok (.ifCond .ne 20, 3) := dk_154 0 20 (dk_at dksX2_writer_2 20 rfl rfl)
theorem dX2_writer_69 : decode cX2_writer 69 = .ok (.aload_n 0, 1) := dk_42 (dk_at dksX2_writer_2 23 rfl rfl)
theorem dX2_writer_70 : decode cX2_writer 70 = .ok (.ldc 98, 2) := dk_18 98 (dk_at dksX2_writer_3 0 rfl rfl)
theorem dX2_writer_72 : decode cX2_writer 72 = .ok (.invokevirtual 100, 3) := dk_182 0 100 (dk_at dksX2_writer_3 2 rfl rfl)
theorem dX2_writer_75 : decode cX2_writer 75 = .ok (.aload_n 1, 1) := dk_43 (dk_at dksX2_writer_3 5 rfl rfl)
theorem dX2_writer_76 : decode cX2_writer 76 = .ok (.aload_n 0, 1) := dk_42 (dk_at dksX2_writer_3 6 rfl rfl)
theorem dX2_writer_77 : decode cX2_writer 77 = .ok (.invokevirtual 104, 3) := dk_182 0 104 (dk_at dksX2_writer_3 7 rfl rfl)
theorem dX2_writer_80 : decode cX2_writer 80 = .ok (.putfield 118, 3) := dk_181 0 118 (dk_at dksX2_writer_3 10 rfl rfl)
theorem dX2_writer_83 : decode cX2_writer 83 = .ok (.goto 52, 3) := dk_167 0 52 (dk_at dksX2_writer_3 13 rfl rfl)
theorem dX2_writer_86 : decode cX2_writer 86 = .ok (.iload_n 3, 1) := dk_29 (dk_at dksX2_writer_3 16 rfl rfl)
theorem dX2_writer_87 : decode cX2_writer 87 = .ok (.iconst 1, 1) := dk_4 (dk_at dksX2_writer_3 17 rfl rfl)
theorem dX2_writer_88 : decode cX2_writer 88 = .ok (.if_icmp .ne 17, 3) := dk_160 0 17 (dk_at dksX2_writer_3 18 rfl rfl)
theorem dX2_writer_91 : decode cX2_writer 91 = .ok (.aload_n 1, 1) := dk_43 (dk_at dksX2_writer_3 21 rfl rfl)
theorem dX2_writer_92 : decode cX2_writer 92 = .ok (.aload_n 0, 1) := dk_42 (dk_at dksX2_writer_3 22 rfl rfl)
theorem dX2_writer_93 : decode cX2_writer 93 = .ok (.iconst 0, 1) := dk_3 (dk_at dksX2_writer_3 23 rfl rfl)
theorem dX2_writer_94 : decode cX2_writer 94 = .ok (.bipush 11, 2) := dk_16 11 (dk_at dksX2_writer_4 0 rfl rfl)
theorem dX2_writer_96 : decode cX2_writer 96 = .ok (.invokevirtual 122, 3) := dk_182 0 122 (dk_at dksX2_writer_4 2 rfl rfl)
theorem dX2_writer_99 : decode cX2_writer 99 = .ok (.putfield 125, 3) := dk_181 0 125 (dk_at dksX2_writer_4 5 rfl rfl)
theorem dX2_writer_102 : decode cX2_writer 102 = .ok (.goto 33, 3) := dk_167 0 33 (dk_at dksX2_writer_4 8 rfl rfl)
theorem dX2_writer_105 : decode cX2_writer 105 = .ok (.iload_n 3, 1) := dk_29 (dk_at dksX2_writer_4 11 rfl rfl)
theorem dX2_writer_106 : decode cX2_writer 106 = .ok (.iconst 2, 1) := dk_5 (dk_at dksX2_writer_4 12 rfl rfl)
theorem dX2_writer_107 : decode cX2_writer 107 = .ok (.if_icmp .ne 17, 3) := dk_160 0 17 (dk_at dksX2_writer_4 13 rfl rfl)
theorem dX2_writer_110 : decode cX2_writer 110 = .ok (.aload_n 1, 1) := dk_43 (dk_at dksX2_writer_4 16 rfl rfl)
theorem dX2_writer_111 : decode cX2_writer 111 = .ok (.aload_n 0, 1) := dk_42 (dk_at dksX2_writer_4 17 rfl rfl)
theorem dX2_writer_112 : decode cX2_writer 112 = .ok (.iconst 0, 1) := dk_3 (dk_at dksX2_writer_4 18 rfl rfl)
theorem dX2_writer_113 : decode cX2_writer 113 = .ok (.bipush 11, 2) := dk_16 11 (dk_at dksX2_writer_4 19 rfl rfl)
theorem dX2_writer_115 : decode cX2_writer 115 = .ok (.invokevirtual 122, 3) := dk_182 0 122 (dk_at dksX2_writer_4 21 rfl rfl)
theorem dX2_writer_118 : decode cX2_writer 118 = .ok (.putfield 126, 3) := dk_181 0 126 (dk_at dksX2_writer_5 0 rfl rfl)
theorem dX2_writer_121 : decode cX2_writer 121 = .ok (.goto 14, 3) := dk_167 0 14 (dk_at dksX2_writer_5 3 rfl rfl)
theorem dX2_writer_124 : decode cX2_writer 124 = .ok (.aload_n 1, 1) := dk_43 (dk_at dksX2_writer_5 6 rfl rfl)
theorem dX2_writer_125 : decode cX2_writer 125 = .ok (.aload_n 0, 1) := dk_42 (dk_at dksX2_writer_5 7 rfl rfl)
theorem dX2_writer_126 : decode cX2_writer 126 = .ok (.iconst 0, 1) := dk_3 (dk_at dksX2_writer_5 8 rfl rfl)
theorem dX2_writer_127 : decode cX2_writer 127 = .ok (.bipush 10, 2) := dk_16 10 (dk_at dksX2_writer_5 9 rfl rfl)
theorem dX2_writer_129 : decode cX2_writer 129 = .ok (.invokevirtual 122, 3) := dk_182 0 122 (dk_at dksX2_writer_5 11 rfl rfl)
theorem dX2_writer_132 : decode cX2_writer 132 = .ok (.putfield 127, 3) := dk_181 0 127 (dk_at dksX2_writer_5 14 rfl rfl)
theorem dX2_writer_135 : decode cX2_writer 135 = .ok (.aload_n 0, 1) := dk_42 (dk_at dksX2_writer_5 17 rfl rfl)
theorem dX2_writer_136 : decode cX2_writer 136 = .ok (.bipush 59, 2) := dk_16 59 (dk_at dksX2_writer_5 18 rfl rfl)
theorem dX2_writer_138 : decode cX2_writer 138 = .ok (.invokevirtual 108, 3) := dk_182 0 108 (dk_at dksX2_writer_5 20 rfl rfl)
theorem dX2_writer_141 : decode cX2_writer 141 = .ok (.goto (-125), 3) := dk_167 255 131 (dk_at dksX2_writer_6 0 rfl rfl)
theorem dX2_writer_144 : decode cX2_writer 144 = .ok (.aload_n 1, 1) := dk_43 (dk_at dksX2_writer_6 3 rfl rfl)
theorem dX2_writer_145 : decode cX2_writer 145 = .ok (.areturn, 1) := dk_176 (dk_at dksX2_writer_6 4 rfl rfl)
theorem dX3_init_0 : decode cX3_init 0 = .ok (.aload_n 0, 1) := by decide +kernel
theorem dX3_init_1 : decode cX3_init 1 = .ok (.invokespecial 1, 3) := by decide +kernel
theorem dX3_init_4 : decode cX3_init 4 = .ok (.return_, 1) := by decide +kernel
def dkwX3_begin_0 : List UInt8 := [42, 9, 181, 0, 7, 42, 3, 181, 0, 13, 177]
abbrev dktX3_begin_0 : List UInt8 := dkwX3_begin_0 ++ []
theorem dksX3_begin_0 : cX3_begin.data.toList.drop 0 = dktX3_begin_0 := by decide +kernel
theorem dX3_begin_0 : decode cX3_begin 0 = .ok (.aload_n 0, 1) := dk_42 (dk_at dksX3_begin_0 0 rfl rfl)
theorem dX3_begin_1 : decode cX3_begin 1 = .ok (.lconst 0, 1) := dk_9 (dk_at dksX3_begin_0 1 rfl rfl)
theorem dX3_begin_2 : decode cX3_begin 2 = .ok (.putfield 7, 3) := dk_181 0 7 (dk_at dksX3_begin_0 2 rfl rfl)
theorem dX3_begin_5 : decode cX3_begin 5 = .ok (.aload_n 0, 1) := dk_42 (dk_at dksX3_begin_0 5 rfl rfl)
theorem dX3_begin_6 : decode cX3_begin 6 = .ok (.iconst 0, 1) := dk_3 (dk_at dksX3_begin_0 6 rfl rfl)
theorem dX3_begin_7 : decode cX3_begin 7 = .ok (.putfield 13, 3) := dk_181 0 13 (dk_at dksX3_begin_0 7 rfl rfl)
theorem dX3_begin_10 : decode cX3_begin 10 = .ok (.return_, 1) := dk_177 (dk_at dksX3_begin_0 10 rfl rfl)
def dkwX3_adds_0 : List UInt8 := [42, 89, 180, 0, 7, 31, 97, 181, 0, 7, 42, 89, 180, 0, 13, 4, 96, 181, 0, 13, 177]
abbrev dktX3_adds_0 : List UInt8 := dkwX3_adds_0 ++ []
theorem dksX3_adds_0 : cX3_adds.data.toList.drop 0 = dktX3_adds_0 := by decide +kernel
theorem dX3_adds_0 : decode cX3_adds 0 = .ok (.aload_n 0, 1) := dk_42 (dk_at dksX3_adds_0 0 rfl rfl)
theorem dX3_adds_1 : decode cX3_adds 1 = .ok (.dup, 1) := dk_89 (dk_at dksX3_adds_0 1 rfl rfl)
theorem dX3_adds_2 : decode cX3_adds 2 = .ok (.getfield 7, 3) := dk_180 0 7 (dk_at dksX3_adds_0 2 rfl rfl)
theorem dX3_adds_5 : decode cX3_adds 5 = .ok (.lload_n 1, 1) := dk_31 (dk_at dksX3_adds_0 5 rfl rfl)
theorem dX3_adds_6 : decode cX3_adds 6 = .ok (.ladd, 1) := dk_97 (dk_at dksX3_adds_0 6 rfl rfl)
theorem dX3_adds_7 : decode cX3_adds 7 = .ok (.putfield 7, 3) := dk_181 0 7 (dk_at dksX3_adds_0 7 rfl rfl)
theorem dX3_adds_10 : decode cX3_adds 10 = .ok (.aload_n 0, 1) := dk_42 (dk_at dksX3_adds_0 10 rfl rfl)
theorem dX3_adds_11 : decode cX3_adds 11 = .ok (.dup, 1) := dk_89 (dk_at dksX3_adds_0 11 rfl rfl)
theorem dX3_adds_12 : decode cX3_adds 12 = .ok (.getfield 13, 3) := dk_180 0 13 (dk_at dksX3_adds_0 12 rfl rfl)
theorem dX3_adds_15 : decode cX3_adds 15 = .ok (.iconst 1, 1) := dk_4 (dk_at dksX3_adds_0 15 rfl rfl)
theorem dX3_adds_16 : decode cX3_adds 16 = .ok (.iadd, 1) := dk_96 (dk_at dksX3_adds_0 16 rfl rfl)
theorem dX3_adds_17 : decode cX3_adds 17 = .ok (.putfield 13, 3) := dk_181 0 13 (dk_at dksX3_adds_0 17 rfl rfl)
theorem dX3_adds_20 : decode cX3_adds 20 = .ok (.return_, 1) := dk_177 (dk_at dksX3_adds_0 20 rfl rfl)
def dkwX4_init_3 : List UInt8 := [27, 2, 79, 132, 1, 1, 167, 255, 233, 177]
abbrev dktX4_init_3 : List UInt8 := dkwX4_init_3 ++ []
def dkwX4_init_2 : List UInt8 := [188, 10, 181, 0, 27, 3, 60, 27, 16, 12, 162, 0, 23, 42, 180, 0, 9, 27, 2, 79, 42, 180, 0, 18]
abbrev dktX4_init_2 : List UInt8 := dkwX4_init_2 ++ dktX4_init_3
def dkwX4_init_1 : List UInt8 := [188, 10, 181, 0, 18, 42, 16, 12, 188, 10, 181, 0, 21, 42, 16, 12, 188, 10, 181, 0, 24, 42, 16, 12]
abbrev dktX4_init_1 : List UInt8 := dkwX4_init_1 ++ dktX4_init_2
def dkwX4_init_0 : List UInt8 := [42, 183, 0, 3, 42, 16, 12, 188, 10, 181, 0, 9, 42, 16, 12, 188, 10, 181, 0, 15, 42, 16, 12]
abbrev dktX4_init_0 : List UInt8 := dkwX4_init_0 ++ dktX4_init_1
theorem dksX4_init_0 : cX4_init.data.toList.drop 0 = dktX4_init_0 := by decide +kernel
theorem dksX4_init_1 : cX4_init.data.toList.drop 23 = dktX4_init_1 := dk_seg dksX4_init_0 23 rfl rfl
theorem dksX4_init_2 : cX4_init.data.toList.drop 47 = dktX4_init_2 := dk_seg dksX4_init_1 24 rfl rfl
theorem dksX4_init_3 : cX4_init.data.toList.drop 71 = dktX4_init_3 := dk_seg dksX4_init_2 24 rfl rfl
theorem dX4_init_0 : decode cX4_init 0 = .ok (.aload_n 0, 1) := dk_42 (dk_at dksX4_init_0 0 rfl rfl)
theorem dX4_init_1 : decode cX4_init 1 = .ok (.invokespecial 3, 3) := dk_183 0 3 (dk_at dksX4_init_0 1 rfl rfl)
theorem dX4_init_4 : decode cX4_init 4 = .ok (.aload_n 0, 1) := dk_42 (dk_at dksX4_init_0 4 rfl rfl)
theorem dX4_init_5 : decode cX4_init 5 = .ok (.bipush 12, 2) := dk_16 12 (dk_at dksX4_init_0 5 rfl rfl)
theorem dX4_init_7 : decode cX4_init 7 = .ok (.newarray .int, 2) := dk_188_10 (dk_at dksX4_init_0 7 rfl rfl)
theorem dX4_init_9 : decode cX4_init 9 = .ok (.putfield 9, 3) := dk_181 0 9 (dk_at dksX4_init_0 9 rfl rfl)
theorem dX4_init_12 : decode cX4_init 12 = .ok (.aload_n 0, 1) := dk_42 (dk_at dksX4_init_0 12 rfl rfl)
theorem dX4_init_13 : decode cX4_init 13 = .ok (.bipush 12, 2) := dk_16 12 (dk_at dksX4_init_0 13 rfl rfl)
theorem dX4_init_15 : decode cX4_init 15 = .ok (.newarray .int, 2) := dk_188_10 (dk_at dksX4_init_0 15 rfl rfl)
theorem dX4_init_17 : decode cX4_init 17 = .ok (.putfield 15, 3) := dk_181 0 15 (dk_at dksX4_init_0 17 rfl rfl)
theorem dX4_init_20 : decode cX4_init 20 = .ok (.aload_n 0, 1) := dk_42 (dk_at dksX4_init_0 20 rfl rfl)
theorem dX4_init_21 : decode cX4_init 21 = .ok (.bipush 12, 2) := dk_16 12 (dk_at dksX4_init_0 21 rfl rfl)
theorem dX4_init_23 : decode cX4_init 23 = .ok (.newarray .int, 2) := dk_188_10 (dk_at dksX4_init_1 0 rfl rfl)
theorem dX4_init_25 : decode cX4_init 25 = .ok (.putfield 18, 3) := dk_181 0 18 (dk_at dksX4_init_1 2 rfl rfl)
theorem dX4_init_28 : decode cX4_init 28 = .ok (.aload_n 0, 1) := dk_42 (dk_at dksX4_init_1 5 rfl rfl)
theorem dX4_init_29 : decode cX4_init 29 = .ok (.bipush 12, 2) := dk_16 12 (dk_at dksX4_init_1 6 rfl rfl)
theorem dX4_init_31 : decode cX4_init 31 = .ok (.newarray .int, 2) := dk_188_10 (dk_at dksX4_init_1 8 rfl rfl)
theorem dX4_init_33 : decode cX4_init 33 = .ok (.putfield 21, 3) := dk_181 0 21 (dk_at dksX4_init_1 10 rfl rfl)
theorem dX4_init_36 : decode cX4_init 36 = .ok (.aload_n 0, 1) := dk_42 (dk_at dksX4_init_1 13 rfl rfl)
theorem dX4_init_37 : decode cX4_init 37 = .ok (.bipush 12, 2) := dk_16 12 (dk_at dksX4_init_1 14 rfl rfl)
theorem dX4_init_39 : decode cX4_init 39 = .ok (.newarray .int, 2) := dk_188_10 (dk_at dksX4_init_1 16 rfl rfl)
theorem dX4_init_41 : decode cX4_init 41 = .ok (.putfield 24, 3) := dk_181 0 24 (dk_at dksX4_init_1 18 rfl rfl)
theorem dX4_init_44 : decode cX4_init 44 = .ok (.aload_n 0, 1) := dk_42 (dk_at dksX4_init_1 21 rfl rfl)
theorem dX4_init_45 : decode cX4_init 45 = .ok (.bipush 12, 2) := dk_16 12 (dk_at dksX4_init_1 22 rfl rfl)
theorem dX4_init_47 : decode cX4_init 47 = .ok (.newarray .int, 2) := dk_188_10 (dk_at dksX4_init_2 0 rfl rfl)
theorem dX4_init_49 : decode cX4_init 49 = .ok (.putfield 27, 3) := dk_181 0 27 (dk_at dksX4_init_2 2 rfl rfl)
theorem dX4_init_52 : decode cX4_init 52 = .ok (.iconst 0, 1) := dk_3 (dk_at dksX4_init_2 5 rfl rfl)
theorem dX4_init_53 : decode cX4_init 53 = .ok (.istore_n 1, 1) := dk_60 (dk_at dksX4_init_2 6 rfl rfl)
theorem dX4_init_54 : decode cX4_init 54 = .ok (.iload_n 1, 1) := dk_27 (dk_at dksX4_init_2 7 rfl rfl)
theorem dX4_init_55 : decode cX4_init 55 = .ok (.bipush 12, 2) := dk_16 12 (dk_at dksX4_init_2 8 rfl rfl)
theorem dX4_init_57 : decode cX4_init 57 = .ok (.if_icmp .ge 23, 3) := dk_162 0 23 (dk_at dksX4_init_2 10 rfl rfl)
theorem dX4_init_60 : decode cX4_init 60 = .ok (.aload_n 0, 1) := dk_42 (dk_at dksX4_init_2 13 rfl rfl)
theorem dX4_init_61 : decode cX4_init 61 = .ok (.getfield 9, 3) := dk_180 0 9 (dk_at dksX4_init_2 14 rfl rfl)
theorem dX4_init_64 : decode cX4_init 64 = .ok (.iload_n 1, 1) := dk_27 (dk_at dksX4_init_2 17 rfl rfl)
theorem dX4_init_65 : decode cX4_init 65 = .ok (.iconst (-1), 1) := dk_2 (dk_at dksX4_init_2 18 rfl rfl)
theorem dX4_init_66 : decode cX4_init 66 = .ok (.iastore, 1) := dk_79 (dk_at dksX4_init_2 19 rfl rfl)
theorem dX4_init_67 : decode cX4_init 67 = .ok (.aload_n 0, 1) := dk_42 (dk_at dksX4_init_2 20 rfl rfl)
theorem dX4_init_68 : decode cX4_init 68 = .ok (.getfield 18, 3) := dk_180 0 18 (dk_at dksX4_init_2 21 rfl rfl)
theorem dX4_init_71 : decode cX4_init 71 = .ok (.iload_n 1, 1) := dk_27 (dk_at dksX4_init_3 0 rfl rfl)
theorem dX4_init_72 : decode cX4_init 72 = .ok (.iconst (-1), 1) := dk_2 (dk_at dksX4_init_3 1 rfl rfl)
theorem dX4_init_73 : decode cX4_init 73 = .ok (.iastore, 1) := dk_79 (dk_at dksX4_init_3 2 rfl rfl)
theorem dX4_init_74 : decode cX4_init 74 = .ok (.iinc 1 1, 3) := dk_132 1 1 (dk_at dksX4_init_3 3 rfl rfl)
theorem dX4_init_77 : decode cX4_init 77 = .ok (.goto (-23), 3) := dk_167 255 233 (dk_at dksX4_init_3 6 rfl rfl)
theorem dX4_init_80 : decode cX4_init 80 = .ok (.return_, 1) := dk_177 (dk_at dksX4_init_3 9 rfl rfl)
def dkwX4_isSilent_0 : List UInt8 := [42, 180, 0, 9, 27, 46, 2, 160, 0, 7, 4, 167, 0, 4, 3, 172]
abbrev dktX4_isSilent_0 : List UInt8 := dkwX4_isSilent_0 ++ []
theorem dksX4_isSilent_0 : cX4_isSilent.data.toList.drop 0 = dktX4_isSilent_0 := by decide +kernel
theorem dX4_isSilent_0 : decode cX4_isSilent 0 = .ok (.aload_n 0, 1) := dk_42 (dk_at dksX4_isSilent_0 0 rfl rfl)
theorem dX4_isSilent_1 : decode cX4_isSilent 1 = .ok (.getfield 9, 3) := dk_180 0 9 (dk_at dksX4_isSilent_0 1 rfl rfl)
theorem dX4_isSilent_4 : decode cX4_isSilent 4 = .ok (.iload_n 1, 1) := dk_27 (dk_at dksX4_isSilent_0 4 rfl rfl)
theorem dX4_isSilent_5 : decode cX4_isSilent 5 = .ok (.iaload, 1) := dk_46 (dk_at dksX4_isSilent_0 5 rfl rfl)
theorem dX4_isSilent_6 : decode cX4_isSilent 6 = .ok (.iconst (-1), 1) := dk_2 (dk_at dksX4_isSilent_0 6 rfl rfl)
theorem dX4_isSilent_7 : decode cX4_isSilent 7 = .ok (.if_icmp .ne 7, 3) := dk_160 0 7 (dk_at dksX4_isSilent_0 7 rfl rfl)
theorem dX4_isSilent_10 : decode cX4_isSilent 10 = .ok (.iconst 1, 1) := dk_4 (dk_at dksX4_isSilent_0 10 rfl rfl)
theorem dX4_isSilent_11 : decode cX4_isSilent 11 = .ok (.goto 4, 3) := dk_167 0 4 (dk_at dksX4_isSilent_0 11 rfl rfl)
theorem dX4_isSilent_14 : decode cX4_isSilent 14 = .ok (.iconst 0, 1) := dk_3 (dk_at dksX4_isSilent_0 14 rfl rfl)
theorem dX4_isSilent_15 : decode cX4_isSilent 15 = .ok (.ireturn, 1) := dk_172 (dk_at dksX4_isSilent_0 15 rfl rfl)
def dkwX4_isCounted_1 : List UInt8 := [167, 0, 4, 3, 172]
abbrev dktX4_isCounted_1 : List UInt8 := dkwX4_isCounted_1 ++ []
def dkwX4_isCounted_0 : List UInt8 := [42, 180, 0, 30, 153, 0, 23, 42, 27, 182, 0, 34, 154, 0, 15, 42, 28, 182, 0, 34, 154, 0, 7, 4]
abbrev dktX4_isCounted_0 : List UInt8 := dkwX4_isCounted_0 ++ dktX4_isCounted_1
theorem dksX4_isCounted_0 : cX4_isCounted.data.toList.drop 0 = dktX4_isCounted_0 := by decide +kernel
theorem dksX4_isCounted_1 : cX4_isCounted.data.toList.drop 24 = dktX4_isCounted_1 := dk_seg dksX4_isCounted_0 24 rfl rfl
theorem dX4_isCounted_0 : decode cX4_isCounted 0 = .ok (.aload_n 0, 1) := dk_42 (dk_at dksX4_isCounted_0 0 rfl rfl)
theorem dX4_isCounted_1 : decode cX4_isCounted 1 = .ok (.getfield 30, 3) := dk_180 0 30 (dk_at dksX4_isCounted_0 1 rfl rfl)
theorem dX4_isCounted_4 : decode cX4_isCounted 4 = .ok (.ifCond .eq 23, 3) := dk_153 0 23 (dk_at dksX4_isCounted_0 4 rfl rfl)
theorem dX4_isCounted_7 : decode cX4_isCounted 7 = .ok (.aload_n 0, 1) := dk_42 (dk_at dksX4_isCounted_0 7 rfl rfl)
theorem dX4_isCounted_8 : decode cX4_isCounted 8 = .ok (.iload_n 1, 1) := dk_27 (dk_at dksX4_isCounted_0 8 rfl rfl)
theorem dX4_isCounted_9 : decode cX4_isCounted 9 = .ok (.invokevirtual 34, 3) := dk_182 0 34 (dk_at dksX4_isCounted_0 9 rfl rfl)
theorem dX4_isCounted_12 : decode cX4_isCounted 12 = .ok (.ifCond .ne 15, 3) := dk_154 0 15 (dk_at dksX4_isCounted_0 12 rfl rfl)
theorem dX4_isCounted_15 : decode cX4_isCounted 15 = .ok (.aload_n 0, 1) := dk_42 (dk_at dksX4_isCounted_0 15 rfl rfl)
theorem dX4_isCounted_16 : decode cX4_isCounted 16 = .ok (.iload_n 2, 1) := dk_28 (dk_at dksX4_isCounted_0 16 rfl rfl)
theorem dX4_isCounted_17 : decode cX4_isCounted 17 = .ok (.invokevirtual 34, 3) := dk_182 0 34 (dk_at dksX4_isCounted_0 17 rfl rfl)
theorem dX4_isCounted_20 : decode cX4_isCounted 20 = .ok (.ifCond .ne 7, 3) := dk_154 0 7 (dk_at dksX4_isCounted_0 20 rfl rfl)
theorem dX4_isCounted_23 : decode cX4_isCounted 23 = .ok (.iconst 1, 1) := dk_4 (dk_at dksX4_isCounted_0 23 rfl rfl)
theorem dX4_isCounted_24 : decode cX4_isCounted 24 = .ok (.goto 4, 3) := dk_167 0 4 (dk_at dksX4_isCounted_1 0 rfl rfl)
theorem dX4_isCounted_27 : decode cX4_isCounted 27 = .ok (.iconst 0, 1) := dk_3 (dk_at dksX4_isCounted_1 3 rfl rfl)
theorem dX4_isCounted_28 : decode cX4_isCounted 28 = .ok (.ireturn, 1) := dk_172 (dk_at dksX4_isCounted_1 4 rfl rfl)
def dkwX4_months_1 : List UInt8 := [132, 3, 1, 167, 255, 234, 28, 172]
abbrev dktX4_months_1 : List UInt8 := dkwX4_months_1 ++ []
def dkwX4_months_0 : List UInt8 := [3, 61, 3, 62, 29, 16, 12, 162, 0, 22, 42, 180, 0, 9, 29, 46, 27, 160, 0, 6, 132, 2, 1]
abbrev dktX4_months_0 : List UInt8 := dkwX4_months_0 ++ dktX4_months_1
theorem dksX4_months_0 : cX4_months.data.toList.drop 0 = dktX4_months_0 := by decide +kernel
theorem dksX4_months_1 : cX4_months.data.toList.drop 23 = dktX4_months_1 := dk_seg dksX4_months_0 23 rfl rfl
theorem dX4_months_0 : decode cX4_months 0 = .ok (.iconst 0, 1) := dk_3 (dk_at dksX4_months_0 0 rfl rfl)
theorem dX4_months_1 : decode cX4_months 1 = .ok (.istore_n 2, 1) := dk_61 (dk_at dksX4_months_0 1 rfl rfl)
theorem dX4_months_2 : decode cX4_months 2 = .ok (.iconst 0, 1) := dk_3 (dk_at dksX4_months_0 2 rfl rfl)
theorem dX4_months_3 : decode cX4_months 3 = .ok (.istore_n 3, 1) := dk_62 (dk_at dksX4_months_0 3 rfl rfl)
theorem dX4_months_4 : decode cX4_months 4 = .ok (.iload_n 3, 1) := dk_29 (dk_at dksX4_months_0 4 rfl rfl)
theorem dX4_months_5 : decode cX4_months 5 = .ok (.bipush 12, 2) := dk_16 12 (dk_at dksX4_months_0 5 rfl rfl)
theorem dX4_months_7 : decode cX4_months 7 = .ok (.if_icmp .ge 22, 3) := dk_162 0 22 (dk_at dksX4_months_0 7 rfl rfl)
theorem dX4_months_10 : decode cX4_months 10 = .ok (.aload_n 0, 1) := dk_42 (dk_at dksX4_months_0 10 rfl rfl)
theorem dX4_months_11 : decode cX4_months 11 = .ok (.getfield 9, 3) := dk_180 0 9 (dk_at dksX4_months_0 11 rfl rfl)
theorem dX4_months_14 : decode cX4_months 14 = .ok (.iload_n 3, 1) := dk_29 (dk_at dksX4_months_0 14 rfl rfl)
theorem dX4_months_15 : decode cX4_months 15 = .ok (.iaload, 1) := dk_46 (dk_at dksX4_months_0 15 rfl rfl)
theorem dX4_months_16 : decode cX4_months 16 = .ok (.iload_n 1, 1) := dk_27 (dk_at dksX4_months_0 16 rfl rfl)
theorem dX4_months_17 : decode cX4_months 17 = .ok (.if_icmp .ne 6, 3) := dk_160 0 6 (dk_at dksX4_months_0 17 rfl rfl)
theorem dX4_months_20 : decode cX4_months 20 = .ok (.iinc 2 1, 3) := dk_132 2 1 (dk_at dksX4_months_0 20 rfl rfl)
theorem dX4_months_23 : decode cX4_months 23 = .ok (.iinc 3 1, 3) := dk_132 3 1 (dk_at dksX4_months_1 0 rfl rfl)
theorem dX4_months_26 : decode cX4_months 26 = .ok (.goto (-22), 3) := dk_167 255 234 (dk_at dksX4_months_1 3 rfl rfl)
theorem dX4_months_29 : decode cX4_months 29 = .ok (.iload_n 2, 1) := dk_28 (dk_at dksX4_months_1 6 rfl rfl)
theorem dX4_months_30 : decode cX4_months 30 = .ok (.ireturn, 1) := dk_172 (dk_at dksX4_months_1 7 rfl rfl)
def dkwX4_isOnSheets_1 : List UInt8 := [155, 0, 7, 4, 167, 0, 4, 3, 172]
abbrev dktX4_isOnSheets_1 : List UInt8 := dkwX4_isOnSheets_1 ++ []
def dkwX4_isOnSheets_0 : List UInt8 := [42, 180, 0, 30, 153, 0, 25, 42, 180, 0, 18, 27, 46, 155, 0, 16, 42, 180, 0, 18, 28, 46]
abbrev dktX4_isOnSheets_0 : List UInt8 := dkwX4_isOnSheets_0 ++ dktX4_isOnSheets_1
theorem dksX4_isOnSheets_0 : cX4_isOnSheets.data.toList.drop 0 = dktX4_isOnSheets_0 := by decide +kernel
theorem dksX4_isOnSheets_1 : cX4_isOnSheets.data.toList.drop 22 = dktX4_isOnSheets_1 := dk_seg dksX4_isOnSheets_0 22 rfl rfl
theorem dX4_isOnSheets_0 : decode cX4_isOnSheets 0 = .ok (.aload_n 0, 1) := dk_42 (dk_at dksX4_isOnSheets_0 0 rfl rfl)
theorem dX4_isOnSheets_1 : decode cX4_isOnSheets 1 = .ok (.getfield 30, 3) := dk_180 0 30 (dk_at dksX4_isOnSheets_0 1 rfl rfl)
theorem dX4_isOnSheets_4 : decode cX4_isOnSheets 4 = .ok (.ifCond .eq 25, 3) := dk_153 0 25 (dk_at dksX4_isOnSheets_0 4 rfl rfl)
theorem dX4_isOnSheets_7 : decode cX4_isOnSheets 7 = .ok (.aload_n 0, 1) := dk_42 (dk_at dksX4_isOnSheets_0 7 rfl rfl)
theorem dX4_isOnSheets_8 : decode cX4_isOnSheets 8 = .ok (.getfield 18, 3) := dk_180 0 18 (dk_at dksX4_isOnSheets_0 8 rfl rfl)
theorem dX4_isOnSheets_11 : decode cX4_isOnSheets 11 = .ok (.iload_n 1, 1) := dk_27 (dk_at dksX4_isOnSheets_0 11 rfl rfl)
theorem dX4_isOnSheets_12 : decode cX4_isOnSheets 12 = .ok (.iaload, 1) := dk_46 (dk_at dksX4_isOnSheets_0 12 rfl rfl)
theorem dX4_isOnSheets_13 : decode cX4_isOnSheets 13 = .ok (.ifCond .lt 16, 3) := dk_155 0 16 (dk_at dksX4_isOnSheets_0 13 rfl rfl)
theorem dX4_isOnSheets_16 : decode cX4_isOnSheets 16 = .ok (.aload_n 0, 1) := dk_42 (dk_at dksX4_isOnSheets_0 16 rfl rfl)
theorem dX4_isOnSheets_17 : decode cX4_isOnSheets 17 = .ok (.getfield 18, 3) := dk_180 0 18 (dk_at dksX4_isOnSheets_0 17 rfl rfl)
theorem dX4_isOnSheets_20 : decode cX4_isOnSheets 20 = .ok (.iload_n 2, 1) := dk_28 (dk_at dksX4_isOnSheets_0 20 rfl rfl)
theorem dX4_isOnSheets_21 : decode cX4_isOnSheets 21 = .ok (.iaload, 1) := dk_46 (dk_at dksX4_isOnSheets_0 21 rfl rfl)
theorem dX4_isOnSheets_22 : decode cX4_isOnSheets 22 = .ok (.ifCond .lt 7, 3) := dk_155 0 7 (dk_at dksX4_isOnSheets_1 0 rfl rfl)
theorem dX4_isOnSheets_25 : decode cX4_isOnSheets 25 = .ok (.iconst 1, 1) := dk_4 (dk_at dksX4_isOnSheets_1 3 rfl rfl)
theorem dX4_isOnSheets_26 : decode cX4_isOnSheets 26 = .ok (.goto 4, 3) := dk_167 0 4 (dk_at dksX4_isOnSheets_1 4 rfl rfl)
theorem dX4_isOnSheets_29 : decode cX4_isOnSheets 29 = .ok (.iconst 0, 1) := dk_3 (dk_at dksX4_isOnSheets_1 7 rfl rfl)
theorem dX4_isOnSheets_30 : decode cX4_isOnSheets 30 = .ok (.ireturn, 1) := dk_172 (dk_at dksX4_isOnSheets_1 8 rfl rfl)
def dkwX5_init_0 : List UInt8 := [42, 183, 0, 3, 42, 7, 189, 0, 9, 181, 0, 11, 177]
abbrev dktX5_init_0 : List UInt8 := dkwX5_init_0 ++ []
theorem dksX5_init_0 : cX5_init.data.toList.drop 0 = dktX5_init_0 := by decide +kernel
theorem dX5_init_0 : decode cX5_init 0 = .ok (.aload_n 0, 1) := dk_42 (dk_at dksX5_init_0 0 rfl rfl)
theorem dX5_init_1 : decode cX5_init 1 = .ok (.invokespecial 3, 3) := dk_183 0 3 (dk_at dksX5_init_0 1 rfl rfl)
theorem dX5_init_4 : decode cX5_init 4 = .ok (.aload_n 0, 1) := dk_42 (dk_at dksX5_init_0 4 rfl rfl)
theorem dX5_init_5 : decode cX5_init 5 = .ok (.iconst 4, 1) := dk_7 (dk_at dksX5_init_0 5 rfl rfl)
theorem dX5_init_6 : decode cX5_init 6 = .ok (.anewarray 9, 3) := dk_189 0 9 (dk_at dksX5_init_0 6 rfl rfl)
theorem dX5_init_9 : decode cX5_init 9 = .ok (.putfield 11, 3) := dk_181 0 11 (dk_at dksX5_init_0 9 rfl rfl)
theorem dX5_init_12 : decode cX5_init 12 = .ok (.return_, 1) := dk_177 (dk_at dksX5_init_0 12 rfl rfl)
def dkwX6_init_0 : List UInt8 := [42, 183, 0, 3, 42, 16, 11, 181, 0, 9, 42, 2, 181, 0, 15, 177]
abbrev dktX6_init_0 : List UInt8 := dkwX6_init_0 ++ []
theorem dksX6_init_0 : cX6_init.data.toList.drop 0 = dktX6_init_0 := by decide +kernel
theorem dX6_init_0 : decode cX6_init 0 = .ok (.aload_n 0, 1) := dk_42 (dk_at dksX6_init_0 0 rfl rfl)
theorem dX6_init_1 : decode cX6_init 1 = .ok (.invokespecial 3, 3) := dk_183 0 3 (dk_at dksX6_init_0 1 rfl rfl)
theorem dX6_init_4 : decode cX6_init 4 = .ok (.aload_n 0, 1) := dk_42 (dk_at dksX6_init_0 4 rfl rfl)
theorem dX6_init_5 : decode cX6_init 5 = .ok (.bipush 11, 2) := dk_16 11 (dk_at dksX6_init_0 5 rfl rfl)
theorem dX6_init_7 : decode cX6_init 7 = .ok (.putfield 9, 3) := dk_181 0 9 (dk_at dksX6_init_0 7 rfl rfl)
theorem dX6_init_10 : decode cX6_init 10 = .ok (.aload_n 0, 1) := dk_42 (dk_at dksX6_init_0 10 rfl rfl)
theorem dX6_init_11 : decode cX6_init 11 = .ok (.iconst (-1), 1) := dk_2 (dk_at dksX6_init_0 11 rfl rfl)
theorem dX6_init_12 : decode cX6_init 12 = .ok (.putfield 15, 3) := dk_181 0 15 (dk_at dksX6_init_0 12 rfl rfl)
theorem dX6_init_15 : decode cX6_init 15 = .ok (.return_, 1) := dk_177 (dk_at dksX6_init_0 15 rfl rfl)
def dkwX8_init_0 : List UInt8 := [42, 1, 1, 3, 3, 183, 0, 1, 42, 27, 16, 16, 28, 104, 96, 181, 0, 7, 177]
abbrev dktX8_init_0 : List UInt8 := dkwX8_init_0 ++ []
theorem dksX8_init_0 : cX8_init.data.toList.drop 0 = dktX8_init_0 := by decide +kernel
theorem dX8_init_0 : decode cX8_init 0 = .ok (.aload_n 0, 1) := dk_42 (dk_at dksX8_init_0 0 rfl rfl)
theorem dX8_init_1 : decode cX8_init 1 = .ok (.aconst_null, 1) := dk_1 (dk_at dksX8_init_0 1 rfl rfl)
theorem dX8_init_2 : decode cX8_init 2 = .ok (.aconst_null, 1) := dk_1 (dk_at dksX8_init_0 2 rfl rfl)
theorem dX8_init_3 : decode cX8_init 3 = .ok (.iconst 0, 1) := dk_3 (dk_at dksX8_init_0 3 rfl rfl)
theorem dX8_init_4 : decode cX8_init 4 = .ok (.iconst 0, 1) := dk_3 (dk_at dksX8_init_0 4 rfl rfl)
theorem dX8_init_5 : decode cX8_init 5 = .ok (.invokespecial 1, 3) := dk_183 0 1 (dk_at dksX8_init_0 5 rfl rfl)
theorem dX8_init_8 : decode cX8_init 8 = .ok (.aload_n 0, 1) := dk_42 (dk_at dksX8_init_0 8 rfl rfl)
theorem dX8_init_9 : decode cX8_init 9 = .ok (.iload_n 1, 1) := dk_27 (dk_at dksX8_init_0 9 rfl rfl)
theorem dX8_init_10 : decode cX8_init 10 = .ok (.bipush 16, 2) := dk_16 16 (dk_at dksX8_init_0 10 rfl rfl)
theorem dX8_init_12 : decode cX8_init 12 = .ok (.iload_n 2, 1) := dk_28 (dk_at dksX8_init_0 12 rfl rfl)
theorem dX8_init_13 : decode cX8_init 13 = .ok (.imul, 1) := dk_104 (dk_at dksX8_init_0 13 rfl rfl)
theorem dX8_init_14 : decode cX8_init 14 = .ok (.iadd, 1) := dk_96 (dk_at dksX8_init_0 14 rfl rfl)
theorem dX8_init_15 : decode cX8_init 15 = .ok (.putfield 7, 3) := dk_181 0 7 (dk_at dksX8_init_0 15 rfl rfl)
theorem dX8_init_18 : decode cX8_init 18 = .ok (.return_, 1) := dk_177 (dk_at dksX8_init_0 18 rfl rfl)
theorem dX9_init_0 : decode cX9_init 0 = .ok (.aload_n 0, 1) := by decide +kernel
theorem dX9_init_1 : decode cX9_init 1 = .ok (.invokespecial 1, 3) := by decide +kernel
theorem dX9_init_4 : decode cX9_init 4 = .ok (.return_, 1) := by decide +kernel
def dkwX10_init_0 : List UInt8 := [42, 183, 0, 1, 42, 27, 181, 0, 7, 177]
abbrev dktX10_init_0 : List UInt8 := dkwX10_init_0 ++ []
theorem dksX10_init_0 : cX10_init.data.toList.drop 0 = dktX10_init_0 := by decide +kernel
theorem dX10_init_0 : decode cX10_init 0 = .ok (.aload_n 0, 1) := dk_42 (dk_at dksX10_init_0 0 rfl rfl)
theorem dX10_init_1 : decode cX10_init 1 = .ok (.invokespecial 1, 3) := dk_183 0 1 (dk_at dksX10_init_0 1 rfl rfl)
theorem dX10_init_4 : decode cX10_init 4 = .ok (.aload_n 0, 1) := dk_42 (dk_at dksX10_init_0 4 rfl rfl)
theorem dX10_init_5 : decode cX10_init 5 = .ok (.iload_n 1, 1) := dk_27 (dk_at dksX10_init_0 5 rfl rfl)
theorem dX10_init_6 : decode cX10_init 6 = .ok (.putfield 7, 3) := dk_181 0 7 (dk_at dksX10_init_0 6 rfl rfl)
theorem dX10_init_9 : decode cX10_init 9 = .ok (.return_, 1) := dk_177 (dk_at dksX10_init_0 9 rfl rfl)
theorem dX10_worked_0 : decode cX10_worked 0 = .ok (.aload_n 0, 1) := by decide +kernel
theorem dX10_worked_1 : decode cX10_worked 1 = .ok (.getfield 7, 3) := by decide +kernel
theorem dX10_worked_4 : decode cX10_worked 4 = .ok (.ireturn, 1) := by decide +kernel
def dkwX11_init_0 : List UInt8 := [42, 183, 0, 1, 42, 27, 181, 0, 7, 177]
abbrev dktX11_init_0 : List UInt8 := dkwX11_init_0 ++ []
theorem dksX11_init_0 : cX11_init.data.toList.drop 0 = dktX11_init_0 := by decide +kernel
theorem dX11_init_0 : decode cX11_init 0 = .ok (.aload_n 0, 1) := dk_42 (dk_at dksX11_init_0 0 rfl rfl)
theorem dX11_init_1 : decode cX11_init 1 = .ok (.invokespecial 1, 3) := dk_183 0 1 (dk_at dksX11_init_0 1 rfl rfl)
theorem dX11_init_4 : decode cX11_init 4 = .ok (.aload_n 0, 1) := dk_42 (dk_at dksX11_init_0 4 rfl rfl)
theorem dX11_init_5 : decode cX11_init 5 = .ok (.iload_n 1, 1) := dk_27 (dk_at dksX11_init_0 5 rfl rfl)
theorem dX11_init_6 : decode cX11_init 6 = .ok (.putfield 7, 3) := dk_181 0 7 (dk_at dksX11_init_0 6 rfl rfl)
theorem dX11_init_9 : decode cX11_init 9 = .ok (.return_, 1) := dk_177 (dk_at dksX11_init_0 9 rfl rfl)
def dkwX11_worked_0 : List UInt8 := [43, 42, 180, 0, 7, 46, 172]
abbrev dktX11_worked_0 : List UInt8 := dkwX11_worked_0 ++ []
theorem dksX11_worked_0 : cX11_worked.data.toList.drop 0 = dktX11_worked_0 := by decide +kernel
theorem dX11_worked_0 : decode cX11_worked 0 = .ok (.aload_n 1, 1) := dk_43 (dk_at dksX11_worked_0 0 rfl rfl)
theorem dX11_worked_1 : decode cX11_worked 1 = .ok (.aload_n 0, 1) := dk_42 (dk_at dksX11_worked_0 1 rfl rfl)
theorem dX11_worked_2 : decode cX11_worked 2 = .ok (.getfield 7, 3) := dk_180 0 7 (dk_at dksX11_worked_0 2 rfl rfl)
theorem dX11_worked_5 : decode cX11_worked 5 = .ok (.iaload, 1) := dk_46 (dk_at dksX11_worked_0 5 rfl rfl)
theorem dX11_worked_6 : decode cX11_worked 6 = .ok (.ireturn, 1) := dk_172 (dk_at dksX11_worked_0 6 rfl rfl)
def dkwX12_init_0 : List UInt8 := [42, 183, 0, 1, 42, 43, 181, 0, 7, 177]
abbrev dktX12_init_0 : List UInt8 := dkwX12_init_0 ++ []
theorem dksX12_init_0 : cX12_init.data.toList.drop 0 = dktX12_init_0 := by decide +kernel
theorem dX12_init_0 : decode cX12_init 0 = .ok (.aload_n 0, 1) := dk_42 (dk_at dksX12_init_0 0 rfl rfl)
theorem dX12_init_1 : decode cX12_init 1 = .ok (.invokespecial 1, 3) := dk_183 0 1 (dk_at dksX12_init_0 1 rfl rfl)
theorem dX12_init_4 : decode cX12_init 4 = .ok (.aload_n 0, 1) := dk_42 (dk_at dksX12_init_0 4 rfl rfl)
theorem dX12_init_5 : decode cX12_init 5 = .ok (.aload_n 1, 1) := dk_43 (dk_at dksX12_init_0 5 rfl rfl)
theorem dX12_init_6 : decode cX12_init 6 = .ok (.putfield 7, 3) := dk_181 0 7 (dk_at dksX12_init_0 6 rfl rfl)
theorem dX12_init_9 : decode cX12_init 9 = .ok (.return_, 1) := dk_177 (dk_at dksX12_init_0 9 rfl rfl)
def dkwX12_worked_0 : List UInt8 := [42, 180, 0, 7, 43, 182, 0, 13, 154, 0, 7, 4, 167, 0, 4, 3, 172]
abbrev dktX12_worked_0 : List UInt8 := dkwX12_worked_0 ++ []
theorem dksX12_worked_0 : cX12_worked.data.toList.drop 0 = dktX12_worked_0 := by decide +kernel
theorem dX12_worked_0 : decode cX12_worked 0 = .ok (.aload_n 0, 1) := dk_42 (dk_at dksX12_worked_0 0 rfl rfl)
theorem dX12_worked_1 : decode cX12_worked 1 = .ok (.getfield 7, 3) := dk_180 0 7 (dk_at dksX12_worked_0 1 rfl rfl)
theorem dX12_worked_4 : decode cX12_worked 4 = .ok (.aload_n 1, 1) := dk_43 (dk_at dksX12_worked_0 4 rfl rfl)
theorem dX12_worked_5 : decode cX12_worked 5 = .ok (.invokevirtual 13, 3) := dk_182 0 13 (dk_at dksX12_worked_0 5 rfl rfl)
theorem dX12_worked_8 : decode cX12_worked 8 = .ok (.ifCond .ne 7, 3) := dk_154 0 7 (dk_at dksX12_worked_0 8 rfl rfl)
theorem dX12_worked_11 : decode cX12_worked 11 = .ok (.iconst 1, 1) := dk_4 (dk_at dksX12_worked_0 11 rfl rfl)
theorem dX12_worked_12 : decode cX12_worked 12 = .ok (.goto 4, 3) := dk_167 0 4 (dk_at dksX12_worked_0 12 rfl rfl)
theorem dX12_worked_15 : decode cX12_worked 15 = .ok (.iconst 0, 1) := dk_3 (dk_at dksX12_worked_0 15 rfl rfl)
theorem dX12_worked_16 : decode cX12_worked 16 = .ok (.ireturn, 1) := dk_172 (dk_at dksX12_worked_0 16 rfl rfl)
def dkwX13_init_0 : List UInt8 := [42, 183, 0, 1, 42, 27, 181, 0, 7, 42, 44, 181, 0, 13, 42, 45, 181, 0, 17, 177]
abbrev dktX13_init_0 : List UInt8 := dkwX13_init_0 ++ []
theorem dksX13_init_0 : cX13_init.data.toList.drop 0 = dktX13_init_0 := by decide +kernel
theorem dX13_init_0 : decode cX13_init 0 = .ok (.aload_n 0, 1) := dk_42 (dk_at dksX13_init_0 0 rfl rfl)
theorem dX13_init_1 : decode cX13_init 1 = .ok (.invokespecial 1, 3) := dk_183 0 1 (dk_at dksX13_init_0 1 rfl rfl)
theorem dX13_init_4 : decode cX13_init 4 = .ok (.aload_n 0, 1) := dk_42 (dk_at dksX13_init_0 4 rfl rfl)
theorem dX13_init_5 : decode cX13_init 5 = .ok (.iload_n 1, 1) := dk_27 (dk_at dksX13_init_0 5 rfl rfl)
theorem dX13_init_6 : decode cX13_init 6 = .ok (.putfield 7, 3) := dk_181 0 7 (dk_at dksX13_init_0 6 rfl rfl)
theorem dX13_init_9 : decode cX13_init 9 = .ok (.aload_n 0, 1) := dk_42 (dk_at dksX13_init_0 9 rfl rfl)
theorem dX13_init_10 : decode cX13_init 10 = .ok (.aload_n 2, 1) := dk_44 (dk_at dksX13_init_0 10 rfl rfl)
theorem dX13_init_11 : decode cX13_init 11 = .ok (.putfield 13, 3) := dk_181 0 13 (dk_at dksX13_init_0 11 rfl rfl)
theorem dX13_init_14 : decode cX13_init 14 = .ok (.aload_n 0, 1) := dk_42 (dk_at dksX13_init_0 14 rfl rfl)
theorem dX13_init_15 : decode cX13_init 15 = .ok (.aload_n 3, 1) := dk_45 (dk_at dksX13_init_0 15 rfl rfl)
theorem dX13_init_16 : decode cX13_init 16 = .ok (.putfield 17, 3) := dk_181 0 17 (dk_at dksX13_init_0 16 rfl rfl)
theorem dX13_init_19 : decode cX13_init 19 = .ok (.return_, 1) := dk_177 (dk_at dksX13_init_0 19 rfl rfl)
def dkwX13_worked_4 : List UInt8 := [28, 154, 0, 7, 29, 153, 0, 7, 4, 167, 0, 4, 3, 172]
abbrev dktX13_worked_4 : List UInt8 := dkwX13_worked_4 ++ []
def dkwX13_worked_3 : List UInt8 := [29, 160, 0, 7, 4, 167, 0, 4, 3, 172, 28, 153, 0, 11, 29, 153, 0, 7, 4, 167, 0, 4, 3, 172]
abbrev dktX13_worked_3 : List UInt8 := dkwX13_worked_3 ++ dktX13_worked_4
def dkwX13_worked_2 : List UInt8 := [28, 29, 96, 172, 28, 29, 100, 172, 28, 29, 104, 172, 28, 29, 162, 0, 7, 4, 167, 0, 4, 3, 172, 28]
abbrev dktX13_worked_2 : List UInt8 := dkwX13_worked_2 ++ dktX13_worked_3
def dkwX13_worked_1 : List UInt8 := [171, 0, 0, 0, 0, 106, 0, 0, 0, 6, 0, 0, 0, 38, 0, 0, 0, 92, 0, 0, 0, 42, 0, 0, 0, 66, 0, 0, 0, 43, 0, 0, 0, 58, 0, 0, 0, 45, 0, 0, 0, 62, 0, 0, 0, 60, 0, 0, 0, 70, 0, 0, 0, 61, 0, 0, 0, 81]
abbrev dktX13_worked_1 : List UInt8 := dkwX13_worked_1 ++ dktX13_worked_2
def dkwX13_worked_0 : List UInt8 := [42, 180, 0, 13, 43, 182, 0, 20, 61, 42, 180, 0, 17, 43, 182, 0, 20, 62, 42, 180, 0, 7]
abbrev dktX13_worked_0 : List UInt8 := dkwX13_worked_0 ++ dktX13_worked_1
theorem dksX13_worked_0 : cX13_worked.data.toList.drop 0 = dktX13_worked_0 := by decide +kernel
theorem dksX13_worked_1 : cX13_worked.data.toList.drop 22 = dktX13_worked_1 := dk_seg dksX13_worked_0 22 rfl rfl
theorem dksX13_worked_2 : cX13_worked.data.toList.drop 80 = dktX13_worked_2 := dk_seg dksX13_worked_1 58 rfl rfl
theorem dksX13_worked_3 : cX13_worked.data.toList.drop 104 = dktX13_worked_3 := dk_seg dksX13_worked_2 24 rfl rfl
theorem dksX13_worked_4 : cX13_worked.data.toList.drop 128 = dktX13_worked_4 := dk_seg dksX13_worked_3 24 rfl rfl
theorem dX13_worked_0 : decode cX13_worked 0 = .ok (.aload_n 0, 1) := dk_42 (dk_at dksX13_worked_0 0 rfl rfl)
theorem dX13_worked_1 : decode cX13_worked 1 = .ok (.getfield 13, 3) := dk_180 0 13 (dk_at dksX13_worked_0 1 rfl rfl)
theorem dX13_worked_4 : decode cX13_worked 4 = .ok (.aload_n 1, 1) := dk_43 (dk_at dksX13_worked_0 4 rfl rfl)
theorem dX13_worked_5 : decode cX13_worked 5 = .ok (.invokevirtual 20, 3) := dk_182 0 20 (dk_at dksX13_worked_0 5 rfl rfl)
theorem dX13_worked_8 : decode cX13_worked 8 = .ok (.istore_n 2, 1) := dk_61 (dk_at dksX13_worked_0 8 rfl rfl)
theorem dX13_worked_9 : decode cX13_worked 9 = .ok (.aload_n 0, 1) := dk_42 (dk_at dksX13_worked_0 9 rfl rfl)
theorem dX13_worked_10 : decode cX13_worked 10 = .ok (.getfield 17, 3) := dk_180 0 17 (dk_at dksX13_worked_0 10 rfl rfl)
theorem dX13_worked_13 : decode cX13_worked 13 = .ok (.aload_n 1, 1) := dk_43 (dk_at dksX13_worked_0 13 rfl rfl)
theorem dX13_worked_14 : decode cX13_worked 14 = .ok (.invokevirtual 20, 3) := dk_182 0 20 (dk_at dksX13_worked_0 14 rfl rfl)
theorem dX13_worked_17 : decode cX13_worked 17 = .ok (.istore_n 3, 1) := dk_62 (dk_at dksX13_worked_0 17 rfl rfl)
theorem dX13_worked_18 : decode cX13_worked 18 = .ok (.aload_n 0, 1) := dk_42 (dk_at dksX13_worked_0 18 rfl rfl)
theorem dX13_worked_19 : decode cX13_worked 19 = .ok (.getfield 7, 3) := dk_180 0 7 (dk_at dksX13_worked_0 19 rfl rfl)
theorem dX13_worked_22 : decode cX13_worked 22 = .ok (.lookupswitch 106 #[(38, 92), (42, 66), (43, 58), (45, 62), (60, 70), (61, 81)], 58) := by decide +kernel
theorem dX13_worked_80 : decode cX13_worked 80 = .ok (.iload_n 2, 1) := dk_28 (dk_at dksX13_worked_2 0 rfl rfl)
theorem dX13_worked_81 : decode cX13_worked 81 = .ok (.iload_n 3, 1) := dk_29 (dk_at dksX13_worked_2 1 rfl rfl)
theorem dX13_worked_82 : decode cX13_worked 82 = .ok (.iadd, 1) := dk_96 (dk_at dksX13_worked_2 2 rfl rfl)
theorem dX13_worked_83 : decode cX13_worked 83 = .ok (.ireturn, 1) := dk_172 (dk_at dksX13_worked_2 3 rfl rfl)
theorem dX13_worked_84 : decode cX13_worked 84 = .ok (.iload_n 2, 1) := dk_28 (dk_at dksX13_worked_2 4 rfl rfl)
theorem dX13_worked_85 : decode cX13_worked 85 = .ok (.iload_n 3, 1) := dk_29 (dk_at dksX13_worked_2 5 rfl rfl)
theorem dX13_worked_86 : decode cX13_worked 86 = .ok (.isub, 1) := dk_100 (dk_at dksX13_worked_2 6 rfl rfl)
theorem dX13_worked_87 : decode cX13_worked 87 = .ok (.ireturn, 1) := dk_172 (dk_at dksX13_worked_2 7 rfl rfl)
theorem dX13_worked_88 : decode cX13_worked 88 = .ok (.iload_n 2, 1) := dk_28 (dk_at dksX13_worked_2 8 rfl rfl)
theorem dX13_worked_89 : decode cX13_worked 89 = .ok (.iload_n 3, 1) := dk_29 (dk_at dksX13_worked_2 9 rfl rfl)
theorem dX13_worked_90 : decode cX13_worked 90 = .ok (.imul, 1) := dk_104 (dk_at dksX13_worked_2 10 rfl rfl)
theorem dX13_worked_91 : decode cX13_worked 91 = .ok (.ireturn, 1) := dk_172 (dk_at dksX13_worked_2 11 rfl rfl)
theorem dX13_worked_92 : decode cX13_worked 92 = .ok (.iload_n 2, 1) := dk_28 (dk_at dksX13_worked_2 12 rfl rfl)
theorem dX13_worked_93 : decode cX13_worked 93 = .ok (.iload_n 3, 1) := dk_29 (dk_at dksX13_worked_2 13 rfl rfl)
theorem dX13_worked_94 : decode cX13_worked 94 = .ok (.if_icmp .ge 7, 3) := dk_162 0 7 (dk_at dksX13_worked_2 14 rfl rfl)
theorem dX13_worked_97 : decode cX13_worked 97 = .ok (.iconst 1, 1) := dk_4 (dk_at dksX13_worked_2 17 rfl rfl)
theorem dX13_worked_98 : decode cX13_worked 98 = .ok (.goto 4, 3) := dk_167 0 4 (dk_at dksX13_worked_2 18 rfl rfl)
theorem dX13_worked_101 : decode cX13_worked 101 = .ok (.iconst 0, 1) := dk_3 (dk_at dksX13_worked_2 21 rfl rfl)
theorem dX13_worked_102 : decode cX13_worked 102 = .ok (.ireturn, 1) := dk_172 (dk_at dksX13_worked_2 22 rfl rfl)
theorem dX13_worked_103 : decode cX13_worked 103 = .ok (.iload_n 2, 1) := dk_28 (dk_at dksX13_worked_2 23 rfl rfl)
theorem dX13_worked_104 : decode cX13_worked 104 = .ok (.iload_n 3, 1) := dk_29 (dk_at dksX13_worked_3 0 rfl rfl)
theorem dX13_worked_105 : decode cX13_worked 105 = .ok (.if_icmp .ne 7, 3) := dk_160 0 7 (dk_at dksX13_worked_3 1 rfl rfl)
theorem dX13_worked_108 : decode cX13_worked 108 = .ok (.iconst 1, 1) := dk_4 (dk_at dksX13_worked_3 4 rfl rfl)
theorem dX13_worked_109 : decode cX13_worked 109 = .ok (.goto 4, 3) := dk_167 0 4 (dk_at dksX13_worked_3 5 rfl rfl)
theorem dX13_worked_112 : decode cX13_worked 112 = .ok (.iconst 0, 1) := dk_3 (dk_at dksX13_worked_3 8 rfl rfl)
theorem dX13_worked_113 : decode cX13_worked 113 = .ok (.ireturn, 1) := dk_172 (dk_at dksX13_worked_3 9 rfl rfl)
theorem dX13_worked_114 : decode cX13_worked 114 = .ok (.iload_n 2, 1) := dk_28 (dk_at dksX13_worked_3 10 rfl rfl)
theorem dX13_worked_115 : decode cX13_worked 115 = .ok (.ifCond .eq 11, 3) := dk_153 0 11 (dk_at dksX13_worked_3 11 rfl rfl)
theorem dX13_worked_118 : decode cX13_worked 118 = .ok (.iload_n 3, 1) := dk_29 (dk_at dksX13_worked_3 14 rfl rfl)
theorem dX13_worked_119 : decode cX13_worked 119 = .ok (.ifCond .eq 7, 3) := dk_153 0 7 (dk_at dksX13_worked_3 15 rfl rfl)
theorem dX13_worked_122 : decode cX13_worked 122 = .ok (.iconst 1, 1) := dk_4 (dk_at dksX13_worked_3 18 rfl rfl)
theorem dX13_worked_123 : decode cX13_worked 123 = .ok (.goto 4, 3) := dk_167 0 4 (dk_at dksX13_worked_3 19 rfl rfl)
theorem dX13_worked_126 : decode cX13_worked 126 = .ok (.iconst 0, 1) := dk_3 (dk_at dksX13_worked_3 22 rfl rfl)
theorem dX13_worked_127 : decode cX13_worked 127 = .ok (.ireturn, 1) := dk_172 (dk_at dksX13_worked_3 23 rfl rfl)
theorem dX13_worked_128 : decode cX13_worked 128 = .ok (.iload_n 2, 1) := dk_28 (dk_at dksX13_worked_4 0 rfl rfl)
theorem dX13_worked_129 : decode cX13_worked 129 = .ok (.ifCond .ne 7, 3) := dk_154 0 7 (dk_at dksX13_worked_4 1 rfl rfl)
theorem dX13_worked_132 : decode cX13_worked 132 = .ok (.iload_n 3, 1) := dk_29 (dk_at dksX13_worked_4 4 rfl rfl)
theorem dX13_worked_133 : decode cX13_worked 133 = .ok (.ifCond .eq 7, 3) := dk_153 0 7 (dk_at dksX13_worked_4 5 rfl rfl)
theorem dX13_worked_136 : decode cX13_worked 136 = .ok (.iconst 1, 1) := dk_4 (dk_at dksX13_worked_4 8 rfl rfl)
theorem dX13_worked_137 : decode cX13_worked 137 = .ok (.goto 4, 3) := dk_167 0 4 (dk_at dksX13_worked_4 9 rfl rfl)
theorem dX13_worked_140 : decode cX13_worked 140 = .ok (.iconst 0, 1) := dk_3 (dk_at dksX13_worked_4 12 rfl rfl)
theorem dX13_worked_141 : decode cX13_worked 141 = .ok (.ireturn, 1) := dk_172 (dk_at dksX13_worked_4 13 rfl rfl)
def dkwJ0_max_0 : List UInt8 := [26, 27, 161, 0, 7, 26, 167, 0, 4, 27, 172]
abbrev dktJ0_max_0 : List UInt8 := dkwJ0_max_0 ++ []
theorem dksJ0_max_0 : cJ0_max.data.toList.drop 0 = dktJ0_max_0 := by decide +kernel
theorem dJ0_max_0 : decode cJ0_max 0 = .ok (.iload_n 0, 1) := dk_26 (dk_at dksJ0_max_0 0 rfl rfl)
theorem dJ0_max_1 : decode cJ0_max 1 = .ok (.iload_n 1, 1) := dk_27 (dk_at dksJ0_max_0 1 rfl rfl)
theorem dJ0_max_2 : decode cJ0_max 2 = .ok (.if_icmp .lt 7, 3) := dk_161 0 7 (dk_at dksJ0_max_0 2 rfl rfl)
theorem dJ0_max_5 : decode cJ0_max 5 = .ok (.iload_n 0, 1) := dk_26 (dk_at dksJ0_max_0 5 rfl rfl)
theorem dJ0_max_6 : decode cJ0_max 6 = .ok (.goto 4, 3) := dk_167 0 4 (dk_at dksJ0_max_0 6 rfl rfl)
theorem dJ0_max_9 : decode cJ0_max 9 = .ok (.iload_n 1, 1) := dk_27 (dk_at dksJ0_max_0 9 rfl rfl)
theorem dJ0_max_10 : decode cJ0_max 10 = .ok (.ireturn, 1) := dk_172 (dk_at dksJ0_max_0 10 rfl rfl)
def dkwJ0_abs_0 : List UInt8 := [30, 9, 148, 156, 0, 8, 30, 117, 167, 0, 4, 30, 173]
abbrev dktJ0_abs_0 : List UInt8 := dkwJ0_abs_0 ++ []
theorem dksJ0_abs_0 : cJ0_abs.data.toList.drop 0 = dktJ0_abs_0 := by decide +kernel
theorem dJ0_abs_0 : decode cJ0_abs 0 = .ok (.lload_n 0, 1) := dk_30 (dk_at dksJ0_abs_0 0 rfl rfl)
theorem dJ0_abs_1 : decode cJ0_abs 1 = .ok (.lconst 0, 1) := dk_9 (dk_at dksJ0_abs_0 1 rfl rfl)
theorem dJ0_abs_2 : decode cJ0_abs 2 = .ok (.lcmp, 1) := dk_148 (dk_at dksJ0_abs_0 2 rfl rfl)
theorem dJ0_abs_3 : decode cJ0_abs 3 = .ok (.ifCond .ge 8, 3) := dk_156 0 8 (dk_at dksJ0_abs_0 3 rfl rfl)
theorem dJ0_abs_6 : decode cJ0_abs 6 = .ok (.lload_n 0, 1) := dk_30 (dk_at dksJ0_abs_0 6 rfl rfl)
theorem dJ0_abs_7 : decode cJ0_abs 7 = .ok (.lneg, 1) := dk_117 (dk_at dksJ0_abs_0 7 rfl rfl)
theorem dJ0_abs_8 : decode cJ0_abs 8 = .ok (.goto 4, 3) := dk_167 0 4 (dk_at dksJ0_abs_0 8 rfl rfl)
theorem dJ0_abs_11 : decode cJ0_abs 11 = .ok (.lload_n 0, 1) := dk_30 (dk_at dksJ0_abs_0 11 rfl rfl)
theorem dJ0_abs_12 : decode cJ0_abs 12 = .ok (.lreturn, 1) := dk_173 (dk_at dksJ0_abs_0 12 rfl rfl)
def dkwJ0_min_0 : List UInt8 := [26, 27, 163, 0, 7, 26, 167, 0, 4, 27, 172]
abbrev dktJ0_min_0 : List UInt8 := dkwJ0_min_0 ++ []
theorem dksJ0_min_0 : cJ0_min.data.toList.drop 0 = dktJ0_min_0 := by decide +kernel
theorem dJ0_min_0 : decode cJ0_min 0 = .ok (.iload_n 0, 1) := dk_26 (dk_at dksJ0_min_0 0 rfl rfl)
theorem dJ0_min_1 : decode cJ0_min 1 = .ok (.iload_n 1, 1) := dk_27 (dk_at dksJ0_min_0 1 rfl rfl)
theorem dJ0_min_2 : decode cJ0_min 2 = .ok (.if_icmp .gt 7, 3) := dk_163 0 7 (dk_at dksJ0_min_0 2 rfl rfl)
theorem dJ0_min_5 : decode cJ0_min 5 = .ok (.iload_n 0, 1) := dk_26 (dk_at dksJ0_min_0 5 rfl rfl)
theorem dJ0_min_6 : decode cJ0_min 6 = .ok (.goto 4, 3) := dk_167 0 4 (dk_at dksJ0_min_0 6 rfl rfl)
theorem dJ0_min_9 : decode cJ0_min 9 = .ok (.iload_n 1, 1) := dk_27 (dk_at dksJ0_min_0 9 rfl rfl)
theorem dJ0_min_10 : decode cJ0_min 10 = .ok (.ireturn, 1) := dk_172 (dk_at dksJ0_min_0 10 rfl rfl)
def dkwJ0_abs_2_0 : List UInt8 := [26, 156, 0, 8, 26, 116, 167, 0, 4, 26, 172]
abbrev dktJ0_abs_2_0 : List UInt8 := dkwJ0_abs_2_0 ++ []
theorem dksJ0_abs_2_0 : cJ0_abs_2.data.toList.drop 0 = dktJ0_abs_2_0 := by decide +kernel
theorem dJ0_abs_2_0 : decode cJ0_abs_2 0 = .ok (.iload_n 0, 1) := dk_26 (dk_at dksJ0_abs_2_0 0 rfl rfl)
theorem dJ0_abs_2_1 : decode cJ0_abs_2 1 = .ok (.ifCond .ge 8, 3) := dk_156 0 8 (dk_at dksJ0_abs_2_0 1 rfl rfl)
theorem dJ0_abs_2_4 : decode cJ0_abs_2 4 = .ok (.iload_n 0, 1) := dk_26 (dk_at dksJ0_abs_2_0 4 rfl rfl)
theorem dJ0_abs_2_5 : decode cJ0_abs_2 5 = .ok (.ineg, 1) := dk_116 (dk_at dksJ0_abs_2_0 5 rfl rfl)
theorem dJ0_abs_2_6 : decode cJ0_abs_2 6 = .ok (.goto 4, 3) := dk_167 0 4 (dk_at dksJ0_abs_2_0 6 rfl rfl)
theorem dJ0_abs_2_9 : decode cJ0_abs_2 9 = .ok (.iload_n 0, 1) := dk_26 (dk_at dksJ0_abs_2_0 9 rfl rfl)
theorem dJ0_abs_2_10 : decode cJ0_abs_2 10 = .ok (.ireturn, 1) := dk_172 (dk_at dksJ0_abs_2_0 10 rfl rfl)
def dkwJ1_init_1 : List UInt8 := [182, 0, 27, 87, 177]
abbrev dktJ1_init_1 : List UInt8 := dkwJ1_init_1 ++ []
def dkwJ1_init_0 : List UInt8 := [42, 183, 0, 1, 42, 42, 181, 0, 7, 42, 178, 0, 13, 181, 0, 17, 42, 178, 0, 20, 181, 0, 24, 42]
abbrev dktJ1_init_0 : List UInt8 := dkwJ1_init_0 ++ dktJ1_init_1
theorem dksJ1_init_0 : cJ1_init.data.toList.drop 0 = dktJ1_init_0 := by decide +kernel
theorem dksJ1_init_1 : cJ1_init.data.toList.drop 24 = dktJ1_init_1 := dk_seg dksJ1_init_0 24 rfl rfl
theorem dJ1_init_0 : decode cJ1_init 0 = .ok (.aload_n 0, 1) := dk_42 (dk_at dksJ1_init_0 0 rfl rfl)
theorem dJ1_init_1 : decode cJ1_init 1 = .ok (.invokespecial 1, 3) := dk_183 0 1 (dk_at dksJ1_init_0 1 rfl rfl)
theorem dJ1_init_4 : decode cJ1_init 4 = .ok (.aload_n 0, 1) := dk_42 (dk_at dksJ1_init_0 4 rfl rfl)
theorem dJ1_init_5 : decode cJ1_init 5 = .ok (.aload_n 0, 1) := dk_42 (dk_at dksJ1_init_0 5 rfl rfl)
theorem dJ1_init_6 : decode cJ1_init 6 = .ok (.putfield 7, 3) := dk_181 0 7 (dk_at dksJ1_init_0 6 rfl rfl)
theorem dJ1_init_9 : decode cJ1_init 9 = .ok (.aload_n 0, 1) := dk_42 (dk_at dksJ1_init_0 9 rfl rfl)
theorem dJ1_init_10 : decode cJ1_init 10 = .ok (.getstatic 13, 3) := dk_178 0 13 (dk_at dksJ1_init_0 10 rfl rfl)
theorem dJ1_init_13 : decode cJ1_init 13 = .ok (.putfield 17, 3) := dk_181 0 17 (dk_at dksJ1_init_0 13 rfl rfl)
theorem dJ1_init_16 : decode cJ1_init 16 = .ok (.aload_n 0, 1) := dk_42 (dk_at dksJ1_init_0 16 rfl rfl)
theorem dJ1_init_17 : decode cJ1_init 17 = .ok (.getstatic 20, 3) := dk_178 0 20 (dk_at dksJ1_init_0 17 rfl rfl)
theorem dJ1_init_20 : decode cJ1_init 20 = .ok (.putfield 24, 3) := dk_181 0 24 (dk_at dksJ1_init_0 20 rfl rfl)
theorem dJ1_init_23 : decode cJ1_init 23 = .ok (.aload_n 0, 1) := dk_42 (dk_at dksJ1_init_0 23 rfl rfl)
theorem dJ1_init_24 : decode cJ1_init 24 = .ok (.invokevirtual 27, 3) := dk_182 0 27 (dk_at dksJ1_init_1 0 rfl rfl)
theorem dJ1_init_27 : decode cJ1_init 27 = .ok (.pop, 1) := dk_87 (dk_at dksJ1_init_1 3 rfl rfl)
theorem dJ1_init_28 : decode cJ1_init 28 = .ok (.return_, 1) := dk_177 (dk_at dksJ1_init_1 4 rfl rfl)
def dkwJ1_init_2_2 : List UInt8 := [44, 181, 0, 7, 29, 154, 0, 8, 42, 1, 181, 0, 24, 177]
abbrev dktJ1_init_2_2 : List UInt8 := dkwJ1_init_2_2 ++ []
def dkwJ1_init_2_1 : List UInt8 := [21, 4, 153, 0, 11, 42, 182, 0, 27, 87, 167, 0, 8, 42, 1, 181, 0, 17, 42, 43, 181, 0, 31, 42]
abbrev dktJ1_init_2_1 : List UInt8 := dkwJ1_init_2_1 ++ dktJ1_init_2_2
def dkwJ1_init_2_0 : List UInt8 := [42, 183, 0, 1, 42, 42, 181, 0, 7, 42, 178, 0, 13, 181, 0, 17, 42, 178, 0, 20, 181, 0, 24]
abbrev dktJ1_init_2_0 : List UInt8 := dkwJ1_init_2_0 ++ dktJ1_init_2_1
theorem dksJ1_init_2_0 : cJ1_init_2.data.toList.drop 0 = dktJ1_init_2_0 := by decide +kernel
theorem dksJ1_init_2_1 : cJ1_init_2.data.toList.drop 23 = dktJ1_init_2_1 := dk_seg dksJ1_init_2_0 23 rfl rfl
theorem dksJ1_init_2_2 : cJ1_init_2.data.toList.drop 47 = dktJ1_init_2_2 := dk_seg dksJ1_init_2_1 24 rfl rfl
theorem dJ1_init_2_0 : decode cJ1_init_2 0 = .ok (.aload_n 0, 1) := dk_42 (dk_at dksJ1_init_2_0 0 rfl rfl)
theorem dJ1_init_2_1 : decode cJ1_init_2 1 = .ok (.invokespecial 1, 3) := dk_183 0 1 (dk_at dksJ1_init_2_0 1 rfl rfl)
theorem dJ1_init_2_4 : decode cJ1_init_2 4 = .ok (.aload_n 0, 1) := dk_42 (dk_at dksJ1_init_2_0 4 rfl rfl)
theorem dJ1_init_2_5 : decode cJ1_init_2 5 = .ok (.aload_n 0, 1) := dk_42 (dk_at dksJ1_init_2_0 5 rfl rfl)
theorem dJ1_init_2_6 : decode cJ1_init_2 6 = .ok (.putfield 7, 3) := dk_181 0 7 (dk_at dksJ1_init_2_0 6 rfl rfl)
theorem dJ1_init_2_9 : decode cJ1_init_2 9 = .ok (.aload_n 0, 1) := dk_42 (dk_at dksJ1_init_2_0 9 rfl rfl)
theorem dJ1_init_2_10 : decode cJ1_init_2 10 = .ok (.getstatic 13, 3) := dk_178 0 13 (dk_at dksJ1_init_2_0 10 rfl rfl)
theorem dJ1_init_2_13 : decode cJ1_init_2 13 = .ok (.putfield 17, 3) := dk_181 0 17 (dk_at dksJ1_init_2_0 13 rfl rfl)
theorem dJ1_init_2_16 : decode cJ1_init_2 16 = .ok (.aload_n 0, 1) := dk_42 (dk_at dksJ1_init_2_0 16 rfl rfl)
theorem dJ1_init_2_17 : decode cJ1_init_2 17 = .ok (.getstatic 20, 3) := dk_178 0 20 (dk_at dksJ1_init_2_0 17 rfl rfl)
theorem dJ1_init_2_20 : decode cJ1_init_2 20 = .ok (.putfield 24, 3) := dk_181 0 24 (dk_at dksJ1_init_2_0 20 rfl rfl)
theorem dJ1_init_2_23 : decode cJ1_init_2 23 = .ok (.iload 4, 2) := dk_21 4 (dk_at dksJ1_init_2_1 0 rfl rfl)
theorem dJ1_init_2_25 : decode cJ1_init_2 25 = .ok (.ifCond .eq 11, 3) := dk_153 0 11 (dk_at dksJ1_init_2_1 2 rfl rfl)
theorem dJ1_init_2_28 : decode cJ1_init_2 28 = .ok (.aload_n 0, 1) := dk_42 (dk_at dksJ1_init_2_1 5 rfl rfl)
theorem dJ1_init_2_29 : decode cJ1_init_2 29 = .ok (.invokevirtual 27, 3) := dk_182 0 27 (dk_at dksJ1_init_2_1 6 rfl rfl)
theorem dJ1_init_2_32 : decode cJ1_init_2 32 = .ok (.pop, 1) := dk_87 (dk_at dksJ1_init_2_1 9 rfl rfl)
theorem dJ1_init_2_33 : decode cJ1_init_2 33 = .ok (.goto 8, 3) := dk_167 0 8 (dk_at dksJ1_init_2_1 10 rfl rfl)
theorem dJ1_init_2_36 : decode cJ1_init_2 36 = .ok (.aload_n 0, 1) := dk_42 (dk_at dksJ1_init_2_1 13 rfl rfl)
theorem dJ1_init_2_37 : decode cJ1_init_2 37 = .ok (.aconst_null, 1) := dk_1 (dk_at dksJ1_init_2_1 14 rfl rfl)
theorem dJ1_init_2_38 : decode cJ1_init_2 38 = .ok (.putfield 17, 3) := dk_181 0 17 (dk_at dksJ1_init_2_1 15 rfl rfl)
theorem dJ1_init_2_41 : decode cJ1_init_2 41 = .ok (.aload_n 0, 1) := dk_42 (dk_at dksJ1_init_2_1 18 rfl rfl)
theorem dJ1_init_2_42 : decode cJ1_init_2 42 = .ok (.aload_n 1, 1) := dk_43 (dk_at dksJ1_init_2_1 19 rfl rfl)
theorem dJ1_init_2_43 : decode cJ1_init_2 43 = .ok (.putfield 31, 3) := dk_181 0 31 (dk_at dksJ1_init_2_1 20 rfl rfl)
theorem dJ1_init_2_46 : decode cJ1_init_2 46 = .ok (.aload_n 0, 1) := dk_42 (dk_at dksJ1_init_2_1 23 rfl rfl)
theorem dJ1_init_2_47 : decode cJ1_init_2 47 = .ok (.aload_n 2, 1) := dk_44 (dk_at dksJ1_init_2_2 0 rfl rfl)
theorem dJ1_init_2_48 : decode cJ1_init_2 48 = .ok (.putfield 7, 3) := dk_181 0 7 (dk_at dksJ1_init_2_2 1 rfl rfl)
theorem dJ1_init_2_51 : decode cJ1_init_2 51 = .ok (.iload_n 3, 1) := dk_29 (dk_at dksJ1_init_2_2 4 rfl rfl)
theorem dJ1_init_2_52 : decode cJ1_init_2 52 = .ok (.ifCond .ne 8, 3) := dk_154 0 8 (dk_at dksJ1_init_2_2 5 rfl rfl)
theorem dJ1_init_2_55 : decode cJ1_init_2 55 = .ok (.aload_n 0, 1) := dk_42 (dk_at dksJ1_init_2_2 8 rfl rfl)
theorem dJ1_init_2_56 : decode cJ1_init_2 56 = .ok (.aconst_null, 1) := dk_1 (dk_at dksJ1_init_2_2 9 rfl rfl)
theorem dJ1_init_2_57 : decode cJ1_init_2 57 = .ok (.putfield 24, 3) := dk_181 0 24 (dk_at dksJ1_init_2_2 10 rfl rfl)
theorem dJ1_init_2_60 : decode cJ1_init_2 60 = .ok (.return_, 1) := dk_177 (dk_at dksJ1_init_2_2 13 rfl rfl)
def dkwJ2_init_0 : List UInt8 := [42, 43, 44, 29, 21, 4, 183, 0, 16, 177]
abbrev dktJ2_init_0 : List UInt8 := dkwJ2_init_0 ++ []
theorem dksJ2_init_0 : cJ2_init.data.toList.drop 0 = dktJ2_init_0 := by decide +kernel
theorem dJ2_init_0 : decode cJ2_init 0 = .ok (.aload_n 0, 1) := dk_42 (dk_at dksJ2_init_0 0 rfl rfl)
theorem dJ2_init_1 : decode cJ2_init 1 = .ok (.aload_n 1, 1) := dk_43 (dk_at dksJ2_init_0 1 rfl rfl)
theorem dJ2_init_2 : decode cJ2_init 2 = .ok (.aload_n 2, 1) := dk_44 (dk_at dksJ2_init_0 2 rfl rfl)
theorem dJ2_init_3 : decode cJ2_init 3 = .ok (.iload_n 3, 1) := dk_29 (dk_at dksJ2_init_0 3 rfl rfl)
theorem dJ2_init_4 : decode cJ2_init 4 = .ok (.iload 4, 2) := dk_21 4 (dk_at dksJ2_init_0 4 rfl rfl)
theorem dJ2_init_6 : decode cJ2_init 6 = .ok (.invokespecial 16, 3) := dk_183 0 16 (dk_at dksJ2_init_0 6 rfl rfl)
theorem dJ2_init_9 : decode cJ2_init 9 = .ok (.return_, 1) := dk_177 (dk_at dksJ2_init_0 9 rfl rfl)
theorem dJ2_init_2_0 : decode cJ2_init_2 0 = .ok (.aload_n 0, 1) := by decide +kernel
theorem dJ2_init_2_1 : decode cJ2_init_2 1 = .ok (.invokespecial 1, 3) := by decide +kernel
theorem dJ2_init_2_4 : decode cJ2_init_2 4 = .ok (.return_, 1) := by decide +kernel
def dkwJ3_init_0 : List UInt8 := [42, 43, 44, 29, 21, 4, 183, 0, 16, 177]
abbrev dktJ3_init_0 : List UInt8 := dkwJ3_init_0 ++ []
theorem dksJ3_init_0 : cJ3_init.data.toList.drop 0 = dktJ3_init_0 := by decide +kernel
theorem dJ3_init_0 : decode cJ3_init 0 = .ok (.aload_n 0, 1) := dk_42 (dk_at dksJ3_init_0 0 rfl rfl)
theorem dJ3_init_1 : decode cJ3_init 1 = .ok (.aload_n 1, 1) := dk_43 (dk_at dksJ3_init_0 1 rfl rfl)
theorem dJ3_init_2 : decode cJ3_init 2 = .ok (.aload_n 2, 1) := dk_44 (dk_at dksJ3_init_0 2 rfl rfl)
theorem dJ3_init_3 : decode cJ3_init 3 = .ok (.iload_n 3, 1) := dk_29 (dk_at dksJ3_init_0 3 rfl rfl)
theorem dJ3_init_4 : decode cJ3_init 4 = .ok (.iload 4, 2) := dk_21 4 (dk_at dksJ3_init_0 4 rfl rfl)
theorem dJ3_init_6 : decode cJ3_init 6 = .ok (.invokespecial 16, 3) := dk_183 0 16 (dk_at dksJ3_init_0 6 rfl rfl)
theorem dJ3_init_9 : decode cJ3_init 9 = .ok (.return_, 1) := dk_177 (dk_at dksJ3_init_0 9 rfl rfl)
theorem dJ3_init_2_0 : decode cJ3_init_2 0 = .ok (.aload_n 0, 1) := by decide +kernel
theorem dJ3_init_2_1 : decode cJ3_init_2 1 = .ok (.invokespecial 1, 3) := by decide +kernel
theorem dJ3_init_2_4 : decode cJ3_init_2 4 = .ok (.return_, 1) := by decide +kernel
theorem dJ4_init_0 : decode cJ4_init 0 = .ok (.aload_n 0, 1) := by decide +kernel
theorem dJ4_init_1 : decode cJ4_init 1 = .ok (.invokespecial 1, 3) := by decide +kernel
theorem dJ4_init_4 : decode cJ4_init 4 = .ok (.return_, 1) := by decide +kernel
def dkwJ5_indexOf_0 : List UInt8 := [42, 27, 3, 182, 2, 121, 172]
abbrev dktJ5_indexOf_0 : List UInt8 := dkwJ5_indexOf_0 ++ []
theorem dksJ5_indexOf_0 : cJ5_indexOf.data.toList.drop 0 = dktJ5_indexOf_0 := by decide +kernel
theorem dJ5_indexOf_0 : decode cJ5_indexOf 0 = .ok (.aload_n 0, 1) := dk_42 (dk_at dksJ5_indexOf_0 0 rfl rfl)
theorem dJ5_indexOf_1 : decode cJ5_indexOf 1 = .ok (.iload_n 1, 1) := dk_27 (dk_at dksJ5_indexOf_0 1 rfl rfl)
theorem dJ5_indexOf_2 : decode cJ5_indexOf 2 = .ok (.iconst 0, 1) := dk_3 (dk_at dksJ5_indexOf_0 2 rfl rfl)
theorem dJ5_indexOf_3 : decode cJ5_indexOf 3 = .ok (.invokevirtual 633, 3) := dk_182 2 121 (dk_at dksJ5_indexOf_0 3 rfl rfl)
theorem dJ5_indexOf_6 : decode cJ5_indexOf 6 = .ok (.ireturn, 1) := dk_172 (dk_at dksJ5_indexOf_0 6 rfl rfl)
def dkwJ5_indexOf_2_1 : List UInt8 := [180, 0, 9, 27, 28, 42, 182, 1, 249, 184, 2, 128, 172]
abbrev dktJ5_indexOf_2_1 : List UInt8 := dkwJ5_indexOf_2_1 ++ []
def dkwJ5_indexOf_2_0 : List UInt8 := [42, 182, 1, 236, 153, 0, 19, 42, 180, 0, 9, 27, 28, 42, 182, 1, 249, 184, 2, 125, 167, 0, 16, 42]
abbrev dktJ5_indexOf_2_0 : List UInt8 := dkwJ5_indexOf_2_0 ++ dktJ5_indexOf_2_1
theorem dksJ5_indexOf_2_0 : cJ5_indexOf_2.data.toList.drop 0 = dktJ5_indexOf_2_0 := by decide +kernel
theorem dksJ5_indexOf_2_1 : cJ5_indexOf_2.data.toList.drop 24 = dktJ5_indexOf_2_1 := dk_seg dksJ5_indexOf_2_0 24 rfl rfl
theorem dJ5_indexOf_2_0 : decode cJ5_indexOf_2 0 = .ok (.aload_n 0, 1) := dk_42 (dk_at dksJ5_indexOf_2_0 0 rfl rfl)
theorem dJ5_indexOf_2_1 : decode cJ5_indexOf_2 1 = .ok (.invokevirtual 492, 3) := dk_182 1 236 (dk_at dksJ5_indexOf_2_0 1 rfl rfl)
theorem dJ5_indexOf_2_4 : decode cJ5_indexOf_2 4 = .ok (.ifCond .eq 19, 3) := dk_153 0 19 (dk_at dksJ5_indexOf_2_0 4 rfl rfl)
theorem dJ5_indexOf_2_7 : decode cJ5_indexOf_2 7 = .ok (.aload_n 0, 1) := dk_42 (dk_at dksJ5_indexOf_2_0 7 rfl rfl)
theorem dJ5_indexOf_2_8 : decode cJ5_indexOf_2 8 = .ok (.getfield 9, 3) := dk_180 0 9 (dk_at dksJ5_indexOf_2_0 8 rfl rfl)
theorem dJ5_indexOf_2_11 : decode cJ5_indexOf_2 11 = .ok (.iload_n 1, 1) := dk_27 (dk_at dksJ5_indexOf_2_0 11 rfl rfl)
theorem dJ5_indexOf_2_12 : decode cJ5_indexOf_2 12 = .ok (.iload_n 2, 1) := dk_28 (dk_at dksJ5_indexOf_2_0 12 rfl rfl)
theorem dJ5_indexOf_2_13 : decode cJ5_indexOf_2 13 = .ok (.aload_n 0, 1) := dk_42 (dk_at dksJ5_indexOf_2_0 13 rfl rfl)
theorem dJ5_indexOf_2_14 : decode cJ5_indexOf_2 14 = .ok (.invokevirtual 505, 3) := dk_182 1 249 (dk_at dksJ5_indexOf_2_0 14 rfl rfl)
theorem dJ5_indexOf_2_17 : decode cJ5_indexOf_2 17 = .ok (.invokestatic 637, 3) := dk_184 2 125 (dk_at dksJ5_indexOf_2_0 17 rfl rfl)
theorem dJ5_indexOf_2_20 : decode cJ5_indexOf_2 20 = .ok (.goto 16, 3) := dk_167 0 16 (dk_at dksJ5_indexOf_2_0 20 rfl rfl)
theorem dJ5_indexOf_2_23 : decode cJ5_indexOf_2 23 = .ok (.aload_n 0, 1) := dk_42 (dk_at dksJ5_indexOf_2_0 23 rfl rfl)
theorem dJ5_indexOf_2_24 : decode cJ5_indexOf_2 24 = .ok (.getfield 9, 3) := dk_180 0 9 (dk_at dksJ5_indexOf_2_1 0 rfl rfl)
theorem dJ5_indexOf_2_27 : decode cJ5_indexOf_2 27 = .ok (.iload_n 1, 1) := dk_27 (dk_at dksJ5_indexOf_2_1 3 rfl rfl)
theorem dJ5_indexOf_2_28 : decode cJ5_indexOf_2 28 = .ok (.iload_n 2, 1) := dk_28 (dk_at dksJ5_indexOf_2_1 4 rfl rfl)
theorem dJ5_indexOf_2_29 : decode cJ5_indexOf_2 29 = .ok (.aload_n 0, 1) := dk_42 (dk_at dksJ5_indexOf_2_1 5 rfl rfl)
theorem dJ5_indexOf_2_30 : decode cJ5_indexOf_2 30 = .ok (.invokevirtual 505, 3) := dk_182 1 249 (dk_at dksJ5_indexOf_2_1 6 rfl rfl)
theorem dJ5_indexOf_2_33 : decode cJ5_indexOf_2 33 = .ok (.invokestatic 640, 3) := dk_184 2 128 (dk_at dksJ5_indexOf_2_1 9 rfl rfl)
theorem dJ5_indexOf_2_36 : decode cJ5_indexOf_2 36 = .ok (.ireturn, 1) := dk_172 (dk_at dksJ5_indexOf_2_1 12 rfl rfl)
def dkwJ5_isLatin1_0 : List UInt8 := [178, 0, 38, 153, 0, 14, 42, 180, 0, 15, 154, 0, 7, 4, 167, 0, 4, 3, 172]
abbrev dktJ5_isLatin1_0 : List UInt8 := dkwJ5_isLatin1_0 ++ []
theorem dksJ5_isLatin1_0 : cJ5_isLatin1.data.toList.drop 0 = dktJ5_isLatin1_0 := by decide +kernel
theorem dJ5_isLatin1_0 : decode cJ5_isLatin1 0 = .ok (.getstatic 38, 3) := dk_178 0 38 (dk_at dksJ5_isLatin1_0 0 rfl rfl)
theorem dJ5_isLatin1_3 : decode cJ5_isLatin1 3 = .ok (.ifCond .eq 14, 3) := dk_153 0 14 (dk_at dksJ5_isLatin1_0 3 rfl rfl)
theorem dJ5_isLatin1_6 : decode cJ5_isLatin1 6 = .ok (.aload_n 0, 1) := dk_42 (dk_at dksJ5_isLatin1_0 6 rfl rfl)
theorem dJ5_isLatin1_7 : decode cJ5_isLatin1 7 = .ok (.getfield 15, 3) := dk_180 0 15 (dk_at dksJ5_isLatin1_0 7 rfl rfl)
theorem dJ5_isLatin1_10 : decode cJ5_isLatin1 10 = .ok (.ifCond .ne 7, 3) := dk_154 0 7 (dk_at dksJ5_isLatin1_0 10 rfl rfl)
theorem dJ5_isLatin1_13 : decode cJ5_isLatin1 13 = .ok (.iconst 1, 1) := dk_4 (dk_at dksJ5_isLatin1_0 13 rfl rfl)
theorem dJ5_isLatin1_14 : decode cJ5_isLatin1 14 = .ok (.goto 4, 3) := dk_167 0 4 (dk_at dksJ5_isLatin1_0 14 rfl rfl)
theorem dJ5_isLatin1_17 : decode cJ5_isLatin1 17 = .ok (.iconst 0, 1) := dk_3 (dk_at dksJ5_isLatin1_0 17 rfl rfl)
theorem dJ5_isLatin1_18 : decode cJ5_isLatin1 18 = .ok (.ireturn, 1) := dk_172 (dk_at dksJ5_isLatin1_0 18 rfl rfl)
def dkwJ5_length_0 : List UInt8 := [42, 180, 0, 9, 190, 42, 182, 1, 79, 122, 172]
abbrev dktJ5_length_0 : List UInt8 := dkwJ5_length_0 ++ []
theorem dksJ5_length_0 : cJ5_length.data.toList.drop 0 = dktJ5_length_0 := by decide +kernel
theorem dJ5_length_0 : decode cJ5_length 0 = .ok (.aload_n 0, 1) := dk_42 (dk_at dksJ5_length_0 0 rfl rfl)
theorem dJ5_length_1 : decode cJ5_length 1 = .ok (.getfield 9, 3) := dk_180 0 9 (dk_at dksJ5_length_0 1 rfl rfl)
theorem dJ5_length_4 : decode cJ5_length 4 = .ok (.arraylength, 1) := dk_190 (dk_at dksJ5_length_0 4 rfl rfl)
theorem dJ5_length_5 : decode cJ5_length 5 = .ok (.aload_n 0, 1) := dk_42 (dk_at dksJ5_length_0 5 rfl rfl)
theorem dJ5_length_6 : decode cJ5_length 6 = .ok (.invokevirtual 335, 3) := dk_182 1 79 (dk_at dksJ5_length_0 6 rfl rfl)
theorem dJ5_length_9 : decode cJ5_length 9 = .ok (.ishr, 1) := dk_122 (dk_at dksJ5_length_0 9 rfl rfl)
theorem dJ5_length_10 : decode cJ5_length 10 = .ok (.ireturn, 1) := dk_172 (dk_at dksJ5_length_0 10 rfl rfl)
def dkwJ5_coder_0 : List UInt8 := [178, 0, 38, 153, 0, 10, 42, 180, 0, 15, 167, 0, 4, 4, 172]
abbrev dktJ5_coder_0 : List UInt8 := dkwJ5_coder_0 ++ []
theorem dksJ5_coder_0 : cJ5_coder.data.toList.drop 0 = dktJ5_coder_0 := by decide +kernel
theorem dJ5_coder_0 : decode cJ5_coder 0 = .ok (.getstatic 38, 3) := dk_178 0 38 (dk_at dksJ5_coder_0 0 rfl rfl)
theorem dJ5_coder_3 : decode cJ5_coder 3 = .ok (.ifCond .eq 10, 3) := dk_153 0 10 (dk_at dksJ5_coder_0 3 rfl rfl)
theorem dJ5_coder_6 : decode cJ5_coder 6 = .ok (.aload_n 0, 1) := dk_42 (dk_at dksJ5_coder_0 6 rfl rfl)
theorem dJ5_coder_7 : decode cJ5_coder 7 = .ok (.getfield 15, 3) := dk_180 0 15 (dk_at dksJ5_coder_0 7 rfl rfl)
theorem dJ5_coder_10 : decode cJ5_coder 10 = .ok (.goto 4, 3) := dk_167 0 4 (dk_at dksJ5_coder_0 10 rfl rfl)
theorem dJ5_coder_13 : decode cJ5_coder 13 = .ok (.iconst 1, 1) := dk_4 (dk_at dksJ5_coder_0 13 rfl rfl)
theorem dJ5_coder_14 : decode cJ5_coder 14 = .ok (.ireturn, 1) := dk_172 (dk_at dksJ5_coder_0 14 rfl rfl)
def dkwJ5_checkBoundsBeginEnd_0 : List UInt8 := [26, 27, 28, 178, 4, 29, 184, 4, 38, 87, 177]
abbrev dktJ5_checkBoundsBeginEnd_0 : List UInt8 := dkwJ5_checkBoundsBeginEnd_0 ++ []
theorem dksJ5_checkBoundsBeginEnd_0 : cJ5_checkBoundsBeginEnd.data.toList.drop 0 = dktJ5_checkBoundsBeginEnd_0 := by decide +kernel
theorem dJ5_checkBoundsBeginEnd_0 : decode cJ5_checkBoundsBeginEnd 0 = .ok (.iload_n 0, 1) := dk_26 (dk_at dksJ5_checkBoundsBeginEnd_0 0 rfl rfl)
theorem dJ5_checkBoundsBeginEnd_1 : decode cJ5_checkBoundsBeginEnd 1 = .ok (.iload_n 1, 1) := dk_27 (dk_at dksJ5_checkBoundsBeginEnd_0 1 rfl rfl)
theorem dJ5_checkBoundsBeginEnd_2 : decode cJ5_checkBoundsBeginEnd 2 = .ok (.iload_n 2, 1) := dk_28 (dk_at dksJ5_checkBoundsBeginEnd_0 2 rfl rfl)
theorem dJ5_checkBoundsBeginEnd_3 : decode cJ5_checkBoundsBeginEnd 3 = .ok (.getstatic 1053, 3) := dk_178 4 29 (dk_at dksJ5_checkBoundsBeginEnd_0 3 rfl rfl)
theorem dJ5_checkBoundsBeginEnd_6 : decode cJ5_checkBoundsBeginEnd 6 = .ok (.invokestatic 1062, 3) := dk_184 4 38 (dk_at dksJ5_checkBoundsBeginEnd_0 6 rfl rfl)
theorem dJ5_checkBoundsBeginEnd_9 : decode cJ5_checkBoundsBeginEnd 9 = .ok (.pop, 1) := dk_87 (dk_at dksJ5_checkBoundsBeginEnd_0 9 rfl rfl)
theorem dJ5_checkBoundsBeginEnd_10 : decode cJ5_checkBoundsBeginEnd 10 = .ok (.return_, 1) := dk_177 (dk_at dksJ5_checkBoundsBeginEnd_0 10 rfl rfl)
def dkwJ5_charAt_1 : List UInt8 := [172]
abbrev dktJ5_charAt_1 : List UInt8 := dkwJ5_charAt_1 ++ []
def dkwJ5_charAt_0 : List UInt8 := [42, 182, 1, 236, 153, 0, 12, 42, 180, 0, 9, 27, 184, 1, 239, 172, 42, 180, 0, 9, 27, 184, 1, 242]
abbrev dktJ5_charAt_0 : List UInt8 := dkwJ5_charAt_0 ++ dktJ5_charAt_1
theorem dksJ5_charAt_0 : cJ5_charAt.data.toList.drop 0 = dktJ5_charAt_0 := by decide +kernel
theorem dksJ5_charAt_1 : cJ5_charAt.data.toList.drop 24 = dktJ5_charAt_1 := dk_seg dksJ5_charAt_0 24 rfl rfl
theorem dJ5_charAt_0 : decode cJ5_charAt 0 = .ok (.aload_n 0, 1) := dk_42 (dk_at dksJ5_charAt_0 0 rfl rfl)
theorem dJ5_charAt_1 : decode cJ5_charAt 1 = .ok (.invokevirtual 492, 3) := dk_182 1 236 (dk_at dksJ5_charAt_0 1 rfl rfl)
theorem dJ5_charAt_4 : decode cJ5_charAt 4 = .ok (.ifCond .eq 12, 3) := dk_153 0 12 (dk_at dksJ5_charAt_0 4 rfl rfl)
theorem dJ5_charAt_7 : decode cJ5_charAt 7 = .ok (.aload_n 0, 1) := dk_42 (dk_at dksJ5_charAt_0 7 rfl rfl)
theorem dJ5_charAt_8 : decode cJ5_charAt 8 = .ok (.getfield 9, 3) := dk_180 0 9 (dk_at dksJ5_charAt_0 8 rfl rfl)
theorem dJ5_charAt_11 : decode cJ5_charAt 11 = .ok (.iload_n 1, 1) := dk_27 (dk_at dksJ5_charAt_0 11 rfl rfl)
theorem dJ5_charAt_12 : decode cJ5_charAt 12 = .ok (.invokestatic 495, 3) := dk_184 1 239 (dk_at dksJ5_charAt_0 12 rfl rfl)
theorem dJ5_charAt_15 : decode cJ5_charAt 15 = .ok (.ireturn, 1) := dk_172 (dk_at dksJ5_charAt_0 15 rfl rfl)
theorem dJ5_charAt_16 : decode cJ5_charAt 16 = .ok (.aload_n 0, 1) := dk_42 (dk_at dksJ5_charAt_0 16 rfl rfl)
theorem dJ5_charAt_17 : decode cJ5_charAt 17 = .ok (.getfield 9, 3) := dk_180 0 9 (dk_at dksJ5_charAt_0 17 rfl rfl)
theorem dJ5_charAt_20 : decode cJ5_charAt 20 = .ok (.iload_n 1, 1) := dk_27 (dk_at dksJ5_charAt_0 20 rfl rfl)
theorem dJ5_charAt_21 : decode cJ5_charAt 21 = .ok (.invokestatic 498, 3) := dk_184 1 242 (dk_at dksJ5_charAt_0 21 rfl rfl)
theorem dJ5_charAt_24 : decode cJ5_charAt 24 = .ok (.ireturn, 1) := dk_172 (dk_at dksJ5_charAt_1 0 rfl rfl)
def dkwJ5_checkIndex_0 : List UInt8 := [26, 27, 178, 4, 29, 184, 4, 35, 87, 177]
abbrev dktJ5_checkIndex_0 : List UInt8 := dkwJ5_checkIndex_0 ++ []
theorem dksJ5_checkIndex_0 : cJ5_checkIndex.data.toList.drop 0 = dktJ5_checkIndex_0 := by decide +kernel
theorem dJ5_checkIndex_0 : decode cJ5_checkIndex 0 = .ok (.iload_n 0, 1) := dk_26 (dk_at dksJ5_checkIndex_0 0 rfl rfl)
theorem dJ5_checkIndex_1 : decode cJ5_checkIndex 1 = .ok (.iload_n 1, 1) := dk_27 (dk_at dksJ5_checkIndex_0 1 rfl rfl)
theorem dJ5_checkIndex_2 : decode cJ5_checkIndex 2 = .ok (.getstatic 1053, 3) := dk_178 4 29 (dk_at dksJ5_checkIndex_0 2 rfl rfl)
theorem dJ5_checkIndex_5 : decode cJ5_checkIndex 5 = .ok (.invokestatic 1059, 3) := dk_184 4 35 (dk_at dksJ5_checkIndex_0 5 rfl rfl)
theorem dJ5_checkIndex_8 : decode cJ5_checkIndex 8 = .ok (.pop, 1) := dk_87 (dk_at dksJ5_checkIndex_0 8 rfl rfl)
theorem dJ5_checkIndex_9 : decode cJ5_checkIndex 9 = .ok (.return_, 1) := dk_177 (dk_at dksJ5_checkIndex_0 9 rfl rfl)
def dkwJ6_indexOf_1 : List UInt8 := [161, 0, 5, 2, 172, 42, 27, 28, 29, 184, 0, 95, 172]
abbrev dktJ6_indexOf_1 : List UInt8 := dkwJ6_indexOf_1 ++ []
def dkwJ6_indexOf_0 : List UInt8 := [27, 184, 0, 88, 154, 0, 5, 2, 172, 28, 3, 184, 0, 92, 61, 29, 42, 190, 184, 0, 38, 62, 28, 29]
abbrev dktJ6_indexOf_0 : List UInt8 := dkwJ6_indexOf_0 ++ dktJ6_indexOf_1
theorem dksJ6_indexOf_0 : cJ6_indexOf.data.toList.drop 0 = dktJ6_indexOf_0 := by decide +kernel
theorem dksJ6_indexOf_1 : cJ6_indexOf.data.toList.drop 24 = dktJ6_indexOf_1 := dk_seg dksJ6_indexOf_0 24 rfl rfl
theorem dJ6_indexOf_0 : decode cJ6_indexOf 0 = .ok (.iload_n 1, 1) := dk_27 (dk_at dksJ6_indexOf_0 0 rfl rfl)
theorem dJ6_indexOf_1 : decode cJ6_indexOf 1 = .ok (.invokestatic 88, 3) := dk_184 0 88 (dk_at dksJ6_indexOf_0 1 rfl rfl)
theorem dJ6_indexOf_4 : decode cJ6_indexOf 4 = .ok (.ifCond .ne 5, 3) := dk_154 0 5 (dk_at dksJ6_indexOf_0 4 rfl rfl)
theorem dJ6_indexOf_7 : decode cJ6_indexOf 7 = .ok (.iconst (-1), 1) := dk_2 (dk_at dksJ6_indexOf_0 7 rfl rfl)
theorem dJ6_indexOf_8 : decode cJ6_indexOf 8 = .ok (.ireturn, 1) := dk_172 (dk_at dksJ6_indexOf_0 8 rfl rfl)
theorem dJ6_indexOf_9 : decode cJ6_indexOf 9 = .ok (.iload_n 2, 1) := dk_28 (dk_at dksJ6_indexOf_0 9 rfl rfl)
theorem dJ6_indexOf_10 : decode cJ6_indexOf 10 = .ok (.iconst 0, 1) := dk_3 (dk_at dksJ6_indexOf_0 10 rfl rfl)
theorem dJ6_indexOf_11 : decode cJ6_indexOf 11 = .ok (.invokestatic 92, 3) := dk_184 0 92 (dk_at dksJ6_indexOf_0 11 rfl rfl)
theorem dJ6_indexOf_14 : decode cJ6_indexOf 14 = .ok (.istore_n 2, 1) := dk_61 (dk_at dksJ6_indexOf_0 14 rfl rfl)
theorem dJ6_indexOf_15 : decode cJ6_indexOf 15 = .ok (.iload_n 3, 1) := dk_29 (dk_at dksJ6_indexOf_0 15 rfl rfl)
theorem dJ6_indexOf_16 : decode cJ6_indexOf 16 = .ok (.aload_n 0, 1) := dk_42 (dk_at dksJ6_indexOf_0 16 rfl rfl)
theorem dJ6_indexOf_17 : decode cJ6_indexOf 17 = .ok (.arraylength, 1) := dk_190 (dk_at dksJ6_indexOf_0 17 rfl rfl)
theorem dJ6_indexOf_18 : decode cJ6_indexOf 18 = .ok (.invokestatic 38, 3) := dk_184 0 38 (dk_at dksJ6_indexOf_0 18 rfl rfl)
theorem dJ6_indexOf_21 : decode cJ6_indexOf 21 = .ok (.istore_n 3, 1) := dk_62 (dk_at dksJ6_indexOf_0 21 rfl rfl)
theorem dJ6_indexOf_22 : decode cJ6_indexOf 22 = .ok (.iload_n 2, 1) := dk_28 (dk_at dksJ6_indexOf_0 22 rfl rfl)
theorem dJ6_indexOf_23 : decode cJ6_indexOf 23 = .ok (.iload_n 3, 1) := dk_29 (dk_at dksJ6_indexOf_0 23 rfl rfl)
theorem dJ6_indexOf_24 : decode cJ6_indexOf 24 = .ok (.if_icmp .lt 5, 3) := dk_161 0 5 (dk_at dksJ6_indexOf_1 0 rfl rfl)
theorem dJ6_indexOf_27 : decode cJ6_indexOf 27 = .ok (.iconst (-1), 1) := dk_2 (dk_at dksJ6_indexOf_1 3 rfl rfl)
theorem dJ6_indexOf_28 : decode cJ6_indexOf 28 = .ok (.ireturn, 1) := dk_172 (dk_at dksJ6_indexOf_1 4 rfl rfl)
theorem dJ6_indexOf_29 : decode cJ6_indexOf 29 = .ok (.aload_n 0, 1) := dk_42 (dk_at dksJ6_indexOf_1 5 rfl rfl)
theorem dJ6_indexOf_30 : decode cJ6_indexOf 30 = .ok (.iload_n 1, 1) := dk_27 (dk_at dksJ6_indexOf_1 6 rfl rfl)
theorem dJ6_indexOf_31 : decode cJ6_indexOf 31 = .ok (.iload_n 2, 1) := dk_28 (dk_at dksJ6_indexOf_1 7 rfl rfl)
theorem dJ6_indexOf_32 : decode cJ6_indexOf 32 = .ok (.iload_n 3, 1) := dk_29 (dk_at dksJ6_indexOf_1 8 rfl rfl)
theorem dJ6_indexOf_33 : decode cJ6_indexOf 33 = .ok (.invokestatic 95, 3) := dk_184 0 95 (dk_at dksJ6_indexOf_1 9 rfl rfl)
theorem dJ6_indexOf_36 : decode cJ6_indexOf 36 = .ok (.ireturn, 1) := dk_172 (dk_at dksJ6_indexOf_1 12 rfl rfl)
def dkwJ6_canEncode_0 : List UInt8 := [26, 155, 0, 14, 26, 17, 0, 255, 163, 0, 7, 4, 167, 0, 4, 3, 172]
abbrev dktJ6_canEncode_0 : List UInt8 := dkwJ6_canEncode_0 ++ []
theorem dksJ6_canEncode_0 : cJ6_canEncode.data.toList.drop 0 = dktJ6_canEncode_0 := by decide +kernel
theorem dJ6_canEncode_0 : decode cJ6_canEncode 0 = .ok (.iload_n 0, 1) := dk_26 (dk_at dksJ6_canEncode_0 0 rfl rfl)
theorem dJ6_canEncode_1 : decode cJ6_canEncode 1 = .ok (.ifCond .lt 14, 3) := dk_155 0 14 (dk_at dksJ6_canEncode_0 1 rfl rfl)
theorem dJ6_canEncode_4 : decode cJ6_canEncode 4 = .ok (.iload_n 0, 1) := dk_26 (dk_at dksJ6_canEncode_0 4 rfl rfl)
theorem dJ6_canEncode_5 : decode cJ6_canEncode 5 = .ok (.sipush 255, 3) := dk_17 0 255 (dk_at dksJ6_canEncode_0 5 rfl rfl)
theorem dJ6_canEncode_8 : decode cJ6_canEncode 8 = .ok (.if_icmp .gt 7, 3) := dk_163 0 7 (dk_at dksJ6_canEncode_0 8 rfl rfl)
theorem dJ6_canEncode_11 : decode cJ6_canEncode 11 = .ok (.iconst 1, 1) := dk_4 (dk_at dksJ6_canEncode_0 11 rfl rfl)
theorem dJ6_canEncode_12 : decode cJ6_canEncode 12 = .ok (.goto 4, 3) := dk_167 0 4 (dk_at dksJ6_canEncode_0 12 rfl rfl)
theorem dJ6_canEncode_15 : decode cJ6_canEncode 15 = .ok (.iconst 0, 1) := dk_3 (dk_at dksJ6_canEncode_0 15 rfl rfl)
theorem dJ6_canEncode_16 : decode cJ6_canEncode 16 = .ok (.ireturn, 1) := dk_172 (dk_at dksJ6_canEncode_0 16 rfl rfl)
def dkwJ6_indexOfChar_1 : List UInt8 := [172, 132, 5, 1, 167, 255, 235, 2, 172]
abbrev dktJ6_indexOfChar_1 : List UInt8 := dkwJ6_indexOfChar_1 ++ []
def dkwJ6_indexOfChar_0 : List UInt8 := [27, 145, 54, 4, 28, 54, 5, 21, 5, 29, 162, 0, 21, 42, 21, 5, 51, 21, 4, 160, 0, 6, 21, 5]
abbrev dktJ6_indexOfChar_0 : List UInt8 := dkwJ6_indexOfChar_0 ++ dktJ6_indexOfChar_1
theorem dksJ6_indexOfChar_0 : cJ6_indexOfChar.data.toList.drop 0 = dktJ6_indexOfChar_0 := by decide +kernel
theorem dksJ6_indexOfChar_1 : cJ6_indexOfChar.data.toList.drop 24 = dktJ6_indexOfChar_1 := dk_seg dksJ6_indexOfChar_0 24 rfl rfl
theorem dJ6_indexOfChar_0 : decode cJ6_indexOfChar 0 = .ok (.iload_n 1, 1) := dk_27 (dk_at dksJ6_indexOfChar_0 0 rfl rfl)
theorem dJ6_indexOfChar_1 : decode cJ6_indexOfChar 1 = .ok (.i2b, 1) := dk_145 (dk_at dksJ6_indexOfChar_0 1 rfl rfl)
theorem dJ6_indexOfChar_2 : decode cJ6_indexOfChar 2 = .ok (.istore 4, 2) := dk_54 4 (dk_at dksJ6_indexOfChar_0 2 rfl rfl)
theorem dJ6_indexOfChar_4 : decode cJ6_indexOfChar 4 = .ok (.iload_n 2, 1) := dk_28 (dk_at dksJ6_indexOfChar_0 4 rfl rfl)
theorem dJ6_indexOfChar_5 : decode cJ6_indexOfChar 5 = .ok (.istore 5, 2) := dk_54 5 (dk_at dksJ6_indexOfChar_0 5 rfl rfl)
theorem dJ6_indexOfChar_7 : decode cJ6_indexOfChar 7 = .ok (.iload 5, 2) := dk_21 5 (dk_at dksJ6_indexOfChar_0 7 rfl rfl)
theorem dJ6_indexOfChar_9 : decode cJ6_indexOfChar 9 = .ok (.iload_n 3, 1) := dk_29 (dk_at dksJ6_indexOfChar_0 9 rfl rfl)
theorem dJ6_indexOfChar_10 : decode cJ6_indexOfChar 10 = .ok (.if_icmp .ge 21, 3) := dk_162 0 21 (dk_at dksJ6_indexOfChar_0 10 rfl rfl)
theorem dJ6_indexOfChar_13 : decode cJ6_indexOfChar 13 = .ok (.aload_n 0, 1) := dk_42 (dk_at dksJ6_indexOfChar_0 13 rfl rfl)
theorem dJ6_indexOfChar_14 : decode cJ6_indexOfChar 14 = .ok (.iload 5, 2) := dk_21 5 (dk_at dksJ6_indexOfChar_0 14 rfl rfl)
theorem dJ6_indexOfChar_16 : decode cJ6_indexOfChar 16 = .ok (.baload, 1) := dk_51 (dk_at dksJ6_indexOfChar_0 16 rfl rfl)
theorem dJ6_indexOfChar_17 : decode cJ6_indexOfChar 17 = .ok (.iload 4, 2) := dk_21 4 (dk_at dksJ6_indexOfChar_0 17 rfl rfl)
theorem dJ6_indexOfChar_19 : decode cJ6_indexOfChar 19 = .ok (.if_icmp .ne 6, 3) := dk_160 0 6 (dk_at dksJ6_indexOfChar_0 19 rfl rfl)
theorem dJ6_indexOfChar_22 : decode cJ6_indexOfChar 22 = .ok (.iload 5, 2) := dk_21 5 (dk_at dksJ6_indexOfChar_0 22 rfl rfl)
theorem dJ6_indexOfChar_24 : decode cJ6_indexOfChar 24 = .ok (.ireturn, 1) := dk_172 (dk_at dksJ6_indexOfChar_1 0 rfl rfl)
theorem dJ6_indexOfChar_25 : decode cJ6_indexOfChar 25 = .ok (.iinc 5 1, 3) := dk_132 5 1 (dk_at dksJ6_indexOfChar_1 1 rfl rfl)
theorem dJ6_indexOfChar_28 : decode cJ6_indexOfChar 28 = .ok (.goto (-21), 3) := dk_167 255 235 (dk_at dksJ6_indexOfChar_1 4 rfl rfl)
theorem dJ6_indexOfChar_31 : decode cJ6_indexOfChar 31 = .ok (.iconst (-1), 1) := dk_2 (dk_at dksJ6_indexOfChar_1 7 rfl rfl)
theorem dJ6_indexOfChar_32 : decode cJ6_indexOfChar 32 = .ok (.ireturn, 1) := dk_172 (dk_at dksJ6_indexOfChar_1 8 rfl rfl)
def dkwJ6_charAt_0 : List UInt8 := [27, 42, 190, 184, 0, 9, 42, 27, 51, 17, 0, 255, 126, 146, 172]
abbrev dktJ6_charAt_0 : List UInt8 := dkwJ6_charAt_0 ++ []
theorem dksJ6_charAt_0 : cJ6_charAt.data.toList.drop 0 = dktJ6_charAt_0 := by decide +kernel
theorem dJ6_charAt_0 : decode cJ6_charAt 0 = .ok (.iload_n 1, 1) := dk_27 (dk_at dksJ6_charAt_0 0 rfl rfl)
theorem dJ6_charAt_1 : decode cJ6_charAt 1 = .ok (.aload_n 0, 1) := dk_42 (dk_at dksJ6_charAt_0 1 rfl rfl)
theorem dJ6_charAt_2 : decode cJ6_charAt 2 = .ok (.arraylength, 1) := dk_190 (dk_at dksJ6_charAt_0 2 rfl rfl)
theorem dJ6_charAt_3 : decode cJ6_charAt 3 = .ok (.invokestatic 9, 3) := dk_184 0 9 (dk_at dksJ6_charAt_0 3 rfl rfl)
theorem dJ6_charAt_6 : decode cJ6_charAt 6 = .ok (.aload_n 0, 1) := dk_42 (dk_at dksJ6_charAt_0 6 rfl rfl)
theorem dJ6_charAt_7 : decode cJ6_charAt 7 = .ok (.iload_n 1, 1) := dk_27 (dk_at dksJ6_charAt_0 7 rfl rfl)
theorem dJ6_charAt_8 : decode cJ6_charAt 8 = .ok (.baload, 1) := dk_51 (dk_at dksJ6_charAt_0 8 rfl rfl)
theorem dJ6_charAt_9 : decode cJ6_charAt 9 = .ok (.sipush 255, 3) := dk_17 0 255 (dk_at dksJ6_charAt_0 9 rfl rfl)
theorem dJ6_charAt_12 : decode cJ6_charAt 12 = .ok (.iand, 1) := dk_126 (dk_at dksJ6_charAt_0 12 rfl rfl)
theorem dJ6_charAt_13 : decode cJ6_charAt 13 = .ok (.i2c, 1) := dk_146 (dk_at dksJ6_charAt_0 13 rfl rfl)
theorem dJ6_charAt_14 : decode cJ6_charAt 14 = .ok (.ireturn, 1) := dk_172 (dk_at dksJ6_charAt_0 14 rfl rfl)
def dkwJ8_checkFromToIndex_0 : List UInt8 := [26, 155, 0, 13, 26, 27, 163, 0, 8, 27, 28, 164, 0, 11, 45, 26, 27, 28, 184, 0, 99, 191, 26, 172]
abbrev dktJ8_checkFromToIndex_0 : List UInt8 := dkwJ8_checkFromToIndex_0 ++ []
theorem dksJ8_checkFromToIndex_0 : cJ8_checkFromToIndex.data.toList.drop 0 = dktJ8_checkFromToIndex_0 := by decide +kernel
theorem dJ8_checkFromToIndex_0 : decode cJ8_checkFromToIndex 0 = .ok (.iload_n 0, 1) := dk_26 (dk_at dksJ8_checkFromToIndex_0 0 rfl rfl)
theorem dJ8_checkFromToIndex_1 : decode cJ8_checkFromToIndex 1 = .ok (.ifCond .lt 13, 3) := dk_155 0 13 (dk_at dksJ8_checkFromToIndex_0 1 rfl rfl)
theorem dJ8_checkFromToIndex_4 : decode cJ8_checkFromToIndex 4 = .ok (.iload_n 0, 1) := dk_26 (dk_at dksJ8_checkFromToIndex_0 4 rfl rfl)
theorem dJ8_checkFromToIndex_5 : decode cJ8_checkFromToIndex 5 = .ok (.iload_n 1, 1) := dk_27 (dk_at dksJ8_checkFromToIndex_0 5 rfl rfl)
theorem dJ8_checkFromToIndex_6 : decode cJ8_checkFromToIndex 6 = .ok (.if_icmp .gt 8, 3) := dk_163 0 8 (dk_at dksJ8_checkFromToIndex_0 6 rfl rfl)
theorem dJ8_checkFromToIndex_9 : decode cJ8_checkFromToIndex 9 = .ok (.iload_n 1, 1) := dk_27 (dk_at dksJ8_checkFromToIndex_0 9 rfl rfl)
theorem dJ8_checkFromToIndex_10 : decode cJ8_checkFromToIndex 10 = .ok (.iload_n 2, 1) := dk_28 (dk_at dksJ8_checkFromToIndex_0 10 rfl rfl)
theorem dJ8_checkFromToIndex_11 : decode cJ8_checkFromToIndex 11 = .ok (.if_icmp .le 11, 3) := dk_164 0 11 (dk_at dksJ8_checkFromToIndex_0 11 rfl rfl)
theorem dJ8_checkFromToIndex_14 : decode cJ8_checkFromToIndex 14 = .ok (.aload_n 3, 1) := dk_45 (dk_at dksJ8_checkFromToIndex_0 14 rfl rfl)
theorem dJ8_checkFromToIndex_15 : decode cJ8_checkFromToIndex 15 = .ok (.iload_n 0, 1) := dk_26 (dk_at dksJ8_checkFromToIndex_0 15 rfl rfl)
theorem dJ8_checkFromToIndex_16 : decode cJ8_checkFromToIndex 16 = .ok (.iload_n 1, 1) := dk_27 (dk_at dksJ8_checkFromToIndex_0 16 rfl rfl)
theorem dJ8_checkFromToIndex_17 : decode cJ8_checkFromToIndex 17 = .ok (.iload_n 2, 1) := dk_28 (dk_at dksJ8_checkFromToIndex_0 17 rfl rfl)
theorem dJ8_checkFromToIndex_18 : decode cJ8_checkFromToIndex 18 = .ok (.invokestatic 99, 3) := dk_184 0 99 (dk_at dksJ8_checkFromToIndex_0 18 rfl rfl)
theorem dJ8_checkFromToIndex_21 : decode cJ8_checkFromToIndex 21 = .ok (.athrow, 1) := dk_191 (dk_at dksJ8_checkFromToIndex_0 21 rfl rfl)
theorem dJ8_checkFromToIndex_22 : decode cJ8_checkFromToIndex 22 = .ok (.iload_n 0, 1) := dk_26 (dk_at dksJ8_checkFromToIndex_0 22 rfl rfl)
theorem dJ8_checkFromToIndex_23 : decode cJ8_checkFromToIndex 23 = .ok (.ireturn, 1) := dk_172 (dk_at dksJ8_checkFromToIndex_0 23 rfl rfl)
def dkwJ8_checkIndex_0 : List UInt8 := [26, 155, 0, 8, 26, 27, 161, 0, 10, 44, 26, 27, 184, 0, 95, 191, 26, 172]
abbrev dktJ8_checkIndex_0 : List UInt8 := dkwJ8_checkIndex_0 ++ []
theorem dksJ8_checkIndex_0 : cJ8_checkIndex.data.toList.drop 0 = dktJ8_checkIndex_0 := by decide +kernel
theorem dJ8_checkIndex_0 : decode cJ8_checkIndex 0 = .ok (.iload_n 0, 1) := dk_26 (dk_at dksJ8_checkIndex_0 0 rfl rfl)
theorem dJ8_checkIndex_1 : decode cJ8_checkIndex 1 = .ok (.ifCond .lt 8, 3) := dk_155 0 8 (dk_at dksJ8_checkIndex_0 1 rfl rfl)
theorem dJ8_checkIndex_4 : decode cJ8_checkIndex 4 = .ok (.iload_n 0, 1) := dk_26 (dk_at dksJ8_checkIndex_0 4 rfl rfl)
theorem dJ8_checkIndex_5 : decode cJ8_checkIndex 5 = .ok (.iload_n 1, 1) := dk_27 (dk_at dksJ8_checkIndex_0 5 rfl rfl)
theorem dJ8_checkIndex_6 : decode cJ8_checkIndex 6 = .ok (.if_icmp .lt 10, 3) := dk_161 0 10 (dk_at dksJ8_checkIndex_0 6 rfl rfl)
theorem dJ8_checkIndex_9 : decode cJ8_checkIndex 9 = .ok (.aload_n 2, 1) := dk_44 (dk_at dksJ8_checkIndex_0 9 rfl rfl)
theorem dJ8_checkIndex_10 : decode cJ8_checkIndex 10 = .ok (.iload_n 0, 1) := dk_26 (dk_at dksJ8_checkIndex_0 10 rfl rfl)
theorem dJ8_checkIndex_11 : decode cJ8_checkIndex 11 = .ok (.iload_n 1, 1) := dk_27 (dk_at dksJ8_checkIndex_0 11 rfl rfl)
theorem dJ8_checkIndex_12 : decode cJ8_checkIndex 12 = .ok (.invokestatic 95, 3) := dk_184 0 95 (dk_at dksJ8_checkIndex_0 12 rfl rfl)
theorem dJ8_checkIndex_15 : decode cJ8_checkIndex 15 = .ok (.athrow, 1) := dk_191 (dk_at dksJ8_checkIndex_0 15 rfl rfl)
theorem dJ8_checkIndex_16 : decode cJ8_checkIndex 16 = .ok (.iload_n 0, 1) := dk_26 (dk_at dksJ8_checkIndex_0 16 rfl rfl)
theorem dJ8_checkIndex_17 : decode cJ8_checkIndex 17 = .ok (.ireturn, 1) := dk_172 (dk_at dksJ8_checkIndex_0 17 rfl rfl)
def dkwJ9_isValidCodePoint_0 : List UInt8 := [26, 16, 16, 124, 60, 27, 16, 17, 162, 0, 7, 4, 167, 0, 4, 3, 172]
abbrev dktJ9_isValidCodePoint_0 : List UInt8 := dkwJ9_isValidCodePoint_0 ++ []
theorem dksJ9_isValidCodePoint_0 : cJ9_isValidCodePoint.data.toList.drop 0 = dktJ9_isValidCodePoint_0 := by decide +kernel
theorem dJ9_isValidCodePoint_0 : decode cJ9_isValidCodePoint 0 = .ok (.iload_n 0, 1) := dk_26 (dk_at dksJ9_isValidCodePoint_0 0 rfl rfl)
theorem dJ9_isValidCodePoint_1 : decode cJ9_isValidCodePoint 1 = .ok (.bipush 16, 2) := dk_16 16 (dk_at dksJ9_isValidCodePoint_0 1 rfl rfl)
theorem dJ9_isValidCodePoint_3 : decode cJ9_isValidCodePoint 3 = .ok (.iushr, 1) := dk_124 (dk_at dksJ9_isValidCodePoint_0 3 rfl rfl)
theorem dJ9_isValidCodePoint_4 : decode cJ9_isValidCodePoint 4 = .ok (.istore_n 1, 1) := dk_60 (dk_at dksJ9_isValidCodePoint_0 4 rfl rfl)
theorem dJ9_isValidCodePoint_5 : decode cJ9_isValidCodePoint 5 = .ok (.iload_n 1, 1) := dk_27 (dk_at dksJ9_isValidCodePoint_0 5 rfl rfl)
theorem dJ9_isValidCodePoint_6 : decode cJ9_isValidCodePoint 6 = .ok (.bipush 17, 2) := dk_16 17 (dk_at dksJ9_isValidCodePoint_0 6 rfl rfl)
theorem dJ9_isValidCodePoint_8 : decode cJ9_isValidCodePoint 8 = .ok (.if_icmp .ge 7, 3) := dk_162 0 7 (dk_at dksJ9_isValidCodePoint_0 8 rfl rfl)
theorem dJ9_isValidCodePoint_11 : decode cJ9_isValidCodePoint 11 = .ok (.iconst 1, 1) := dk_4 (dk_at dksJ9_isValidCodePoint_0 11 rfl rfl)
theorem dJ9_isValidCodePoint_12 : decode cJ9_isValidCodePoint 12 = .ok (.goto 4, 3) := dk_167 0 4 (dk_at dksJ9_isValidCodePoint_0 12 rfl rfl)
theorem dJ9_isValidCodePoint_15 : decode cJ9_isValidCodePoint 15 = .ok (.iconst 0, 1) := dk_3 (dk_at dksJ9_isValidCodePoint_0 15 rfl rfl)
theorem dJ9_isValidCodePoint_16 : decode cJ9_isValidCodePoint 16 = .ok (.ireturn, 1) := dk_172 (dk_at dksJ9_isValidCodePoint_0 16 rfl rfl)
def dkwJ9_highSurrogate_0 : List UInt8 := [26, 16, 10, 124, 18, 110, 96, 146, 172]
abbrev dktJ9_highSurrogate_0 : List UInt8 := dkwJ9_highSurrogate_0 ++ []
theorem dksJ9_highSurrogate_0 : cJ9_highSurrogate.data.toList.drop 0 = dktJ9_highSurrogate_0 := by decide +kernel
theorem dJ9_highSurrogate_0 : decode cJ9_highSurrogate 0 = .ok (.iload_n 0, 1) := dk_26 (dk_at dksJ9_highSurrogate_0 0 rfl rfl)
theorem dJ9_highSurrogate_1 : decode cJ9_highSurrogate 1 = .ok (.bipush 10, 2) := dk_16 10 (dk_at dksJ9_highSurrogate_0 1 rfl rfl)
theorem dJ9_highSurrogate_3 : decode cJ9_highSurrogate 3 = .ok (.iushr, 1) := dk_124 (dk_at dksJ9_highSurrogate_0 3 rfl rfl)
theorem dJ9_highSurrogate_4 : decode cJ9_highSurrogate 4 = .ok (.ldc 110, 2) := dk_18 110 (dk_at dksJ9_highSurrogate_0 4 rfl rfl)
theorem dJ9_highSurrogate_6 : decode cJ9_highSurrogate 6 = .ok (.iadd, 1) := dk_96 (dk_at dksJ9_highSurrogate_0 6 rfl rfl)
theorem dJ9_highSurrogate_7 : decode cJ9_highSurrogate 7 = .ok (.i2c, 1) := dk_146 (dk_at dksJ9_highSurrogate_0 7 rfl rfl)
theorem dJ9_highSurrogate_8 : decode cJ9_highSurrogate 8 = .ok (.ireturn, 1) := dk_172 (dk_at dksJ9_highSurrogate_0 8 rfl rfl)
def dkwJ9_lowSurrogate_0 : List UInt8 := [26, 17, 3, 255, 126, 18, 76, 96, 146, 172]
abbrev dktJ9_lowSurrogate_0 : List UInt8 := dkwJ9_lowSurrogate_0 ++ []
theorem dksJ9_lowSurrogate_0 : cJ9_lowSurrogate.data.toList.drop 0 = dktJ9_lowSurrogate_0 := by decide +kernel
theorem dJ9_lowSurrogate_0 : decode cJ9_lowSurrogate 0 = .ok (.iload_n 0, 1) := dk_26 (dk_at dksJ9_lowSurrogate_0 0 rfl rfl)
theorem dJ9_lowSurrogate_1 : decode cJ9_lowSurrogate 1 = .ok (.sipush 1023, 3) := dk_17 3 255 (dk_at dksJ9_lowSurrogate_0 1 rfl rfl)
theorem dJ9_lowSurrogate_4 : decode cJ9_lowSurrogate 4 = .ok (.iand, 1) := dk_126 (dk_at dksJ9_lowSurrogate_0 4 rfl rfl)
theorem dJ9_lowSurrogate_5 : decode cJ9_lowSurrogate 5 = .ok (.ldc 76, 2) := dk_18 76 (dk_at dksJ9_lowSurrogate_0 5 rfl rfl)
theorem dJ9_lowSurrogate_7 : decode cJ9_lowSurrogate 7 = .ok (.iadd, 1) := dk_96 (dk_at dksJ9_lowSurrogate_0 7 rfl rfl)
theorem dJ9_lowSurrogate_8 : decode cJ9_lowSurrogate 8 = .ok (.i2c, 1) := dk_146 (dk_at dksJ9_lowSurrogate_0 8 rfl rfl)
theorem dJ9_lowSurrogate_9 : decode cJ9_lowSurrogate 9 = .ok (.ireturn, 1) := dk_172 (dk_at dksJ9_lowSurrogate_0 9 rfl rfl)
def dkwJ10_signum_0 : List UInt8 := [30, 16, 63, 123, 30, 117, 16, 63, 125, 129, 136, 172]
abbrev dktJ10_signum_0 : List UInt8 := dkwJ10_signum_0 ++ []
theorem dksJ10_signum_0 : cJ10_signum.data.toList.drop 0 = dktJ10_signum_0 := by decide +kernel
theorem dJ10_signum_0 : decode cJ10_signum 0 = .ok (.lload_n 0, 1) := dk_30 (dk_at dksJ10_signum_0 0 rfl rfl)
theorem dJ10_signum_1 : decode cJ10_signum 1 = .ok (.bipush 63, 2) := dk_16 63 (dk_at dksJ10_signum_0 1 rfl rfl)
theorem dJ10_signum_3 : decode cJ10_signum 3 = .ok (.lshr, 1) := dk_123 (dk_at dksJ10_signum_0 3 rfl rfl)
theorem dJ10_signum_4 : decode cJ10_signum 4 = .ok (.lload_n 0, 1) := dk_30 (dk_at dksJ10_signum_0 4 rfl rfl)
theorem dJ10_signum_5 : decode cJ10_signum 5 = .ok (.lneg, 1) := dk_117 (dk_at dksJ10_signum_0 5 rfl rfl)
theorem dJ10_signum_6 : decode cJ10_signum 6 = .ok (.bipush 63, 2) := dk_16 63 (dk_at dksJ10_signum_0 6 rfl rfl)
theorem dJ10_signum_8 : decode cJ10_signum 8 = .ok (.lushr, 1) := dk_125 (dk_at dksJ10_signum_0 8 rfl rfl)
theorem dJ10_signum_9 : decode cJ10_signum 9 = .ok (.lor, 1) := dk_129 (dk_at dksJ10_signum_0 9 rfl rfl)
theorem dJ10_signum_10 : decode cJ10_signum 10 = .ok (.l2i, 1) := dk_136 (dk_at dksJ10_signum_0 10 rfl rfl)
theorem dJ10_signum_11 : decode cJ10_signum 11 = .ok (.ireturn, 1) := dk_172 (dk_at dksJ10_signum_0 11 rfl rfl)
def dkwJ11_bitCount_2 : List UInt8 := [26, 16, 63, 126, 172]
abbrev dktJ11_bitCount_2 : List UInt8 := dkwJ11_bitCount_2 ++ []
def dkwJ11_bitCount_1 : List UInt8 := [26, 26, 7, 124, 96, 19, 1, 11, 126, 59, 26, 26, 16, 8, 124, 96, 59, 26, 26, 16, 16, 124, 96, 59]
abbrev dktJ11_bitCount_1 : List UInt8 := dkwJ11_bitCount_1 ++ dktJ11_bitCount_2
def dkwJ11_bitCount_0 : List UInt8 := [26, 26, 4, 124, 19, 1, 9, 126, 100, 59, 26, 19, 1, 10, 126, 26, 5, 124, 19, 1, 10, 126, 96, 59]
abbrev dktJ11_bitCount_0 : List UInt8 := dkwJ11_bitCount_0 ++ dktJ11_bitCount_1
theorem dksJ11_bitCount_0 : cJ11_bitCount.data.toList.drop 0 = dktJ11_bitCount_0 := by decide +kernel
theorem dksJ11_bitCount_1 : cJ11_bitCount.data.toList.drop 24 = dktJ11_bitCount_1 := dk_seg dksJ11_bitCount_0 24 rfl rfl
theorem dksJ11_bitCount_2 : cJ11_bitCount.data.toList.drop 48 = dktJ11_bitCount_2 := dk_seg dksJ11_bitCount_1 24 rfl rfl
theorem dJ11_bitCount_0 : decode cJ11_bitCount 0 = .ok (.iload_n 0, 1) := dk_26 (dk_at dksJ11_bitCount_0 0 rfl rfl)
theorem dJ11_bitCount_1 : decode cJ11_bitCount 1 = .ok (.iload_n 0, 1) := dk_26 (dk_at dksJ11_bitCount_0 1 rfl rfl)
theorem dJ11_bitCount_2 : decode cJ11_bitCount 2 = .ok (.iconst 1, 1) := dk_4 (dk_at dksJ11_bitCount_0 2 rfl rfl)
theorem dJ11_bitCount_3 : decode cJ11_bitCount 3 = .ok (.iushr, 1) := dk_124 (dk_at dksJ11_bitCount_0 3 rfl rfl)
theorem dJ11_bitCount_4 : decode cJ11_bitCount 4 = .ok (.ldc_w 265, 3) := dk_19 1 9 (dk_at dksJ11_bitCount_0 4 rfl rfl)
theorem dJ11_bitCount_7 : decode cJ11_bitCount 7 = .ok (.iand, 1) := dk_126 (dk_at dksJ11_bitCount_0 7 rfl rfl)
theorem dJ11_bitCount_8 : decode cJ11_bitCount 8 = .ok (.isub, 1) := dk_100 (dk_at dksJ11_bitCount_0 8 rfl rfl)
theorem dJ11_bitCount_9 : decode cJ11_bitCount 9 = .ok (.istore_n 0, 1) := dk_59 (dk_at dksJ11_bitCount_0 9 rfl rfl)
theorem dJ11_bitCount_10 : decode cJ11_bitCount 10 = .ok (.iload_n 0, 1) := dk_26 (dk_at dksJ11_bitCount_0 10 rfl rfl)
theorem dJ11_bitCount_11 : decode cJ11_bitCount 11 = .ok (.ldc_w 266, 3) := dk_19 1 10 (dk_at dksJ11_bitCount_0 11 rfl rfl)
theorem dJ11_bitCount_14 : decode cJ11_bitCount 14 = .ok (.iand, 1) := dk_126 (dk_at dksJ11_bitCount_0 14 rfl rfl)
theorem dJ11_bitCount_15 : decode cJ11_bitCount 15 = .ok (.iload_n 0, 1) := dk_26 (dk_at dksJ11_bitCount_0 15 rfl rfl)
theorem dJ11_bitCount_16 : decode cJ11_bitCount 16 = .ok (.iconst 2, 1) := dk_5 (dk_at dksJ11_bitCount_0 16 rfl rfl)
theorem dJ11_bitCount_17 : decode cJ11_bitCount 17 = .ok (.iushr, 1) := dk_124 (dk_at dksJ11_bitCount_0 17 rfl rfl)
theorem dJ11_bitCount_18 : decode cJ11_bitCount 18 = .ok (.ldc_w 266, 3) := dk_19 1 10 (dk_at dksJ11_bitCount_0 18 rfl rfl)
theorem dJ11_bitCount_21 : decode cJ11_bitCount 21 = .ok (.iand, 1) := dk_126 (dk_at dksJ11_bitCount_0 21 rfl rfl)
theorem dJ11_bitCount_22 : decode cJ11_bitCount 22 = .ok (.iadd, 1) := dk_96 (dk_at dksJ11_bitCount_0 22 rfl rfl)
theorem dJ11_bitCount_23 : decode cJ11_bitCount 23 = .ok (.istore_n 0, 1) := dk_59 (dk_at dksJ11_bitCount_0 23 rfl rfl)
theorem dJ11_bitCount_24 : decode cJ11_bitCount 24 = .ok (.iload_n 0, 1) := dk_26 (dk_at dksJ11_bitCount_1 0 rfl rfl)
theorem dJ11_bitCount_25 : decode cJ11_bitCount 25 = .ok (.iload_n 0, 1) := dk_26 (dk_at dksJ11_bitCount_1 1 rfl rfl)
theorem dJ11_bitCount_26 : decode cJ11_bitCount 26 = .ok (.iconst 4, 1) := dk_7 (dk_at dksJ11_bitCount_1 2 rfl rfl)
theorem dJ11_bitCount_27 : decode cJ11_bitCount 27 = .ok (.iushr, 1) := dk_124 (dk_at dksJ11_bitCount_1 3 rfl rfl)
theorem dJ11_bitCount_28 : decode cJ11_bitCount 28 = .ok (.iadd, 1) := dk_96 (dk_at dksJ11_bitCount_1 4 rfl rfl)
theorem dJ11_bitCount_29 : decode cJ11_bitCount 29 = .ok (.ldc_w 267, 3) := dk_19 1 11 (dk_at dksJ11_bitCount_1 5 rfl rfl)
theorem dJ11_bitCount_32 : decode cJ11_bitCount 32 = .ok (.iand, 1) := dk_126 (dk_at dksJ11_bitCount_1 8 rfl rfl)
theorem dJ11_bitCount_33 : decode cJ11_bitCount 33 = .ok (.istore_n 0, 1) := dk_59 (dk_at dksJ11_bitCount_1 9 rfl rfl)
theorem dJ11_bitCount_34 : decode cJ11_bitCount 34 = .ok (.iload_n 0, 1) := dk_26 (dk_at dksJ11_bitCount_1 10 rfl rfl)
theorem dJ11_bitCount_35 : decode cJ11_bitCount 35 = .ok (.iload_n 0, 1) := dk_26 (dk_at dksJ11_bitCount_1 11 rfl rfl)
theorem dJ11_bitCount_36 : decode cJ11_bitCount 36 = .ok (.bipush 8, 2) := dk_16 8 (dk_at dksJ11_bitCount_1 12 rfl rfl)
theorem dJ11_bitCount_38 : decode cJ11_bitCount 38 = .ok (.iushr, 1) := dk_124 (dk_at dksJ11_bitCount_1 14 rfl rfl)
theorem dJ11_bitCount_39 : decode cJ11_bitCount 39 = .ok (.iadd, 1) := dk_96 (dk_at dksJ11_bitCount_1 15 rfl rfl)
theorem dJ11_bitCount_40 : decode cJ11_bitCount 40 = .ok (.istore_n 0, 1) := dk_59 (dk_at dksJ11_bitCount_1 16 rfl rfl)
theorem dJ11_bitCount_41 : decode cJ11_bitCount 41 = .ok (.iload_n 0, 1) := dk_26 (dk_at dksJ11_bitCount_1 17 rfl rfl)
theorem dJ11_bitCount_42 : decode cJ11_bitCount 42 = .ok (.iload_n 0, 1) := dk_26 (dk_at dksJ11_bitCount_1 18 rfl rfl)
theorem dJ11_bitCount_43 : decode cJ11_bitCount 43 = .ok (.bipush 16, 2) := dk_16 16 (dk_at dksJ11_bitCount_1 19 rfl rfl)
theorem dJ11_bitCount_45 : decode cJ11_bitCount 45 = .ok (.iushr, 1) := dk_124 (dk_at dksJ11_bitCount_1 21 rfl rfl)
theorem dJ11_bitCount_46 : decode cJ11_bitCount 46 = .ok (.iadd, 1) := dk_96 (dk_at dksJ11_bitCount_1 22 rfl rfl)
theorem dJ11_bitCount_47 : decode cJ11_bitCount 47 = .ok (.istore_n 0, 1) := dk_59 (dk_at dksJ11_bitCount_1 23 rfl rfl)
theorem dJ11_bitCount_48 : decode cJ11_bitCount 48 = .ok (.iload_n 0, 1) := dk_26 (dk_at dksJ11_bitCount_2 0 rfl rfl)
theorem dJ11_bitCount_49 : decode cJ11_bitCount 49 = .ok (.bipush 63, 2) := dk_16 63 (dk_at dksJ11_bitCount_2 1 rfl rfl)
theorem dJ11_bitCount_51 : decode cJ11_bitCount 51 = .ok (.iand, 1) := dk_126 (dk_at dksJ11_bitCount_2 3 rfl rfl)
theorem dJ11_bitCount_52 : decode cJ11_bitCount 52 = .ok (.ireturn, 1) := dk_172 (dk_at dksJ11_bitCount_2 4 rfl rfl)
def dkwJ11_signum_0 : List UInt8 := [26, 16, 31, 122, 26, 116, 16, 31, 124, 128, 172]
abbrev dktJ11_signum_0 : List UInt8 := dkwJ11_signum_0 ++ []
theorem dksJ11_signum_0 : cJ11_signum.data.toList.drop 0 = dktJ11_signum_0 := by decide +kernel
theorem dJ11_signum_0 : decode cJ11_signum 0 = .ok (.iload_n 0, 1) := dk_26 (dk_at dksJ11_signum_0 0 rfl rfl)
theorem dJ11_signum_1 : decode cJ11_signum 1 = .ok (.bipush 31, 2) := dk_16 31 (dk_at dksJ11_signum_0 1 rfl rfl)
theorem dJ11_signum_3 : decode cJ11_signum 3 = .ok (.ishr, 1) := dk_122 (dk_at dksJ11_signum_0 3 rfl rfl)
theorem dJ11_signum_4 : decode cJ11_signum 4 = .ok (.iload_n 0, 1) := dk_26 (dk_at dksJ11_signum_0 4 rfl rfl)
theorem dJ11_signum_5 : decode cJ11_signum 5 = .ok (.ineg, 1) := dk_116 (dk_at dksJ11_signum_0 5 rfl rfl)
theorem dJ11_signum_6 : decode cJ11_signum 6 = .ok (.bipush 31, 2) := dk_16 31 (dk_at dksJ11_signum_0 6 rfl rfl)
theorem dJ11_signum_8 : decode cJ11_signum 8 = .ok (.iushr, 1) := dk_124 (dk_at dksJ11_signum_0 8 rfl rfl)
theorem dJ11_signum_9 : decode cJ11_signum 9 = .ok (.ior, 1) := dk_128 (dk_at dksJ11_signum_0 9 rfl rfl)
theorem dJ11_signum_10 : decode cJ11_signum 10 = .ok (.ireturn, 1) := dk_172 (dk_at dksJ11_signum_0 10 rfl rfl)
theorem dJ12_init_0 : decode cJ12_init 0 = .ok (.return_, 1) := by decide +kernel
